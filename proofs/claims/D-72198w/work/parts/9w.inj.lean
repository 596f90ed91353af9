/-! PURE 53: keys are told apart as their numbers are -/
theorem dgt_no32 {r : Option Nat} (hr : ∀ x, r = some x → x < 100) : 32 ∉ dgt r := by
  cases r with
  | none => decide
  | some x =>
    have := hr x rfl
    unfold dgt dg
    simp only
    split <;> simp <;> omega
theorem dgt_inj {r t : Option Nat} (hr : ∀ x, r = some x → x < 100) (ht : ∀ x, t = some x → x < 100) (h : dgt r = dgt t) : r = t := by
  cases r with
  | none =>
    cases t with
    | none => rfl
    | some y =>
      have := ht y rfl
      unfold dgt dg at h
      simp only at h
      split at h <;> simp at h <;> omega
  | some x =>
    have hx := hr x rfl
    cases t with
    | none =>
      unfold dgt dg at h
      simp only at h
      split at h <;> simp at h <;> omega
    | some y =>
      have hy := ht y rfl
      unfold dgt dg at h
      simp only at h
      congr 1
      split at h <;> split at h <;> simp at h <;> omega
theorem split32 : ∀ {a b u v : List Nat}, 32 ∉ a → 32 ∉ b → a ++ 32 :: u = b ++ 32 :: v → a = b ∧ u = v
  | [], [], u, v, _, _, h => ⟨rfl, (List.cons.inj h).2⟩
  | [], y :: b, u, v, _, hb, h => by
    have := (List.cons.inj h).1
    exact absurd (by simp [this]) hb
  | x :: a, [], u, v, ha, _, h => by
    have := (List.cons.inj h).1
    exact absurd (by simp [← this]) ha
  | x :: a, y :: b, u, v, ha, hb, h => by
    obtain ⟨h1, h2⟩ := List.cons.inj h
    obtain ⟨h3, h4⟩ := split32 (a := a) (b := b) (fun z => ha (by simp [z])) (fun z => hb (by simp [z])) h2
    exact ⟨by rw [h1, h3], h4⟩
theorem tailR_inj {f g : Nat → Option Nat} (hf : ∀ s x, f s = some x → x < 100) (hg : ∀ s x, g s = some x → x < 100) : ∀ {ss : List Nat} {r t : Option Nat}, (∀ x, r = some x → x < 100) → (∀ x, t = some x → x < 100) → dgt r ++ tailR f ss = dgt t ++ tailR g ss → r = t ∧ ∀ s ∈ ss, f s = g s
  | [], r, t, hr, ht, h => by
    simp only [tailR, List.flatMap_nil, List.append_nil] at h
    exact ⟨dgt_inj hr ht h, fun s hs => by simp at hs⟩
  | a :: ss, r, t, hr, ht, h => by
    have e1 : tailR f (a :: ss) = 32 :: (dgt (f a) ++ tailR f ss) := rfl
    have e2 : tailR g (a :: ss) = 32 :: (dgt (g a) ++ tailR g ss) := rfl
    rw [e1, e2] at h
    obtain ⟨h1, h2⟩ := split32 (dgt_no32 hr) (dgt_no32 ht) h
    obtain ⟨h3, h4⟩ := tailR_inj hf hg (hf a) (hg a) h2
    refine ⟨dgt_inj hr ht h1, fun s hs => ?_⟩
    rcases List.mem_cons.mp hs with z | z
    · rw [z]; exact h3
    · exact h4 s z
theorem tailR_congr {f g : Nat → Option Nat} : ∀ {ss : List Nat}, (∀ s ∈ ss, f s = g s) → tailR f ss = tailR g ss
  | [], _ => rfl
  | a :: ss, h => by
    show 32 :: (dgt (f a) ++ tailR f ss) = 32 :: (dgt (g a) ++ tailR g ss)
    rw [h a (by simp), tailR_congr (ss := ss) (fun s hs => h s (by simp [hs]))]
/-- two places have one key just if they are of one part and their signs lead alike -/
theorem keyS_inj {rs : List Ru} {Ls : List Nat} {pt : Nat → Nat} {i k : Nat} (hp : ∀ x, pt x < 100) : keyS rs Ls pt i = keyS rs Ls pt k ↔ (pt i = pt k ∧ ∀ s, s < 5 → (ldP rs Ls i s).map pt = (ldP rs Ls k s).map pt) := by
  constructor
  · intro h
    obtain ⟨h1, h2⟩ := tailR_inj (f := fun s => (ldP rs Ls i s).map pt) (g := fun s => (ldP rs Ls k s).map pt) (fun s x hx => by
      cases e : ldP rs Ls i s with
      | none => rw [e] at hx; cases hx
      | some y => rw [e] at hx; cases hx; exact hp y) (fun s x hx => by
      cases e : ldP rs Ls k s with
      | none => rw [e] at hx; cases hx
      | some y => rw [e] at hx; cases hx; exact hp y) (fun x hx => by cases hx; exact hp i) (fun x hx => by cases hx; exact hp k) h
    exact ⟨Option.some.inj h1, fun s hs => h2 s (by rw [List.mem_range'_1]; omega)⟩
  · rintro ⟨h1, h2⟩
    unfold keyS
    rw [h1]
    congr 1
    refine tailR_congr (fun s hs => ?_)
    rw [List.mem_range'_1] at hs
    exact h2 s (by omega)

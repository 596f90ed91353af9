/-! PURE 45: the machine's places; Machine.leads -/
/-- a list of Integers -/
def IL (V : HEn) (G : Gh) (o d : Nat) (l : List Nat) : Prop := ∃ rl : List (Option Nat), AL V G o d rl ∧ rl.length = l.length ∧ ∀ j (h : j < rl.length) (h' : j < l.length), IsInt V G rl[j] l[j]
/-- where x stands in l -/
def ixL (l : List Nat) (x : Nat) : Option Nat := if x ∈ l then some (l.idxOf x) else none
theorem ixL_some {l : List Nat} {x j : Nat} (h : ixL l x = some j) : l[j]? = some x ∧ j < l.length := by
  unfold ixL at h
  split at h
  · rename_i c
    cases h
    have := List.idxOf_lt_length_of_mem c
    exact ⟨by rw [List.getElem?_eq_getElem this, List.getElem_idxOf this], this⟩
  · cases h
theorem ixL_mem {l : List Nat} {x : Nat} (h : x ∈ l) : ∃ j, ixL l x = some j := ⟨l.idxOf x, if_pos h⟩
theorem ixL_app {l : List Nat} {x : Nat} (h : x ∉ l) : ixL (l ++ [x]) = va_up (ixL l) x (some l.length) := by
  funext y
  unfold ixL va_up
  by_cases c : y = x
  · subst c
    simp [List.idxOf_append, h]
  · rw [if_neg c]
    by_cases c2 : y ∈ l
    · simp [List.idxOf_append, c2]
    · simp [c2, c]
section X
variable {V : HEn} {G : Gh} {nx o d mo po bo bd pl so nu lo ld k s : Nat} {l Ls ad : List Nat} {rs : List Ru} {pt : Option Nat} {F : Nat → Prop}
theorem IL.keep {G' : Gh} (h : IL V G o d l) (h1 : G' o = G o) (h2 : G' d = G d) (hc : ∀ a, a < V.1 → G' a = G a) : IL V G' o d l := by
  obtain ⟨rl, q1, q2, q3⟩ := h
  exact ⟨rl, q1.keep h1 h2, q2, fun j a b => (q3 j a b).keep hc⟩
theorem il_get {i : Nat} (h : IL V G o d l) (hi : i < l.length) : ∃ r, hF_J2_get V G nx o (nI i) = some (r, G, 0, 0) ∧ IsInt V G r l[i] := by
  obtain ⟨rl, q1, q2, q3⟩ := h
  exact ⟨rl[i], al_get q1 (by omega), q3 i (by omega) hi⟩
theorem IL.gC (h : IL V G o d l) : gC G o 8 = true := by
  obtain ⟨rl, ⟨m, n, f, h1, -⟩, -⟩ := h
  exact gC_at h1
theorem il_size (h : IL V G o d l) : hF_J2_size V G nx o = some (nI l.length, G, 0, 0) := by
  obtain ⟨rl, q1, q2, q3⟩ := h
  rw [al_size q1, q2]
/-- the cell of a Machine -/
abbrev mcell (po bo pl : Nat) (pt : Option Nat) (so nu : Nat) : va_E := .inr (7, [va_rf (some po), va_rf (some bo), va_rf (some pl), va_rf pt, va_rf (some so), va_rf (some nu)])
/-- a plan's rules, as the machine sees them -/
def PlR (V : HEn) (G : Gh) (po lo ld : Nat) (ad : List Nat) (rs : List Ru) : Prop := (∃ x1 x2 x3 x4, G po = some (.inr (2, [va_rf (some lo), x1, x2, x3, x4]))) ∧ RL V G lo ld ad rs
theorem PlR.keep {G' : Gh} (h : PlR V G po lo ld ad rs) (h0 : G' po = G po) (h1 : G' lo = G lo) (h2 : G' ld = G ld) (h3 : ∀ a ∈ ad, G' a = G a) : PlR V G' po lo ld ad rs := by
  obtain ⟨⟨x1, x2, x3, x4, q1⟩, q2⟩ := h
  exact ⟨⟨x1, x2, x3, x4, h0.trans q1⟩, q2.keep h1 h2 h3⟩
/-- where a sign leads from a place; none: an alarm -/
def ldP (rs : List Ru) (Ls : List Nat) (k s : Nat) : Option Nat := if pM rs (Ls.getD k 0) s = 0 then ixL Ls (pB rs (Ls.getD k 0) s) else none
/-- the places, in the heap -/
def MPl (V : HEn) (G : Gh) (po bo bd pl lo ld : Nat) (ad : List Nat) (rs : List Ru) (F : Nat → Prop) (Ls : List Nat) : Prop := PlR V G po lo ld ad rs ∧ IL V G bo bd Ls ∧ IM V G pl 19 F (ixL Ls) Ls.length ∧ (∀ x ∈ Ls, x < 64) ∧ Ls.length ≤ 64
theorem MPl.keep {G' : Gh} (h : MPl V G po bo bd pl lo ld ad rs F Ls) (h0 : G' po = G po) (h1 : G' lo = G lo) (h2 : G' ld = G ld) (h3 : ∀ a ∈ ad, G' a = G a) (h4 : G' bo = G bo) (h5 : G' bd = G bd) (h6 : ∀ a, F a → G' a = G a) (hc : ∀ a, a < V.1 → G' a = G a) : MPl V G' po bo bd pl lo ld ad rs F Ls := by
  obtain ⟨q1, q2, q3, q4, q5⟩ := h
  exact ⟨q1.keep h0 h1 h2 h3, q2.keep h4 h5 hc, q3.keep h6 hc, q4, q5⟩
/-- all of it lies below nx -/
def MLow (nx po bo bd pl lo ld : Nat) (ad : List Nat) (F : Nat → Prop) : Prop := po < nx ∧ bo < nx ∧ bd < nx ∧ pl < nx ∧ lo < nx ∧ ld < nx ∧ (∀ a ∈ ad, a < nx) ∧ ∀ a, F a → a < nx
theorem MLow.mono {nx' : Nat} (h : MLow nx po bo bd pl lo ld ad F) (hn : nx ≤ nx') : MLow nx' po bo bd pl lo ld ad F := by
  obtain ⟨h1, h2, h3, h4, h5, h6, h7, h8⟩ := h
  exact ⟨by omega, by omega, by omega, by omega, by omega, by omega, fun a ha => by have := h7 a ha; omega, fun a ha => by have := h8 a ha; omega⟩
theorem MPl.low {G' : Gh} (h : MPl V G po bo bd pl lo ld ad rs F Ls) (hL : MLow nx po bo bd pl lo ld ad F) (hb : V.1 ≤ nx) (hk : ∀ b, b < nx → G' b = G b) : MPl V G' po bo bd pl lo ld ad rs F Ls := by
  obtain ⟨h1, h2, h3, h4, h5, h6, h7, h8⟩ := hL
  exact h.keep (hk _ h1) (hk _ h5) (hk _ h6) (fun a ha => hk _ (h7 a ha)) (hk _ h2) (hk _ h3) (fun a ha => hk _ (h8 a ha)) (fun a ha => hk _ (by omega))
theorem leads_at (hV : 1200 ≤ V.2.2.2.2) (hC : Cst V G) (hM : G mo = some (mcell po bo pl pt so nu)) (h : MPl V G po bo bd pl lo ld ad rs F Ls) (hL : MLow nx po bo bd pl lo ld ad F) (hmo : mo < nx) (hb : V.1 ≤ nx) (hk : k < Ls.length) (hs : s < 5) (hcl : pM rs Ls[k] s = 0 → pB rs Ls[k] s ∈ Ls) :
    wH (hF_X8_leads V G nx mo (nI k) (nI s)) (fun q G' c s' => q = tell (ldP rs Ls k s) ∧ c ≤ 2 ∧ s' ≤ 8 ∧ (∀ j, ldP rs Ls k s = some j → j < Ls.length) ∧ ∀ b, b < nx → G' b = G b) := by
  have h0 := h
  obtain ⟨⟨⟨x1, x2, x3, x4, q0⟩, q1⟩, q2, q3, q4, q5⟩ := h
  obtain ⟨l1, l2, l3, l4, l5, l6, l7, l8⟩ := hL
  have hkd : Ls.getD k 0 = Ls[k] := by simp [hk]
  have hlt := q4 _ (List.getElem_mem hk)
  obtain ⟨r, e1, a, rfl, e2, e3⟩ := il_get (nx := nx) q2 hk
  unfold hF_X8_leads hB_X8_leads_72
  refine w_xR hM rfl rfl (w_xR hM rfl rfl (w_some (w_pos q2.gC (w_call0 e1 (w_pos (gok_at e3 (by simp)) (w_some (w_pos (gC_at e3) (w_call0 (intValue_at e3) (w_some (w_pos (gC_at q0) ?_))))))))))
  refine w_call (met_at (by omega) hlt hs q0 q1 ⟨by omega, by omega, fun a ha => by have := l7 a ha; omega⟩ (by omega)) ?_
  rintro y G1 c s' ⟨rfl, rfl, rfl, t⟩
  have low1 : ∀ b, b < nx → G1 b = G b := fun b hb => t b (by omega)
  have hml := pM_lt rs Ls[k] s
  have h3 : rs.length ≤ 3 := q1.2.2.1
  have hp3 : 2 ^ rs.length ≤ 2 ^ 3 := Nat.pow_le_pow_right (by decide) h3
  by_cases c0 : pM rs Ls[k] s = 0
  · have hin := hcl c0
    obtain ⟨j, hj⟩ := ixL_mem hin
    have ej : ldP rs Ls k s = some j := by unfold ldP; rw [hkd, if_pos c0]; exact hj
    have hjl := (ixL_some hj).2
    refine w_pos (by rw [c0]; rfl) ?_
    have hM1 : G1 mo = some (mcell po bo pl pt so nu) := by rw [low1 mo hmo]; exact hM
    have h1 : MPl V G1 po bo bd pl lo ld ad rs F Ls := h0.low ⟨l1, l2, l3, l4, l5, l6, l7, l8⟩ hb low1
    obtain ⟨⟨⟨y1, y2, y3, y4, w0⟩, w1⟩, w2, w3, -, -⟩ := h1
    obtain ⟨r, f1, a', rfl, f2, f3⟩ := il_get (nx := nx + 0 + 0 + 1) w2 hk
    refine w_xR hM1 rfl rfl (w_xR hM1 rfl rfl (w_xR hM1 rfl rfl (w_some (w_pos w2.gC (w_call0 f1 (w_pos (gok_at f3 (by simp)) (w_some (w_pos (gC_at f3) (w_call0 (intValue_at f3) (w_some (w_pos (gC_at w0) ?_)))))))))))
    refine w_call (beh_at (lp := 0) (by omega) hlt hs w0 w1 ⟨by omega, by omega, fun a ha => by have := l7 a ha; omega⟩ (by omega)) ?_
    rintro y G2 c s' ⟨rfl, rfl, rfl, t2⟩
    have low2 : ∀ b, b < nx → G2 b = G b := fun b hb => (t2 b (by omega)).trans (low1 b hb)
    have hx64 := q4 _ hin
    obtain ⟨r, f4, f5⟩ := valueOf_at (nx := nx + 0 + 0 + 1 + 0 + 0 + 1) (hC.keep (fun a ha => low2 a (by omega))) (show pB rs Ls[k] s < 128 by omega)
    have hIM : IM V G2 pl 19 F (ixL Ls) Ls.length := q3.keep (fun a ha => low2 a (l8 a ha)) (fun a ha => low2 a (by omega))
    obtain ⟨ra, rfl, f6, f7⟩ := f5
    refine w_call0 f4 ?_
    obtain ⟨rv, g1, va, rfl, g2, g3⟩ := hIM.get (nx := nx + 0 + 0 + 1 + 0 + 0 + 1 + 0) (by omega) ⟨ra, rfl, f6, f7⟩ hx64 hj
    unfold hB_X8_leads_63 hB_X8_leads_72
    have hc19 : gC G2 pl 19 = true := by
      obtain ⟨-, -, -, z⟩ := hIM
      have : ∃ tab sz mc th tl, HOb G2 pl 19 tab sz mc th tl := by
        rcases z with ⟨mc, z1, -⟩ | ⟨nc, td, n, N, hs, kr, vr, nxt, bn, tl, mc, ky, vl, z1, -⟩
        · exact ⟨_, _, _, _, _, z1⟩
        · exact ⟨_, _, _, _, _, z1.1⟩
      obtain ⟨tab, sz, mc, th, tl, z⟩ := this
      rcases z with ⟨-, -, u0, u1, u3, lf, e⟩ | ⟨w, -⟩
      · exact gC_at e
      · cases w
    refine w_some (w_pos hc19 (w_call0 g1 (w_pos (gok_at g3 (by simp)) (w_some (w_pos (gC_at g3) (w_call0 (intValue_at g3) (w_ret ⟨by rw [ej]; rfl, by omega, by omega, fun j' hj' => by rw [ej] at hj'; cases hj'; exact hjl, low2⟩)))))))
  · have ej : ldP rs Ls k s = none := by unfold ldP; rw [hkd, if_neg c0]
    refine w_neg (fun z => c0 ((nI_eq (b := 0) (by omega) (by omega)).mp z)) (w_ret ⟨by rw [ej]; rfl, by omega, by omega, fun j' hj' => (by rw [ej] at hj'; cases hj'), low1⟩)
end X

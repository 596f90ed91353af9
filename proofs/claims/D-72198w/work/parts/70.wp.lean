/-! PURE 1: what computations over the ghost heap end with -/
def wH {R : Type} (x : HO R) (Q : R → Gh → Nat → Nat → Prop) : Prop := ∃ r G c s, x = some (r, G, c, s) ∧ Q r G c s
section W
variable {R S α : Type} {Q : R → Gh → Nat → Nat → Prop}
theorem w_ret {r : R} {G : Gh} {c s : Nat} (h : Q r G c s) : wH (some (r, G, c, s)) Q := ⟨r, G, c, s, rfl, h⟩
theorem w_mono {x : HO R} {Q' : R → Gh → Nat → Nat → Prop} (h : wH x Q') (hq : ∀ r G c s, Q' r G c s → Q r G c s) : wH x Q := by
  obtain ⟨r, G, c, s, e, q⟩ := h
  exact ⟨r, G, c, s, e, hq _ _ _ _ q⟩
theorem w_tick {x : HO R} {c0 s0 : Nat} (h : wH x (fun r G c s => Q r G (c0 + c) (s0 + s))) : wH (tick c0 s0 x) Q := by
  obtain ⟨r, G, c, s, e, q⟩ := h
  exact ⟨r, G, c0 + c, s0 + s, by rw [e]; rfl, q⟩
theorem w_cB {x : HO S} {f : S → Gh → Nat → HO R} (h : wH x (fun r G c s => wH (f r G c) (fun r' G' c' s' => Q r' G' (c + c') (s + s')))) : wH (cB x f) Q := by
  obtain ⟨r, G, c, s, e, r', G', c', s', e', q⟩ := h
  refine ⟨r', G', c + c', s + s', ?_, q⟩
  rw [e]
  show tick c s (f r G c) = _
  rw [e']
  rfl
theorem w_call {x : HO S} {f : S → Gh → Nat → HO R} {Q' : S → Gh → Nat → Nat → Prop} (h : wH x Q') (k : ∀ r G c s, Q' r G c s → wH (f r G c) (fun r' G' c' s' => Q r' G' (c + c') (s + s'))) : wH (cB x f) Q := w_cB (w_mono h k)
theorem w_callE {x : HO S} {f : S → Gh → Nat → HO R} {r : S} {G : Gh} {c s : Nat} (e : x = some (r, G, c, s)) (k : wH (f r G c) (fun r' G' c' s' => Q r' G' (c + c') (s + s'))) : wH (cB x f) Q := w_cB ⟨r, G, c, s, e, k⟩
theorem w_bind {o : Option α} {f : α → HO R} {v : α} (e : o = some v) (h : wH (f v) Q) : wH (o.bind f) Q := by rw [e]; exact h
theorem w_some {f : α → HO R} {v : α} (h : wH (f v) Q) : wH ((some v).bind f) Q := h
theorem w_pos {c : Prop} [Decidable c] {x y : HO R} (hc : c) (h : wH x Q) : wH (if c then x else y) Q := by rw [if_pos hc]; exact h
theorem w_neg {c : Prop} [Decidable c] {x y : HO R} (hc : ¬ c) (h : wH y Q) : wH (if c then x else y) Q := by rw [if_neg hc]; exact h
theorem w_if {c : Prop} [Decidable c] {x y : HO R} (hp : c → wH x Q) (hn : ¬ c → wH y Q) : wH (if c then x else y) Q := by
  by_cases hc : c
  · exact w_pos hc (hp hc)
  · exact w_neg hc (hn hc)
theorem w_nmv {e : α} {f : α → HO R} (h : wH (f e) Q) : wH (nmv e f) Q := h
/-- throwing callees -/
theorem w_xB {S : Type} {x : HO (S ⊕ Nat)} {T : Type} {f : S → Gh → Nat → HO (T ⊕ Nat)} {Q : T ⊕ Nat → Gh → Nat → Nat → Prop} {Q' : S ⊕ Nat → Gh → Nat → Nat → Prop} (h : wH x Q') (k : ∀ r G c s, Q' (.inl r) G c s → wH (f r G c) (fun r' G' c' s' => Q r' G' (c + c') (s + s'))) (kx : ∀ q G c s, Q' (.inr q) G c s → Q (.inr q) G c s) : wH (xB x f) Q := by
  refine w_call h ?_
  intro r G c s q
  cases r with
  | inl r => exact k r G c s q
  | inr q' => exact w_ret (kx q' G c s q)
theorem w_yB {x : HO (S ⊕ Nat)} {f : S → Gh → Nat → HO R} {g : Nat → Gh → Nat → HO R} {Q' : S ⊕ Nat → Gh → Nat → Nat → Prop} (h : wH x Q') (k : ∀ r G c s, Q' (.inl r) G c s → wH (f r G c) (fun r' G' c' s' => Q r' G' (c + c') (s + s'))) (kx : ∀ q G c s, Q' (.inr q) G c s → wH (g q G c) (fun r' G' c' s' => Q r' G' (c + c') (s + s'))) : wH (yB x f g) Q := by
  refine w_call h ?_
  intro r G c s q
  cases r with
  | inl r => exact k r G c s q
  | inr q' => exact kx q' G c s q
end W
/-! reads and writes where the cell is known -/
section P
variable {G : Gh} {a b c k n j : Nat} {L : List (Nat × Nat)} {fs : List Value} {cA : ClassId} {i : Int32}
theorem xI_at {x : Int32} (h : G a = some (.inr (c, fs))) (hl : lk L c = some k) (hv : fs[k]? = some (.int x)) : xI G a L = some x := by
  unfold xI
  rw [gFx_of h hl, hv]
theorem xR_at {r : Option Nat} (h : G a = some (.inr (c, fs))) (hl : lk L c = some k) (hv : fs[k]? = some (va_rf r)) : xR G a L = some r := by
  unfold xR
  rw [gFx_of h hl, hv]
  cases r <;> rfl
theorem xR_at0 (h : G a = some (.inr (c, fs))) (hl : lk L c = some k) (hv : fs[k]? = some .null) : xR G a L = some none := xR_at (r := none) h hl hv
theorem gC_at (h : G a = some (.inr (c, fs))) : gC G a c = true := by
  unfold gC
  rw [h]
  exact decide_eq_true rfl
theorem gC_no {c' : Nat} (h : G a = some (.inr (c, fs))) (hc : ¬ c = c') : ¬ gC G a c' = true := by
  unfold gC
  rw [h]
  exact fun z => hc (of_decide_eq_true z)
theorem aln_at {x} (h : G a = some (.inl (cA, n, x))) : aln G cA a = some (nI n) := by
  unfold aln
  rw [h]
  exact if_pos rfl
theorem rdI_at {f : Nat → Int32} (h : G a = some (.inl (cA, n, .inl f))) (hj : gd i n = some j) : rdI G cA a i = some (f j) := by
  unfold rdI
  rw [h]
  simp only [if_true, hj, Option.bind_some]
theorem rdJ_at {f : Nat → Int64} (h : G a = some (.inl (cA, n, .inr (.inl f)))) (hj : gd i n = some j) : rdJ G cA a i = some (f j) := by
  unfold rdJ
  rw [h]
  simp only [if_true, hj, Option.bind_some]
theorem rdR_at {f : Nat → Option Nat} (h : G a = some (.inl (cA, n, .inr (.inr (.inr (.inr f)))))) (hj : gd i n = some j) : rdR G cA a i = some (f j) := by
  unfold rdR
  rw [h]
  simp only [if_true, hj, Option.bind_some]
theorem wrI_at {f : Nat → Int32} {b0 : Nat} (x : Int32) (h : G a = some (.inl (cA, n, .inl f))) (hb : b0 ≤ a) (hj : gd i n = some j) : wrI b0 G cA a i x = some (gset G a (.inl (cA, n, .inl (upd f j x)))) := by
  unfold wrI
  rw [h]
  simp only [hb, and_self, if_true, hj, Option.bind_some]
theorem wrJ_at {f : Nat → Int64} {b0 : Nat} (x : Int64) (h : G a = some (.inl (cA, n, .inr (.inl f)))) (hb : b0 ≤ a) (hj : gd i n = some j) : wrJ b0 G cA a i x = some (gset G a (.inl (cA, n, .inr (.inl (vp_updL f j x))))) := by
  unfold wrJ
  rw [h]
  simp only [hb, and_self, if_true, hj, Option.bind_some]
theorem wrR_at {f : Nat → Option Nat} {b0 : Nat} (x : Option Nat) (h : G a = some (.inl (cA, n, .inr (.inr (.inr (.inr f)))))) (hb : b0 ≤ a) (hj : gd i n = some j) : wrR b0 G cA a i x = some (gset G a (.inl (cA, n, .inr (.inr (.inr (.inr (va_up f j x))))))) := by
  unfold wrR
  rw [h]
  simp only [hb, and_self, if_true, hj, Option.bind_some]
theorem gn_at (h : n ≤ 1000000) : gn (nI n) = some n := by
  unfold gn
  rw [nI_clamp (by omega), if_neg]
  intro z
  rcases z with z | z
  · exact nI_pos (by omega) z
  · omega
variable {R : Type} {Q : R → Gh → Nat → Nat → Prop}
theorem w_xI {f : Int32 → HO R} {x : Int32} (h : G a = some (.inr (c, fs))) (hl : lk L c = some k) (hv : fs[k]? = some (.int x)) (kk : wH (f x) Q) : wH ((xI G a L).bind f) Q := w_bind (xI_at h hl hv) kk
theorem w_xR {f : Option Nat → HO R} {r : Option Nat} (h : G a = some (.inr (c, fs))) (hl : lk L c = some k) (hv : fs[k]? = some (va_rf r)) (kk : wH (f r) Q) : wH ((xR G a L).bind f) Q := w_bind (xR_at h hl hv) kk
theorem w_xR0 {f : Option Nat → HO R} (h : G a = some (.inr (c, fs))) (hl : lk L c = some k) (hv : fs[k]? = some .null) (kk : wH (f none) Q) : wH ((xR G a L).bind f) Q := w_bind (xR_at0 h hl hv) kk
theorem w_xF {b0 : Nat} {f : Gh → HO R} {v : Value} {fs' : List Value} (h : G a = some (.inr (c, fs))) (hl : lk L c = some k) (hk : k < fs.length) (hb : b0 ≤ a) (hs : fs.set k v = fs') (kk : wH (f (gset G a (.inr (c, fs')))) Q) : wH ((xF b0 G a L v).bind f) Q := w_bind (xF_of v h hl hk hb) (by rw [hs]; exact kk)
theorem w_gC {x y : HO R} (h : G a = some (.inr (c, fs))) (kk : wH x Q) : wH (if gC G a c = true then x else y) Q := w_pos (gC_at h) kk
theorem w_aln {f : Int32 → HO R} {x} (h : G a = some (.inl (cA, n, x))) (kk : wH (f (nI n)) Q) : wH ((aln G cA a).bind f) Q := w_bind (aln_at h) kk
theorem w_rdI {g : Int32 → HO R} {f : Nat → Int32} (h : G a = some (.inl (cA, n, .inl f))) (hj : gd i n = some j) (kk : wH (g (f j)) Q) : wH ((rdI G cA a i).bind g) Q := w_bind (rdI_at h hj) kk
theorem w_rdJ {g : Int64 → HO R} {f : Nat → Int64} (h : G a = some (.inl (cA, n, .inr (.inl f)))) (hj : gd i n = some j) (kk : wH (g (f j)) Q) : wH ((rdJ G cA a i).bind g) Q := w_bind (rdJ_at h hj) kk
theorem w_rdR {g : Option Nat → HO R} {f : Nat → Option Nat} (h : G a = some (.inl (cA, n, .inr (.inr (.inr (.inr f)))))) (hj : gd i n = some j) (kk : wH (g (f j)) Q) : wH ((rdR G cA a i).bind g) Q := w_bind (rdR_at h hj) kk
theorem w_wrI {g : Gh → HO R} {f : Nat → Int32} {b0 : Nat} {x : Int32} (h : G a = some (.inl (cA, n, .inl f))) (hb : b0 ≤ a) (hj : gd i n = some j) (kk : wH (g (gset G a (.inl (cA, n, .inl (upd f j x))))) Q) : wH ((wrI b0 G cA a i x).bind g) Q := w_bind (wrI_at x h hb hj) kk
theorem w_wrJ {g : Gh → HO R} {f : Nat → Int64} {b0 : Nat} {x : Int64} (h : G a = some (.inl (cA, n, .inr (.inl f)))) (hb : b0 ≤ a) (hj : gd i n = some j) (kk : wH (g (gset G a (.inl (cA, n, .inr (.inl (vp_updL f j x)))))) Q) : wH ((wrJ b0 G cA a i x).bind g) Q := w_bind (wrJ_at x h hb hj) kk
theorem w_wrR {g : Gh → HO R} {f : Nat → Option Nat} {b0 : Nat} {x : Option Nat} (h : G a = some (.inl (cA, n, .inr (.inr (.inr (.inr f)))))) (hb : b0 ≤ a) (hj : gd i n = some j) (kk : wH (g (gset G a (.inl (cA, n, .inr (.inr (.inr (.inr (va_up f j x)))))))) Q) : wH ((wrR b0 G cA a i x).bind g) Q := w_bind (wrR_at x h hb hj) kk
theorem w_gn {f : Nat → HO R} (h : n ≤ 1000000) (kk : wH (f n) Q) : wH ((gn (nI n)).bind f) Q := w_bind (gn_at h) kk
end P
theorem gokA_none {G : Gh} {ar : Nat → ClassId} {L : List Nat} : gokA G ar none L = true := rfl
theorem gok_none {G : Gh} {L : List Nat} : gok G none L = true := rfl
theorem gok_at {G : Gh} {L : List Nat} {y c : Nat} {fs : List Value} (h : G y = some (.inr (c, fs))) (hc : c ∈ L) : gok G (some y) L = true := List.any_eq_true.mpr ⟨c, hc, gC_at h⟩
theorem gokA_at {G : Gh} {ar : Nat → ClassId} {L : List Nat} {y c : Nat} {fs : List Value} (h : G y = some (.inr (c, fs))) (hc : c ∈ L) (h1 : c < 100) : gokA G ar (some y) L = true := List.any_eq_true.mpr ⟨c, hc, by unfold gkc; rw [if_pos h1]; exact gC_at h⟩
theorem gokA_arr {G : Gh} {ar : Nat → ClassId} {L : List Nat} {y c : Nat} {x} (h : G y = some (.inl (ar (c - 100), x))) (hc : c ∈ L) (h1 : ¬ c < 100) : gokA G ar (some y) L = true := List.any_eq_true.mpr ⟨c, hc, by unfold gkc; rw [if_neg h1, h]; exact decide_eq_true rfl⟩
/-- the same classes stand there -/
theorem gokA_keep {G G' : Gh} {ar : Nat → ClassId} {L : List Nat} {r : Option Nat} (h : gokA G ar r L = true) (hk : ∀ y, r = some y → G' y = G y) : gokA G' ar r L = true := by
  cases r with
  | none => rfl
  | some y =>
    obtain ⟨c, h1, h2⟩ := List.any_eq_true.mp (show L.any (gkc G ar y) = true from h)
    refine List.any_eq_true.mpr ⟨c, h1, ?_⟩
    unfold gkc gC at h2 ⊢
    rw [hk y rfl]
    exact h2

/-! PURE 71: what is typed, kept, undone; rows come and go -/
/-- the plain state: now; what is done; images; the text -/
abbrev Sp := Dk × List Dk × (Option Dk × Option Dk) × List Nat
def Wd (V : HEn) (G : Gh) (nx xo : Nat) (S : Sp) (ul : List Nat) : Prop := ∃ (tg : Nat → Nat) (d0 da ia ro rd tx : Nat) (pl : List (Nat × Dk)) (i0 i1 : Option (Nat × Dk)) (rws : List Nat), Wc V G nx xo tg d0 da ia ro rd tx (gLast S.1.1 (0, 0, 0) S.1.2) S.1 pl i0 i1 S.2.2.2 (fun a => a ∈ ul) ∧ RwA V G tg ro rd rws (gRows S.1.1 (0, 0, 0) S.1.2) ∧ pl.map Prod.snd = S.2.1 ∧ i0.map Prod.snd = S.2.2.1.1 ∧ i1.map Prod.snd = S.2.2.1.2 ∧ ul.Nodup
def hsT (l : List (Nat × Nat)) (t : Nat) : Bool := match l[lbP l t]? with
  | some y => decide (y.1 = t)
  | none => false
theorem hsT_iff {l : List (Nat × Nat)} {t : Nat} : hsT l t = true ↔ ∃ v, l[lbP l t]? = some (t, v) := by
  unfold hsT
  cases e : l[lbP l t]? with
  | none => simp
  | some y =>
    constructor
    · intro h
      have := of_decide_eq_true h
      exact ⟨y.2, by rw [← this]⟩
    · rintro ⟨v, h⟩
      cases h
      exact decide_eq_true rfl
def spComes (S : Sp) (a b : Int32) : Int32 × Sp := match iR a 100, iR b 5 with
  | some t, some s => if hsT S.1.2 t then (-2, S) else if S.1.2.length = 40 then (-3, S) else (nI (lbP S.1.2 t), ((S.1.1, S.1.2.insertIdx (lbP S.1.2 t) (t, s)), noteL S.2.1 S.1, S.2.2))
  | _, _ => (-1, S)
def spGoes (S : Sp) (a : Int32) : Int32 × Sp := match iR a S.1.2.length with
  | some i => (nI (S.1.2.getD i (0, 0)).1, ((S.1.1, S.1.2.eraseIdx i), noteL S.2.1 S.1, S.2.2))
  | none => (-1, S)
def spBec (S : Sp) (a b : Int32) : Int32 × Sp := match iR a S.1.2.length, iR b 5 with
  | some i, some s => if (S.1.2.getD i (0, 0)).2 = s then (-2, S) else (nI (S.1.2.getD i (0, 0)).2, ((S.1.1, S.1.2.set i ((S.1.2.getD i (0, 0)).1, s)), noteL S.2.1 S.1, S.2.2))
  | _, _ => (-1, S)
def spUndo (S : Sp) : Int32 × Sp := match S.2.1.getLast? with
  | some k => (nI (S.2.1.length - 1), (k, S.2.1.dropLast, S.2.2))
  | none => (-2, S)
def spKeep (S : Sp) (a : Int32) : Int32 × Sp := match iR a 2 with
  | some v => (nI S.1.2.length, (S.1, S.2.1, (if v = 0 then (some S.1, S.2.2.1.2) else (S.2.2.1.1, some S.1)), S.2.2.2))
  | none => (-1, S)
def spBack (S : Sp) (a : Int32) : Int32 × Sp := match iR a 2 with
  | some v => match (if v = 0 then S.2.2.1.1 else S.2.2.1.2) with
    | some k => (nI k.2.length, (k, [], S.2.2))
    | none => (-2, S)
  | none => (-1, S)
def spType (S : Sp) (a : Int32) : Int32 × Sp := match iR a 256 with
  | some c => if S.2.2.2.length = 120 then (-3, S) else (nI (S.2.2.2.length + 1), (S.1, S.2.1, S.2.2.1, S.2.2.2 ++ [c]))
  | none => (-1, S)
def spClear (S : Sp) : Int32 × Sp := (nI S.2.2.2.length, (S.1, S.2.1, S.2.2.1, []))
section X
variable {V : HEn} {G G' : Gh} {nx nx' xo d0 da ia ro rd tx : Nat} {tg tg' : Nat → Nat} {st : Nat × Nat × Nat} {k0 k0' : Dk} {pl : List (Nat × Dk)} {i0 i1 : Option (Nat × Dk)} {txt : List Nat} {U : Nat → Prop}
/-- one desk changes -/
theorem Wc.setd (h : Wc V G nx xo tg d0 da ia ro rd tx st k0 pl i0 i1 txt U) (hn : nx ≤ nx') (ht : ∀ a, a < nx → tg' a = tg a) (ht2 : ∀ a, nx ≤ a → tg' a ≠ 0 → a < nx') (hk : ∀ a, tg a ≠ 0 → tg a ≠ d0 → G' a = G a) (hc : ∀ a, a < V.1 → G' a = G a) (hD : DkA V G' tg' U d0 k0') (hok : DkOk k0') : Wc V G' nx' xo tg' d0 da ia ro rd tx st k0' pl i0 i1 txt U := by
  obtain ⟨hx0, hr0, ht0, rx, txx, txr, rdx, rdr, dax, iax, ⟨fro, hro⟩, ⟨ftx, htx⟩, hds⟩ := h.heads
  obtain ⟨⟨a1, a2, a3, a4, a5⟩, b1, ⟨c1, c2, c3⟩, ⟨fd, d1, d2, d3⟩, ⟨fi, e1, e2, e3, e4⟩, da1, ⟨⟨rl, f1⟩, f2, f3⟩, ⟨td, tn, g1, g2, g3, g4, g5⟩, h1, h2, h3⟩ := h
  obtain ⟨z0, zx, zr, zt⟩ := hds (d0, k0) (by simp [dsk])
  obtain ⟨⟨po, to, q1, -⟩, -⟩ := h1 (d0, k0) (by simp [dsk])
  simp only at z0 zx zr zt q1
  have old : ∀ {a : Nat}, tg a ≠ 0 → tg' a = tg a := fun {a} w => ht a (b1 a w).2
  have hn2 : (((d0, k0') :: (pl ++ i0.toList ++ i1.toList)).map Prod.fst).Nodup := h2
  refine ⟨⟨a1, by omega, a3.keep hc, a4.keep hc, a5.keep hc⟩, fun a ha => ?_, ⟨?_, ?_, c3⟩, ⟨fd, ?_, ?_, d3⟩, ⟨fi, ?_, ?_, e3, e4⟩, da1, ⟨⟨rl, f1.keep ?_ ?_⟩, ?_, ?_⟩, ⟨td, tn, g1.keep ?_ ?_, ?_, ?_, g4, g5⟩, fun e he => ?_, hn2, h3⟩
  · by_cases ca : a < nx
    · rw [ht a ca] at ha
      have := b1 a ha
      omega
    · have := ht2 a (by omega) ha
      omega
  · rw [hk xo (by rw [c2]; exact hx0) (by rw [c2]; exact Ne.symm zx)]; exact c1
  · rw [old (by rw [c2]; exact hx0)]; exact c2
  · rw [hk da (by rw [d2]; exact hx0) (by rw [d2]; exact Ne.symm zx)]; exact d1
  · rw [old (by rw [d2]; exact hx0)]; exact d2
  · rw [hk ia (by rw [e2]; exact hx0) (by rw [e2]; exact Ne.symm zx)]; exact e1
  · rw [old (by rw [e2]; exact hx0)]; exact e2
  · exact hk ro (by rw [f2]; exact hr0) (by rw [f2]; exact Ne.symm zr)
  · rcases f3 with w | w
    · exact hk rd (by rw [w]; exact hr0) (by rw [w]; exact Ne.symm zr)
    · exact hc rd w
  · rw [old (by rw [f2]; exact hr0)]; exact f2
  · rcases f3 with w | w
    · exact Or.inl (by rw [old (by rw [w]; exact hr0)]; exact w)
    · exact Or.inr w
  · exact hk tx (by rw [g2]; exact ht0) (by rw [g2]; exact Ne.symm zt)
  · exact hk td (by rw [g3]; exact ht0) (by rw [g3]; exact Ne.symm zt)
  · rw [old (by rw [g2]; exact ht0)]; exact g2
  · rw [old (by rw [g3]; exact ht0)]; exact g3
  · rcases List.mem_cons.mp (show e ∈ (d0, k0') :: (pl ++ i0.toList ++ i1.toList) from he) with w | w
    · rw [w]; exact ⟨hD, hok⟩
    · have he' : e ∈ dsk d0 k0 pl i0 i1 := List.mem_cons.mpr (Or.inr w)
      refine ⟨(h1 e he').1.move (T := fun t => t = d0) a1 (fun a w1 w2 => ⟨old w1, hk a w1 w2⟩) ?_ ?_ hc (fun q z => z), (h1 e he').2⟩
      · intro ce
        have hn : d0 ∉ (pl ++ i0.toList ++ i1.toList).map Prod.fst := (List.nodup_cons.mp (show (d0 :: (pl ++ i0.toList ++ i1.toList).map Prod.fst).Nodup from h2)).1
        exact hn (ce ▸ List.mem_map_of_mem w)
      · rintro q fs z hq
        rw [z, q1] at hq; cases hq
theorem TM.headMap {ik x to : Nat} {F : Nat → Prop} {l : List (Nat × Nat)} (h : TM V G to F l) (hF : ∀ a, F a → a < nx) (hik : IsInt V G (some ik) x) (hx : x < 128) : wH (hF_J4_headMap V G nx to (some ik)) (fun r G' c s => r = some nx ∧ c = 1 ∧ s = 12 ∧ G' nx = some (smobj to ik none) ∧ ∀ b, b ≠ nx → G' b = G b) := by
  obtain ⟨N, kv, vv, ps, mc, es, ks, h1, h2⟩ := h
  exact headMap_at h1 (TM.old hF h2) hik hx
theorem TM.headSize {sm ik x p v0 to : Nat} {F : Nat → Prop} {l : List (Nat × Nat)} (hV : 200 ≤ V.2.2.2.2) (h : TM V G to F l) (hF : ∀ a, F a → a < sm) (hsx : sm < nx) (hik : IsInt V G (some ik) x) (hx : x < 128) (hpr : l[p]? = some (x, v0)) (hsm : G sm = some (smobj to ik none)) (hsb : V.1 ≤ sm) :
    wH (hF_J44_size V G nx sm) (fun r G' c s => r = nI p ∧ c = 2 ∧ s = 9 ∧ ∀ b, b ≠ sm → b < nx → G' b = G b) := by
  obtain ⟨-, -, hs, -⟩ := h.fo
  obtain ⟨N, kv, vv, ps, mc, es, ks, h1, h2⟩ := h
  exact headSize_at hV h1 (TM.old (fun a ha => by have := hF a ha; omega) h2) hik hx (LowB.of hs hpr) hpr hsm hsb hsx (fun a ha => by have := hF a (h2 a ha); omega)
theorem Wc.row (h : Wc V G nx xo tg d0 da ia ro rd tx st k0 pl i0 i1 txt U) {y : Nat × Nat} (hy : y ∈ k0.2) : y.1 ≤ 99 ∧ y.2 ≤ 4 := (h.2.2.2.2.2.2.2.2.1 (d0, k0) (by simp [dsk])).2.2.2.2 y hy
theorem getD_mem {l : List (Nat × Nat)} {i : Nat} (h : i < l.length) : l[i]? = some (l.getD i (0, 0)) ∧ l.getD i (0, 0) ∈ l := by
  have e : l.getD i (0, 0) = l[i] := by simp [h]
  rw [e]
  exact ⟨List.getElem?_eq_getElem h, List.getElem_mem h⟩
/-- behind a change of the rows all is gone through -/
theorem goes_d {ul : List Nat} (hV : 1200 ≤ V.2.2.2.2) (h : Wc V G nx xo tg d0 da ia ro rd tx st k0 pl i0 i1 txt (fun a => a ∈ ul)) (hu : ul.Nodup) : wH (hF_X0_goesThrough V G nx xo) (fun _ G' c s => c ≤ 170 ∧ s ≤ 6700 ∧ Wd V G' (nx + c) xo (k0, pl.map Prod.snd, (i0.map Prod.snd, i1.map Prod.snd), txt) ul ∧ (∀ a, tg a = ro → a ≠ ro → a ≠ rd → G' a = G a)) := by
  refine w_mono (goes_w hV h) ?_
  rintro - G' c s ⟨u1, u2, tg', rd', rws, u3, u4, u5⟩
  exact ⟨u1, u2, ⟨tg', d0, da, ia, ro, rd', tx, pl, i0, i1, rws, u3, u4, rfl, rfl, rfl, hu⟩, u5⟩
end X

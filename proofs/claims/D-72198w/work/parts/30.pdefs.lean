/-! plain definitions (printed by gen/pdefs.py) -/
theorem ob {α β : Type} {x : Option α} {f : α → Option β} {y : β} (h : x.bind f = some y) : ∃ a, x = some a ∧ f a = some y := by
  cases x with
  | none => cases h
  | some a => exact ⟨a, rfl, h⟩
theorem oi {α : Type} {c : Prop} [Decidable c] {a b : Option α} {y : α} (h : (if c then a else b) = some y) : (c ∧ a = some y) ∨ (¬ c ∧ b = some y) := by
  by_cases hc : c
  · rw [if_pos hc] at h; exact Or.inl ⟨hc, h⟩
  · rw [if_neg hc] at h; exact Or.inr ⟨hc, h⟩
theorem og {α : Type} {c : Prop} [Decidable c] {a : Option α} {y : α} (h : (if c then a else none) = some y) : c ∧ a = some y := by
  by_cases hc : c
  · rw [if_pos hc] at h; exact ⟨hc, h⟩
  · rw [if_neg hc] at h; cases h
def gd (i : Int32) (n : Nat) : Option Nat := if i < 0 ∨ n ≤ i.toNatClampNeg then none else some i.toNatClampNeg
theorem gd_in {i : Int32} {n j : Nat} (h : gd i n = some j) : vp_in i n ∧ j = i.toNatClampNeg := by
  unfold gd at h
  by_cases hc : i < 0 ∨ n ≤ i.toNatClampNeg
  · rw [if_pos hc] at h; cases h
  · rw [if_neg hc] at h; cases h; exact ⟨hc, rfl⟩
theorem gd_nI {k n : Nat} (h : k < n) (hn : n < 2 ^ 31) : gd (nI k) n = some k := by
  unfold gd
  rw [if_neg (vp_in_nI h hn), nI_clamp (by omega)]
def mL_bring_3 (n0 n1 : Nat) (f : Nat → Int32) (l1 l3 : Int32) : Nat → Int32 → (Nat → Int32) → Option (Nat → Int32)
  | 0, _, _ => none
  | n + 1, l4, g => if 98 ≤ l4 then some g else (gd (l1 + l4) n0).bind fun j1 => (gd (l3 + l4) n1).bind fun j2 => mL_bring_3 n0 n1 f l1 l3 n (l4 + 1) (upd g j2 (f j1))
def mF_bring (N n0 n1 : Nat) (f : Nat → Int32) (l1 : Int32) (g : Nat → Int32) (l3 : Int32) : Option (Nat → Int32) := mL_bring_3 n0 n1 f l1 l3 N 0 g
/-! HEAP MODE 1: values, locals; the ghost heap; results with counts -/
abbrev HV : Type := Int32 ⊕ Int64 ⊕ UInt32 ⊕ Option Nat
abbrev hI (x : Int32) : HV := .inl x
abbrev hJ (x : Int64) : HV := .inr (.inl x)
abbrev hX (x : UInt32) : HV := .inr (.inr (.inl x))
abbrev hR (r : Option Nat) : HV := .inr (.inr (.inr r))
def hval : HV → Value
  | .inl x => .int x
  | .inr (.inl x) => .long x
  | .inr (.inr (.inl x)) => .float x
  | .inr (.inr (.inr r)) => va_rf r
def hcat : HV → Nat
  | .inl _ => 1
  | .inr (.inl _) => 2
  | .inr (.inr _) => 1
theorem h_c1 (r : Option Nat) : (va_rf r).category = 1 := by cases r <;> rfl
theorem hcat_eq : ∀ v : HV, (hval v).category = hcat v
  | .inl _ => rfl
  | .inr (.inl _) => rfl
  | .inr (.inr (.inl _)) => rfl
  | .inr (.inr (.inr r)) => h_c1 r
abbrev hvg (q : Nat × HV) : Nat × Value := (q.1, hval q.2)
def hv_has (ls : Array Slot) (nL : Nat) (l : List (Nat × HV)) : Prop := lv_has ls nL (l.map hvg)
theorem hv_at {ls : Array Slot} {nL : Nat} {l : List (Nat × HV)} (h : hv_has ls nL l) (k : Nat) {i : Nat} {v : HV} (hk : l[k]? = some (i, v)) : ls[i]? = some (.val (hval v)) := lv_at h k (by rw [List.getElem?_map, hk]; rfl)
theorem hv_sub {ls : Array Slot} {nL : Nat} {l l' : List (Nat × HV)} (h : hv_has ls nL l) (ks : List Nat) (hl : ks.filterMap (fun k => l[k]?) = l') : hv_has ls nL l' := by
  refine lv_sub h ks ?_
  subst hl
  unfold lv_pick
  rw [List.map_filterMap]
  congr 1
  funext k
  rw [List.getElem?_map]
theorem hv_fil (l : List (Nat × HV)) (i : Nat) : (l.map hvg).filter (fun q => !(q.1 == i) && !(q.1 + 1 == i && q.2.category == 2)) = (l.filter (fun q => !(q.1 == i) && !(q.1 + 1 == i && hcat q.2 == 2))).map hvg := by
  rw [List.filter_map]
  congr 1
  apply List.filter_congr
  intro q _
  simp only [Function.comp, hvg, hcat_eq]
theorem hv_fil2 (l : List (Nat × HV)) (i : Nat) : (l.map hvg).filter (fun q => !(q.1 == i) && (!(q.1 == i + 1) && !(q.1 + 1 == i && q.2.category == 2))) = (l.filter (fun q => !(q.1 == i) && (!(q.1 == i + 1) && !(q.1 + 1 == i && hcat q.2 == 2)))).map hvg := by
  rw [List.filter_map]
  congr 1
  apply List.filter_congr
  intro q _
  simp only [Function.comp, hvg, hcat_eq]
def hv_args : Nat → List HV → List (Nat × HV)
  | _, [] => []
  | i, v :: vs => (i, v) :: hv_args (if hcat v = 2 then i + 2 else i + 1) vs
theorem hv_args_eq : ∀ (vs : List HV) (i : Nat), (hv_args i vs).map hvg = lv_args i (vs.map hval)
  | [], _ => rfl
  | v :: vs, i => by
    show (i, hval v) :: (hv_args _ vs).map hvg = (i, hval v) :: lv_args _ (vs.map hval)
    rw [hv_args_eq vs, hcat_eq]
abbrev Gh : Type := Nat → Option va_E
def gset (G : Gh) (a : Nat) (e : va_E) : Gh := fun q => if q = a then some e else G q
theorem gset_eq (G : Gh) (a : Nat) (e : va_E) : gset G a e a = some e := if_pos rfl
theorem gset_ne (G : Gh) {a q : Nat} (e : va_E) (h : q ≠ a) : gset G a e q = G q := if_neg h
/-- results: the answer, the ghost heap behind it, how many cells and slots are new -/
abbrev HO (R : Type) : Type := Option (R × Gh × Nat × Nat)
def tick {R : Type} (c s : Nat) (x : HO R) : HO R := x.bind fun y => some (y.1, y.2.1, c + y.2.2.1, s + y.2.2.2)
def cB {R S : Type} (x : HO R) (f : R → Gh → Nat → HO S) : HO S := x.bind fun y => tick y.2.2.1 y.2.2.2 (f y.1 y.2.1 y.2.2.1)
theorem ot {R : Type} {c s c' s' : Nat} {x : HO R} {r : R} {G' : Gh} (h : tick c s x = some (r, G', c', s')) : ∃ c1 s1, x = some (r, G', c1, s1) ∧ c' = c + c1 ∧ s' = s + s1 := by
  obtain ⟨⟨r1, G1, c1, s1⟩, hx, hy⟩ := ob h
  cases hy
  exact ⟨c1, s1, hx, rfl, rfl⟩
theorem oc {R S : Type} {x : HO R} {f : R → Gh → Nat → HO S} {r : S} {G' : Gh} {c' s' : Nat} (h : cB x f = some (r, G', c', s')) : ∃ r1 G1 c1 s1 c2 s2, x = some (r1, G1, c1, s1) ∧ f r1 G1 c1 = some (r, G', c2, s2) ∧ c' = c1 + c2 ∧ s' = s1 + s2 := by
  obtain ⟨⟨r1, G1, c1, s1⟩, hx, hy⟩ := ob h
  obtain ⟨c2, s2, h1, h2, h3⟩ := ot hy
  exact ⟨r1, G1, c1, s1, c2, s2, hx, h1, h2, h3⟩
def gF (G : Gh) (a ci k : Nat) : Option Value := match G a with
  | some (.inr (c, fs)) => if c = ci then fs[k]? else none
  | _ => none
theorem gF_spec {G : Gh} {a ci k : Nat} {v : Value} (h : gF G a ci k = some v) : ∃ fs, G a = some (.inr (ci, fs)) ∧ fs[k]? = some v := by
  unfold gF at h
  split at h
  · rename_i c fs e
    obtain ⟨hc, h9⟩ := og h
    subst hc
    exact ⟨fs, e, h9⟩
  · cases h
theorem gF_of {G : Gh} {a ci : Nat} {fs : List Value} (k : Nat) (h : G a = some (.inr (ci, fs))) : gF G a ci k = fs[k]? := by
  unfold gF
  rw [h]
  exact if_pos rfl
def gI (G : Gh) (a ci k : Nat) : Option Int32 := match gF G a ci k with
  | some (.int x) => some x
  | _ => none
def gJ (G : Gh) (a ci k : Nat) : Option Int64 := match gF G a ci k with
  | some (.long x) => some x
  | _ => none
def gR (G : Gh) (a ci k : Nat) : Option (Option Nat) := match gF G a ci k with
  | some (.ref a) => some (some a)
  | some .null => some none
  | _ => none
theorem gI_spec {G : Gh} {a ci k : Nat} {x : Int32} (h : gI G a ci k = some x) : gF G a ci k = some (.int x) := by
  unfold gI at h
  split at h
  · cases h; assumption
  · cases h
theorem gJ_spec {G : Gh} {a ci k : Nat} {x : Int64} (h : gJ G a ci k = some x) : gF G a ci k = some (.long x) := by
  unfold gJ at h
  split at h
  · cases h; assumption
  · cases h
theorem gR_spec {G : Gh} {a ci k : Nat} {r : Option Nat} (h : gR G a ci k = some r) : gF G a ci k = some (va_rf r) := by
  unfold gR at h
  split at h
  · cases h; assumption
  · cases h; assumption
  · cases h
/-- is the object at a of class ci -/
def gC (G : Gh) (a ci : Nat) : Bool := match G a with
  | some (.inr (c, _)) => decide (c = ci)
  | _ => false
theorem gC_spec {G : Gh} {a ci : Nat} (h : gC G a ci = true) : ∃ fs, G a = some (.inr (ci, fs)) := by
  unfold gC at h
  split at h
  · rename_i c fs e
    have := of_decide_eq_true h
    subst this
    exact ⟨fs, e⟩
  · cases h
def sF (b0 : Nat) (G : Gh) (a ci k : Nat) (v : Value) : Option Gh := match G a with
  | some (.inr (c, fs)) => if c = ci ∧ k < fs.length ∧ b0 ≤ a then some (gset G a (.inr (ci, fs.set k v))) else none
  | _ => none
theorem sF_spec {b0 : Nat} {G G1 : Gh} {a ci k : Nat} {v : Value} (h : sF b0 G a ci k v = some G1) : ∃ fs, G a = some (.inr (ci, fs)) ∧ k < fs.length ∧ b0 ≤ a ∧ G1 = gset G a (.inr (ci, fs.set k v)) := by
  unfold sF at h
  split at h
  · rename_i c fs e
    obtain ⟨⟨hc, h1, h2⟩, h9⟩ := og h
    subst hc
    cases h9
    exact ⟨fs, e, h1, h2, rfl⟩
  · cases h
theorem sF_of {b0 : Nat} {G : Gh} {a ci k : Nat} {fs : List Value} (v : Value) (h : G a = some (.inr (ci, fs))) (hk : k < fs.length) (hb : b0 ≤ a) : sF b0 G a ci k v = some (gset G a (.inr (ci, fs.set k v))) := by
  unfold sF
  rw [h]
  exact if_pos ⟨rfl, hk, hb⟩
/-- arrays: length, reads, writes -/
def aln (G : Gh) (cA : ClassId) (a : Nat) : Option Int32 := match G a with
  | some (.inl (c, n, _)) => if c = cA then some (Int32.ofNat n) else none
  | _ => none
theorem aln_spec {G : Gh} {cA : ClassId} {a : Nat} {v : Int32} (h : aln G cA a = some v) : ∃ x : vp_A, G a = some (.inl (cA, x)) ∧ Int32.ofNat x.1 = v := by
  unfold aln at h
  split at h
  · rename_i c n x e
    obtain ⟨hc, h9⟩ := og h
    subst hc
    cases h9
    exact ⟨(n, x), e, rfl⟩
  · cases h
def rdI (G : Gh) (cA : ClassId) (a : Nat) (i : Int32) : Option Int32 := match G a with
  | some (.inl (c, n, .inl f)) => if c = cA then (gd i n).bind fun j => some (f j) else none
  | _ => none
theorem rdI_spec {G : Gh} {cA : ClassId} {a : Nat} {i v : Int32} (h : rdI G cA a i = some v) : ∃ n f j, G a = some (.inl (cA, n, .inl f)) ∧ gd i n = some j ∧ v = f j := by
  unfold rdI at h
  split at h
  · rename_i c n f e
    obtain ⟨hc, h9⟩ := og h
    subst hc
    obtain ⟨j, h1, h2⟩ := ob h9
    cases h2
    exact ⟨n, f, j, e, h1, rfl⟩
  · cases h
def rdJ (G : Gh) (cA : ClassId) (a : Nat) (i : Int32) : Option Int64 := match G a with
  | some (.inl (c, n, .inr (.inl f))) => if c = cA then (gd i n).bind fun j => some (f j) else none
  | _ => none
theorem rdJ_spec {G : Gh} {cA : ClassId} {a : Nat} {i : Int32} {v : Int64} (h : rdJ G cA a i = some v) : ∃ n f j, G a = some (.inl (cA, n, .inr (.inl f))) ∧ gd i n = some j ∧ v = f j := by
  unfold rdJ at h
  split at h
  · rename_i c n f e
    obtain ⟨hc, h9⟩ := og h
    subst hc
    obtain ⟨j, h1, h2⟩ := ob h9
    cases h2
    exact ⟨n, f, j, e, h1, rfl⟩
  · cases h
def rdR (G : Gh) (cA : ClassId) (a : Nat) (i : Int32) : Option (Option Nat) := match G a with
  | some (.inl (c, n, .inr (.inr (.inr (.inr f))))) => if c = cA then (gd i n).bind fun j => some (f j) else none
  | _ => none
theorem rdR_spec {G : Gh} {cA : ClassId} {a : Nat} {i : Int32} {v : Option Nat} (h : rdR G cA a i = some v) : ∃ n f j, G a = some (.inl (cA, n, .inr (.inr (.inr (.inr f))))) ∧ gd i n = some j ∧ v = f j := by
  unfold rdR at h
  split at h
  · rename_i c n f e
    obtain ⟨hc, h9⟩ := og h
    subst hc
    obtain ⟨j, h1, h2⟩ := ob h9
    cases h2
    exact ⟨n, f, j, e, h1, rfl⟩
  · cases h
def wrI (b0 : Nat) (G : Gh) (cA : ClassId) (a : Nat) (i x : Int32) : Option Gh := match G a with
  | some (.inl (c, n, .inl f)) => if c = cA ∧ b0 ≤ a then (gd i n).bind fun j => some (gset G a (.inl (cA, n, .inl (upd f j x)))) else none
  | _ => none
theorem wrI_spec {b0 : Nat} {G G1 : Gh} {cA : ClassId} {a : Nat} {i x : Int32} (h : wrI b0 G cA a i x = some G1) : ∃ n f j, G a = some (.inl (cA, n, .inl f)) ∧ b0 ≤ a ∧ gd i n = some j ∧ G1 = gset G a (.inl (cA, n, .inl (upd f j x))) := by
  unfold wrI at h
  split at h
  · rename_i c n f e
    obtain ⟨⟨hc, hb⟩, h9⟩ := og h
    subst hc
    obtain ⟨j, h1, h2⟩ := ob h9
    cases h2
    exact ⟨n, f, j, e, hb, h1, rfl⟩
  · cases h
def wrJ (b0 : Nat) (G : Gh) (cA : ClassId) (a : Nat) (i : Int32) (x : Int64) : Option Gh := match G a with
  | some (.inl (c, n, .inr (.inl f))) => if c = cA ∧ b0 ≤ a then (gd i n).bind fun j => some (gset G a (.inl (cA, n, .inr (.inl (vp_updL f j x))))) else none
  | _ => none
theorem wrJ_spec {b0 : Nat} {G G1 : Gh} {cA : ClassId} {a : Nat} {i : Int32} {x : Int64} (h : wrJ b0 G cA a i x = some G1) : ∃ n f j, G a = some (.inl (cA, n, .inr (.inl f))) ∧ b0 ≤ a ∧ gd i n = some j ∧ G1 = gset G a (.inl (cA, n, .inr (.inl (vp_updL f j x)))) := by
  unfold wrJ at h
  split at h
  · rename_i c n f e
    obtain ⟨⟨hc, hb⟩, h9⟩ := og h
    subst hc
    obtain ⟨j, h1, h2⟩ := ob h9
    cases h2
    exact ⟨n, f, j, e, hb, h1, rfl⟩
  · cases h
def wrR (b0 : Nat) (G : Gh) (cA : ClassId) (a : Nat) (i : Int32) (x : Option Nat) : Option Gh := match G a with
  | some (.inl (c, n, .inr (.inr (.inr (.inr f))))) => if c = cA ∧ b0 ≤ a then (gd i n).bind fun j => some (gset G a (.inl (cA, n, .inr (.inr (.inr (.inr (va_up f j x))))))) else none
  | _ => none
theorem wrR_spec {b0 : Nat} {G G1 : Gh} {cA : ClassId} {a : Nat} {i : Int32} {x : Option Nat} (h : wrR b0 G cA a i x = some G1) : ∃ n f j, G a = some (.inl (cA, n, .inr (.inr (.inr (.inr f))))) ∧ b0 ≤ a ∧ gd i n = some j ∧ G1 = gset G a (.inl (cA, n, .inr (.inr (.inr (.inr (va_up f j x)))))) := by
  unfold wrR at h
  split at h
  · rename_i c n f e
    obtain ⟨⟨hc, hb⟩, h9⟩ := og h
    subst hc
    obtain ⟨j, h1, h2⟩ := ob h9
    cases h2
    exact ⟨n, f, j, e, hb, h1, rfl⟩
  · cases h

def gn (n : Int32) : Option Nat := if n < 0 ∨ 1000000 < n.toNatClampNeg then none else some n.toNatClampNeg
theorem gn_spec {n : Int32} {N : Nat} (h : gn n = some N) : ¬ n < 0 ∧ n.toNatClampNeg = N ∧ N ≤ 1000000 := by
  unfold gn at h
  by_cases hc : n < 0 ∨ 1000000 < n.toNatClampNeg
  · rw [if_pos hc] at h; cases h
  · rw [if_neg hc] at h; cases h
    exact ⟨fun q => hc (Or.inl q), rfl, Nat.not_lt.mp fun q => hc (Or.inr q)⟩
def gok (G : Gh) (r : Option Nat) (L : List Nat) : Bool := match r with
  | none => true
  | some y => L.any (gC G y)
theorem gok_spec {G : Gh} {L : List Nat} {y : Nat} (h : gok G (some y) L = true) : ∃ ci ∈ L, ∃ fs, G y = some (.inr (ci, fs)) := by
  obtain ⟨ci, h1, h2⟩ := List.any_eq_true.mp (show L.any (gC G y) = true from h)
  exact ⟨ci, h1, gC_spec h2⟩
def gin (G : Gh) (r : Option Nat) (L1 L0 : List Nat) : Option Int32 := match r with
  | none => some 0
  | some y => if L1.any (gC G y) = true then some 1 else if L0.any (gC G y) = true then some 0 else none
def lk (L : List (Nat × Nat)) (c : Nat) : Option Nat := (L.find? (fun q => q.1 == c)).map (·.2)
theorem lk_mem {L : List (Nat × Nat)} {c k : Nat} (h : lk L c = some k) : (c, k) ∈ L := by
  unfold lk at h
  cases hf : L.find? (fun q => q.1 == c) with
  | none => rw [hf] at h; cases h
  | some q =>
    rw [hf] at h
    have h1 := List.find?_some hf
    have h2 := List.mem_of_find?_eq_some hf
    have e1 : q.1 = c := by simpa using h1
    have e2 : q.2 = k := Option.some.inj h
    rw [← e1, ← e2]
    exact h2
def gFx (G : Gh) (a : Nat) (L : List (Nat × Nat)) : Option Value := match G a with
  | some (.inr (c, fs)) => (lk L c).bind fun k => fs[k]?
  | _ => none
theorem gFx_spec {G : Gh} {a : Nat} {L : List (Nat × Nat)} {v : Value} (h : gFx G a L = some v) : ∃ ci k, (ci, k) ∈ L ∧ gF G a ci k = some v := by
  unfold gFx at h
  split at h
  · rename_i c fs e
    obtain ⟨k, h1, h2⟩ := ob h
    exact ⟨c, k, lk_mem h1, by rw [gF_of k e]; exact h2⟩
  · cases h
theorem gFx_of {G : Gh} {a : Nat} {L : List (Nat × Nat)} {ci k : Nat} {fs : List Value} (h : G a = some (.inr (ci, fs))) (hk : lk L ci = some k) : gFx G a L = fs[k]? := by
  unfold gFx
  rw [h]
  simp only [hk, Option.bind_some]
def xI (G : Gh) (a : Nat) (L : List (Nat × Nat)) : Option Int32 := match gFx G a L with
  | some (.int x) => some x
  | _ => none
def xJ (G : Gh) (a : Nat) (L : List (Nat × Nat)) : Option Int64 := match gFx G a L with
  | some (.long x) => some x
  | _ => none
def xR (G : Gh) (a : Nat) (L : List (Nat × Nat)) : Option (Option Nat) := match gFx G a L with
  | some (.ref a) => some (some a)
  | some .null => some none
  | _ => none
theorem xI_spec {G : Gh} {a : Nat} {L : List (Nat × Nat)} {x : Int32} (h : xI G a L = some x) : gFx G a L = some (.int x) := by
  unfold xI at h
  split at h
  · cases h; assumption
  · cases h
theorem xJ_spec {G : Gh} {a : Nat} {L : List (Nat × Nat)} {x : Int64} (h : xJ G a L = some x) : gFx G a L = some (.long x) := by
  unfold xJ at h
  split at h
  · cases h; assumption
  · cases h
theorem xR_spec {G : Gh} {a : Nat} {L : List (Nat × Nat)} {r : Option Nat} (h : xR G a L = some r) : gFx G a L = some (va_rf r) := by
  unfold xR at h
  split at h
  · cases h; assumption
  · cases h; assumption
  · cases h
def xF (b0 : Nat) (G : Gh) (a : Nat) (L : List (Nat × Nat)) (v : Value) : Option Gh := match G a with
  | some (.inr (c, fs)) => (lk L c).bind fun k => if k < fs.length ∧ b0 ≤ a then some (gset G a (.inr (c, fs.set k v))) else none
  | _ => none
theorem xF_spec {b0 : Nat} {G G1 : Gh} {a : Nat} {L : List (Nat × Nat)} {v : Value} (h : xF b0 G a L v = some G1) : ∃ ci k, (ci, k) ∈ L ∧ sF b0 G a ci k v = some G1 := by
  unfold xF at h
  split at h
  · rename_i c fs e
    obtain ⟨k, h1, h2⟩ := ob h
    obtain ⟨⟨h3, h4⟩, h5⟩ := og h2
    exact ⟨c, k, lk_mem h1, by rw [sF_of v e h3 h4]; exact h5⟩
  · cases h
theorem xF_of {b0 : Nat} {G : Gh} {a : Nat} {L : List (Nat × Nat)} {ci k : Nat} {fs : List Value} (v : Value) (h : G a = some (.inr (ci, fs))) (hk : lk L ci = some k) (hl : k < fs.length) (hb : b0 ≤ a) : xF b0 G a L v = some (gset G a (.inr (ci, fs.set k v))) := by
  unfold xF
  rw [h]
  simp only [hk, Option.bind_some]
  exact if_pos ⟨hl, hb⟩
abbrev HEn : Type := Nat × (Nat → ClassId) × (Nat → Option Nat) × (Nat → Nat) × Nat
theorem o4 {R : Type} {a a' : R} {b b' : Gh} {c c' d d' : Nat} (h : some (a, b, c, d) = some (a', b', c', d')) : a = a' ∧ b = b' ∧ c = c' ∧ d = d' := by
  have h1 := Option.some.inj h
  have h2 := (Prod.mk.inj h1).2
  have h3 := (Prod.mk.inj h2).2
  exact ⟨(Prod.mk.inj h1).1, (Prod.mk.inj h2).1, (Prod.mk.inj h3).1, (Prod.mk.inj h3).2⟩
def nmv {α β : Type} (e : α) (f : α → Option β) : Option β := f e
theorem onm {α β : Type} {e : α} {f : α → Option β} {y : β} (h : nmv e f = some y) : f e = some y := h
theorem any2 {a b : Nat} {f : Nat → Bool} (h : [a, b].any f = true) : f a = true ∨ f b = true := by
  simpa using h
theorem any3 {a b c : Nat} {f : Nat → Bool} (h : [a, b, c].any f = true) : f a = true ∨ f b = true ∨ f c = true := by
  simpa using h
def gkc (G : Gh) (ar : Nat → ClassId) (y c : Nat) : Bool := if c < 100 then gC G y c else match G y with
  | some (.inl (cA, _)) => decide (cA = ar (c - 100))
  | _ => false
def gokA (G : Gh) (ar : Nat → ClassId) (r : Option Nat) (L : List Nat) : Bool := match r with
  | none => true
  | some y => L.any (gkc G ar y)
def cpI (b0 : Nat) (G : Gh) (cA : ClassId) (src : Nat) (sp : Int32) (dst : Nat) (dp n : Int32) : Option Gh := match G src, G dst with
  | some (.inl (c0, n0, .inl f)), some (.inl (c1, n1, .inl g)) => if c0 = cA ∧ c1 = cA ∧ b0 ≤ dst ∧ ¬ sp < 0 ∧ ¬ dp < 0 ∧ ¬ n < 0 ∧ sp.toNatClampNeg + n.toNatClampNeg ≤ n0 ∧ dp.toNatClampNeg + n.toNatClampNeg ≤ n1 ∧ (List.range n.toNatClampNeg).all (fun i => fits .byte (.int (f (sp.toNatClampNeg + i)))) = true then some (gset G dst (.inl (cA, n1, .inl (va_cpy f g sp.toNatClampNeg dp.toNatClampNeg n.toNatClampNeg)))) else none
  | _, _ => none
theorem cpI_spec {b0 : Nat} {G G1 : Gh} {cA : ClassId} {src dst : Nat} {sp dp n : Int32} (h : cpI b0 G cA src sp dst dp n = some G1) : ∃ n0 f n1 g, G src = some (.inl (cA, n0, .inl f)) ∧ G dst = some (.inl (cA, n1, .inl g)) ∧ b0 ≤ dst ∧ ¬ sp < 0 ∧ ¬ dp < 0 ∧ ¬ n < 0 ∧ sp.toNatClampNeg + n.toNatClampNeg ≤ n0 ∧ dp.toNatClampNeg + n.toNatClampNeg ≤ n1 ∧ (∀ i, i < n.toNatClampNeg → fits .byte (.int (f (sp.toNatClampNeg + i))) = true) ∧ G1 = gset G dst (.inl (cA, n1, .inl (va_cpy f g sp.toNatClampNeg dp.toNatClampNeg n.toNatClampNeg))) := by
  unfold cpI at h
  split at h
  · rename_i c0 n0 f c1 n1 g e0 e1
    obtain ⟨⟨h0, h1, h2, h3, h4, h5, h6, h7, h8⟩, h9⟩ := og h
    subst h0; subst h1
    cases h9
    exact ⟨n0, f, n1, g, e0, e1, h2, h3, h4, h5, h6, h7, fun i hi => List.all_eq_true.mp h8 i (List.mem_range.mpr hi), rfl⟩
  · cases h
def cpR (b0 : Nat) (G : Gh) (ar : Nat → ClassId) (cA : ClassId) (src : Nat) (sp : Int32) (dst : Nat) (dp n : Int32) (L : List Nat) : Option Gh := match G src, G dst with
  | some (.inl (c0, n0, .inr (.inr (.inr (.inr f))))), some (.inl (c1, n1, .inr (.inr (.inr (.inr g))))) => if c0 = cA ∧ c1 = cA ∧ b0 ≤ dst ∧ ¬ sp < 0 ∧ ¬ dp < 0 ∧ ¬ n < 0 ∧ sp.toNatClampNeg + n.toNatClampNeg ≤ n0 ∧ dp.toNatClampNeg + n.toNatClampNeg ≤ n1 ∧ (List.range n.toNatClampNeg).all (fun i => gokA G ar (f (sp.toNatClampNeg + i)) L) = true then some (gset G dst (.inl (cA, n1, .inr (.inr (.inr (.inr (va_cpy f g sp.toNatClampNeg dp.toNatClampNeg n.toNatClampNeg))))))) else none
  | _, _ => none
theorem cpR_spec {b0 : Nat} {G G1 : Gh} {ar : Nat → ClassId} {cA : ClassId} {src dst : Nat} {sp dp n : Int32} {L : List Nat} (h : cpR b0 G ar cA src sp dst dp n L = some G1) : ∃ n0 f n1 g, G src = some (.inl (cA, n0, .inr (.inr (.inr (.inr f))))) ∧ G dst = some (.inl (cA, n1, .inr (.inr (.inr (.inr g))))) ∧ b0 ≤ dst ∧ ¬ sp < 0 ∧ ¬ dp < 0 ∧ ¬ n < 0 ∧ sp.toNatClampNeg + n.toNatClampNeg ≤ n0 ∧ dp.toNatClampNeg + n.toNatClampNeg ≤ n1 ∧ (∀ i, i < n.toNatClampNeg → gokA G ar (f (sp.toNatClampNeg + i)) L = true) ∧ G1 = gset G dst (.inl (cA, n1, .inr (.inr (.inr (.inr (va_cpy f g sp.toNatClampNeg dp.toNatClampNeg n.toNatClampNeg)))))) := by
  unfold cpR at h
  split at h
  · rename_i c0 n0 f c1 n1 g e0 e1
    obtain ⟨⟨h0, h1, h2, h3, h4, h5, h6, h7, h8⟩, h9⟩ := og h
    subst h0; subst h1
    cases h9
    exact ⟨n0, f, n1, g, e0, e1, h2, h3, h4, h5, h6, h7, fun i hi => List.all_eq_true.mp h8 i (List.mem_range.mpr hi), rfl⟩
  · cases h
def clB (G : Gh) (cA : ClassId) (a : Nat) : Option (Nat × (Nat → Int32)) := match G a with
  | some (.inl (c, n, .inl f)) => if c = cA ∧ (List.range n).all (fun i => fits .byte (.int (f i))) = true then some (n, f) else none
  | _ => none
theorem clB_spec {G : Gh} {cA : ClassId} {a : Nat} {x : Nat × (Nat → Int32)} (h : clB G cA a = some x) : G a = some (.inl (cA, x.1, .inl x.2)) ∧ ∀ i, i < x.1 → fits .byte (.int (x.2 i)) = true := by
  unfold clB at h
  split at h
  · rename_i c n f e
    obtain ⟨⟨h0, h1⟩, h9⟩ := og h
    subst h0
    cases h9
    exact ⟨e, fun i hi => List.all_eq_true.mp h1 i (List.mem_range.mpr hi)⟩
  · cases h
def xB {R S : Type} (x : HO (R ⊕ Nat)) (f : R → Gh → Nat → HO (S ⊕ Nat)) : HO (S ⊕ Nat) := cB x fun r G c => Sum.elim (fun r => f r G c) (fun q => some (.inr q, G, 0, 0)) r
theorem ox {R S : Type} {x : HO (R ⊕ Nat)} {f : R → Gh → Nat → HO (S ⊕ Nat)} {r : S ⊕ Nat} {G' : Gh} {c' s' : Nat} (h : xB x f = some (r, G', c', s')) : (∃ q, x = some (.inr q, G', c', s') ∧ r = .inr q) ∨ (∃ r1 G1 c1 s1 c2 s2, x = some (.inl r1, G1, c1, s1) ∧ f r1 G1 c1 = some (r, G', c2, s2) ∧ c' = c1 + c2 ∧ s' = s1 + s2) := by
  obtain ⟨r1, G1, c1, s1, c2, s2, h1, h2, h3, h4⟩ := oc h
  cases r1 with
  | inl r1 => exact Or.inr ⟨r1, G1, c1, s1, c2, s2, h1, h2, h3, h4⟩
  | inr q =>
    obtain ⟨e1, e2, e3, e4⟩ := o4 h2
    subst e1; subst e2; subst e3; subst e4
    subst h3; subst h4
    exact Or.inl ⟨q, h1, rfl⟩
def yB {R S : Type} (x : HO (R ⊕ Nat)) (f : R → Gh → Nat → HO S) (g : Nat → Gh → Nat → HO S) : HO S := cB x fun r G c => Sum.elim (fun r => f r G c) (fun q => g q G c) r
theorem oy {R S : Type} {x : HO (R ⊕ Nat)} {f : R → Gh → Nat → HO S} {g : Nat → Gh → Nat → HO S} {r : S} {G' : Gh} {c' s' : Nat} (h : yB x f g = some (r, G', c', s')) : (∃ q G1 c1 s1 c2 s2, x = some (.inr q, G1, c1, s1) ∧ g q G1 c1 = some (r, G', c2, s2) ∧ c' = c1 + c2 ∧ s' = s1 + s2) ∨ (∃ r1 G1 c1 s1 c2 s2, x = some (.inl r1, G1, c1, s1) ∧ f r1 G1 c1 = some (r, G', c2, s2) ∧ c' = c1 + c2 ∧ s' = s1 + s2) := by
  obtain ⟨r1, G1, c1, s1, c2, s2, h1, h2, h3, h4⟩ := oc h
  cases r1 with
  | inl r1 => exact Or.inr ⟨r1, G1, c1, s1, c2, s2, h1, h2, h3, h4⟩
  | inr q => exact Or.inl ⟨q, G1, c1, s1, c2, s2, h1, h2, h3, h4⟩
def gM (G : Gh) (c7 c2 : ClassId) (nx n k : Nat) : Gh := fun a => if a = nx then some (.inl (c7, n, .inr (.inr (.inr (.inr (fun j => some (nx + 1 + j))))))) else if nx < a ∧ a ≤ nx + n then some (.inl (c2, k, .inr (.inl (fun _ => 0)))) else G a

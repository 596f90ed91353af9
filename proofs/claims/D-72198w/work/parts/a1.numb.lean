/-! PURE 58: the last parts; states by when they are come to -/
def RsOk (rs : List Ru) : Prop := (∀ r ∈ rs, RuOk r) ∧ rs.length ≤ 3 ∧ bks rs ≤ 6
def rdL (rs : List Ru) (Ls : List Nat) : Nat → Nat → Nat
  | 0, r => r
  | j + 1, r => if mm rs Ls (r + 1) ≤ mm rs Ls r then r + 1 else rdL rs Ls j (r + 1)
/-- the part of each place of a plan -/
def fpt (rs : List Ru) : Nat → Nat := prt rs (plcs rs) (rdL rs (plcs rs) 4 0)
section X
variable {rs : List Ru}
theorem plcs_pos (h : bks rs ≤ 6) : 0 < (plcs rs).length := (List.getElem?_eq_some_iff.mp (plcs_ok h).2.2.1).1
theorem rdL_ok {Ls : List Nat} (h4 : mm rs Ls 4 ≤ mm rs Ls 3) : ∀ (j r : Nat), r + j = 4 → 1 ≤ j → ∃ q, rdL rs Ls j r = q + 1 ∧ mm rs Ls (q + 1) ≤ mm rs Ls q ∧ q < 4
  | 0, r, _, h => by omega
  | j + 1, r, hj, _ => by
    rw [rdL]
    split
    · rename_i c
      exact ⟨r, rfl, c, by omega⟩
    · rename_i c
      by_cases cj : j = 0
      · have : r = 3 := by omega
        subst this
        exact absurd h4 c
      · exact rdL_ok h4 j (r + 1) (by omega) (by omega)
theorem mm_4p (h : RsOk rs) : mm rs (plcs rs) 4 ≤ mm rs (plcs rs) 3 := by
  obtain ⟨h1, h2, h3⟩ := h
  obtain ⟨p1, p2, p3, p4, p5⟩ := plcs_ok h3
  exact mm_4 p4 (plcs_pos h3) p1 (fun r hr => (h1 r hr).2.2.1) (fun x hx => (plcs_inv h1 x hx).2)
theorem mm_36p (h : RsOk rs) (r : Nat) : mm rs (plcs rs) (r + 1) ≤ 36 := by
  obtain ⟨h1, h2, h3⟩ := h
  obtain ⟨p1, p2, p3, p4, p5⟩ := plcs_ok h3
  exact mm_36 p4 h1 h2 h3 p5 (fun y hy => (plcs_inv h1 y hy).1) r
theorem fpt_stb (h : RsOk rs) : Stb rs (plcs rs) (fpt rs) := by
  obtain ⟨q, e1, e2, e3⟩ := rdL_ok (mm_4p h) 4 0 rfl (by decide)
  obtain ⟨h1, h2, h3⟩ := h
  unfold fpt
  rw [e1]
  exact prt_stab (plcs_ok h3).2.2.2.1 (plcs_pos h3) e2
theorem prt_36 (h : RsOk rs) {r k : Nat} (hk : k < (plcs rs).length) : prt rs (plcs rs) r k < 36 := by
  cases r with
  | zero => show 0 < 36; omega
  | succ r =>
    have h1 := mm_36p h r
    have h2 := nm_lt (f := keyS rs (plcs rs) (prt rs (plcs rs) r)) hk
    exact Nat.lt_of_lt_of_le h2 h1
theorem fpt_36 (h : RsOk rs) {k : Nat} (hk : k < (plcs rs).length) : fpt rs k < 36 := prt_36 h hk
/-! parts, one step on -/
/-- the least place of a part -/
def lsP (N : Nat) (pt : Nat → Nat) (q : Nat) : Nat := ((List.range N).map pt).idxOf q
theorem lsP_ok {N q : Nat} {pt : Nat → Nat} (h : ∃ k, k < N ∧ pt k = q) : lsP N pt q < N ∧ pt (lsP N pt q) = q := by
  obtain ⟨k, h1, h2⟩ := h
  have hm : q ∈ (List.range N).map pt := List.mem_map.mpr ⟨k, List.mem_range.mpr h1, h2⟩
  have hl := List.idxOf_lt_length_of_mem hm
  have e := List.getElem_idxOf hl
  have hl2 : lsP N pt q < N := by
    unfold lsP
    simpa using hl
  refine ⟨hl2, ?_⟩
  rw [List.getElem_map, List.getElem_range] at e
  exact e
/-- where a sign leads from a part -/
def dlP (rs : List Ru) (q s : Nat) : Option Nat := (ldP rs (plcs rs) (lsP (plcs rs).length (fpt rs) q) s).map (fpt rs)
theorem dlP_any (h : RsOk rs) {k s : Nat} (hk : k < (plcs rs).length) (hs : s < 5) : dlP rs (fpt rs k) s = (ldP rs (plcs rs) k s).map (fpt rs) := by
  obtain ⟨h1, h2⟩ := lsP_ok (N := (plcs rs).length) (pt := fpt rs) ⟨k, hk, rfl⟩
  exact fpt_stb h _ h1 _ hk h2 s hs
def nSt (dl : Nat → Nat → Option Nat) (q : Nat) (l : List Nat) (s : Nat) : List Nat := match dl q s with
  | some x => addN l x
  | none => l
def nF (dl : Nat → Nat → Option Nat) (q : Nat) (l ss : List Nat) : List Nat := ss.foldl (nSt dl q) l
def nbL (dl : Nat → Nat → Option Nat) : Nat → Nat → List Nat → List Nat
  | 0, _, l => l
  | n + 1, k, l => match l[k]? with
    | none => l
    | some q => nbL dl n (k + 1) (nF dl q l (List.range' 0 5))
section N
variable {dl : Nat → Nat → Option Nat} {P : Nat → Prop}
theorem nSt_pre (dl : Nat → Nat → Option Nat) (q : Nat) (l : List Nat) (s : Nat) : ∃ t, nSt dl q l s = l ++ t := by
  unfold nSt
  split
  · exact addN_pre _ _
  · exact ⟨[], by simp⟩
theorem nF_pre (dl : Nat → Nat → Option Nat) (q : Nat) : ∀ (ss l : List Nat), ∃ t, nF dl q l ss = l ++ t
  | [], l => ⟨[], by simp [nF]⟩
  | s :: ss, l => by
    obtain ⟨t1, h1⟩ := nSt_pre dl q l s
    obtain ⟨t2, h2⟩ := nF_pre dl q ss (nSt dl q l s)
    refine ⟨t1 ++ t2, ?_⟩
    show nF dl q (nSt dl q l s) ss = _
    rw [h2, h1, List.append_assoc]
theorem nF_mem {q s x : Nat} (h0 : dl q s = some x) : ∀ {ss l : List Nat}, s ∈ ss → x ∈ nF dl q l ss
  | [], _, h => by simp at h
  | a :: ss, l, h => by
    show x ∈ nF dl q (nSt dl q l a) ss
    rcases List.mem_cons.mp h with e | e
    · subst e
      obtain ⟨t, ht⟩ := nF_pre dl q ss (nSt dl q l s)
      rw [ht]
      refine List.mem_append.mpr (Or.inl ?_)
      unfold nSt
      rw [h0]
      exact addN_mem
    · exact nF_mem h0 e
theorem nF_ok {q : Nat} : ∀ {ss l : List Nat}, (∀ s ∈ ss, ∀ x, dl q s = some x → P x) → l.Nodup → (∀ y ∈ l, P y) → (nF dl q l ss).Nodup ∧ ∀ y ∈ nF dl q l ss, P y
  | [], l, _, h1, h2 => ⟨h1, h2⟩
  | a :: ss, l, hd, h1, h2 => by
    have h3 : (nSt dl q l a).Nodup ∧ ∀ y ∈ nSt dl q l a, P y := by
      unfold nSt
      split
      · rename_i x ex
        refine ⟨addN_nd h1, fun y hy => ?_⟩
        unfold addN at hy
        split at hy
        · exact h2 y hy
        · rcases List.mem_append.mp hy with w | w
          · exact h2 y w
          · rw [List.mem_singleton.mp w]; exact hd a (by simp) x ex
      · exact ⟨h1, h2⟩
    exact nF_ok (ss := ss) (l := nSt dl q l a) (fun s hs => hd s (by simp [hs])) h3.1 h3.2
def nClo (dl : Nat → Nat → Option Nat) (l : List Nat) (k : Nat) : Prop := ∀ i, i < k → ∀ q, l[i]? = some q → ∀ s, s < 5 → ∀ x, dl q s = some x → x ∈ l
theorem nb_ok (hP : ∀ q s, s < 5 → P q → ∀ x, dl q s = some x → P x) (h64 : ∀ q, P q → q < 64) : ∀ (j k : Nat) (l : List Nat), k + j = 64 → l.Nodup → (∀ y ∈ l, P y) → nClo dl l k → nClo dl (nbL dl j k l) 64 ∧ (nbL dl j k l).Nodup ∧ (∀ y ∈ nbL dl j k l, P y) ∧ ∃ t, nbL dl j k l = l ++ t := by
  intro j
  induction j with
  | zero =>
    intro k l hj h1 h2 h3
    have : k = 64 := by omega
    subst this
    exact ⟨h3, h1, h2, [], by simp [nbL]⟩
  | succ j ih =>
    intro k l hj h1 h2 h3
    cases ek : l[k]? with
    | none =>
      have eb : nbL dl (j + 1) k l = l := by rw [nbL, ek]
      rw [eb]
      refine ⟨fun i hi p hp => ?_, h1, h2, [], by simp⟩
      have := List.getElem?_eq_none_iff.mp ek
      have := (List.getElem?_eq_some_iff.mp hp).1
      exact h3 i (by omega) p hp
    | some q =>
      obtain ⟨t, ht⟩ := nF_pre dl q (List.range' 0 5) l
      have hPq := h2 q (List.mem_of_getElem? ek)
      obtain ⟨o1, o2⟩ := nF_ok (dl := dl) (P := P) (q := q) (ss := List.range' 0 5) (fun s hs => hP q s (by rw [List.mem_range'_1] at hs; omega) hPq) h1 h2
      have hk := (List.getElem?_eq_some_iff.mp ek).1
      have eb : nbL dl (j + 1) k l = nbL dl j (k + 1) (nF dl q l (List.range' 0 5)) := by rw [nbL, ek]
      have hc : nClo dl (nF dl q l (List.range' 0 5)) (k + 1) := by
        intro i hi q' hq s hs x hx
        by_cases ci : i = k
        · subst ci
          rw [ht, List.getElem?_append_left hk, ek] at hq
          cases hq
          exact nF_mem hx (by rw [List.mem_range'_1]; omega)
        · rw [ht, List.getElem?_append_left (by omega)] at hq
          rw [ht]
          exact List.mem_append.mpr (Or.inl (h3 i (by omega) q' hq s hs x hx))
      obtain ⟨r1, r2, r3, t2, r4⟩ := ih (k + 1) (nF dl q l (List.range' 0 5)) (by omega) o1 o2 hc
      rw [eb]
      exact ⟨r1, r2, r3, t ++ t2, by rw [r4, ht, List.append_assoc]⟩
end N
/-- the parts in the order of the states -/
def sts (rs : List Ru) : List Nat := nbL (dlP rs) 64 0 [fpt rs 0]
theorem dlP_val (h : RsOk rs) {q s x : Nat} (hx : dlP rs q s = some x) : ∃ k, k < (plcs rs).length ∧ fpt rs k = x := by
  obtain ⟨k, e1, e2⟩ := omap_some hx
  exact ⟨k, (ldP_at e1).1, e2⟩
theorem sts_ok (h : RsOk rs) : (sts rs).Nodup ∧ (∀ y ∈ sts rs, ∃ k, k < (plcs rs).length ∧ fpt rs k = y) ∧ (sts rs)[0]? = some (fpt rs 0) ∧ (sts rs).length ≤ 36 ∧ ∀ j (hj : j < (sts rs).length) s, s < 5 → ∀ x, dlP rs (sts rs)[j] s = some x → x ∈ sts rs := by
  obtain ⟨h1, h2, h3, t, h4⟩ := nb_ok (dl := dlP rs) (P := fun y => ∃ k, k < (plcs rs).length ∧ fpt rs k = y) (fun q s _ _ x hx => dlP_val h hx) (fun q ⟨k, k1, k2⟩ => by have := fpt_36 h k1; omega) 64 0 [fpt rs 0] (by omega) (by simp) (fun y hy => by rw [List.mem_singleton.mp hy]; exact ⟨0, plcs_pos h.2.2, rfl⟩) (fun i hi => absurd hi (Nat.not_lt_zero _))
  have hl : (sts rs).length ≤ 36 := by
    have := nodup_sub h2 (m := List.range 36) (fun a ha => by
      obtain ⟨k, k1, k2⟩ := h3 a ha
      rw [← k2]; exact List.mem_range.mpr (fpt_36 h k1))
    rw [List.length_range] at this
    exact this
  refine ⟨h2, h3, ?_, hl, fun j hj s hs x hx => h1 j ?_ _ (List.getElem?_eq_getElem hj) s hs x hx⟩
  · show (nbL (dlP rs) 64 0 [fpt rs 0])[0]? = _
    rw [h4]; rfl
  · have : j < (nbL (dlP rs) 64 0 [fpt rs 0]).length := hj
    have : (nbL (dlP rs) 64 0 [fpt rs 0]).length ≤ 36 := hl
    omega
/-- the steps of the machine -/
def stT (rs : List Ru) (j s : Nat) : Option Nat := (dlP rs ((sts rs).getD j 0) s).bind (ixL (sts rs))
/-- the state of packed bits -/
def stO (rs : List Ru) (p : Nat) : Option Nat := ((ixL (plcs rs) p).map (fpt rs)).bind (ixL (sts rs))
theorem stT_lt {j s x : Nat} (h : stT rs j s = some x) : x < (sts rs).length := by
  unfold stT at h
  cases e : dlP rs ((sts rs).getD j 0) s with
  | none => rw [e] at h; cases h
  | some y => rw [e] at h; exact (ixL_some h).2
theorem plcs_sts (h : RsOk rs) : ∀ y ∈ plcs rs, ∃ k, ixL (plcs rs) y = some k ∧ fpt rs k ∈ sts rs := by
  obtain ⟨p1, p2, p3, p4, p5⟩ := plcs_ok h.2.2
  obtain ⟨s1, s2, s3, s4, s5⟩ := sts_ok h
  have ix : ∀ {k : Nat} (hk : k < (plcs rs).length), ixL (plcs rs) (plcs rs)[k] = some k := fun {k} hk => by
    obtain ⟨j, hj⟩ := ixL_mem (List.getElem_mem hk)
    obtain ⟨j1, j2⟩ := ixL_some hj
    rw [List.getElem?_eq_getElem j2] at j1
    rw [hj, (List.getElem_inj p1).mp (Option.some.inj j1)]
  have z0 : (0 : Nat) < (plcs rs).length := plcs_pos h.2.2
  have e0 : (plcs rs)[0] = 0 := by
    rw [List.getElem?_eq_getElem z0] at p3
    exact Option.some.inj p3
  refine fun y hy => (bfs_inv (rs := rs) (P := fun y => y ∈ plcs rs ∧ ∃ k, ixL (plcs rs) y = some k ∧ fpt rs k ∈ sts rs) (fun p s hs hp h0 => ?_) 64 0 [0] (fun y hy => ?_) y hy).2
  · obtain ⟨hm, k, k1, k2⟩ := hp
    obtain ⟨k3, k4⟩ := ixL_some k1
    have ek : (plcs rs)[k] = p := by
      rw [List.getElem?_eq_getElem k4] at k3
      exact Option.some.inj k3
    have hin := p5 k k4 s hs (by rw [ek]; exact h0)
    rw [ek] at hin
    obtain ⟨j, hj⟩ := ixL_mem hin
    refine ⟨hin, j, hj, ?_⟩
    have el : ldP rs (plcs rs) k s = some j := by
      unfold ldP
      have : (plcs rs).getD k 0 = p := by simp [k3]
      rw [this, if_pos h0]; exact hj
    have ed := dlP_any h k4 hs
    rw [el] at ed
    obtain ⟨i, i1⟩ := ixL_mem k2
    obtain ⟨i2, i3⟩ := ixL_some i1
    rw [List.getElem?_eq_getElem i3] at i2
    exact s5 i i3 s hs _ (by rw [Option.some.inj i2]; exact ed)
  · rw [List.mem_singleton.mp hy]
    refine ⟨List.mem_of_getElem? p3, 0, ?_, List.mem_of_getElem? s3⟩
    have := ix z0
    rw [e0] at this
    exact this
theorem stO_some (h : RsOk rs) {p : Nat} (hp : p ∈ plcs rs) : ∃ j, stO rs p = some j ∧ j < (sts rs).length := by
  obtain ⟨k, k1, k2⟩ := plcs_sts h p hp
  obtain ⟨j, hj⟩ := ixL_mem k2
  refine ⟨j, ?_, (ixL_some hj).2⟩
  unfold stO
  rw [k1]
  exact hj
end X

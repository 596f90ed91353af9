/-! PURE 78: alarm, signal, same -/
theorem i_rB16 : ∀ n, n < 5 → ∀ s, s < 5 → ∀ set, set < 32 → ∀ b, b < 16 → (((nI b <<< ((1 : Int32) &&& 31)) ||| ((nI set >>> (nI s &&& 31)) &&& 1)) &&& (((1 : Int32) <<< (nI n &&& 31)) - 1)) = nI ((2 * b + set / 2 ^ s % 2) % 2 ^ n) := by decide +kernel
theorem rbeh16 {V : HEn} {G : Gh} {nx a b s : Nat} {r : Ru} (h : RuAt G a r) (hb : b < 16) (hs : s < 5) : hF_X6_behind V G nx a (nI b) (nI s) = some (nI (rB r b s), G, 0, 0) := by
  obtain ⟨h1, h2, h3, h4, h5, h6⟩ := h
  unfold hF_X6_behind
  rw [xI_at h1 rfl rfl]
  show ((xI G a fl_RunWatch_Rule_n).bind _) = _
  rw [xI_at h1 rfl rfl]
  show some (_, G, 0, 0) = _
  rw [i_rB16 r.2.1 (by omega) s hs r.2.2 (by omega) b hb]
  rfl
/-- a single rule tells the same -/
def smL (r : Ru) : Nat → List Rw → Bool
  | _, [] => true
  | b, y :: t => if decide (r.1 ≤ pop (rB r b y.2.1)) = !decide (y.2.2.1 = 0) then smL r (if r.1 ≤ pop (rB r b y.2.1) then 0 else rB r b y.2.1) t else false
def cdR (c : Nat) : Ru := (c / 100 % 10, c / 1000, c % 100)
def cdOk (c : Nat) : Bool := decide (1 ≤ c / 1000 ∧ c / 1000 ≤ 4 ∧ 1 ≤ c / 100 % 10 ∧ c / 100 % 10 ≤ c / 1000 ∧ 1 ≤ c % 100 ∧ c % 100 ≤ 31)
def smF (q : Nat → Bool) : List Nat → Nat → Int32 → Nat × Int32
  | [], m, f => (m, f)
  | c :: t, m, f => if q c then smF q t (m + 1) (if m = 0 then nI c else f) else smF q t m f
def spSame (S : Sp) (a : Int32) : Int32 := match iR a 2 with
  | some v => if v = 0 then nI (smF (fun c => cdOk c && smL (cdR c) 0 (gRows S.1.1 (0, 0, 0) S.1.2)) (List.range' 1000 4000) 0 (-9)).1 else (smF (fun c => cdOk c && smL (cdR c) 0 (gRows S.1.1 (0, 0, 0) S.1.2)) (List.range' 1000 4000) 0 (-9)).2
  | none => -1
theorem smF_le {q : Nat → Bool} : ∀ {l : List Nat} {m : Nat} {f : Int32}, (smF q l m f).1 ≤ m + l.length
  | [], m, f => by simp [smF]
  | c :: t, m, f => by
    rw [smF]
    split
    · have := smF_le (q := q) (l := t) (m := m + 1) (f := if m = 0 then nI c else f)
      simp; omega
    · have := smF_le (q := q) (l := t) (m := m) (f := f)
      simp; omega
theorem i_cd : ∀ q, q < 50 → ∀ r, r < 100 → (nI (100 * q + r) / 100 - nI (100 * q + r) / 100 / 10 * 10 = nI ((100 * q + r) / 100 % 10)) ∧ nI (100 * q + r) / 1000 = nI ((100 * q + r) / 1000) ∧ nI (100 * q + r) - nI (100 * q + r) / 100 * 100 = nI ((100 * q + r) % 100) := by decide +kernel
theorem i_cd' {c : Nat} (h : c < 5000) : (nI c / 100 - nI c / 100 / 10 * 10 = nI (c / 100 % 10)) ∧ nI c / 1000 = nI (c / 1000) ∧ nI c - nI c / 100 * 100 = nI (c % 100) := by
  have := i_cd (c / 100) (by omega) (c % 100) (by omega)
  rwa [Nat.div_add_mod] at this
section X
variable {V : HEn} {G : Gh} {nx : Nat}
theorem isIn_N {a lo hi : Nat} (ha : a < 2 ^ 31) (hl : lo < 2 ^ 31) (hh : hi < 2 ^ 31) : hF_X0_isIn V G nx (nI a) (nI lo) (nI hi) = some (if lo ≤ a ∧ a ≤ hi then 1 else 0, G, 0, 0) := by
  unfold hF_X0_isIn hB_X0_isIn_14 hB_X0_isIn_15
  by_cases c : lo ≤ a
  · rw [if_neg (nI_nlt c (by omega))]
    by_cases c2 : a ≤ hi
    · rw [if_neg (nI_nlt c2 (by omega)), if_pos (by decide), if_pos ⟨c, c2⟩]
    · rw [if_pos (nI_lt (by omega) (by omega)), if_pos (by decide), if_neg (fun z => c2 z.2)]
  · rw [if_pos (nI_lt (by omega) (by omega)), if_pos (by decide), if_neg (fun z => c z.1)]
theorem isOne_at {c : Nat} (h : c < 5000) : hF_X9_isOne V G nx (nI (c / 100 % 10)) (nI (c / 1000)) (nI (c % 100)) = some (if cdOk c then 1 else 0, G, 0, 0) := by
  have hw : wH (hF_X9_isOne V G nx (nI (c / 100 % 10)) (nI (c / 1000)) (nI (c % 100))) (fun q G' c' s => q = (if cdOk c then 1 else 0) ∧ G' = G ∧ c' = 0 ∧ s = 0) := by
    unfold hF_X9_isOne hB_X9_isOne_32 hB_X9_isOne_33
    refine w_call0 (isIn_N (lo := 1) (hi := 4) (by omega) (by omega) (by omega)) ?_
    by_cases c1 : 1 ≤ c / 1000 ∧ c / 1000 ≤ 4
    · rw [if_pos c1]
      refine w_neg (by decide) (w_call0 (isIn_N (lo := 1) (hi := c / 1000) (by omega) (by omega) (by omega)) ?_)
      by_cases c2 : 1 ≤ c / 100 % 10 ∧ c / 100 % 10 ≤ c / 1000
      · rw [if_pos c2]
        refine w_neg (by decide) (w_call0 (isIn_N (lo := 1) (hi := 31) (by omega) (by omega) (by omega)) ?_)
        by_cases c3 : 1 ≤ c % 100 ∧ c % 100 ≤ 31
        · rw [if_pos c3]
          have e : cdOk c = true := decide_eq_true ⟨c1.1, c1.2, c2.1, c2.2, c3.1, c3.2⟩
          exact w_neg (by decide) (w_pos (by decide) (w_ret ⟨by rw [e]; rfl, rfl, rfl, rfl⟩))
        · rw [if_neg c3]
          have e : cdOk c = false := decide_eq_false (fun z => c3 ⟨z.2.2.2.2.1, z.2.2.2.2.2⟩)
          exact w_pos rfl (w_pos (by decide) (w_ret ⟨by rw [e]; rfl, rfl, rfl, rfl⟩))
      · rw [if_neg c2]
        have e : cdOk c = false := decide_eq_false (fun z => c2 ⟨z.2.2.1, z.2.2.2.1⟩)
        exact w_pos rfl (w_pos (by decide) (w_ret ⟨by rw [e]; rfl, rfl, rfl, rfl⟩))
    · rw [if_neg c1]
      have e : cdOk c = false := decide_eq_false (fun z => c1 ⟨z.1, z.2.1⟩)
      exact w_pos rfl (w_pos (by decide) (w_ret ⟨by rw [e]; rfl, rfl, rfl, rfl⟩))
  obtain ⟨q, G', c', s, e, rfl, rfl, rfl, rfl⟩ := hw
  exact e
end X
/-- a row's values, as far as it matters -/
def RwV (r : Rw) : Prop := r.2.1 ≤ 4 ∧ r.2.2.1 < 8 ∧ r.2.2.2.2.2.2 ≤ 1
section X
variable {V : HEn} {xo ro rd it : Nat} {rws : List Nat} {rl : List Rw}
theorem time_loop {f : Rw → Bool} {tb : Nat} {k : Int32} (hd : ∀ (G : Gh) (nx a : Nat) (r : Rw), G a = some (rcell r) → RwV r → hD_X0_time_45 V G nx tb (some a) = some (if f r then 1 else 0, G, 0, 0)) (hb : V.1 ≤ it) (hit : it ≠ ro ∧ it ≠ rd ∧ ∀ a ∈ rws, a ≠ it) (hl : rl.length ≤ 40) (hv : ∀ r ∈ rl, RwV r) (hlen : rws.length = rl.length) : ∀ (rest : List Rw) (i m : Nat) (G : Gh) (nx : Nat) (n : Int32), rest.length + 1 ≤ m → AL V G ro rd (rws.map some) → (∀ j (_ : j < rws.length) (_ : j < rl.length), G rws[j] = some (rcell rl[j])) → i + rest.length = rl.length → rl.drop i = rest → AIx G it ro (rws.map some) i → wH (hL_X0_time_20 V xo m G nx k (some tb) n (some it)) (fun q G' c s => q = tmL f k rest n ∧ c = 0 ∧ s = 0 ∧ ∀ b, b ≠ it → G' b = G b) := by
  intro rest
  induction rest with
  | nil =>
    intro i m G nx n hm hA hR hk hdr hI
    obtain ⟨m, rfl⟩ := Nat.exists_eq_succ_of_ne_zero (show m ≠ 0 by omega)
    have hI0 := hI
    obtain ⟨lr, mc, d, e1, e2⟩ := hI
    rw [hL_X0_time_20]
    unfold hB_X0_time_81
    refine w_some (w_pos (gC_at e1) (w_call0 (al_hasNext hI0 (by simp at hk ⊢; omega) (by simp; omega)) (w_pos (if_neg (by simp at hk ⊢; omega)) ?_)))
    by_cases c : k = -1
    · exact w_pos c (w_ret ⟨by rw [tmL, if_pos c], rfl, rfl, fun _ _ => rfl⟩)
    · exact w_neg c (w_ret ⟨by rw [tmL, if_neg c], rfl, rfl, fun _ _ => rfl⟩)
  | cons r t ih =>
    intro i m G nx n hm hA hR hk hdr hI
    obtain ⟨m, rfl⟩ := Nat.exists_eq_succ_of_ne_zero (show m ≠ 0 by omega)
    have hI0 := hI
    obtain ⟨lr, mc, d, e1, e2⟩ := hI
    simp only [List.length_cons] at hk hm
    have hk1 : i < rl.length := by omega
    have hk2 : i < rws.length := by omega
    have hdd := List.drop_eq_getElem_cons hk1
    rw [hdr] at hdd
    have hrk : rl[i] = r := (List.cons.inj hdd).1.symm
    have hdt : rl.drop (i + 1) = t := (List.cons.inj hdd).2.symm
    rw [hL_X0_time_20]
    unfold hB_X0_time_67
    refine w_some (w_pos (gC_at e1) (w_call0 (al_hasNext hI0 (by simp; omega) (by simp; omega)) ?_))
    refine w_neg (by rw [if_pos (by simp; omega)]; decide) (w_pos (gC_at e1) (w_call (al_next hA hI0 (by simp; omega) hb ⟨hit.1, hit.2.1⟩) ?_))
    rintro x G1 c s ⟨rfl, rfl, rfl, t1, t2⟩
    have hne : rws[i] ≠ it := hit.2.2 _ (List.getElem_mem hk2)
    have hrow : G1 rws[i] = some (rcell r) := by
      rw [t2 _ hne]
      have := hR i hk2 hk1
      rw [hrk] at this
      exact this
    have hrv : RwV r := hrk ▸ hv _ (List.getElem_mem hk1)
    rw [List.getElem_map]
    refine w_pos (gok_at hrow (by simp)) (w_some (w_call0 (hd G1 _ _ r hrow hrv) ?_))
    have go : ∀ (n' : Int32) (nx' : Nat), wH (hL_X0_time_20 V xo m G1 nx' k (some tb) n' (some it)) (fun q G' c s => q = tmL f k t n' ∧ 0 + c = 0 ∧ 0 + s = 0 ∧ ∀ b, b ≠ it → G' b = G b) := fun n' nx' => by
      refine w_mono (ih (i + 1) m G1 nx' n' (by omega) (hA.keep (t2 _ (Ne.symm hit.1)) (t2 _ (Ne.symm hit.2.1))) (fun j j1 j2 => by rw [t2 _ (hit.2.2 _ (List.getElem_mem j1))]; exact hR j j1 j2) (by omega) hdt t1) ?_
      rintro q G' c s ⟨w1, w2, w3, w4⟩
      exact ⟨w1, by omega, by omega, fun b hb' => (w4 b hb').trans (t2 b hb')⟩
    cases ef : f r with
    | false =>
      refine w_pos rfl (w_mono (go n _) ?_)
      rintro q G' c s ⟨w1, w2, w3, w4⟩
      exact ⟨by rw [tmL, ef]; exact w1, w2, w3, w4⟩
    | true =>
      refine w_neg (by decide) ?_
      by_cases c : n = k
      · exact w_pos c (w_some (w_xI hrow rfl rfl (w_ret ⟨by rw [tmL, ef, if_pos c]; rfl, rfl, rfl, fun b hb' => t2 b hb'⟩)))
      · refine w_neg c (w_mono (go (n + 1) _) ?_)
        rintro q G' c' s ⟨w1, w2, w3, w4⟩
        exact ⟨by rw [tmL, ef, if_neg c]; exact w1, w2, w3, w4⟩
theorem same_loop {ru : Nat} {r : Ru} (hr : RuOk r) (hb : V.1 ≤ it) (hit : it ≠ ro ∧ it ≠ rd ∧ ru ≠ it ∧ ∀ a ∈ rws, a ≠ it) (hl : rl.length ≤ 40) (hv : ∀ r ∈ rl, RwV r) (hlen : rws.length = rl.length) : ∀ (rest : List Rw) (i m : Nat) (G : Gh) (nx b : Nat), b < 16 → rest.length + 1 ≤ m → RuAt G ru r → AL V G ro rd (rws.map some) → (∀ j (_ : j < rws.length) (_ : j < rl.length), G rws[j] = some (rcell rl[j])) → i + rest.length = rl.length → rl.drop i = rest → AIx G it ro (rws.map some) i → wH (hL_X0_isSame_12 V xo m G nx (some ru) (nI b) (some it)) (fun q G' c s => q = (if smL r b rest then 1 else 0) ∧ c = 0 ∧ s = 0 ∧ ∀ b, b ≠ it → G' b = G b) := by
  intro rest
  induction rest with
  | nil =>
    intro i m G nx b hb16 hm hU hA hR hk hdr hI
    obtain ⟨m, rfl⟩ := Nat.exists_eq_succ_of_ne_zero (show m ≠ 0 by omega)
    have hI0 := hI
    obtain ⟨lr, mc, d, e1, e2⟩ := hI
    rw [hL_X0_isSame_12]
    exact w_some (w_pos (gC_at e1) (w_call0 (al_hasNext hI0 (by simp at hk ⊢; omega) (by simp; omega)) (w_pos (if_neg (by simp at hk ⊢; omega)) (w_ret ⟨rfl, rfl, rfl, fun _ _ => rfl⟩))))
  | cons y t ih =>
    intro i m G nx b hb16 hm hU hA hR hk hdr hI
    obtain ⟨m, rfl⟩ := Nat.exists_eq_succ_of_ne_zero (show m ≠ 0 by omega)
    have hI0 := hI
    obtain ⟨lr, mc, d, e1, e2⟩ := hI
    simp only [List.length_cons] at hk hm
    have hk1 : i < rl.length := by omega
    have hk2 : i < rws.length := by omega
    have hdd := List.drop_eq_getElem_cons hk1
    rw [hdr] at hdd
    have hrk : rl[i] = y := (List.cons.inj hdd).1.symm
    have hdt : rl.drop (i + 1) = t := (List.cons.inj hdd).2.symm
    rw [hL_X0_isSame_12]
    refine w_some (w_pos (gC_at e1) (w_call0 (al_hasNext hI0 (by simp; omega) (by simp; omega)) ?_))
    refine w_neg (by rw [if_pos (by simp; omega)]; decide) (w_pos (gC_at e1) (w_call (al_next hA hI0 (by simp; omega) hb ⟨hit.1, hit.2.1⟩) ?_))
    rintro x G1 c s ⟨rfl, rfl, rfl, t1, t2⟩
    have hne : rws[i] ≠ it := hit.2.2.2 _ (List.getElem_mem hk2)
    have hrow : G1 rws[i] = some (rcell y) := by
      rw [t2 _ hne]
      have := hR i hk2 hk1
      rw [hrk] at this
      exact this
    obtain ⟨v1, v2, v3⟩ : RwV y := hrk ▸ hv _ (List.getElem_mem hk1)
    have hU1 : RuAt G1 ru r := ⟨by rw [t2 _ hit.2.2.1]; exact hU.1, hU.2⟩
    rw [List.getElem_map]
    have hlt := rB_lt (b := b) (s := y.2.1) hr
    refine w_pos (gok_at hrow (by simp)) (w_some (w_xI hrow rfl rfl (w_some (w_pos (gC_at hU1.1) (w_call0 (rbeh16 hU1 hb16 (by omega)) (w_pos (gC_at hU1.1) (w_call0 (rismet_at hU1 hlt) (w_xI hrow rfl rfl ?_))))))))
    have go : ∀ (b' : Nat) (nx' : Nat), b' < 16 → wH (hL_X0_isSame_12 V xo m G1 nx' (some ru) (nI b') (some it)) (fun q G' c s => q = (if smL r b' t then 1 else 0) ∧ 0 + c = 0 ∧ 0 + s = 0 ∧ ∀ b, b ≠ it → G' b = G b) := fun b' nx' hb' => by
      refine w_mono (ih (i + 1) m G1 nx' b' hb' (by omega) hU1 (hA.keep (t2 _ (Ne.symm hit.1)) (t2 _ (Ne.symm hit.2.1))) (fun j j1 j2 => by rw [t2 _ (hit.2.2.2 _ (List.getElem_mem j1))]; exact hR j j1 j2) (by omega) hdt t1) ?_
      rintro q G' c s ⟨w1, w2, w3, w4⟩
      exact ⟨w1, by omega, by omega, fun b hb' => (w4 b hb').trans (t2 b hb')⟩
    unfold hB_X0_isSame_69 hB_X0_isSame_84
    have es : smL r b (y :: t) = (if decide (r.1 ≤ pop (rB r b y.2.1)) = !decide (y.2.2.1 = 0) then smL r (if r.1 ≤ pop (rB r b y.2.1) then 0 else rB r b y.2.1) t else false) := rfl
    by_cases cm : y.2.2.1 = 0
    · refine w_pos ((i_zero (by omega)).mpr cm) ?_
      by_cases cp : r.1 ≤ pop (rB r b y.2.1)
      · rw [if_pos cp]
        have e' : smL r b (y :: t) = false := by rw [es, if_neg (by simp [cp, cm])]
        exact w_neg (by decide) (w_ret ⟨by rw [e']; rfl, rfl, rfl, fun b hb' => t2 b hb'⟩)
      · rw [if_neg cp]
        refine w_pos rfl (w_pos rfl (w_mono (go (rB r b y.2.1) _ hlt) ?_))
        rintro q G' c s ⟨w1, w2, w3, w4⟩
        have e' : smL r b (y :: t) = smL r (rB r b y.2.1) t := by rw [es, if_pos (by simp [cp, cm]), if_neg cp]
        exact ⟨by rw [e']; exact w1, w2, w3, w4⟩
    · refine w_neg (fun z => cm ((i_zero (by omega)).mp z)) ?_
      by_cases cp : r.1 ≤ pop (rB r b y.2.1)
      · rw [if_pos cp]
        refine w_pos rfl (w_neg (by decide) (w_mono (go 0 _ (by decide)) ?_))
        rintro q G' c s ⟨w1, w2, w3, w4⟩
        have e' : smL r b (y :: t) = smL r 0 t := by rw [es, if_pos (by simp [cp, cm]), if_pos cp]
        exact ⟨by rw [e']; exact w1, w2, w3, w4⟩
      · rw [if_neg cp]
        have e' : smL r b (y :: t) = false := by rw [es, if_neg (by simp [cp, cm])]
        exact w_neg (by decide) (w_ret ⟨by rw [e']; rfl, rfl, rfl, fun b hb' => t2 b hb'⟩)
end X

/-! PURE FE: the model's rules; goThrough -/
theorem j_bit : ∀ b, b < 64 → ∀ k, k < 8 → ((nI b >>> (nI k &&& 31)) &&& 1) = nI (b / 2 ^ k % 2) := by decide +kernel
theorem j_pop : ∀ b, b < 16 → ((List.range' 0 8).map (fun i => b / 2 ^ i % 2)).sum = pop b := by decide +kernel
theorem j_pop2 : ∀ n, n < 5 → ∀ b, b < 8 → ∀ e, e < 2 → 1 ≤ n → b < 2 ^ (n - 1) → pop ((2 * b + e) % 2 ^ n) = pop b + e := by decide +kernel
theorem j_mod : ∀ n, n < 5 → ∀ b, b < 16 → b % 2 ^ n % 2 ^ (n - 1) = b % 2 ^ (n - 1) := by decide +kernel
theorem j_up : ∀ u, u < 10 → ∀ s, s < 5 → ∀ sl, sl < 3 → (if 0 ≤ nI u + ((nI s - 2) - nI sl) then nI u + ((nI s - 2) - nI sl) else 0) = nI (u + s - (2 + sl)) := by decide +kernel
theorem j_dn : ∀ u, u < 10 → ∀ s, s < 5 → ∀ sl, sl < 3 → (if 0 ≤ nI u + ((2 - nI s) - nI sl) then nI u + ((2 - nI s) - nI sl) else 0) = nI (u + 2 - (s + sl)) := by decide +kernel
/-- a plan's rules in the model -/
def MRu (x : Nat → Int32) (rs : List Ru) : Prop := x 0 = nI rs.length ∧ ∀ i, i < rs.length → x (1 + 3 * i) = nI (rs.getD i (0, 0, 0)).1 ∧ x (2 + 3 * i) = nI (rs.getD i (0, 0, 0)).2.1 ∧ x (3 + 3 * i) = nI (rs.getD i (0, 0, 0)).2.2
theorem MDk.ru {x : Nat → Int32} {k : Dk} (h : MDk x k) : MRu x k.1.1 := ⟨h.1, h.2.1⟩
theorem ix1 (k : Nat) : (1 : Int32) + 3 * nI k = nI (1 + 3 * k) := by
  rw [show (1 : Int32) = nI 1 from rfl, show (3 : Int32) = nI 3 from rfl, nI_mul, nI_add]
theorem ix2 (k : Nat) : (1 : Int32) + 3 * nI k + 1 = nI (2 + 3 * k) := by
  rw [ix1, nI_1]; congr 1; omega
theorem ix3 (k : Nat) : (1 : Int32) + 3 * nI k + 2 = nI (3 + 3 * k) := by
  rw [ix1, show (2 : Int32) = nI 2 from rfl, nI_add]; congr 1; omega
section X
variable {N : Nat} {x : Nat → Int32} {rs : List Ru} {q s : Nat}
theorem ones_m (hN : 600 ≤ N) {b : Nat} (hb : b < 16) : mF_ones N (nI b) = some (nI (pop b)) := by
  have loop : ∀ (m k f acc : Nat), k + m = 8 → m < f → mL_ones_4 N f (nI b) (nI acc) (nI k) = some (nI (acc + ((List.range' k m).map (fun i => b / 2 ^ i % 2)).sum)) := by
    intro m
    induction m with
    | zero =>
      intro k f acc hk hf
      obtain ⟨f, rfl⟩ : ∃ z, f = z + 1 := ⟨f - 1, by omega⟩
      unfold mL_ones_4
      rw [if_pos (show (8 : Int32) ≤ nI k from nI_le (a := 8) (by omega) (by omega))]
      rfl
    | succ m ih =>
      intro k f acc hk hf
      obtain ⟨f, rfl⟩ : ∃ z, f = z + 1 := ⟨f - 1, by omega⟩
      unfold mL_ones_4
      rw [if_neg (show ¬ (8 : Int32) ≤ nI k from nI_ge (b := 8) (by omega) (by omega)), j_bit b (by omega) k (by omega), nI_add, nI_1, ih (k + 1) f _ (by omega) (by omega)]
      simp only [List.range'_succ, List.map_cons, List.sum_cons, Nat.add_assoc]
  have := loop 8 0 N 0 (by omega) (by omega)
  unfold mF_ones
  rw [show (0 : Int32) = nI 0 from rfl, this, j_pop b hb, Nat.zero_add]
theorem metBy_m (hN : 600 ≤ N) (hr : MRu x rs) (hok : RsOk rs) (hq : q < 64) (hs : s < 5) : mF_metBy N x (nI q) (nI s) = some (nI (pM rs q s)) := by
  obtain ⟨h0, hr⟩ := hr
  obtain ⟨k1, k2, k3⟩ := hok
  have loop : ∀ (rest : List Ru) (k f acc at_ : Nat), rest.length < f → k + rest.length = rs.length → rs.drop k = rest → at_ + bks rest ≤ 6 → acc < 2 ^ k → mL_metBy_8 N x f (nI q) (nI s) (nI acc) (nI at_) (nI k) = some (nI (acc + 2 ^ k * pM rest (q / 2 ^ at_) s)) := by
    intro rest
    induction rest with
    | nil =>
      intro k f acc at_ hf hk hd hat hacc
      obtain ⟨f, rfl⟩ : ∃ z, f = z + 1 := ⟨f - 1, by simp at hf; omega⟩
      unfold mL_metBy_8
      simp at hk
      rw [h0, if_pos (nI_le (by omega) (by omega))]
      simp [pM]
    | cons r t ih =>
      intro k f acc at_ hf hk hd hat hacc
      obtain ⟨f, rfl⟩ : ∃ z, f = z + 1 := ⟨f - 1, by omega⟩
      have hkl : k < rs.length := by simp at hk; omega
      have hdr := List.drop_eq_getElem_cons hkl
      rw [hd] at hdr
      have hrk : rs[k] = r := (List.cons.inj hdr).1.symm
      have hdt : rs.drop (k + 1) = t := (List.cons.inj hdr).2.symm
      have hg : rs.getD k (0, 0, 0) = r := by simp [hkl, hrk]
      have hro := k1 r (hrk ▸ List.getElem_mem hkl)
      obtain ⟨o1, o2, o3, o4, o5⟩ := hro
      obtain ⟨x1, x2, x3⟩ := hr k hkl
      rw [hg] at x1 x2 x3
      have hbk : at_ + ((r.2.1 - 1) + bks t) ≤ 6 := hat
      have hlt : q / 2 ^ at_ % 2 ^ (r.2.1 - 1) < 2 ^ (r.2.1 - 1) := Nat.mod_lt _ (Nat.two_pow_pos _)
      have hlow : q / 2 ^ at_ % 2 ^ (r.2.1 - 1) < 8 := by
        have h2 : 2 ^ (r.2.1 - 1) ≤ 2 ^ 3 := Nat.pow_le_pow_right (by decide) (by omega)
        omega
      have he : r.2.2 / 2 ^ s % 2 < 2 := Nat.mod_lt _ (by decide)
      unfold mL_metBy_8 mB_metBy_99
      rw [h0, if_neg (nI_ge hkl (by omega)), ix2, ix3, ix1, gd_nI (by omega) (by omega), gd_nI (by omega) (by omega), gd_nI (by omega) (by omega)]
      simp only [Option.bind_some]
      rw [x1, x2, x3, i_sub r.2.1 (by omega) at_ (by omega) q hq (by omega), ones_m hN (by omega), j_bit r.2.2 (by omega) s (by omega)]
      simp only [Option.bind_some]
      have hp := pop_lt (q / 2 ^ at_ % 2 ^ (r.2.1 - 1))
      have p2 : 2 ^ (k + 1) = 2 ^ k + 2 ^ k := by rw [Nat.pow_succ]; omega
      have hrm : rM r (q / 2 ^ at_ % 2 ^ (r.2.1 - 1)) s = decide (r.1 ≤ pop (q / 2 ^ at_ % 2 ^ (r.2.1 - 1)) + r.2.2 / 2 ^ s % 2) := by
        unfold rM rB
        rw [j_pop2 r.2.1 (by omega) _ hlow _ he (by omega) hlt]
      have go : ∀ acc', acc' < 2 ^ (k + 1) → acc' = acc + 2 ^ k * (if rM r (q / 2 ^ at_ % 2 ^ (r.2.1 - 1)) s then 1 else 0) → mL_metBy_8 N x f (nI q) (nI s) (nI acc') (nI (at_ + (r.2.1 - 1))) (nI (k + 1)) = some (nI (acc + 2 ^ k * pM (r :: t) (q / 2 ^ at_) s)) := by
        intro acc' h1 h2
        rw [ih (k + 1) f acc' (at_ + (r.2.1 - 1)) (by simp at hf; omega) (by simp at hk; omega) hdt (by omega) h1]
        congr 2
        show _ = acc + 2 ^ k * ((if _ then 1 else 0) + 2 * pM t _ s)
        rw [pw_le (n := r.2.1) (by omega), h2, Nat.pow_succ, Nat.mul_add, Nat.mul_assoc, Nat.add_assoc]
      have e1' : (1 : Int32) = nI 1 := rfl
      rw [nI_add]
      by_cases cm : r.1 ≤ pop (q / 2 ^ at_ % 2 ^ (r.2.1 - 1)) + r.2.2 / 2 ^ s % 2
      · rw [if_neg (nI_nlt cm (by omega)), i_orm k (by omega) acc hacc, e1', nI_sub (by omega), nI_add, nI_add]
        exact go (acc + 2 ^ k) (by omega) (by rw [hrm, decide_eq_true cm, if_pos rfl, Nat.mul_one])
      · rw [if_pos (nI_lt (by omega) (by omega)), i_or0, e1', nI_sub (by omega), nI_add, nI_add]
        exact go acc (by omega) (by rw [hrm, decide_eq_false cm, if_neg (by decide), Nat.mul_zero, Nat.add_zero])
  have := loop rs 0 N 0 0 (by omega) (by omega) (List.drop_zero) (by omega) (by decide)
  unfold mF_metBy
  rw [show (0 : Int32) = nI 0 from rfl, this]
  simp
theorem nextBy_m (hN : 600 ≤ N) (hr : MRu x rs) (hok : RsOk rs) (hq : q < 64) (hs : s < 5) : mF_nextBy N x (nI q) (nI s) = some (nI (pB rs q s)) := by
  obtain ⟨h0, hr⟩ := hr
  obtain ⟨k1, k2, k3⟩ := hok
  have loop : ∀ (rest : List Ru) (k f acc at_ : Nat), rest.length < f → k + rest.length = rs.length → rs.drop k = rest → at_ + bks rest ≤ 6 → acc < 2 ^ at_ → mL_nextBy_8 N x f (nI q) (nI s) (nI acc) (nI at_) (nI k) = some (nI (acc + 2 ^ at_ * pB rest (q / 2 ^ at_) s)) := by
    intro rest
    induction rest with
    | nil =>
      intro k f acc at_ hf hk hd hat hacc
      obtain ⟨f, rfl⟩ : ∃ z, f = z + 1 := ⟨f - 1, by simp at hf; omega⟩
      unfold mL_nextBy_8
      simp at hk
      rw [h0, if_pos (nI_le (by omega) (by omega))]
      simp [pB]
    | cons r t ih =>
      intro k f acc at_ hf hk hd hat hacc
      obtain ⟨f, rfl⟩ : ∃ z, f = z + 1 := ⟨f - 1, by omega⟩
      have hkl : k < rs.length := by simp at hk; omega
      have hdr := List.drop_eq_getElem_cons hkl
      rw [hd] at hdr
      have hrk : rs[k] = r := (List.cons.inj hdr).1.symm
      have hdt : rs.drop (k + 1) = t := (List.cons.inj hdr).2.symm
      have hg : rs.getD k (0, 0, 0) = r := by simp [hkl, hrk]
      have hro := k1 r (hrk ▸ List.getElem_mem hkl)
      obtain ⟨o1, o2, o3, o4, o5⟩ := hro
      obtain ⟨x1, x2, x3⟩ := hr k hkl
      rw [hg] at x1 x2 x3
      have hbk : at_ + ((r.2.1 - 1) + bks t) ≤ 6 := hat
      have hlt : q / 2 ^ at_ % 2 ^ (r.2.1 - 1) < 2 ^ (r.2.1 - 1) := Nat.mod_lt _ (Nat.two_pow_pos _)
      have h8 : 2 ^ (r.2.1 - 1) ≤ 2 ^ 3 := Nat.pow_le_pow_right (by decide) (by omega)
      have hlow : q / 2 ^ at_ % 2 ^ (r.2.1 - 1) < 8 := by omega
      have he : r.2.2 / 2 ^ s % 2 < 2 := Nat.mod_lt _ (by decide)
      unfold mL_nextBy_8
      rw [h0, if_neg (nI_ge hkl (by omega)), ix2, ix3, gd_nI (by omega) (by omega), gd_nI (by omega) (by omega)]
      simp only [Option.bind_some]
      have hkl2 : rK r (rB r (q / 2 ^ at_ % 2 ^ (r.2.1 - 1)) s) < 2 ^ (r.2.1 - 1) := Nat.mod_lt _ (Nat.two_pow_pos _)
      have hrk2 : (2 * (q / 2 ^ at_ % 2 ^ (r.2.1 - 1)) + r.2.2 / 2 ^ s % 2) % 2 ^ (r.2.1 - 1) = rK r (rB r (q / 2 ^ at_ % 2 ^ (r.2.1 - 1)) s) := by
        unfold rK rB
        rw [j_mod r.2.1 (by omega) _ (by omega)]
      rw [x2, x3, i_sub r.2.1 (by omega) at_ (by omega) q hq (by omega), j_bit r.2.2 (by omega) s (by omega), show (2 : Int32) = nI 2 from rfl, nI_mul, nI_add, i_rK r.2.1 (by omega) _ (by omega) (by omega), hrk2, i_or at_ (by omega) _ (by omega) acc hacc, show (1 : Int32) = nI 1 from rfl, nI_sub (by omega), nI_add, nI_add, ih (k + 1) f _ (at_ + (r.2.1 - 1)) (by simp at hf; omega) (by simp at hk; omega) hdt (by omega) ?_]
      · congr 2
        show _ = acc + 2 ^ at_ * (rK r _ + 2 ^ (r.2.1 - 1) * pB t _ s)
        rw [pw_le (n := r.2.1) (by omega), Nat.pow_add, Nat.mul_add, Nat.mul_assoc, Nat.add_assoc]
      · rw [Nat.pow_add]
        have : 2 ^ at_ * (rK r (rB r (q / 2 ^ at_ % 2 ^ (r.2.1 - 1)) s) + 1) ≤ 2 ^ at_ * 2 ^ (r.2.1 - 1) := Nat.mul_le_mul_left _ hkl2
        rw [Nat.mul_add, Nat.mul_one] at this
        omega
  have := loop rs 0 N 0 0 (by omega) (by omega) (List.drop_zero) (by omega) (by decide)
  unfold mF_nextBy
  rw [show (0 : Int32) = nI 0 from rfl, this]
  simp
abbrev GoR := Option ((Nat → Int32) × (Nat → Int32) × (Nat → Int32) × (Nat → Int32) × (Nat → Int32))
theorem go68_m {k9 : Int32 → Int32 → Int32 → Int32 → (Nat → Int32) → (Nat → Int32) → (Nat → Int32) → (Nat → Int32) → (Nat → Int32) → GoR} {u d sl lm k : Nat} {qq : Int32} {b1 b2 b3 b4 b5 : Nat → Int32} (h15 : x 15 = nI sl) (h16 : x 16 = nI lm) (hu : u < 10) (hd : d < 10) (hs : s < 5) (hsl : sl < 3) (hlm : lm < 10) (hk : k < 40) : mB_goThrough_68 N x k9 qq (nI u) (nI d) (nI k) (nI s) b1 b2 b3 b4 b5 = k9 qq (nI (if u + s - (2 + sl) ≤ lm ∧ d + 2 - (s + sl) ≤ lm then u + s - (2 + sl) else 0)) (nI (if u + s - (2 + sl) ≤ lm ∧ d + 2 - (s + sl) ≤ lm then d + 2 - (s + sl) else 0)) (nI k + 1) b1 (upd b2 k qq) (upd b3 k (nI (if u + s - (2 + sl) ≤ lm ∧ d + 2 - (s + sl) ≤ lm then u + s - (2 + sl) else 0))) (upd b4 k (nI (if u + s - (2 + sl) ≤ lm ∧ d + 2 - (s + sl) ≤ lm then d + 2 - (s + sl) else 0))) (upd b5 k (nI (if u + s - (2 + sl) ≤ lm ∧ d + 2 - (s + sl) ≤ lm then 0 else 1))) := by
  have j1 := j_up u hu s hs sl hsl
  have j2 := j_dn d hd s hs sl hsl
  have hU : u + s - (2 + sl) < 100 := by omega
  have hD : d + 2 - (s + sl) < 100 := by omega
  generalize u + s - (2 + sl) = U at *
  generalize d + 2 - (s + sl) = D at *
  have gk : gd (nI k) 40 = some k := gd_nI hk (by omega)
  have e160 : ∀ g : Nat, (g = 0 ∨ g = 1) → mB_goThrough_160 N x k9 (nI k) (nI g) qq (nI U) (nI D) (nI k) b1 (upd b2 k qq) b3 b4 b5 = k9 qq (nI (if g = 0 then U else 0)) (nI (if g = 0 then D else 0)) (nI k + 1) b1 (upd b2 k qq) (upd b3 k (nI (if g = 0 then U else 0))) (upd b4 k (nI (if g = 0 then D else 0))) (upd b5 k (nI g)) := by
    intro g hg
    unfold mB_goThrough_160 mB_goThrough_176 mB_goThrough_192
    rw [gk]
    simp only [Option.bind_some]
    rcases hg with rfl | rfl
    · rw [show vp_nar .boolean (nI 0) = nI 0 from rfl, show (upd b5 k (nI 0)) k = nI 0 from if_pos rfl, if_pos (show nI 0 = 0 from rfl), if_pos (show nI 0 = 0 from rfl)]
      rfl
    · rw [show vp_nar .boolean (nI 1) = nI 1 from rfl, show (upd b5 k (nI 1)) k = nI 1 from if_pos rfl, if_neg (show ¬ nI 1 = 0 by decide), if_neg (show ¬ nI 1 = 0 by decide)]
      rfl
  have e126 : mB_goThrough_126 N x k9 (nI D) qq (nI U) (nI k) b1 (upd b2 k qq) b3 b4 b5 = k9 qq (nI (if U ≤ lm ∧ D ≤ lm then U else 0)) (nI (if U ≤ lm ∧ D ≤ lm then D else 0)) (nI k + 1) b1 (upd b2 k qq) (upd b3 k (nI (if U ≤ lm ∧ D ≤ lm then U else 0))) (upd b4 k (nI (if U ≤ lm ∧ D ≤ lm then D else 0))) (upd b5 k (nI (if U ≤ lm ∧ D ≤ lm then 0 else 1))) := by
    unfold mB_goThrough_126 mB_goThrough_155
    rw [h16]
    by_cases c1 : lm < U
    · rw [if_pos (nI_lt c1 (by omega)), show (1 : Int32) = nI 1 from rfl, e160 1 (Or.inr rfl), if_neg (by decide), if_neg (by decide), if_neg (fun z => by omega), if_neg (fun z => by omega), if_neg (fun z => by omega)]
      rfl
    · rw [if_neg (nI_nlt (by omega) (by omega))]
      by_cases c2 : D ≤ lm
      · rw [if_pos (nI_le c2 (by omega)), show (0 : Int32) = nI 0 from rfl, e160 0 (Or.inl rfl), if_pos rfl, if_pos rfl, if_pos ⟨by omega, c2⟩, if_pos ⟨by omega, c2⟩, if_pos ⟨by omega, c2⟩]
      · rw [if_neg (nI_ge (by omega) (by omega)), show (1 : Int32) = nI 1 from rfl, e160 1 (Or.inr rfl), if_neg (by decide), if_neg (by decide), if_neg (fun z => by omega), if_neg (fun z => by omega), if_neg (fun z => by omega)]
        rfl
  rw [← e126]
  have e116 : mB_goThrough_116 N x k9 (nI U) qq (nI d + ((2 - nI s) - nI sl)) (nI k) b1 (upd b2 k qq) b3 b4 b5 = mB_goThrough_126 N x k9 (nI D) qq (nI U) (nI k) b1 (upd b2 k qq) b3 b4 b5 := by
    unfold mB_goThrough_116
    by_cases c : 0 ≤ nI d + ((2 - nI s) - nI sl)
    · rw [if_pos c] at j2 ⊢
      rw [j2]
    · rw [if_neg c] at j2 ⊢
      rw [j2]
  rw [← e116]
  unfold mB_goThrough_68
  rw [gk, h15]
  simp only [Option.bind_some]
  by_cases c : 0 ≤ nI u + ((nI s - 2) - nI sl)
  · rw [if_pos c] at j1 ⊢
    rw [j1]
  · rw [if_neg c] at j1 ⊢
    rw [j1]
/-- what goThrough leaves -/
def MGo (a1 a2 a3 a4 a5 : Nat → Int32) (k : Nat) (R : List Rw) : Prop := ∀ i, i < R.length → a1 (k + i) = nI (R.getD i rwD).2.2.1 ∧ a2 (k + i) = nI (R.getD i rwD).2.2.2.1 ∧ a3 (k + i) = nI (R.getD i rwD).2.2.2.2.1 ∧ a4 (k + i) = nI (R.getD i rwD).2.2.2.2.2.1 ∧ a5 (k + i) = nI (R.getD i rwD).2.2.2.2.2.2
theorem go_m (hN : 600 ≤ N) {d : Dk} (hx : MDk x d) (hok : DkOk d) {b1 b2 b3 b4 b5 : Nat → Int32} : ∃ a1 a2 a3 a4 a5, mF_goThrough N x b1 b2 b3 b4 b5 = some (a1, a2, a3, a4, a5) ∧ MGo a1 a2 a3 a4 a5 0 (gRows d.1 (0, 0, 0) d.2) := by
  have hru := hx.ru
  obtain ⟨-, -, -, x4, x5, x6, x7⟩ := hx
  obtain ⟨hp, -, hl, hy⟩ := hok
  have hpk := hp
  obtain ⟨hrs, -, -, hsl, -, hlm⟩ := hpk
  have loop : ∀ (rest : List (Nat × Nat)) (k f : Nat) (st : Nat × Nat × Nat) (b1 b2 b3 b4 b5 : Nat → Int32), rest.length < f → k + rest.length = d.2.length → d.2.drop k = rest → StOk d.1 st → ∃ a1 a2 a3 a4 a5, mL_goThrough_9 N x f (nI st.1) (nI st.2.1) (nI st.2.2) (nI k) b1 b2 b3 b4 b5 = some (a1, a2, a3, a4, a5) ∧ MGo a1 a2 a3 a4 a5 k (gRows d.1 st rest) ∧ ∀ j, j < k → a1 j = b1 j ∧ a2 j = b2 j ∧ a3 j = b3 j ∧ a4 j = b4 j ∧ a5 j = b5 j := by
    intro rest
    induction rest with
    | nil =>
      intro k f st b1 b2 b3 b4 b5 hf hk hd hst
      obtain ⟨f, rfl⟩ : ∃ z, f = z + 1 := ⟨f - 1, by simp at hf; omega⟩
      unfold mL_goThrough_9
      simp at hk
      rw [x6, if_pos (nI_le (by omega) (by omega))]
      exact ⟨_, _, _, _, _, rfl, fun i hi => by simp [gRows] at hi, fun j _ => ⟨rfl, rfl, rfl, rfl, rfl⟩⟩
    | cons y t ih =>
      intro k f st b1 b2 b3 b4 b5 hf hk hd hst
      obtain ⟨f, rfl⟩ : ∃ z, f = z + 1 := ⟨f - 1, by omega⟩
      have hkl : k < d.2.length := by simp at hk; omega
      have hdr := List.drop_eq_getElem_cons hkl
      rw [hd] at hdr
      have hyk : d.2[k] = y := (List.cons.inj hdr).1.symm
      have hdt : d.2.drop (k + 1) = t := (List.cons.inj hdr).2.symm
      have hg : d.2.getD k (0, 0) = y := by simp [hkl, hyk]
      have hy4 := (hy y (hyk ▸ List.getElem_mem hkl)).2
      have xs := (x7 k hkl).2
      rw [hg] at xs
      obtain ⟨hst1, hm8, hg1⟩ := gRow_ok hp hst hy4
      obtain ⟨s1, s2, s3⟩ := hst
      have hq64 : st.1 < 64 := (plcs_ok hrs.2.2).2.1 _ s1
      have hm8' : pM d.1.1 st.1 y.2 < 8 := hm8
      unfold mL_goThrough_9
      rw [x6, if_neg (nI_ge hkl (by omega)), show (58 : Int32) + nI k = nI (58 + k) from nI_add 58 k, gd_nI (by omega) (by omega), gd_nI (by omega) (by omega)]
      simp only [Option.bind_some]
      rw [xs, metBy_m hN hru hrs hq64 (by omega), nextBy_m hN hru hrs hq64 (by omega)]
      simp only [Option.bind_some]
      rw [show (upd b1 k (nI (pM d.1.1 st.1 y.2))) k = nI (pM d.1.1 st.1 y.2) from if_pos rfl, go68_m x4 x5 (by omega) (by omega) (by omega) (by omega) (by omega) (by omega), go68_m x4 x5 (by omega) (by omega) (by omega) (by omega) (by omega) (by omega)]
      have eT : gRow d.1 st y = (y.1, y.2, pM d.1.1 st.1 y.2, (if pM d.1.1 st.1 y.2 = 0 then pB d.1.1 st.1 y.2 else 0), (if st.2.1 + y.2 - (2 + d.1.2.2.1) ≤ d.1.2.2.2 ∧ st.2.2 + 2 - (y.2 + d.1.2.2.1) ≤ d.1.2.2.2 then st.2.1 + y.2 - (2 + d.1.2.2.1) else 0), (if st.2.1 + y.2 - (2 + d.1.2.2.1) ≤ d.1.2.2.2 ∧ st.2.2 + 2 - (y.2 + d.1.2.2.1) ≤ d.1.2.2.2 then st.2.2 + 2 - (y.2 + d.1.2.2.1) else 0), (if st.2.1 + y.2 - (2 + d.1.2.2.1) ≤ d.1.2.2.2 ∧ st.2.2 + 2 - (y.2 + d.1.2.2.1) ≤ d.1.2.2.2 then 0 else 1)) := by
        unfold gRow
        by_cases c : st.2.1 + y.2 - (2 + d.1.2.2.1) ≤ d.1.2.2.2 ∧ st.2.2 + 2 - (y.2 + d.1.2.2.1) ≤ d.1.2.2.2
        · simp only [if_pos c, if_true]
        · simp only [if_neg c]; rfl
      have fin : ∃ a1 a2 a3 a4 a5, mL_goThrough_9 N x f (nI (rSt (gRow d.1 st y)).1) (nI (rSt (gRow d.1 st y)).2.1) (nI (rSt (gRow d.1 st y)).2.2) (nI k + 1) (upd b1 k (nI (gRow d.1 st y).2.2.1)) (upd b2 k (nI (gRow d.1 st y).2.2.2.1)) (upd b3 k (nI (gRow d.1 st y).2.2.2.2.1)) (upd b4 k (nI (gRow d.1 st y).2.2.2.2.2.1)) (upd b5 k (nI (gRow d.1 st y).2.2.2.2.2.2)) = some (a1, a2, a3, a4, a5) ∧ MGo a1 a2 a3 a4 a5 k (gRows d.1 st (y :: t)) ∧ ∀ j, j < k → a1 j = b1 j ∧ a2 j = b2 j ∧ a3 j = b3 j ∧ a4 j = b4 j ∧ a5 j = b5 j := by
        rw [nI_1]
        obtain ⟨a1, a2, a3, a4, a5, q1, q2, q3⟩ := ih (k + 1) f (rSt (gRow d.1 st y)) _ _ _ _ _ (by simp at hf; omega) (by simp at hk; omega) hdt hst1
        refine ⟨a1, a2, a3, a4, a5, q1, fun i hi => ?_, fun j hj => ?_⟩
        · cases i with
          | zero =>
            obtain ⟨z1, z2, z3, z4, z5⟩ := q3 k (by omega)
            simp only [upd, if_true] at z1 z2 z3 z4 z5
            exact ⟨z1, z2, z3, z4, z5⟩
          | succ i =>
            have hi' : i < (gRows d.1 (rSt (gRow d.1 st y)) t).length := by simp [gRows] at hi; exact hi
            have := q2 i hi'
            rw [show k + (i + 1) = k + 1 + i by omega]
            exact this
        · obtain ⟨z1, z2, z3, z4, z5⟩ := q3 j (by omega)
          simp only [upd, if_neg (show ¬ j = k by omega)] at z1 z2 z3 z4 z5
          exact ⟨z1, z2, z3, z4, z5⟩
      rw [eT] at fin
      by_cases c0 : pM d.1.1 st.1 y.2 = 0
      · rw [if_pos (show nI (pM d.1.1 st.1 y.2) = 0 by rw [c0]; rfl)]
        simp only [if_pos c0] at fin
        exact fin
      · rw [if_neg (nI_ne0 (by omega) (by omega))]
        simp only [if_neg c0] at fin
        exact fin
  obtain ⟨a1, a2, a3, a4, a5, q1, q2, -⟩ := loop d.2 0 N (0, 0, 0) b1 b2 b3 b4 b5 (by omega) (by omega) List.drop_zero ⟨plcs_zero hrs.2.2, by decide, by decide⟩
  exact ⟨a1, a2, a3, a4, a5, q1, q2⟩
end X

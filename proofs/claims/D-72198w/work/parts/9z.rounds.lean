/-! PURE 56: the rounds of Machine.parts, plain -/
section X
variable {rs : List Ru} {Ls : List Nat}
/-- the part of each place behind r rounds -/
def prt (rs : List Ru) (Ls : List Nat) : Nat → Nat → Nat
  | 0 => fun _ => 0
  | r + 1 => fun k => nm (keyS rs Ls (prt rs Ls r)) Ls.length k
/-- how many parts there are behind r rounds -/
def mm (rs : List Ru) (Ls : List Nat) : Nat → Nat
  | 0 => 1
  | r + 1 => (kS (keyS rs Ls (prt rs Ls r)) Ls.length).length
theorem prt_lt (hl : Ls.length ≤ 64) : ∀ (r k : Nat), prt rs Ls r k < 100
  | 0, k => by show 0 < 100; omega
  | r + 1, k => by
    have := nm_le (f := keyS rs Ls (prt rs Ls r)) (n := Ls.length) (k := k)
    show nm _ _ _ < 100
    omega
theorem key_iff (hl : Ls.length ≤ 64) {r i k : Nat} : keyS rs Ls (prt rs Ls r) i = keyS rs Ls (prt rs Ls r) k ↔ (prt rs Ls r i = prt rs Ls r k ∧ ∀ s, s < 5 → (ldP rs Ls i s).map (prt rs Ls r) = (ldP rs Ls k s).map (prt rs Ls r)) := keyS_inj (prt_lt hl r)
theorem prt_iff (hl : Ls.length ≤ 64) {r i k : Nat} (hi : i < Ls.length) (hk : k < Ls.length) : prt rs Ls (r + 1) i = prt rs Ls (r + 1) k ↔ (prt rs Ls r i = prt rs Ls r k ∧ ∀ s, s < 5 → (ldP rs Ls i s).map (prt rs Ls r) = (ldP rs Ls k s).map (prt rs Ls r)) := (nm_eq hi hk).trans (key_iff hl)
theorem one_inj {a b : Nat} : [a] = [b] ↔ a = b := ⟨fun h => (List.cons.inj h).1, fun h => by rw [h]⟩
theorem mm_card (h0 : 0 < Ls.length) : ∀ r : Nat, mm rs Ls r = (kS (fun k => [prt rs Ls r k]) Ls.length).length
  | 0 => by
    have : ∀ n, 0 < n → (kS (fun _ => [0]) n).length = 1 := by
      intro n
      induction n with
      | zero => intro h; omega
      | succ n ih =>
        intro _
        by_cases c : n = 0
        · subst c; rfl
        · have hm : [0] ∈ kS (fun _ => [0]) n := kS_mem.mpr ⟨0, by omega, rfl⟩
          rw [kS, if_pos hm]; exact ih (by omega)
    exact (this _ h0).symm
  | r + 1 => by
    refine Nat.le_antisymm (kS_ref fun i hi k hk e => ?_) (kS_ref fun i hi k hk e => ?_)
    · exact (nm_eq hi hk).mp (one_inj.mp e)
    · exact one_inj.mpr ((nm_eq hi hk).mpr e)
theorem mm_mono (hl : Ls.length ≤ 64) (h0 : 0 < Ls.length) (r : Nat) : mm rs Ls r ≤ mm rs Ls (r + 1) := by
  rw [mm_card h0 r]
  exact kS_ref fun i hi k hk e => one_inj.mpr ((key_iff hl).mp e).1
/-- where a sign leads stands among the places -/
theorem ldP_at {k s j : Nat} (h : ldP rs Ls k s = some j) : j < Ls.length ∧ pM rs (Ls.getD k 0) s = 0 ∧ Ls.getD j 0 = pB rs (Ls.getD k 0) s := by
  unfold ldP at h
  split at h
  · rename_i c
    obtain ⟨h1, h2⟩ := ixL_some h
    exact ⟨h2, c, by simp [h1]⟩
  · cases h
theorem ldP_none (hcl : ∀ k (hk : k < Ls.length) s, s < 5 → pM rs Ls[k] s = 0 → pB rs Ls[k] s ∈ Ls) {k s : Nat} (hk : k < Ls.length) (hs : s < 5) : ldP rs Ls k s = none ↔ pM rs (Ls.getD k 0) s ≠ 0 := by
  unfold ldP
  have e : Ls.getD k 0 = Ls[k] := by simp [hk]
  rw [e]
  constructor
  · intro h c
    rw [if_pos c] at h
    obtain ⟨j, hj⟩ := ixL_mem (hcl k hk s hs c)
    rw [hj] at h; cases h
  · intro c
    rw [if_neg c]
/-- a round that parts nothing: the parts are stable -/
def Stb (rs : List Ru) (Ls : List Nat) (pt : Nat → Nat) : Prop := ∀ i, i < Ls.length → ∀ k, k < Ls.length → pt i = pt k → ∀ s, s < 5 → (ldP rs Ls i s).map pt = (ldP rs Ls k s).map pt
theorem omap_some {α β : Type} {f : α → β} {o : Option α} {y : β} (h : o.map f = some y) : ∃ x, o = some x ∧ f x = y := by
  cases o with
  | none => cases h
  | some x => exact ⟨x, rfl, Option.some.inj h⟩
theorem omap_lift {f g : Nat → Nat} {o o' : Option Nat} (h : o.map f = o'.map f) (hfg : ∀ x y, o = some x → o' = some y → f x = f y → g x = g y) : o.map g = o'.map g := by
  cases o with
  | none => cases o' with
    | none => rfl
    | some y => cases h
  | some x => cases o' with
    | none => cases h
    | some y => exact congrArg some (hfg x y rfl rfl (Option.some.inj h))
theorem prt_stab (hl : Ls.length ≤ 64) (h0 : 0 < Ls.length) {r : Nat} (h : mm rs Ls (r + 1) ≤ mm rs Ls r) : Stb rs Ls (prt rs Ls (r + 1)) := by
  rw [mm_card h0 r] at h
  have st := kS_stab (f := keyS rs Ls (prt rs Ls r)) (g := fun k => [prt rs Ls r k]) (n := Ls.length) (fun i hi k hk e => one_inj.mpr ((key_iff hl).mp e).1) h
  intro i hi k hk e s hs
  have e1 := ((prt_iff hl hi hk).mp e).2 s hs
  refine omap_lift e1 (fun x y hx hy exy => ?_)
  have hx1 := (ldP_at hx).1
  have hy1 := (ldP_at hy).1
  exact (nm_eq hx1 hy1).mpr (st x hx1 y hy1 (one_inj.mpr exy))
/-! the low bits of all rules -/
def lwE (j : Nat) : List Ru → Nat → Nat → Prop
  | [], _, _ => True
  | r :: t, p, q => p % 2 ^ min (r.2.1 - 1) j = q % 2 ^ min (r.2.1 - 1) j ∧ lwE j t (p / 2 ^ (r.2.1 - 1)) (q / 2 ^ (r.2.1 - 1))
theorem lwE_0 : ∀ (rs : List Ru) (p q : Nat), lwE 0 rs p q
  | [], _, _ => trivial
  | r :: t, p, q => ⟨by simp [Nat.mod_one], lwE_0 t _ _⟩
theorem mod_pw {x a b : Nat} (h : b ≤ a) : x % 2 ^ a % 2 ^ b = x % 2 ^ b := Nat.mod_mod_of_dvd _ (Nat.pow_dvd_pow 2 h)
theorem dbl_mod {b x k : Nat} (hx : x < 2) : (2 * b + x) % 2 ^ (k + 1) = 2 * (b % 2 ^ k) + x := by
  have h1 : 0 < 2 ^ k := Nat.two_pow_pos k
  rw [Nat.pow_succ, Nat.mul_comm (2 ^ k) 2]
  have e : 2 * b + x = (2 * (b % 2 ^ k) + x) + (2 * 2 ^ k) * (b / 2 ^ k) := by
    have := Nat.mod_add_div b (2 ^ k)
    calc 2 * b + x = 2 * (b % 2 ^ k + 2 ^ k * (b / 2 ^ k)) + x := by rw [this]
      _ = _ := by rw [Nat.mul_add, Nat.mul_assoc]; omega
  rw [e, Nat.add_mul_mod_self_left, Nat.mod_eq_of_lt]
  have := Nat.mod_lt b h1
  omega
theorem rKB {r : Ru} {b s : Nat} : rK r (rB r b s) = (2 * b + r.2.2 / 2 ^ s % 2) % 2 ^ (r.2.1 - 1) := by
  unfold rK rB
  exact mod_pw (Nat.sub_le _ _)
theorem lwE_step {s : Nat} (j : Nat) : ∀ (rs : List Ru) (p q : Nat), lwE j rs p q → lwE (j + 1) rs (pB rs p s) (pB rs q s)
  | [], _, _, _ => trivial
  | r :: t, p, q, h => by
    obtain ⟨h1, h2⟩ := h
    have ih := lwE_step (s := s) j t _ _ h2
    have hi : ∀ p, pB (r :: t) p s / 2 ^ (r.2.1 - 1) = pB t (p / 2 ^ (r.2.1 - 1)) s := fun p => by
      show (rK r _ + 2 ^ (r.2.1 - 1) * pB t _ s) / 2 ^ (r.2.1 - 1) = _
      have hlt : rK r (rB r (p % 2 ^ (r.2.1 - 1)) s) < 2 ^ (r.2.1 - 1) := Nat.mod_lt _ (Nat.two_pow_pos _)
      rw [Nat.add_mul_div_left _ _ (Nat.two_pow_pos _), Nat.div_eq_of_lt hlt, Nat.zero_add]
    have lo : ∀ p, pB (r :: t) p s % 2 ^ (r.2.1 - 1) = (2 * (p % 2 ^ (r.2.1 - 1)) + r.2.2 / 2 ^ s % 2) % 2 ^ (r.2.1 - 1) := fun p => by
      show (rK r _ + 2 ^ (r.2.1 - 1) * pB t _ s) % 2 ^ (r.2.1 - 1) = _
      rw [Nat.add_mul_mod_self_left, rKB, Nat.mod_mod]
    refine ⟨?_, by rw [hi, hi]; exact ih⟩
    have e : ∀ p, pB (r :: t) p s % 2 ^ min (r.2.1 - 1) (j + 1) = (2 * (p % 2 ^ (r.2.1 - 1)) + r.2.2 / 2 ^ s % 2) % 2 ^ min (r.2.1 - 1) (j + 1) := fun p => by
      rw [← mod_pw (x := pB (r :: t) p s) (Nat.min_le_left (r.2.1 - 1) (j + 1)), lo, mod_pw (Nat.min_le_left _ _)]
    rw [e, e]
    have hx : r.2.2 / 2 ^ s % 2 < 2 := Nat.mod_lt _ (by decide)
    cases em : min (r.2.1 - 1) (j + 1) with
    | zero => simp [Nat.mod_one]
    | succ k =>
      rw [dbl_mod hx, dbl_mod hx]
      have hk : k ≤ min (r.2.1 - 1) j := by omega
      have hk2 : k ≤ r.2.1 - 1 := by omega
      rw [mod_pw hk2, mod_pw hk2, ← mod_pw (x := p) hk, ← mod_pw (x := q) hk, h1]
theorem lwE_3 : ∀ (rs : List Ru) (p q : Nat), (∀ r ∈ rs, r.2.1 ≤ 4) → p < 2 ^ bks rs → q < 2 ^ bks rs → lwE 3 rs p q → p = q
  | [], p, q, _, hp, hq, _ => by
    have : bks [] = 0 := rfl
    rw [this] at hp hq
    omega
  | r :: t, p, q, h4, hp, hq, h => by
    obtain ⟨h1, h2⟩ := h
    have hr : r.2.1 ≤ 4 := h4 r (by simp)
    have em : min (r.2.1 - 1) 3 = r.2.1 - 1 := by omega
    rw [em] at h1
    have hb : ∀ x, x < 2 ^ bks (r :: t) → x / 2 ^ (r.2.1 - 1) < 2 ^ bks t := fun x hx => by
      refine Nat.div_lt_of_lt_mul ?_
      rw [← Nat.pow_add]; exact hx
    have ih := lwE_3 t _ _ (fun r' h' => h4 r' (by simp [h'])) (hb p hp) (hb q hq) h2
    rw [← Nat.mod_add_div p (2 ^ (r.2.1 - 1)), ← Nat.mod_add_div q (2 ^ (r.2.1 - 1)), h1, ih]
/-- what is as good as one behind r rounds and has one's low bits stays so -/
theorem prt_low (hl : Ls.length ≤ 64) (hnd : Ls.Nodup) (h4 : ∀ r ∈ rs, r.2.1 ≤ 4) (h2 : ∀ x ∈ Ls, x < 2 ^ bks rs) : ∀ (r j : Nat), r + j = 3 → ∀ i, i < Ls.length → ∀ k, k < Ls.length → prt rs Ls r i = prt rs Ls r k → lwE j rs (Ls.getD i 0) (Ls.getD k 0) → prt rs Ls (r + 1) i = prt rs Ls (r + 1) k
  | 0, j, hj, i, hi, k, hk, _, hw => by
    have : j = 3 := by omega
    subst this
    have ei : Ls.getD i 0 = Ls[i] := by simp [hi]
    have ek : Ls.getD k 0 = Ls[k] := by simp [hk]
    rw [ei, ek] at hw
    have := lwE_3 rs _ _ h4 (h2 _ (List.getElem_mem hi)) (h2 _ (List.getElem_mem hk)) hw
    rw [(List.getElem_inj hnd).mp this]
  | r + 1, j, hj, i, hi, k, hk, e, hw => by
    have ih := prt_low hl hnd h4 h2 r (j + 1) (by omega)
    refine (prt_iff hl hi hk).mpr ⟨e, fun s hs => ?_⟩
    refine omap_lift (((prt_iff hl hi hk).mp e).2 s hs) (fun x y hx hy exy => ?_)
    obtain ⟨x1, x2, x3⟩ := ldP_at hx
    obtain ⟨y1, y2, y3⟩ := ldP_at hy
    exact ih x x1 y y1 exy (by rw [x3, y3]; exact lwE_step j rs _ _ hw)
/-- four rounds are enough -/
theorem mm_4 (hl : Ls.length ≤ 64) (h0 : 0 < Ls.length) (hnd : Ls.Nodup) (h4 : ∀ r ∈ rs, r.2.1 ≤ 4) (h2 : ∀ x ∈ Ls, x < 2 ^ bks rs) : mm rs Ls 4 ≤ mm rs Ls 3 := by
  rw [mm_card h0 4, mm_card h0 3]
  exact kS_ref fun i hi k hk e => one_inj.mpr (prt_low hl hnd h4 h2 3 0 rfl i hi k hk (one_inj.mp e) (lwE_0 _ _ _))
end X

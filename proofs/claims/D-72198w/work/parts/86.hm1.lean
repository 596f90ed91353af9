/-! PURE 17: HashMap: places of hashes, cells of maps and nodes -/
/-- where a hash lies in a table of n -/
def ix (n : Nat) (h : Int32) : Nat := h.toBitVec.toNat % n
def pw (n : Nat) : Prop := n = 16 ∨ n = 32 ∨ n = 64 ∨ n = 128
theorem bv_low (b : BitVec 32) : ∀ k, k < 8 → (BitVec.ofNat 32 (2 ^ k) - 1#32) &&& b = BitVec.ofNat 32 (b.toNat % 2 ^ k) := by
  intro k hk
  apply BitVec.eq_of_toNat_eq
  have e : (BitVec.ofNat 32 (2 ^ k) - 1#32).toNat = 2 ^ k - 1 := by
    have key : ∀ k, k < 8 → (BitVec.ofNat 32 (2 ^ k) - 1#32).toNat = 2 ^ k - 1 := by decide +kernel
    exact key k hk
  rw [BitVec.toNat_and, e, Nat.and_comm, Nat.and_two_pow_sub_one_eq_mod, BitVec.toNat_ofNat]
  exact (Nat.mod_eq_of_lt (Nat.lt_of_le_of_lt (Nat.mod_le _ _) b.isLt)).symm
theorem ix_eq {n : Nat} (hn : pw n) (h : Int32) : (nI n - 1) &&& h = nI (ix n h) := by
  apply Int32.toBitVec.inj
  rcases hn with rfl | rfl | rfl | rfl
  · exact bv_low h.toBitVec 4 (by decide)
  · exact bv_low h.toBitVec 5 (by decide)
  · exact bv_low h.toBitVec 6 (by decide)
  · exact bv_low h.toBitVec 7 (by decide)
theorem ix_lt {n : Nat} (hn : pw n) (h : Int32) : ix n h < n := Nat.mod_lt _ (by rcases hn with rfl | rfl | rfl | rfl <;> decide)
theorem bv_bit (b : BitVec 32) (k : Nat) (hk : k < 32) : b &&& BitVec.ofNat 32 (2 ^ k) = 0#32 ↔ b.toNat / 2 ^ k % 2 = 0 := by
  have e : (BitVec.ofNat 32 (2 ^ k)).toNat = 2 ^ k := by
    rw [BitVec.toNat_ofNat, Nat.mod_eq_of_lt]
    exact Nat.pow_lt_pow_right (by decide) hk
  constructor
  · intro h
    have h1 := congrArg BitVec.toNat h
    rw [BitVec.toNat_and, e] at h1
    have h1 : b.toNat &&& 2 ^ k = 0 := h1
    have h2 := congrArg (fun x => x.testBit k) h1
    simp only [Nat.testBit_and, Nat.testBit_two_pow_self, Nat.zero_testBit, Bool.and_true] at h2
    rw [Nat.testBit_eq_decide_div_mod_eq] at h2
    have : ¬ (b.toNat / 2 ^ k % 2 = 1) := of_decide_eq_false h2
    omega
  · intro h
    apply BitVec.eq_of_toNat_eq
    rw [BitVec.toNat_and, e]
    show b.toNat &&& 2 ^ k = 0
    apply Nat.eq_of_testBit_eq
    intro i
    rw [Nat.testBit_and, Nat.testBit_two_pow, Nat.zero_testBit]
    by_cases c : k = i
    · subst c
      rw [Nat.testBit_eq_decide_div_mod_eq, h]; rfl
    · rw [decide_eq_false c, Bool.and_false]
theorem ix_two {n : Nat} (hn : n = 16 ∨ n = 32 ∨ n = 64) (h : Int32) : ix (2 * n) h = if h &&& nI n = 0 then ix n h else ix n h + n := by
  have key : ∀ k, k < 8 → n = 2 ^ k → ix (2 * n) h = if h &&& nI n = 0 then ix n h else ix n h + n := by
    intro k hk e
    subst e
    have hb := bv_bit h.toBitVec k (by omega)
    have hc : h &&& nI (2 ^ k) = 0 ↔ h.toBitVec &&& BitVec.ofNat 32 (2 ^ k) = 0#32 := by
      constructor
      · intro z; exact congrArg Int32.toBitVec z
      · intro z; exact Int32.toBitVec.inj z
    unfold ix
    rw [Nat.mul_comm, Nat.mod_mul]
    by_cases c : h &&& nI (2 ^ k) = 0
    · rw [if_pos c, hb.mp (hc.mp c)]; simp
    · rw [if_neg c]
      have : ¬ h.toBitVec.toNat / 2 ^ k % 2 = 0 := fun z => c (hc.mpr (hb.mpr z))
      have : h.toBitVec.toNat / 2 ^ k % 2 = 1 := by omega
      rw [this]; simp
  rcases hn with rfl | rfl | rfl
  · exact key 4 (by decide) rfl
  · exact key 5 (by decide) rfl
  · exact key 6 (by decide) rfl
/-- the map's own cell: class 19 (HashMap), 22 (LinkedHashMap; its last entry) -/
def HOb (G : Gh) (o hc : Nat) (tab : Option Nat) (sz mc th : Int32) (tl : Option Nat) : Prop :=
  (hc = 19 ∧ tl = none ∧ ∃ x0 x1 x3 lf, G o = some (.inr (19, [va_rf x0, va_rf x1, va_rf tab, va_rf x3, .int sz, .int mc, .int th, .float lf]))) ∨
  (hc = 22 ∧ ∃ x0 x1 x3 lf hd, (hd = none → tl = none) ∧ G o = some (.inr (22, [va_rf x0, va_rf x1, va_rf tab, va_rf x3, .int sz, .int mc, .int th, .float lf, va_rf hd, va_rf tl, .int 0, .int 0])))
/-- a node's cell: class 20, 23 -/
def HNd (G : Gh) (a nc : Nat) (h : Int32) (k v nx : Option Nat) : Prop :=
  (nc = 20 ∧ G a = some (.inr (20, [.int h, va_rf k, va_rf v, va_rf nx]))) ∨
  (nc = 23 ∧ ∃ bf af, G a = some (.inr (23, [.int h, va_rf k, va_rf v, va_rf nx, va_rf bf, va_rf af])))
section H
variable {V : HEn} {G : Gh} {o hc a nc : Nat} {tab tl k v nx : Option Nat} {sz mc th h : Int32} {R : Type} {Q : R → Gh → Nat → Nat → Prop}
theorem HOb.keep {G' : Gh} (h : HOb G o hc tab sz mc th tl) (e : G' o = G o) : HOb G' o hc tab sz mc th tl := by
  unfold HOb; rw [e]; exact h
theorem HNd.keep {G' : Gh} (h0 : HNd G a nc h k v nx) (e : G' a = G a) : HNd G' a nc h k v nx := by
  unfold HNd; rw [e]; exact h0
theorem HOb.cls (h : HOb G o hc tab sz mc th tl) : [19, 22].any (gC G o) = true := by
  rcases h with ⟨rfl, -, x0, x1, x3, lf, e⟩ | ⟨rfl, x0, x1, x3, lf, hd, -, e⟩
  · exact List.any_eq_true.mpr ⟨19, by simp, gC_at e⟩
  · exact List.any_eq_true.mpr ⟨22, by simp, gC_at e⟩
theorem w_hT {f : Option Nat → HO R} (h : HOb G o hc tab sz mc th tl) (kk : wH (f tab) Q) : wH ((xR G o fl_HashMap_table).bind f) Q := by
  rcases h with ⟨rfl, -, x0, x1, x3, lf, e⟩ | ⟨rfl, x0, x1, x3, lf, hd, -, e⟩ <;> exact w_xR e rfl rfl kk
theorem w_hS {f : Int32 → HO R} (h : HOb G o hc tab sz mc th tl) (kk : wH (f sz) Q) : wH ((xI G o fl_HashMap_size).bind f) Q := by
  rcases h with ⟨rfl, -, x0, x1, x3, lf, e⟩ | ⟨rfl, x0, x1, x3, lf, hd, -, e⟩ <;> exact w_xI e rfl rfl kk
theorem w_hM {f : Int32 → HO R} (h : HOb G o hc tab sz mc th tl) (kk : wH (f mc) Q) : wH ((xI G o fl_HashMap_modCount).bind f) Q := by
  rcases h with ⟨rfl, -, x0, x1, x3, lf, e⟩ | ⟨rfl, x0, x1, x3, lf, hd, -, e⟩ <;> exact w_xI e rfl rfl kk
theorem w_hH {f : Int32 → HO R} (h : HOb G o hc tab sz mc th tl) (kk : wH (f th) Q) : wH ((xI G o fl_HashMap_threshold).bind f) Q := by
  rcases h with ⟨rfl, -, x0, x1, x3, lf, e⟩ | ⟨rfl, x0, x1, x3, lf, hd, -, e⟩ <;> exact w_xI e rfl rfl kk
theorem w_hsT {f : Gh → HO R} {t : Option Nat} (h : HOb G o hc tab sz mc th tl) (hb : V.1 ≤ o) (kk : ∀ G', HOb G' o hc t sz mc th tl → (∀ b, b ≠ o → G' b = G b) → wH (f G') Q) : wH ((xF V.1 G o fl_HashMap_table (va_rf t)).bind f) Q := by
  rcases h with ⟨rfl, e0, x0, x1, x3, lf, e⟩ | ⟨rfl, x0, x1, x3, lf, hd, e0, e⟩
  · exact w_xF e rfl (Nat.le_of_ble_eq_true rfl) hb rfl (kk _ (Or.inl ⟨rfl, e0, x0, x1, x3, lf, gset_eq _ _ _⟩) (fun b hb => gset_ne _ _ hb))
  · exact w_xF e rfl (Nat.le_of_ble_eq_true rfl) hb rfl (kk _ (Or.inr ⟨rfl, x0, x1, x3, lf, hd, e0, gset_eq _ _ _⟩) (fun b hb => gset_ne _ _ hb))
theorem w_hsS {f : Gh → HO R} {t : Int32} (h : HOb G o hc tab sz mc th tl) (hb : V.1 ≤ o) (kk : ∀ G', HOb G' o hc tab t mc th tl → (∀ b, b ≠ o → G' b = G b) → wH (f G') Q) : wH ((xF V.1 G o fl_HashMap_size (.int t)).bind f) Q := by
  rcases h with ⟨rfl, e0, x0, x1, x3, lf, e⟩ | ⟨rfl, x0, x1, x3, lf, hd, e0, e⟩
  · exact w_xF e rfl (Nat.le_of_ble_eq_true rfl) hb rfl (kk _ (Or.inl ⟨rfl, e0, x0, x1, x3, lf, gset_eq _ _ _⟩) (fun b hb => gset_ne _ _ hb))
  · exact w_xF e rfl (Nat.le_of_ble_eq_true rfl) hb rfl (kk _ (Or.inr ⟨rfl, x0, x1, x3, lf, hd, e0, gset_eq _ _ _⟩) (fun b hb => gset_ne _ _ hb))
theorem w_hsM {f : Gh → HO R} {t : Int32} (h : HOb G o hc tab sz mc th tl) (hb : V.1 ≤ o) (kk : ∀ G', HOb G' o hc tab sz t th tl → (∀ b, b ≠ o → G' b = G b) → wH (f G') Q) : wH ((xF V.1 G o fl_HashMap_modCount (.int t)).bind f) Q := by
  rcases h with ⟨rfl, e0, x0, x1, x3, lf, e⟩ | ⟨rfl, x0, x1, x3, lf, hd, e0, e⟩
  · exact w_xF e rfl (Nat.le_of_ble_eq_true rfl) hb rfl (kk _ (Or.inl ⟨rfl, e0, x0, x1, x3, lf, gset_eq _ _ _⟩) (fun b hb => gset_ne _ _ hb))
  · exact w_xF e rfl (Nat.le_of_ble_eq_true rfl) hb rfl (kk _ (Or.inr ⟨rfl, x0, x1, x3, lf, hd, e0, gset_eq _ _ _⟩) (fun b hb => gset_ne _ _ hb))
theorem w_hsH {f : Gh → HO R} {t : Int32} (h : HOb G o hc tab sz mc th tl) (hb : V.1 ≤ o) (kk : ∀ G', HOb G' o hc tab sz mc t tl → (∀ b, b ≠ o → G' b = G b) → wH (f G') Q) : wH ((xF V.1 G o fl_HashMap_threshold (.int t)).bind f) Q := by
  rcases h with ⟨rfl, e0, x0, x1, x3, lf, e⟩ | ⟨rfl, x0, x1, x3, lf, hd, e0, e⟩
  · exact w_xF e rfl (Nat.le_of_ble_eq_true rfl) hb rfl (kk _ (Or.inl ⟨rfl, e0, x0, x1, x3, lf, gset_eq _ _ _⟩) (fun b hb => gset_ne _ _ hb))
  · exact w_xF e rfl (Nat.le_of_ble_eq_true rfl) hb rfl (kk _ (Or.inr ⟨rfl, x0, x1, x3, lf, hd, e0, gset_eq _ _ _⟩) (fun b hb => gset_ne _ _ hb))
theorem w_nH {f : Int32 → HO R} (h0 : HNd G a nc h k v nx) (kk : wH (f h) Q) : wH ((xI G a fl_HashMap_Node_hash).bind f) Q := by
  rcases h0 with ⟨rfl, e⟩ | ⟨rfl, bf, af, e⟩ <;> exact w_xI e rfl rfl kk
theorem w_nK {f : Option Nat → HO R} (h0 : HNd G a nc h k v nx) (kk : wH (f k) Q) : wH ((xR G a fl_HashMap_Node_key).bind f) Q := by
  rcases h0 with ⟨rfl, e⟩ | ⟨rfl, bf, af, e⟩ <;> exact w_xR e rfl rfl kk
theorem w_nV {f : Option Nat → HO R} (h0 : HNd G a nc h k v nx) (kk : wH (f v) Q) : wH ((xR G a fl_HashMap_Node_value).bind f) Q := by
  rcases h0 with ⟨rfl, e⟩ | ⟨rfl, bf, af, e⟩ <;> exact w_xR e rfl rfl kk
theorem w_nN {f : Option Nat → HO R} (h0 : HNd G a nc h k v nx) (kk : wH (f nx) Q) : wH ((xR G a fl_HashMap_Node_next).bind f) Q := by
  rcases h0 with ⟨rfl, e⟩ | ⟨rfl, bf, af, e⟩ <;> exact w_xR e rfl rfl kk
theorem w_nsN {f : Gh → HO R} {t : Option Nat} (h0 : HNd G a nc h k v nx) (hb : V.1 ≤ a) (kk : ∀ G', HNd G' a nc h k v t → (∀ b, b ≠ a → G' b = G b) → wH (f G') Q) : wH ((xF V.1 G a fl_HashMap_Node_next (va_rf t)).bind f) Q := by
  rcases h0 with ⟨rfl, e⟩ | ⟨rfl, bf, af, e⟩
  · exact w_xF e rfl (Nat.le_of_ble_eq_true rfl) hb rfl (kk _ (Or.inl ⟨rfl, gset_eq _ _ _⟩) (fun b hb => gset_ne _ _ hb))
  · exact w_xF e rfl (Nat.le_of_ble_eq_true rfl) hb rfl (kk _ (Or.inr ⟨rfl, bf, af, gset_eq _ _ _⟩) (fun b hb => gset_ne _ _ hb))
theorem HNd.gok (h0 : HNd G a nc h k v nx) (ar : Nat → ClassId) : gokA G ar (some a) [20, 23, 21] = true := by
  rcases h0 with ⟨rfl, e⟩ | ⟨rfl, bf, af, e⟩
  · exact gokA_at e (by simp) (by decide)
  · exact gokA_at e (by simp) (by decide)
theorem HNd.gin (h0 : HNd G a nc h k v nx) : gin G (some a) [21] [20, 23] = some 0 := by
  show (if [21].any (gC G a) = true then some (1 : Int32) else if [20, 23].any (gC G a) = true then some 0 else none) = _
  rcases h0 with ⟨rfl, e⟩ | ⟨rfl, bf, af, e⟩
  · rw [if_neg (by simp [gC_no e (show ¬ 20 = 21 by decide)]), if_pos (List.any_eq_true.mpr ⟨20, by simp, gC_at e⟩)]
  · rw [if_neg (by simp [gC_no e (show ¬ 23 = 21 by decide)]), if_pos (List.any_eq_true.mpr ⟨23, by simp, gC_at e⟩)]
end H

/-! PURE 34: HashMap.treeifyBin in a table of 64 or more -/
section U
variable {V : HEn}
theorem tinit_at {G : Gh} {nx e : Nat} {h : Int32} {k v n : Option Nat} (hb : V.1 ≤ e) (hc : G e = some (.inr (21, [.int 0, .null, .null, .null, .null, .null, .null, .null, .null, .null, .int 0]))) : wH (hF_J42_init V G nx e h k v n) (fun _ G' c s => c = 0 ∧ s = 0 ∧ G' e = some (tcell (h, k, v) n none none none none 0) ∧ ∀ b, b ≠ e → G' b = G b) := by
  unfold hF_J42_init hF_J41_init hF_J40_init
  apply w_cB
  apply w_cB
  refine w_xF hc rfl (Nat.le_of_ble_eq_true rfl) hb rfl (w_xF (gset_eq _ _ _) rfl (Nat.le_of_ble_eq_true rfl) hb rfl (w_xF (gset_eq _ _ _) rfl (Nat.le_of_ble_eq_true rfl) hb rfl (w_xF (gset_eq _ _ _) rfl (Nat.le_of_ble_eq_true rfl) hb rfl (w_ret (w_ret (w_ret ⟨rfl, rfl, gset_eq _ _ _, fun b hb => by simp only [gset_ne _ _ hb]⟩))))))
theorem newT_at {G : Gh} {nx o : Nat} {h : Int32} {k v n : Option Nat} (hb : V.1 ≤ nx) : wH (hF_J39_newTreeNode V G nx o h k v n) (fun r G' c s => r = some nx ∧ c = 1 ∧ s = 11 ∧ G' nx = some (tcell (h, k, v) n none none none none 0) ∧ ∀ b, b ≠ nx → G' b = G b) := by
  unfold hF_J39_newTreeNode
  refine w_tick (w_call (tinit_at hb (gset_eq _ _ _)) ?_)
  rintro - G' c s ⟨rfl, rfl, q1, q2⟩
  exact w_ret ⟨rfl, rfl, rfl, q1, fun b hb => by rw [q2 b hb]; exact gset_ne _ _ hb⟩
theorem replT_at {G : Gh} {nx o b : Nat} {h : Int32} {k v n : Option Nat} (hb : V.1 ≤ nx) (ho : gC G o 19 = true) (hB : HNd G b 20 h k v n) (hbx : b ≠ nx) : wH (hD_J39_treeifyBin_47 V G nx o (some b) none) (fun r G' c s => r = some nx ∧ c = 1 ∧ s = 11 ∧ G' nx = some (tcell (h, k, v) none none none none none 0) ∧ ∀ b, b ≠ nx → G' b = G b) := by
  unfold hD_J39_treeifyBin_47 hF_J39_replacementTreeNode
  refine w_pos ho (w_tick (w_some ?_))
  have hB2 := hB.keep (G' := gset G nx (.inr (21, [.int 0, .null, .null, .null, .null, .null, .null, .null, .null, .null, .int 0]))) (gset_ne _ _ hbx)
  refine w_nH hB2 (w_nK hB2 (w_nV hB2 (w_call (tinit_at hb (gset_eq _ _ _)) ?_)))
  rintro - G' c s ⟨rfl, rfl, q1, q2⟩
  exact w_ret ⟨rfl, rfl, rfl, q1, fun b hb => by rw [q2 b hb]; exact gset_ne _ _ hb⟩
/-- what the j-th of the new nodes is told of -/
abbrev nth (L : List Nat) (n0 a : Nat) : Nat := (L[a - n0]?).getD 0
theorem nth_at {L : List Nat} {n0 j : Nat} (h : j < L.length) : nth L n0 (n0 + j) = L[j] := by
  unfold nth
  rw [Nat.add_sub_cancel_left, List.getElem?_eq_getElem h]
  rfl
def nwN (n0 k : Nat) : Nat → Option Nat := fun a => if a + 1 < n0 + k then some (a + 1) else none
def nwP (n0 : Nat) : Nat → Option Nat := fun a => if n0 < a then some (a - 1) else none
theorem nw_chn (n0 : Nat) : ∀ (k j t : Nat), j + k = t → 0 < k → Chn (nwN n0 t) (some (n0 + j)) (List.range' (n0 + j) k)
  | 0, _, _, _, h => absurd h (Nat.lt_irrefl _)
  | 1, j, t, e, _ => ⟨rfl, by show nwN n0 t (n0 + j) = none; unfold nwN; rw [if_neg (by omega)]⟩
  | k + 2, j, t, e, _ => ⟨rfl, by
      have : nwN n0 t (n0 + j) = some (n0 + (j + 1)) := by unfold nwN; rw [if_pos (by omega)]; rfl
      rw [this]
      exact nw_chn n0 (k + 1) (j + 1) t (by omega) (by omega)⟩
abbrev TbQ (V : HEn) (G : Gh) (D : Nat → Int32 × Option Nat × Option Nat) (ks : Nat → List Nat) (L : List Nat) (td m i n0 k : Nat) (tb : Nat → Option Nat) : Unit → Gh → Nat → Nat → Prop := fun _ G' c s => c = k ∧ s = 11 * k ∧ (∃ r, r ∈ List.range' n0 L.length ∧ TB V G' (· ∈ List.range' n0 L.length) L.length (fun a => D (nth L n0 a)) (fun a => ks (nth L n0 a)) r ∧ G' td = some (.inl (V.2.1 4, m, .inr (.inr (.inr (.inr (va_up tb i (some r)))))))) ∧ ∀ b, b < n0 → b ≠ td → G' b = G b
theorem tbin_loop {o td m i n0 : Nat} {L : List Nat} {G0 : Gh} {D : Nat → Int32 × Option Nat × Option Nat} {ko kd : Nat → Nat} {ks : Nat → List Nat} {nxt tb : Nat → Option Nat} (hV : 1200 ≤ V.2.2.2.2) (hlen : L.length < 300) (hlen2 : 2 ≤ L.length) (hm : pw m) (hb : V.1 ≤ td) (htd : td < n0) (hi : i < m) (ho : gC G0 o 19 = true) (hon : o < n0) (hotd : o ≠ td) (hL : ∀ a ∈ L, a < n0 ∧ a ≠ td ∧ ix m (D a).1 = i ∧ HNd G0 a 20 (D a).1 (D a).2.1 (D a).2.2 (nxt a)) (hT : TK V G0 (· ∈ L) D ko kd ks) (hst : ∀ a, a ∈ L → ko a < n0 ∧ kd a < n0 ∧ ko a ≠ td ∧ kd a ≠ td) (hdk : ∀ a b, a ∈ L → b ∈ L → ks a = ks b → a = b) (hnd : L.Nodup) (ht : G0 td = some (.inl (V.2.1 4, m, .inr (.inr (.inr (.inr tb)))))) :
    ∀ (t : List Nat) (b : Nat) (Pf : List Nat) (fu : Nat) (G : Gh), L = Pf ++ b :: t → t.length + 1 ≤ fu → Chn nxt (nxt b) t → (∀ b, b < n0 → G b = G0 b) → (∀ j (h : j < Pf.length), G (n0 + j) = some (tcell (D (nth L n0 (n0 + j))) (nwN n0 Pf.length (n0 + j)) (nwP n0 (n0 + j)) none none none 0)) →
    wH (hL_J39_treeifyBin_43 V o fu G (n0 + Pf.length) (some td) (nI i) (some b) (if Pf = [] then none else some n0) (if Pf = [] then none else some (n0 + Pf.length - 1))) (TbQ V G0 D ks L td m i n0 (t.length + 1) tb) := by
  have hm2 : 0 < m ∧ m ≤ 128 := by rcases hm with rfl | rfl | rfl | rfl <;> decide
  intro t
  induction t with
  | nil =>
    intro b Pf fu G hLe hf hch hk hc
    obtain ⟨fu, rfl⟩ := Nat.exists_eq_succ_of_ne_zero (show fu ≠ 0 by omega)
    have bL : b ∈ L := by rw [hLe]; simp
    have hb0 := hL b bL
    have hll : L.length = Pf.length + 1 := by rw [hLe]; simp
    have bnone : nxt b = none := hch
    have nb : nth L n0 (n0 + Pf.length) = b := by rw [nth_at (by omega)]; simp [hLe]
    have Pne : Pf ≠ [] := by intro z; rw [z] at hll; simp at hll; omega
    have hPl : 0 < Pf.length := List.length_pos_iff.mpr Pne
    rw [hL_J39_treeifyBin_43, if_neg Pne, if_neg Pne]
    refine w_call (replT_at (by omega) (by unfold gC; rw [hk o hon]; exact ho) (hb0.2.2.2.keep (hk b hb0.1)) (by omega)) ?_
    rintro r G1 c s ⟨rfl, rfl, rfl, q1, q2⟩
    refine w_neg (by simp) (w_some (w_xF q1 rfl (Nat.le_of_ble_eq_true rfl) (by omega) rfl (w_some ?_)))
    have ct : gset G1 (n0 + Pf.length) (tcell ((D b).1, (D b).2.1, (D b).2.2) none (some (n0 + Pf.length - 1)) none none none 0) (n0 + Pf.length - 1) = some (tcell (D (nth L n0 (n0 + (Pf.length - 1)))) (nwN n0 Pf.length (n0 + (Pf.length - 1))) (nwP n0 (n0 + (Pf.length - 1))) none none none 0) := by
      rw [gset_ne _ _ (by omega), q2 _ (by omega)]
      have := hc (Pf.length - 1) (by omega)
      rwa [show n0 + (Pf.length - 1) = n0 + Pf.length - 1 by omega] at this ⊢
    refine w_xF ct rfl (Nat.le_of_ble_eq_true rfl) (by omega) rfl ?_
    -- all the new nodes stand
    generalize hG2 : gset (gset G1 (n0 + Pf.length) _) (n0 + Pf.length - 1) _ = G2
    have k2 : ∀ b, b < n0 → G2 b = G0 b := fun b hb => by rw [← hG2, gset_ne _ _ (by omega), gset_ne _ _ (by omega), q2 b (by omega)]; exact hk b hb
    have cells : ∀ j, j < L.length → G2 (n0 + j) = some (tcell (D (nth L n0 (n0 + j))) (nwN n0 L.length (n0 + j)) (nwP n0 (n0 + j)) none none none 0) := by
      intro j hj
      by_cases c1 : j = Pf.length
      · subst c1
        rw [← hG2, gset_ne _ _ (by omega), gset_eq, nb]
        have e1 : nwN n0 L.length (n0 + Pf.length) = none := by unfold nwN; rw [if_neg (by omega)]
        have e2 : nwP n0 (n0 + Pf.length) = some (n0 + Pf.length - 1) := by unfold nwP; rw [if_pos (by omega)]
        rw [e1, e2]; rfl
      · by_cases c2 : j = Pf.length - 1
        · rw [show n0 + j = n0 + Pf.length - 1 by omega, ← hG2, gset_eq]
          have e1 : nwN n0 L.length (n0 + Pf.length - 1) = some (n0 + Pf.length) := by unfold nwN; rw [if_pos (by omega)]; congr 1; omega
          rw [e1, show n0 + (Pf.length - 1) = n0 + Pf.length - 1 by omega]; rfl
        · rw [← hG2, gset_ne _ _ (by omega), gset_ne _ _ (by omega), q2 _ (by omega), hc j (by omega)]
          have e1 : nwN n0 L.length (n0 + j) = nwN n0 Pf.length (n0 + j) := by unfold nwN; rw [if_pos (by omega), if_pos (by omega)]
          rw [e1]
    clear hG2
    unfold hB_J39_treeifyBin_78 hB_J39_treeifyBin_109
    refine w_some (w_nN (hb0.2.2.2.keep (k2 b hb0.1)) ?_)
    rw [bnone]
    have c0 := cells 0 (by omega)
    rw [Nat.add_zero] at c0
    refine w_pos rfl (w_some (w_pos (gokA_at c0 (by simp) (by decide)) (w_wrR ((k2 td htd).trans ht) hb (gd_nI hi (by omega)) (w_neg (by simp) (w_some (w_pos (gC_at (fs := _) (by rw [gset_ne _ _ (by omega)]; exact c0)) ?_))))))
    have hmem : ∀ a, a ∈ List.range' n0 L.length → ∃ j, j < L.length ∧ a = n0 + j := fun a ha => by
      rw [List.mem_range'_1] at ha
      exact ⟨a - n0, by omega, by omega⟩
    have hTn : TK V (gset G2 td (.inl (V.2.1 4, m, .inr (.inr (.inr (.inr (va_up tb i (some n0)))))))) (· ∈ List.range' n0 L.length) (fun a => D (nth L n0 a)) (fun a => ko (nth L n0 a)) (fun a => kd (nth L n0 a)) (fun a => ks (nth L n0 a)) := by
      intro a ha
      obtain ⟨j, hj, rfl⟩ := hmem a ha
      have jL : nth L n0 (n0 + j) ∈ L := by rw [nth_at hj]; exact List.getElem_mem hj
      obtain ⟨z1, z2, z3⟩ := hT _ jL
      obtain ⟨y1, y2, y3, y4⟩ := hst _ jL
      exact ⟨z1, z2.keep (by rw [gset_ne _ _ y3]; exact k2 _ y1) (by rw [gset_ne _ _ y4]; exact k2 _ y2), z3⟩
    have fin := tfy_at (V := V) (o := n0) (td := td) (m := m) (i := i) (nx := n0 + Pf.length + 1) (L := List.range' n0 L.length) (G := gset G2 td (.inl (V.2.1 4, m, .inr (.inr (.inr (.inr (va_up tb i (some n0)))))))) (D := fun a => D (nth L n0 a)) (nxt := nwN n0 L.length) (pv := nwP n0) (ko := fun a => ko (nth L n0 a)) (kd := fun a => kd (nth L n0 a)) (ks := fun a => ks (nth L n0 a)) (tb := va_up tb i (some n0)) hV (by simpa using hlen) hm hb (by rw [List.mem_range'_1]; omega) (up_eq _ _ _) (fun a ha => by
        obtain ⟨j, hj, rfl⟩ := hmem a ha
        exact (hL _ (by rw [nth_at hj]; exact List.getElem_mem hj)).2.2.1) (nw_chn n0 L.length 0 L.length (by omega) (by omega)) List.nodup_range' (by unfold nwN; rw [if_pos (by omega)]; simp) (fun a ha => ⟨fun b hb => ?_, fun b hb => ?_⟩) (fun a b ha hb e => ?_) (fun a ha => ?_) hTn (gset_eq _ _ _) (fun a ha => ?_)
    · refine w_call fin ?_
      rintro - G' c s ⟨rfl, rfl, ⟨r, r1, r2, r3⟩, r4⟩
      refine w_ret ⟨rfl, rfl, ⟨r, r1, by simpa using r2, ?_⟩, fun b b1 b2 => ?_⟩
      · rw [r3]
        have : va_up (va_up tb i (some n0)) i (some r) = va_up tb i (some r) := by
          funext x
          by_cases c : x = i
          · subst c; rw [up_eq, up_eq]
          · rw [up_ne _ _ c, up_ne _ _ c, up_ne _ _ c]
        rw [this]
      · rw [r4 b (by show ¬ (b ∈ List.range' n0 L.length); rw [List.mem_range'_1]; omega) b2, gset_ne _ _ b2]; exact k2 b b1
    · obtain ⟨j, hj, rfl⟩ := hmem a ha
      unfold nwN at hb
      split at hb
      · cases hb; rw [List.mem_range'_1]; omega
      · cases hb
    · obtain ⟨j, hj, rfl⟩ := hmem a ha
      unfold nwP at hb
      split at hb
      · cases hb; rw [List.mem_range'_1]; omega
      · cases hb
    · obtain ⟨j, hj, rfl⟩ := hmem a ha
      obtain ⟨j', hj', rfl⟩ := hmem b hb
      have e : ks (nth L n0 (n0 + j)) = ks (nth L n0 (n0 + j')) := e
      rw [nth_at hj, nth_at hj'] at e
      have := hdk _ _ (List.getElem_mem hj) (List.getElem_mem hj') e
      have := (List.getElem_inj hnd).mp this
      omega
    · obtain ⟨j, hj, rfl⟩ := hmem a ha
      obtain ⟨y1, y2, y3, y4⟩ := hst (nth L n0 (n0 + j)) (by rw [nth_at hj]; exact List.getElem_mem hj)
      rw [List.mem_range'_1, List.mem_range'_1]
      constructor
      · show ¬ (n0 ≤ ko (nth L n0 (n0 + j)) ∧ _); omega
      · show ¬ (n0 ≤ kd (nth L n0 (n0 + j)) ∧ _); omega
    · obtain ⟨j, hj, rfl⟩ := hmem a ha
      exact ⟨by omega, none, none, none, 0, by rw [gset_ne _ _ (by omega)]; exact cells j hj⟩
  | cons d t ih =>
    intro b Pf fu G hLe hf hch hk hc
    obtain ⟨fu, rfl⟩ := Nat.exists_eq_succ_of_ne_zero (show fu ≠ 0 by omega)
    have bL : b ∈ L := by rw [hLe]; simp
    have hb0 := hL b bL
    have hll : L.length = Pf.length + 1 + (t.length + 1) := by rw [hLe]; simp; omega
    obtain ⟨bnext, hch2⟩ := hch
    have nb : nth L n0 (n0 + Pf.length) = b := by rw [nth_at (by omega)]; simp [hLe]
    rw [hL_J39_treeifyBin_43]
    refine w_call (replT_at (by omega) (by unfold gC; rw [hk o hon]; exact ho) (hb0.2.2.2.keep (hk b hb0.1)) (by omega)) ?_
    rintro r G1 c s ⟨rfl, rfl, rfl, q1, q2⟩
    have go : ∀ (G2 : Gh), (∀ b, b < n0 → G2 b = G0 b) → (∀ j (h : j < Pf.length + 1), G2 (n0 + j) = some (tcell (D (nth L n0 (n0 + j))) (nwN n0 (Pf.length + 1) (n0 + j)) (nwP n0 (n0 + j)) none none none 0)) → wH (hB_J39_treeifyBin_78 V o (hL_J39_treeifyBin_43 V o fu) G2 (n0 + Pf.length + 1) (some td) (nI i) (some b) (some n0) (some (n0 + Pf.length))) (fun r' G' c' s' => TbQ V G0 D ks L td m i n0 ((d :: t).length + 1) tb r' G' (1 + c') (11 + s')) := by
      intro G2 k2 cells
      unfold hB_J39_treeifyBin_78
      refine w_some (w_nN (hb0.2.2.2.keep (k2 b hb0.1)) ?_)
      rw [bnext]
      refine w_neg (by simp) ?_
      have := ih d (Pf ++ [b]) fu G2 (by rw [hLe]; simp) (by simp at hf; omega) hch2 k2 (by simpa using cells)
      rw [if_neg (by simp), if_neg (by simp), List.length_append] at this
      refine w_mono this ?_
      rintro r' G' c' s' ⟨z1, z2, z3, z4⟩
      exact ⟨by simp; omega, by simp; omega, z3, z4⟩
    by_cases Pe : Pf = []
    · subst Pe
      rw [if_pos rfl, if_pos rfl]
      refine go G1 (fun b hb => by rw [q2 b (by simp; omega)]; exact hk b hb) (fun j hj => ?_)
      have : j = 0 := by simpa using hj
      subst this
      have e1 : nwN n0 (([] : List Nat).length + 1) (n0 + 0) = none := by unfold nwN; rw [if_neg (by simp)]
      have e2 : nwP n0 (n0 + 0) = none := by unfold nwP; rw [if_neg (by omega)]
      have q1' := q1
      rw [show (n0 + ([] : List Nat).length) = n0 + 0 from rfl] at q1' nb
      rw [q1', nb, e1, e2]
    · have hPl : 0 < Pf.length := List.length_pos_iff.mpr Pe
      rw [if_neg Pe, if_neg Pe]
      refine w_neg (by simp) (w_some (w_xF q1 rfl (Nat.le_of_ble_eq_true rfl) (by omega) rfl (w_some ?_)))
      have ct : gset G1 (n0 + Pf.length) (tcell ((D b).1, (D b).2.1, (D b).2.2) none (some (n0 + Pf.length - 1)) none none none 0) (n0 + Pf.length - 1) = some (tcell (D (nth L n0 (n0 + (Pf.length - 1)))) (nwN n0 Pf.length (n0 + (Pf.length - 1))) (nwP n0 (n0 + (Pf.length - 1))) none none none 0) := by
        rw [gset_ne _ _ (by omega), q2 _ (by omega)]
        have := hc (Pf.length - 1) (by omega)
        rwa [show n0 + (Pf.length - 1) = n0 + Pf.length - 1 by omega] at this ⊢
      refine w_xF ct rfl (Nat.le_of_ble_eq_true rfl) (by omega) rfl (go _ (fun b hb => ?_) (fun j hj => ?_))
      · rw [gset_ne _ _ (by omega), gset_ne _ _ (by omega), q2 b (by omega)]; exact hk b hb
      · by_cases c1 : j = Pf.length
        · subst c1
          rw [gset_ne _ _ (by omega), gset_eq, nb]
          have e1 : nwN n0 (Pf.length + 1) (n0 + Pf.length) = none := by unfold nwN; rw [if_neg (by omega)]
          have e2 : nwP n0 (n0 + Pf.length) = some (n0 + Pf.length - 1) := by unfold nwP; rw [if_pos (by omega)]
          rw [e1, e2]; rfl
        · by_cases c2 : j = Pf.length - 1
          · rw [show n0 + j = n0 + Pf.length - 1 by omega, gset_eq]
            have e1 : nwN n0 (Pf.length + 1) (n0 + Pf.length - 1) = some (n0 + Pf.length) := by unfold nwN; rw [if_pos (by omega)]; congr 1; omega
            rw [e1, show n0 + (Pf.length - 1) = n0 + Pf.length - 1 by omega]; rfl
          · rw [gset_ne _ _ (by omega), gset_ne _ _ (by omega), q2 _ (by omega), hc j (by omega)]
            have e1 : nwN n0 (Pf.length + 1) (n0 + j) = nwN n0 Pf.length (n0 + j) := by unfold nwN; rw [if_pos (by omega), if_pos (by omega)]
            rw [e1]
end U

/-! PURE 12: iterators of TreeMaps; keySet, entrySet -/
/-- an iterator of class ci over the map at o, at place i -/
def KIx (G : Gh) (ci it o : Nat) (mc : Int32) (N : Nat → Prop) (ps : Nat → Nat) (n i : Nat) : Prop := ∃ nxt lr, G it = some (.inr (ci, [va_rf nxt, va_rf lr, .int mc, va_rf (some o)])) ∧ ((∃ a, nxt = some a ∧ N a ∧ ps a = i) ∨ (nxt = none ∧ i = n))
section T
variable {V : HEn} {G : Gh} {o n nx : Nat} {N : Nat → Prop} {lf rt pa : Nat → Option Nat} {co : Nat → Int32} {kv vv : Nat → Option Nat}
variable {x0 x1 root es ks x8 : Option Nat} {sz mc : Int32} {ps lo hi : Nat → Nat} {l : List (Nat × Nat)}
/-- the map stays, where its parts do -/
theorem TMx.keep {G' : Gh} (h : TMx V G o N kv vv ps mc es ks l) (hk : ∀ a, (a = o ∨ N a ∨ es = some a ∨ ks = some a) → G' a = G a) (hc : ∀ a, a < V.1 → G' a = G a) : TMx V G' o N kv vv ps mc es ks l := by
  obtain ⟨⟨x0, x1, x8, root, lf, rt, pa, co, lo, hi, h1, h2, h3⟩, h4, h5, h6, h7, h8, h9⟩ := h
  refine ⟨⟨x0, x1, x8, root, lf, rt, pa, co, lo, hi, h1.keep (fun a ha => hk a (Or.inr (Or.inl ha))), (hk o (Or.inl rfl)).trans h2, h3⟩, ?_, h5, h6, h7, ?_, ?_⟩
  · intro a ha
    obtain ⟨k, v, q1, q2, q3, q4, q5⟩ := h4 a ha
    exact ⟨k, v, q1, q2.keep hc, q3.keep hc, q4, q5⟩
  · intro e he; rw [hk e (Or.inr (Or.inr (Or.inl he)))]; exact h8 e he
  · intro e he; rw [hk e (Or.inr (Or.inr (Or.inr he)))]; exact h9 e he
theorem nextEntry_at {ci it i : Nat} (hci : ci = 13 ∨ ci = 15) (hV : 200 ≤ V.2.2.2.2) (h : TMx V G o N kv vv ps mc es ks l) (hit : KIx G ci it o mc N ps l.length i) (hi : i < l.length) (hb : V.1 ≤ it) (hne : it ≠ o) : wH (hF_J34_nextEntry V G nx it) (fun r G' c s => c = 0 ∧ s = 0 ∧ (∃ a, r = some a ∧ N a ∧ ps a = i) ∧ KIx G' ci it o mc N ps l.length (i + 1) ∧ ∀ b, b ≠ it → G' b = G b) := by
  obtain ⟨⟨x0, x1, x8, root, lf, rt, pa, co, lo, hi', h1, h2, h3⟩, h4, h5, h6, h7, h8, h9⟩ := h
  obtain ⟨nxt, lr, e1, e2⟩ := hit
  rcases e2 with ⟨a, rfl, aN, ap⟩ | ⟨rfl, e2⟩
  · obtain ⟨r, q1, q2⟩ := succ_at (nx := nx) h1 h3 (by omega) aN
    unfold hF_J34_nextEntry
    rcases hci with rfl | rfl
    · refine w_xR e1 rfl rfl (w_neg (by simp) (w_xR e1 rfl rfl (w_some (w_xI h2 rfl rfl (w_xI e1 rfl rfl (w_pos rfl (w_call0 q1 (w_xF e1 rfl (Nat.le_of_ble_eq_true rfl) hb rfl (w_xF (gset_eq _ _ _) rfl (Nat.le_of_ble_eq_true rfl) hb rfl (w_ret ?_)))))))))) 
      refine ⟨rfl, rfl, ⟨a, rfl, aN, ap⟩, ⟨r, some a, gset_eq _ _ _, ?_⟩, fun b hb => by rw [gset_ne _ _ hb, gset_ne _ _ hb]⟩
      rcases q2 with ⟨b, w1, w2, w3⟩ | ⟨w1, w2⟩
      · exact Or.inl ⟨b, w1, w2, by omega⟩
      · exact Or.inr ⟨w1, by omega⟩
    · refine w_xR e1 rfl rfl (w_neg (by simp) (w_xR e1 rfl rfl (w_some (w_xI h2 rfl rfl (w_xI e1 rfl rfl (w_pos rfl (w_call0 q1 (w_xF e1 rfl (Nat.le_of_ble_eq_true rfl) hb rfl (w_xF (gset_eq _ _ _) rfl (Nat.le_of_ble_eq_true rfl) hb rfl (w_ret ?_)))))))))) 
      refine ⟨rfl, rfl, ⟨a, rfl, aN, ap⟩, ⟨r, some a, gset_eq _ _ _, ?_⟩, fun b hb => by rw [gset_ne _ _ hb, gset_ne _ _ hb]⟩
      rcases q2 with ⟨b, w1, w2, w3⟩ | ⟨w1, w2⟩
      · exact Or.inl ⟨b, w1, w2, by omega⟩
      · exact Or.inr ⟨w1, by omega⟩
  · omega
theorem hasNext_at {ci it i : Nat} (hci : ci = 13 ∨ ci = 15) (hit : KIx G ci it o mc N ps n i) (hn : ∀ a, N a → ps a < n) : hF_J34_hasNext V G nx it = some (if i < n then (1 : Int32) else 0, G, 0, 0) := by
  obtain ⟨nxt, lr, e1, e2⟩ := hit
  unfold hF_J34_hasNext hB_J34_hasNext_12
  have rd : xR G it fl_TreeMap_PrivateEntryIterator_next = some nxt := by
    rcases hci with rfl | rfl <;> exact xR_at e1 rfl rfl
  rw [rd]
  rcases e2 with ⟨a, rfl, aN, ap⟩ | ⟨rfl, e2⟩
  · have := hn a aN
    rw [if_pos (show i < n by omega)]
    rfl
  · rw [if_neg (show ¬ i < n by omega)]
    rfl
theorem keyNext_at {it i : Nat} (hV : 200 ≤ V.2.2.2.2) (h : TMx V G o N kv vv ps mc es ks l) (hit : KIx G 13 it o mc N ps l.length i) {k v : Nat} (hi : l[i]? = some (k, v)) (hb : V.1 ≤ it) (hne : it ≠ o) (hN : ¬ N it) : wH (hF_J36_next V G nx it) (fun r G' c s => c = 0 ∧ s = 0 ∧ IsInt V G' r k ∧ KIx G' 13 it o mc N ps l.length (i + 1) ∧ ∀ b, b ≠ it → G' b = G b) := by
  have hlen := (List.getElem?_eq_some_iff.mp hi).1
  have hit' := hit
  obtain ⟨nxt, lr, e1, e2⟩ := hit'
  unfold hF_J36_next
  refine w_pos (gC_at e1) (w_call0' (nextEntry_at (Or.inl rfl) hV h hit hlen hb hne) ?_)
  rintro r G' ⟨⟨a, rfl, aN, ap⟩, q2, q3⟩
  obtain ⟨⟨x0, x1, x8, root, lf, rt, pa, co, lo, hi', h1, h2, h3⟩, h4, h5⟩ := h
  obtain ⟨k', v', z1, z2, z3, z4, z5⟩ := h4 a aN
  rw [ap, hi] at z1
  cases z1
  have ai : a ≠ it := fun z => hN (z ▸ aN)
  refine w_some (w_xR (r := kv a) ((q3 a ai).trans (h1 a aN).1) rfl rfl (w_ret ⟨rfl, rfl, z2.keep (fun b hb' => q3 b (by omega)), q2, q3⟩))
theorem keySet_at (h : TMx V G o N kv vv ps mc es ks l) (hold : TOld o nx N es ks) : wH (hF_J4_keySet V G nx o) (fun r G' c s => ∃ k, r = some k ∧ TMx V G' o N kv vv ps mc es (some k) l ∧ ((ks = some k ∧ c = 0 ∧ s = 0) ∨ (k = nx ∧ c = 1 ∧ s = 1)) ∧ ∀ b, b ≠ o → b ≠ nx → G' b = G b) := by
  have h0 := h
  obtain ⟨⟨x0, x1, x8, root, lf, rt, pa, co, lo, hi', h1, h2, h3⟩, h4, h5, h6, h7, h8, h9⟩ := h
  obtain ⟨o1, o2, o3, o4⟩ := hold
  unfold hF_J4_keySet hF_J4_navigableKeySet hB_J4_navigableKeySet_26
  refine w_pos (gC_at h2) ?_
  apply w_cB
  refine w_xR h2 rfl rfl ?_
  cases e : ks with
  | some k =>
    refine w_neg (by simp) (w_ret (w_ret ⟨k, rfl, ?_, Or.inl ⟨rfl, rfl, rfl⟩, fun _ _ _ => rfl⟩))
    rw [← e]; exact h0
  | none =>
    refine w_pos rfl (w_tick ?_)
    unfold hF_J43_init hF_J17_init hF_J0_init
    apply w_cB
    refine w_call0 (r := ()) (G := gset G nx (.inr (12, [.null]))) rfl ?_
    refine w_xF (gset_eq _ _ _) rfl (Nat.le_of_ble_eq_true rfl) (by omega) rfl (w_ret ?_)
    refine w_xF (a := o) (c := 10) (fs := [va_rf x0, va_rf x1, va_rf none, va_rf root, .int (nI l.length), .int mc, va_rf es, va_rf ks, va_rf x8]) ?_ rfl (Nat.le_of_ble_eq_true rfl) h6 rfl (w_ret (w_ret ?_))
    · rw [gset_ne _ _ (by omega), gset_ne _ _ (by omega)]; exact h2
    · have kk : ∀ (e1 e2 e3 : va_E) (b : Nat), b ≠ o → b ≠ nx → gset (gset (gset G nx e1) nx e2) o e3 b = G b := fun e1 e2 e3 b hb hn => by rw [gset_ne _ _ hb, gset_ne _ _ hn, gset_ne _ _ hn]
      refine ⟨nx, rfl, ⟨⟨x0, x1, x8, root, lf, rt, pa, co, lo, hi', ?_, ?_, h3⟩, ?_, h5, h6, h7, ?_, ?_⟩, Or.inr ⟨rfl, rfl, rfl⟩, kk _ _ _⟩
      · exact TNd.keep (G' := gset (gset (gset G nx _) nx _) o _) h1 (fun a ha => kk _ _ _ a (h1 a ha).2.2.1 (by have := o2 a ha; omega))
      · rw [gset_eq]; rfl
      · intro a ha
        obtain ⟨k, v, q1, q2, q3, q4, q5⟩ := h4 a ha
        exact ⟨k, v, q1, q2.keep (fun b hb => kk _ _ _ b (by omega) (by omega)), q3.keep (fun b hb => kk _ _ _ b (by omega) (by omega)), q4, q5⟩
      · intro e' he
        have w := h8 e' he
        have w3 : e' ≠ o := fun z => by subst z; rw [h2] at w; cases w.1
        rw [kk _ _ _ e' w3 (by have := o3 e' he; omega)]; exact w
      · intro e' he
        cases he
        rw [gset_ne _ _ (by omega), gset_eq]
        exact ⟨rfl, by omega⟩
theorem entrySet_at (h : TMx V G o N kv vv ps mc es ks l) (hold : TOld o nx N es ks) : wH (hF_J4_entrySet V G nx o) (fun r G' c s => ∃ k, r = some k ∧ TMx V G' o N kv vv ps mc (some k) ks l ∧ ((es = some k ∧ c = 0 ∧ s = 0) ∨ (k = nx ∧ c = 1 ∧ s = 1)) ∧ ∀ b, b ≠ o → b ≠ nx → G' b = G b) := by
  have h0 := h
  obtain ⟨⟨x0, x1, x8, root, lf, rt, pa, co, lo, hi', h1, h2, h3⟩, h4, h5, h6, h7, h8, h9⟩ := h
  obtain ⟨o1, o2, o3, o4⟩ := hold
  unfold hF_J4_entrySet hB_J4_entrySet_26
  refine w_xR h2 rfl rfl ?_
  cases e : es with
  | some k =>
    refine w_neg (by simp) (w_ret ⟨k, rfl, ?_, Or.inl ⟨rfl, rfl, rfl⟩, fun _ _ _ => rfl⟩)
    rw [← e]; exact h0
  | none =>
    refine w_pos rfl (w_tick ?_)
    unfold hF_J29_init hF_J17_init hF_J0_init
    apply w_cB
    refine w_xF (gset_eq _ _ _) rfl (Nat.le_of_ble_eq_true rfl) (by omega) rfl (w_call0 (r := ()) (G := gset (gset G nx (.inr (14, [.null]))) nx (.inr (14, [va_rf (some o)]))) rfl (w_ret ?_))
    refine w_xF (a := o) (c := 10) (fs := [va_rf x0, va_rf x1, va_rf none, va_rf root, .int (nI l.length), .int mc, va_rf es, va_rf ks, va_rf x8]) ?_ rfl (Nat.le_of_ble_eq_true rfl) h6 rfl (w_ret ?_)
    · rw [gset_ne _ _ (by omega), gset_ne _ _ (by omega)]; exact h2
    · have kk : ∀ (e1 e2 e3 : va_E) (b : Nat), b ≠ o → b ≠ nx → gset (gset (gset G nx e1) nx e2) o e3 b = G b := fun e1 e2 e3 b hb hn => by rw [gset_ne _ _ hb, gset_ne _ _ hn, gset_ne _ _ hn]
      refine ⟨nx, rfl, ⟨⟨x0, x1, x8, root, lf, rt, pa, co, lo, hi', ?_, ?_, h3⟩, ?_, h5, h6, h7, ?_, ?_⟩, Or.inr ⟨rfl, rfl, rfl⟩, kk _ _ _⟩
      · exact TNd.keep (G' := gset (gset (gset G nx _) nx _) o _) h1 (fun a ha => kk _ _ _ a (h1 a ha).2.2.1 (by have := o2 a ha; omega))
      · rw [gset_eq]; rfl
      · intro a ha
        obtain ⟨k, v, q1, q2, q3, q4, q5⟩ := h4 a ha
        exact ⟨k, v, q1, q2.keep (fun b hb => kk _ _ _ b (by omega) (by omega)), q3.keep (fun b hb => kk _ _ _ b (by omega) (by omega)), q4, q5⟩
      · intro e' he
        cases he
        rw [gset_ne _ _ (by omega), gset_eq]
        exact ⟨rfl, by omega⟩
      · intro e' he
        have w := h9 e' he
        have w3 : e' ≠ o := fun z => by subst z; rw [h2] at w; cases w.1
        rw [kk _ _ _ e' w3 (by have := o4 e' he; omega)]; exact w
theorem itInit_at {ci it : Nat} {a1 : Option Nat} (hci : ci = 13 ∨ ci = 15) (hit : G it = some (.inr (ci, [.null, .null, .int 0, .null]))) (ho : G o = some (tobj x0 x1 root sz mc es ks x8)) (hb : V.1 ≤ it) (hne : it ≠ o) : wH (hF_J34_init V G nx it (some o) a1) (fun _ G' c s => c = 0 ∧ s = 0 ∧ G' it = some (.inr (ci, [va_rf a1, va_rf none, .int mc, va_rf (some o)])) ∧ ∀ b, b ≠ it → G' b = G b) := by
  unfold hF_J34_init
  have ho' : ∀ e, gset G it e o = some (tobj x0 x1 root sz mc es ks x8) := fun e => by rw [gset_ne _ _ (Ne.symm hne)]; exact ho
  rcases hci with rfl | rfl
  · refine w_xF hit rfl (Nat.le_of_ble_eq_true rfl) hb rfl (w_some (w_xI (ho' _) rfl rfl (w_xF (gset_eq _ _ _) rfl (Nat.le_of_ble_eq_true rfl) hb rfl (w_xF (gset_eq _ _ _) rfl (Nat.le_of_ble_eq_true rfl) hb rfl (w_xF (gset_eq _ _ _) rfl (Nat.le_of_ble_eq_true rfl) hb rfl (w_ret ?_))))))
    refine ⟨rfl, rfl, gset_eq _ _ _, fun b hb => by rw [gset_ne _ _ hb, gset_ne _ _ hb, gset_ne _ _ hb, gset_ne _ _ hb]⟩
  · refine w_xF hit rfl (Nat.le_of_ble_eq_true rfl) hb rfl (w_some (w_xI (ho' _) rfl rfl (w_xF (gset_eq _ _ _) rfl (Nat.le_of_ble_eq_true rfl) hb rfl (w_xF (gset_eq _ _ _) rfl (Nat.le_of_ble_eq_true rfl) hb rfl (w_xF (gset_eq _ _ _) rfl (Nat.le_of_ble_eq_true rfl) hb rfl (w_ret ?_))))))
    refine ⟨rfl, rfl, gset_eq _ _ _, fun b hb => by rw [gset_ne _ _ hb, gset_ne _ _ hb, gset_ne _ _ hb, gset_ne _ _ hb]⟩
theorem keyIt_at {k : Nat} (hV : 200 ≤ V.2.2.2.2) (h : TMx V G o N kv vv ps mc es (some k) l) (hold : TOld o nx N es (some k)) : wH (hF_J43_iterator V G nx k) (fun r G' c s => c = 1 ∧ s = 4 ∧ r = some nx ∧ KIx G' 13 nx o mc N ps l.length 0 ∧ ∀ b, b ≠ nx → G' b = G b) := by
  obtain ⟨⟨x0, x1, x8, root, lf, rt, pa, co, lo, hi', h1, h2, h3⟩, h4, h5, h6, h7, h8, h9⟩ := h
  obtain ⟨o1, o2, o3, o4⟩ := hold
  obtain ⟨k1, k2⟩ := h9 k rfl
  have g2 : ∀ e, gset G nx e o = some (tobj x0 x1 root (nI l.length) mc es (some k) x8) := fun e => by rw [gset_ne _ _ (by omega)]; exact h2
  unfold hF_J43_iterator
  refine w_xR k1 rfl rfl (w_bind (v := (1 : Int32)) ?_ ?_)
  · show (if [10].any (gC G o) = true then some (1 : Int32) else _) = _
    rw [if_pos (by simp [gC_at h2])]
  · refine w_neg (by decide) (w_xR k1 rfl rfl (w_pos (gok_at h2 (by simp)) (w_some (w_pos (gC_at h2) ?_))))
    unfold hF_J4_keyIterator
    apply w_cB
    apply w_tick
    refine w_pos (gC_at (g2 _)) ?_
    obtain ⟨r, q1, q2⟩ := first_at (nx := nx + 1) (TNd.keep (G' := gset G nx (.inr (13, [.null, .null, .int 0, .null]))) h1 (fun a ha => gset_ne _ _ (by have := o2 a ha; omega))) (g2 _) h3 (by omega)
    refine w_call0 q1 ?_
    unfold hF_J36_init
    apply w_cB
    refine w_call0' (itInit_at (Or.inl rfl) (gset_eq _ _ _) (g2 _) (by omega) (by omega)) ?_
    rintro - G2 ⟨e1, e2⟩
    refine w_ret (w_ret (w_ret ⟨rfl, rfl, rfl, ⟨r, none, e1, ?_⟩, fun b hb => by rw [e2 b hb, gset_ne _ _ hb]⟩))
    rcases q2 with ⟨b, w1, w2, w3⟩ | ⟨w1, w2⟩
    · exact Or.inl ⟨b, w1, w2, w3⟩
    · exact Or.inr ⟨w1, w2.symm⟩
theorem entryIt_at {k : Nat} (hV : 200 ≤ V.2.2.2.2) (h : TMx V G o N kv vv ps mc (some k) ks l) (hold : TOld o nx N (some k) ks) : wH (hF_J29_iterator V G nx k) (fun r G' c s => c = 1 ∧ s = 4 ∧ r = some nx ∧ KIx G' 15 nx o mc N ps l.length 0 ∧ ∀ b, b ≠ nx → G' b = G b) := by
  obtain ⟨⟨x0, x1, x8, root, lf, rt, pa, co, lo, hi', h1, h2, h3⟩, h4, h5, h6, h7, h8, h9⟩ := h
  obtain ⟨o1, o2, o3, o4⟩ := hold
  obtain ⟨k1, k2⟩ := h8 k rfl
  have g2 : ∀ e, gset G nx e o = some (tobj x0 x1 root (nI l.length) mc (some k) ks x8) := fun e => by rw [gset_ne _ _ (by omega)]; exact h2
  have g1 : ∀ e, gset G nx e k = some (.inr (14, [va_rf (some o)])) := fun e => by rw [gset_ne _ _ (by have := o3 k rfl; omega)]; exact k1
  unfold hF_J29_iterator
  refine w_tick (w_xR (g1 _) rfl rfl (w_xR (g1 _) rfl rfl (w_some (w_pos (gC_at (g2 _)) ?_))))
  obtain ⟨r, q1, q2⟩ := first_at (nx := nx + 1) (TNd.keep (G' := gset G nx (.inr (15, [.null, .null, .int 0, .null]))) h1 (fun a ha => gset_ne _ _ (by have := o2 a ha; omega))) (g2 _) h3 (by omega)
  refine w_call0 q1 ?_
  unfold hF_J35_init
  apply w_cB
  refine w_call0' (itInit_at (Or.inr rfl) (gset_eq _ _ _) (g2 _) (by omega) (by omega)) ?_
  rintro - G2 ⟨e1, e2⟩
  refine w_ret (w_ret ⟨rfl, rfl, rfl, ⟨r, none, e1, ?_⟩, fun b hb => by rw [e2 b hb, gset_ne _ _ hb]⟩)
  rcases q2 with ⟨b, w1, w2, w3⟩ | ⟨w1, w2⟩
  · exact Or.inl ⟨b, w1, w2, w3⟩
  · exact Or.inr ⟨w1, w2.symm⟩
end T

/-! PURE 13: TreeMap.buildFromSorted, putAll -/
def rng (z A B : Nat) : Nat → Prop := fun a => z + A ≤ a ∧ a < z + B
/-- a subtree on the places A .. B -/
def ShpI (N : Nat → Prop) (A B : Nat) (root : Option Nat) (lf rt pa : Nat → Option Nat) (ps lo hi : Nat → Nat) : Prop :=
  (∀ a, N a → A ≤ lo a ∧ lo a ≤ ps a ∧ ps a < hi a ∧ hi a ≤ B) ∧
  (∀ r, root = some r → N r ∧ lo r = A ∧ hi r = B ∧ pa r = none) ∧
  (root = none → A = B) ∧
  (∀ a, N a → lf a = none → lo a = ps a) ∧
  (∀ a b, N a → lf a = some b → N b ∧ pa b = some a ∧ lo b = lo a ∧ hi b = ps a) ∧
  (∀ a, N a → rt a = none → hi a = ps a + 1) ∧
  (∀ a b, N a → rt a = some b → N b ∧ pa b = some a ∧ lo b = ps a + 1 ∧ hi b = hi a) ∧
  (∀ a b, N a → pa a = some b → N b ∧ (lf b = some a ∨ rt b = some a)) ∧
  (∀ a, N a → pa a = none → root = some a)
theorem ShpI.join {N N1 N2 : Nat → Prop} {x A m B : Nat} {rL rR : Option Nat} {lf rt pa lf1 rt1 pa1 lf2 rt2 pa2 : Nat → Option Nat} {ps lo hi lo1 hi1 lo2 hi2 : Nat → Nat} (hm : A ≤ m) (hB : m < B) (h1 : ShpI N1 A m rL lf1 rt1 pa1 ps lo1 hi1) (h2 : ShpI N2 (m + 1) B rR lf2 rt2 pa2 ps lo2 hi2) (hN : ∀ a, N a ↔ (N1 a ∨ a = x ∨ N2 a)) (x1 : ¬ N1 x) (x2 : ¬ N2 x) (hd : ∀ a, N1 a → ¬ N2 a) (px : ps x = m)
    (f1 : ∀ a, N1 a → lf a = lf1 a ∧ rt a = rt1 a ∧ lo a = lo1 a ∧ hi a = hi1 a ∧ (rL = some a → pa a = some x) ∧ (¬ rL = some a → pa a = pa1 a)) (f2 : ∀ a, N2 a → lf a = lf2 a ∧ rt a = rt2 a ∧ lo a = lo2 a ∧ hi a = hi2 a ∧ (rR = some a → pa a = some x) ∧ (¬ rR = some a → pa a = pa2 a))
    (g1 : lf x = rL) (g2 : rt x = rR) (g3 : pa x = none) (g4 : lo x = A) (g5 : hi x = B) :
    ShpI N A B (some x) lf rt pa ps lo hi := by
  obtain ⟨a1, a2, a3, a4, a5, a6, a7, a8, a9⟩ := h1
  obtain ⟨b1, b2, b3, b4, b5, b6, b7, b8, b9⟩ := h2
  refine ⟨?_, ?_, ?_, ?_, ?_, ?_, ?_, ?_, ?_⟩
  · grind (splits := 24)
  · grind (splits := 24)
  · grind (splits := 24)
  · grind (splits := 24)
  · grind (splits := 24)
  · grind (splits := 24)
  · grind (splits := 24)
  · grind (splits := 24)
  · grind (splits := 24)
theorem ShpI.top {z n : Nat} {root : Option Nat} {lf rt pa : Nat → Option Nat} {lo hi : Nat → Nat} (h : ShpI (rng z 0 n) 0 n root lf rt pa (fun a => a - z) lo hi) : Shp (rng z 0 n) n root lf rt pa (fun a => a - z) lo hi := by
  obtain ⟨a1, a2, a3, a4, a5, a6, a7, a8, a9⟩ := h
  refine ⟨fun a ha => (a1 a ha).2, ?_, ?_, a2, fun e => (a3 e).symm, a4, a5, a6, a7, a8, a9⟩
  · intro a b ha hb e; simp only [rng] at ha hb; simp only at e; omega
  · intro i hi; exact ⟨z + i, by simp only [rng]; omega, by simp only; omega⟩
theorem mid_at : ∀ k, k < 256 → ((nI k).toUInt32 >>> ((1 : Int32).toUInt32 &&& Int32.toUInt32 31)).toInt32 = nI (k / 2) := by decide +kernel
section T
variable {V : HEn} {o o2 it z : Nat} {N2 : Nat → Prop} {kv2 vv2 : Nat → Option Nat} {ps2 : Nat → Nat} {mc2 : Int32} {es2 ks2 : Option Nat} {l : List (Nat × Nat)}
theorem build_at {fo : List Value} {rd : Int32} (hV : 200 ≤ V.2.2.2.2) (hz : TOld o2 z N2 es2 ks2) (hitz : it < z) (hoz : o < z) (hio : it ≠ o) (hi2 : it ≠ o2) (hiN : ¬ N2 it) (hie : ¬ es2 = some it) (hik : ¬ ks2 = some it) (hib : V.1 ≤ it) (hzb : V.1 ≤ z) (hl : l.length ≤ 100) :
    ∀ (f A B nx : Nat) (G : Gh) (lv : Int32), A < B → B ≤ l.length → B - A < 2 ^ f → nx = z + A → G o = some (.inr (10, fo)) → TMx V G o2 N2 kv2 vv2 ps2 mc2 es2 ks2 l → KIx G 15 it o2 mc2 N2 ps2 l.length A →
    wH (hF_J4_buildFromSorted_2 V f G nx o lv (nI A) (nI (B - 1)) rd (some it) none none) (fun r G' c s => c = B - A ∧ s = 6 * (B - A) ∧ (∃ lf rt pa co lo hi kv vv, TNd V G' o (rng z A B) lf rt pa co kv vv ∧ ShpI (rng z A B) A B r lf rt pa (fun a => a - z) lo hi ∧ Hold V G' (rng z A B) kv vv (fun a => a - z) l) ∧ KIx G' 15 it o2 mc2 N2 ps2 l.length B ∧ ∀ b, b ≠ it → b < z + A → G' b = G b) := by
  intro f
  induction f with
  | zero => intro A B nx G lv h1 h2 h3; simp at h3; omega
  | succ f ih =>
    intro A B nx G lv h1 h2 h3 h4 h5 h6 h7
    subst h4
    obtain ⟨m, hm⟩ : ∃ m, m = (A + (B - 1)) / 2 := ⟨_, rfl⟩
    have mA : A ≤ m := by omega
    have mB : m < B := by omega
    have p2 : 2 ^ (f + 1) = 2 * 2 ^ f := by rw [Nat.pow_succ]; omega
    rw [hF_J4_buildFromSorted_2]
    refine w_pos (nI_le (by omega) (by omega)) (w_nmv ?_)
    rw [nI_add, mid_at _ (by omega), ← hm]
    -- the middle and the right, once the left is there
    have hK : ∀ (G1 : Gh) (nx rL : _), nx = z + m → G1 o = some (.inr (10, fo)) → TMx V G1 o2 N2 kv2 vv2 ps2 mc2 es2 ks2 l → KIx G1 15 it o2 mc2 N2 ps2 l.length m → (∀ b, b ≠ it → b < z + A → G1 b = G b) → (∃ lf rt pa co lo hi kv vv, TNd V G1 o (rng z A m) lf rt pa co kv vv ∧ ShpI (rng z A m) A m rL lf rt pa (fun a => a - z) lo hi ∧ Hold V G1 (rng z A m) kv vv (fun a => a - z) l) →
        wH (hB_J4_buildFromSorted_2_45 V (hF_J4_buildFromSorted_2 V f) o G1 nx lv (nI (B - 1)) rd (some it) none none (nI m) rL) (fun r G' c s => c = B - m ∧ s = 6 * (B - m) ∧ (∃ lf rt pa co lo hi kv vv, TNd V G' o (rng z A B) lf rt pa co kv vv ∧ ShpI (rng z A B) A B r lf rt pa (fun a => a - z) lo hi ∧ Hold V G' (rng z A B) kv vv (fun a => a - z) l) ∧ KIx G' 15 it o2 mc2 N2 ps2 l.length B ∧ ∀ b, b ≠ it → b < z + A → G' b = G b) := by
      intro G1 nx rL e0 e1 e2 e3 e4 e5
      subst e0
      obtain ⟨lf1, rt1, pa1, co1, lo1, hi1, kv1, vv1, t1, t2, t3⟩ := e5
      unfold hB_J4_buildFromSorted_2_45
      refine w_neg (by simp) (w_pos rfl (w_some ?_))
      have e3' := e3
      obtain ⟨nxt, lr, i1, -⟩ := e3'
      refine w_pos (gC_at i1) (w_call0' (P := fun r G' => (∃ a, r = some a ∧ N2 a ∧ ps2 a = m) ∧ KIx G' 15 it o2 mc2 N2 ps2 l.length (m + 1) ∧ ∀ b, b ≠ it → G' b = G1 b) ?_ ?_)
      · unfold hF_J35_next hF_J35_next_2
        refine w_pos (gC_at i1) ?_
        apply w_cB
        refine w_pos (gC_at i1) ?_
        refine w_call0' (nextEntry_at (Or.inr rfl) hV e2 e3 (by omega) hib hi2) ?_
        rintro r G' q
        exact w_ret (w_ret ⟨rfl, rfl, q⟩)
      · rintro r G2 ⟨⟨ae, rfl, aN, ap⟩, k2, k3⟩
        have hne : ae ≠ it := fun z => hiN (z ▸ aN)
        have e2' : TMx V G2 o2 N2 kv2 vv2 ps2 mc2 es2 ks2 l := e2.keep (fun b hb => k3 b (by
          intro w; subst w
          rcases hb with w | w | w | w
          · exact hi2 w
          · exact hiN w
          · exact hie w
          · exact hik w)) (fun b hb => k3 b (by omega))
        have e2'' := e2'
        obtain ⟨⟨x0, x1, x8, root, lf, rt, pa, co, lo, hi', g1, g2, g3⟩, g4, g5⟩ := e2''
        have ga := (g1 ae aN).1
        obtain ⟨k, v, w1, w2, w3, w4, w5⟩ := g4 ae aN
        refine w_pos (gok_at ga (by simp)) (w_some (w_pos (gC_at ga) ?_))
        refine w_call0 (r := kv2 ae) (G := G2) (by unfold hF_J38_getKey; rw [xR_at (r := kv2 ae) ga rfl rfl]; rfl) (w_pos (gC_at ga) ?_)
        refine w_call0 (r := vv2 ae) (G := G2) (by unfold hF_J38_getValue; rw [xR_at (r := vv2 ae) ga rfl rfl]; rfl) ?_
        show wH (hB_J4_buildFromSorted_2_128 V (hF_J4_buildFromSorted_2 V f) o G2 (z + m) lv (nI (B - 1)) rd (some it) none none (nI m) rL (kv2 ae) (vv2 ae)) _
        unfold hB_J4_buildFromSorted_2_128
        refine w_tick (w_call (entry_init (gset_eq _ _ _) (by omega)) ?_)
        rintro - G3 c s ⟨rfl, rfl, j1, j2⟩
        have k4 : ∀ b, b ≠ z + m → G3 b = G2 b := fun b hb => by rw [j2 b hb, gset_ne _ _ hb]
        -- right part, end
        have hR : ∀ (G4 : Gh) (cx : Int32) , (cx = 0 ∨ cx = 1) → G4 (z + m) = some (.inr (11, [va_rf (kv2 ae), va_rf (vv2 ae), va_rf none, va_rf none, va_rf none, .int cx])) → (∀ b, b ≠ z + m → G4 b = G2 b) → wH (hB_J4_buildFromSorted_2_154 V (hF_J4_buildFromSorted_2 V f) o G4 (z + m + 1 + 0) lv (nI (B - 1)) rd (some it) none none (nI m) rL (some (z + m))) (fun r G' c s => 1 + (0 + c) = B - m ∧ 6 + (0 + s) = 6 * (B - m) ∧ (∃ lf rt pa co lo hi kv vv, TNd V G' o (rng z A B) lf rt pa co kv vv ∧ ShpI (rng z A B) A B r lf rt pa (fun a => a - z) lo hi ∧ Hold V G' (rng z A B) kv vv (fun a => a - z) l) ∧ KIx G' 15 it o2 mc2 N2 ps2 l.length B ∧ ∀ b, b ≠ it → b < z + A → G' b = G b) := by
          intro G4 cx hcx y1 y2
          have it4 : G4 it = G2 it := y2 it (by omega)
          have k41 : ∀ b, b ≠ it → b ≠ z + m → G4 b = G1 b := fun b hb hbx => by rw [y2 b hbx, k3 b hb]
          have tU : TNd V G4 o (fun a => rng z A m a ∨ a = z + m) (fun a => if a = z + m then none else lf1 a) (fun a => if a = z + m then none else rt1 a) (fun a => if a = z + m then none else pa1 a) (fun a => if a = z + m then cx else co1 a) (fun a => if a = z + m then kv2 ae else kv1 a) (fun a => if a = z + m then vv2 ae else vv1 a) := by
            intro b hb
            by_cases e : b = z + m
            · subst e; simp only [if_true]; exact ⟨y1, by omega, by omega, hcx⟩
            · simp only [if_neg e]
              have hb' : rng z A m b := by rcases hb with hb | hb; exact hb; exact absurd hb e
              rw [k41 b (by simp only [rng] at hb'; omega) e]
              exact t1 b hb'
          have hU : Hold V G4 (fun a => rng z A m a ∨ a = z + m) (fun a => if a = z + m then kv2 ae else kv1 a) (fun a => if a = z + m then vv2 ae else vv1 a) (fun a => a - z) l := by
            intro b hb
            by_cases e : b = z + m
            · subst e
              refine ⟨k, v, ?_, ?_, ?_, w4, w5⟩
              · show l[z + m - z]? = _; rw [Nat.add_sub_cancel_left, ← ap]; exact w1
              · simp only [if_true]; exact w2.keep (fun c hc => y2 c (by omega))
              · simp only [if_true]; exact w3.keep (fun c hc => y2 c (by omega))
            · have hb' : rng z A m b := by rcases hb with hb | hb; exact hb; exact absurd hb e
              obtain ⟨k', v', u1, u2, u3, u4, u5⟩ := t3 b hb'
              refine ⟨k', v', u1, ?_, ?_, u4, u5⟩
              · simp only [if_neg e]; exact u2.keep (fun c hc => k41 c (by omega) (by omega))
              · simp only [if_neg e]; exact u3.keep (fun c hc => k41 c (by omega) (by omega))
          have T173 : ∀ (G5 : Gh) (lf5 rt5 pa5 : Nat → Option Nat), TNd V G5 o (fun a => rng z A m a ∨ a = z + m) lf5 rt5 pa5 (fun a => if a = z + m then cx else co1 a) (fun a => if a = z + m then kv2 ae else kv1 a) (fun a => if a = z + m then vv2 ae else vv1 a) → lf5 (z + m) = rL → rt5 (z + m) = none → pa5 (z + m) = none → (∀ a, rng z A m a → lf5 a = lf1 a ∧ rt5 a = rt1 a ∧ (rL = some a → pa5 a = some (z + m)) ∧ (¬ rL = some a → pa5 a = pa1 a)) → (∀ b, ¬ (rng z A m b ∨ b = z + m) → G5 b = G4 b) →
              wH (hB_J4_buildFromSorted_2_173 V (hF_J4_buildFromSorted_2 V f) o G5 (z + m + 1 + 0) lv (nI (B - 1)) rd (some it) none none (nI m) (some (z + m))) (fun r G' c s => 1 + (0 + c) = B - m ∧ 6 + (0 + s) = 6 * (B - m) ∧ (∃ lf rt pa co lo hi kv vv, TNd V G' o (rng z A B) lf rt pa co kv vv ∧ ShpI (rng z A B) A B r lf rt pa (fun a => a - z) lo hi ∧ Hold V G' (rng z A B) kv vv (fun a => a - z) l) ∧ KIx G' 15 it o2 mc2 N2 ps2 l.length B ∧ ∀ b, b ≠ it → b < z + A → G' b = G b) := by
            intro G5 lf5 rt5 pa5 u1 u2 u3 u4 u5 u6
            have nU : ∀ b, b < z + A → ¬ (rng z A m b ∨ b = z + m) := fun b hb w => by
              rcases w with w | w
              · simp only [rng] at w; omega
              · omega
            have it5 : G5 it = G2 it := by rw [u6 it (nU it (by omega)), it4]
            have k5 : ∀ b, b ≠ it → b < z + A → G5 b = G b := fun b hb hb2 => by rw [u6 b (nU b hb2), k41 b hb (by omega)]; exact e4 b hb hb2
            have h5U : Hold V G5 (fun a => rng z A m a ∨ a = z + m) (fun a => if a = z + m then kv2 ae else kv1 a) (fun a => if a = z + m then vv2 ae else vv1 a) (fun a => a - z) l := by
              intro b hb
              obtain ⟨k', v', q1, q2, q3, q4, q5⟩ := hU b hb
              exact ⟨k', v', q1, q2.keep (fun c hc => u6 c (nU c (by omega))), q3.keep (fun c hc => u6 c (nU c (by omega))), q4, q5⟩
            unfold hB_J4_buildFromSorted_2_173 hB_J4_buildFromSorted_2_215
            by_cases c1 : B - 1 ≤ m
            · have Bm : B = m + 1 := by omega
              subst Bm
              refine w_pos (nI_le c1 (by omega)) (w_ret ⟨by omega, by omega, ?_, ?_, k5⟩)
              · have eqv : ∀ a, rng z A (m + 1) a ↔ (rng z A m a ∨ a = z + m) := fun a => by simp only [rng]; omega
                refine ⟨lf5, rt5, pa5, _, fun a => if a = z + m then A else lo1 a, fun a => if a = z + m then m + 1 else hi1 a, _, _, u1.sub (fun a ha => (eqv a).mp ha), ?_, fun a ha => h5U a ((eqv a).mp ha)⟩
                have nn : ∀ a, ¬ rng z (m + 1) (m + 1) a := fun a ha => by simp only [rng] at ha; omega
                refine ShpI.join (N2 := rng z (m + 1) (m + 1)) (rR := none) (lf2 := fun _ => none) (rt2 := fun _ => none) (pa2 := fun _ => none) (lo2 := fun _ => 0) (hi2 := fun _ => 0) mA (by omega) t2 ⟨fun a ha => absurd ha (nn a), fun r e => (by cases e), fun _ => rfl, fun a ha => absurd ha (nn a), fun a b ha => absurd ha (nn a), fun a ha => absurd ha (nn a), fun a b ha => absurd ha (nn a), fun a b ha => absurd ha (nn a), fun a ha => absurd ha (nn a)⟩ ?_ ?_ (nn _) (fun a _ => nn a) (Nat.add_sub_cancel_left _ _) ?_ (fun a ha => absurd ha (nn a)) u2 u3 u4 (by simp) (by simp)
                · intro a; rw [eqv a]; constructor
                  · rintro (w | w)
                    · exact Or.inl w
                    · exact Or.inr (Or.inl w)
                  · rintro (w | w | w)
                    · exact Or.inl w
                    · exact Or.inr w
                    · exact absurd w (nn a)
                · simp only [rng]; omega
                · intro a ha
                  have ne : a ≠ z + m := by simp only [rng] at ha; omega
                  obtain ⟨q1, q2, q3, q4⟩ := u5 a ha
                  exact ⟨q1, q2, by simp [ne], by simp [ne], q3, q4⟩
              · obtain ⟨nxt', lr', i3, i4⟩ := k2
                exact ⟨nxt', lr', by rw [it5]; exact i3, i4⟩
            · refine w_neg (nI_ge (by omega) (by omega)) ?_
              obtain ⟨z1, z2, z3, z4⟩ := hz
              have ho5 : G5 o = some (.inr (10, fo)) := by rw [u6 o (nU o (by omega)), k41 o (Ne.symm hio) (by omega)]; exact e1
              have tm5 : TMx V G5 o2 N2 kv2 vv2 ps2 mc2 es2 ks2 l := by
                refine e2'.keep (fun b hb => ?_) (fun b hb => ?_)
                · have : b < z := by
                    rcases hb with w | w | w | w
                    · omega
                    · exact z2 b w
                    · exact z3 b w
                    · exact z4 b w
                  rw [u6 b (nU b (by omega)), y2 b (by omega)]
                · rw [u6 b (nU b (by omega)), y2 b (by omega)]
              have ki5 : KIx G5 15 it o2 mc2 N2 ps2 l.length (m + 1) := by
                obtain ⟨nxt', lr', i3, i4⟩ := k2
                exact ⟨nxt', lr', by rw [it5]; exact i3, i4⟩
              refine w_pos (gC_at ho5) ?_
              rw [nI_1]
              refine w_call (ih (m + 1) B (z + m + 1 + 0) G5 (lv + 1) (by omega) h2 (by omega) (by omega) ho5 tm5 ki5) ?_
              rintro rR G6 c s ⟨rfl, rfl, ⟨lf2, rt2, pa2, co2, lo2, hi2', kv3, vv3, v1, v2, v3⟩, v4, v5⟩
              obtain ⟨b2, hb2⟩ : ∃ b, rR = some b := by
                cases e : rR with
                | none => have := v2.2.2.1 e; omega
                | some b => exact ⟨b, rfl⟩
              subst hb2
              have b2N := (v2.2.1 b2 rfl).1
              have eqv : ∀ a, rng z A B a ↔ (rng z A m a ∨ a = z + m ∨ rng z (m + 1) B a) := fun a => by simp only [rng]; omega
              have tA : TNd V G6 o (rng z A B) (fun a => if a ≤ z + m then lf5 a else lf2 a) (fun a => if a ≤ z + m then rt5 a else rt2 a) (fun a => if a ≤ z + m then pa5 a else pa2 a) (fun a => if a ≤ z + m then (if a = z + m then cx else co1 a) else co2 a) (fun a => if a ≤ z + m then (if a = z + m then kv2 ae else kv1 a) else kv3 a) (fun a => if a ≤ z + m then (if a = z + m then vv2 ae else vv1 a) else vv3 a) := by
                intro b hb
                by_cases e : b ≤ z + m
                · simp only [if_pos e]
                  have : rng z A m b ∨ b = z + m := by simp only [rng] at hb ⊢; omega
                  rw [v5 b (by simp only [rng] at hb; omega) (by omega)]
                  exact u1 b this
                · simp only [if_neg e]
                  exact v1 b (by simp only [rng] at hb ⊢; omega)
              have xN : rng z A B (z + m) := by simp only [rng]; omega
              have b2A : rng z A B b2 := by simp only [rng] at b2N ⊢; omega
              refine w_some (w_tsR tA xN ?_)
              intro G7 s1 s2
              refine w_some (w_tsP s1 b2A ?_)
              intro G8 s3 s4
              have kA : ∀ b, ¬ rng z A B b → G8 b = G6 b := fun b hb => by rw [s4 b (fun e => hb (e ▸ b2A)), s2 b (fun e => hb (e ▸ xN))]
              refine w_ret ⟨by omega, by omega, ⟨_, _, _, _, fun a => if a = z + m then A else if a < z + m then lo1 a else lo2 a, fun a => if a = z + m then B else if a < z + m then hi1 a else hi2' a, _, _, s3, ?_, ?_⟩, ?_, ?_⟩
              · refine ShpI.join mA mB t2 v2 eqv (by simp only [rng]; omega) (by simp only [rng]; omega) (fun a h1 h2 => by simp only [rng] at h1 h2; omega) (Nat.add_sub_cancel_left _ _) ?_ ?_ ?_ ?_ ?_ ?_ ?_
                · intro a ha
                  have ne : a < z + m := by simp only [rng] at ha; omega
                  obtain ⟨q1, q2, q3, q4⟩ := u5 a ha
                  have nb : a ≠ b2 := by simp only [rng] at b2N; omega
                  have nx' : a ≠ z + m := by omega
                  refine ⟨by simp only [if_pos (Nat.le_of_lt ne)]; exact q1, by rw [up_ne _ _ nx']; simp only [if_pos (Nat.le_of_lt ne)]; exact q2, by simp only [if_neg nx', if_pos ne], by simp only [if_neg nx', if_pos ne], fun w => by rw [up_ne _ _ nb]; simp only [if_pos (Nat.le_of_lt ne)]; exact q3 w, fun w => by rw [up_ne _ _ nb]; simp only [if_pos (Nat.le_of_lt ne)]; exact q4 w⟩
                · intro a ha
                  have ne : ¬ a ≤ z + m := by simp only [rng] at ha; omega
                  have nx' : a ≠ z + m := by omega
                  have nl : ¬ a < z + m := by omega
                  refine ⟨by simp only [if_neg ne], by rw [up_ne _ _ nx']; simp only [if_neg ne], by simp only [if_neg nx', if_neg nl], by simp only [if_neg nx', if_neg nl], fun w => by cases w; rw [up_eq], fun w => by rw [up_ne _ _ (fun e => w (by rw [e]))]; simp only [if_neg ne]⟩
                · simp only [if_pos (Nat.le_refl _)]; exact u2
                · rw [up_eq]
                · rw [up_ne _ _ (by simp only [rng] at b2N; omega)]; simp only [if_pos (Nat.le_refl _)]; exact u4
                · simp
                · simp
              · intro b hb
                by_cases e : b ≤ z + m
                · simp only [if_pos e]
                  obtain ⟨k', v', q1, q2, q3, q4, q5⟩ := h5U b (by simp only [rng] at hb ⊢; omega)
                  exact ⟨k', v', q1, q2.keep (fun c hc => by rw [kA c (by simp only [rng]; omega), v5 c (by omega) (by omega)]), q3.keep (fun c hc => by rw [kA c (by simp only [rng]; omega), v5 c (by omega) (by omega)]), q4, q5⟩
                · simp only [if_neg e]
                  obtain ⟨k', v', q1, q2, q3, q4, q5⟩ := v3 b (by simp only [rng] at hb ⊢; omega)
                  exact ⟨k', v', q1, q2.keep (fun c hc => kA c (by simp only [rng]; omega)), q3.keep (fun c hc => kA c (by simp only [rng]; omega)), q4, q5⟩
              · obtain ⟨nxt', lr', i3, i4⟩ := v4
                exact ⟨nxt', lr', by rw [kA it (by simp only [rng]; omega)]; exact i3, i4⟩
              · intro b hb hb2
                rw [kA b (by simp only [rng]; omega), v5 b hb (by omega)]
                exact k5 b hb hb2
          unfold hB_J4_buildFromSorted_2_154
          cases eL : rL with
          | none =>
            refine w_pos rfl ?_
            rw [eL] at T173
            refine T173 G4 _ _ _ tU (by simp) (by simp) (by simp) ?_ (fun _ _ => rfl)
            intro b hb
            have ne : b ≠ z + m := by simp only [rng] at hb; omega
            exact ⟨by simp [ne], by simp [ne], fun w => (by cases w), fun _ => by simp [ne]⟩
          | some b1 =>
            have b1N := (t2.2.1 b1 eL).1
            have b1x : b1 ≠ z + m := by simp only [rng] at b1N; omega
            refine w_neg (by simp) (w_some (w_tsL tU (Or.inr rfl) ?_))
            intro G5 s1 s2
            refine w_some (w_tsP s1 (Or.inl b1N) ?_)
            intro G6 s3 s4
            rw [eL] at T173
            refine T173 G6 _ _ _ s3 (by rw [up_eq]) (by simp) (by rw [up_ne _ _ (Ne.symm b1x)]; simp) ?_ ?_
            · intro b hb
              have ne : b ≠ z + m := by simp only [rng] at hb; omega
              refine ⟨by rw [up_ne _ _ ne]; simp [ne], by simp [ne], fun w => by cases w; rw [up_eq], fun w => by rw [up_ne _ _ (fun e => w (by rw [e]))]; simp [ne]⟩
            · intro b hb
              rw [s4 b (fun e => hb (Or.inl (e ▸ b1N))), s2 b (fun e => hb (Or.inr e))]
        refine w_if (fun c1 => ?_) (fun c1 => hR G3 1 (Or.inr rfl) j1 k4)
        refine w_xF j1 rfl (Nat.le_of_ble_eq_true rfl) (by omega) rfl ?_
        exact hR _ 0 (Or.inl rfl) (gset_eq _ _ _) (fun b hb => by rw [gset_ne _ _ hb]; exact k4 b hb)
    by_cases c : m ≤ A
    · have : m = A := by omega
      subst this
      refine w_pos (nI_le (by omega) (by omega)) ?_
      refine w_mono (hK G _ none rfl h5 h6 h7 (fun _ _ _ => rfl) ⟨fun _ => none, fun _ => none, fun _ => none, fun _ => 0, fun _ => 0, fun _ => 0, fun _ => none, fun _ => none, ?_, ?_, ?_⟩) (fun r G' c s q => q)
      · intro a ha; simp only [rng] at ha; omega
      · have nn : ∀ a, ¬ rng z m m a := fun a ha => by simp only [rng] at ha; omega
        exact ⟨fun a ha => absurd ha (nn a), fun r e => (by cases e), fun _ => rfl, fun a ha => absurd ha (nn a), fun a b ha => absurd ha (nn a), fun a ha => absurd ha (nn a), fun a b ha => absurd ha (nn a), fun a b ha => absurd ha (nn a), fun a ha => absurd ha (nn a)⟩
      · intro a ha; simp only [rng] at ha; omega
    · refine w_neg (nI_ge (by omega) (by omega)) (w_pos (gC_at h5) ?_)
      rw [show nI m - 1 = nI (m - 1) from nI_sub (a := m) (b := 1) (by omega)]
      refine w_call (ih A m (z + A) G (lv + 1) (by omega) (by omega) (by omega) rfl h5 h6 h7) ?_
      rintro rL G1 c s ⟨rfl, rfl, q1, q2, q3⟩
      obtain ⟨o1, o22, o3, o4⟩ := hz
      refine w_mono (hK G1 _ rL (by omega) ?_ ?_ q2 q3 q1) ?_
      · rw [q3 o (Ne.symm hio) (by omega)]; exact h5
      · refine h6.keep (fun b hb => ?_) (fun b hb => q3 b (by omega) (by omega))
        rcases hb with w | w | w | w
        · subst w; exact q3 _ (Ne.symm hi2) (by omega)
        · exact q3 b (fun e => hiN (e ▸ w)) (by have := o22 b w; omega)
        · exact q3 b (fun e => hie (e ▸ w)) (by have := o3 b w; omega)
        · exact q3 b (fun e => hik (e ▸ w)) (by have := o4 b w; omega)
      · rintro r G' c s ⟨z1, z2, z3, z4, z5⟩
        exact ⟨by omega, by omega, z3, z4, z5⟩
end T

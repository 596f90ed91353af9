/-! PURE 28: HashMap.TreeNode.balanceInsertion (printed by tn2.py) -/
abbrev BalQ (V : HEn) (G : Gh) (N : Nat → Prop) (n : Nat) (D : Nat → Int32 × Option Nat × Option Nat) (nxt pv : Nat → Option Nat) (ps : Nat → Nat) : Option Nat → Gh → Nat → Nat → Prop := fun q G' c s => c = 0 ∧ s = 0 ∧ (∃ lf' rt' pa' rd' lo' hi', UNd V G' N D nxt pv lf' rt' pa' rd' ∧ Shp N n q lf' rt' pa' ps lo' hi') ∧ ∀ b, ¬ N b → G' b = G b
section U
variable {V : HEn} {n : Nat} {N : Nat → Prop} {D : Nat → Int32 × Option Nat × Option Nat} {nxt pv : Nat → Option Nat} {ps : Nat → Nat}
theorem BalQ.trans {G G1 : Gh} {q : Option Nat} {G' : Gh} {c s : Nat} (h : BalQ V G1 N n D nxt pv ps q G' c s) (hf : ∀ b, ¬ N b → G1 b = G b) : BalQ V G N n D nxt pv ps q G' c s := ⟨h.1, h.2.1, h.2.2.1, fun b hb => (h.2.2.2 b hb).trans (hf b hb)⟩
theorem bal_stop {G : Gh} {nx x q m : Nat} {root : Option Nat} {lf rt pa : Nat → Option Nat} {rd : Nat → Int32} (h : UNd V G N D nxt pv lf rt pa rd) (hx : N x) (hq : N q) (hp : pa x = some q) (hr : rd q = 0) : hL_J42_balanceInsertion_5 V (m + 1) G nx root (some x) = some (root, G, 0, 0) := by
  have hw : wH (hL_J42_balanceInsertion_5 V (m + 1) G nx root (some x)) (fun r G' c s => r = root ∧ G' = G ∧ c = 0 ∧ s = 0) := by
    rw [hL_J42_balanceInsertion_5]
    refine w_some (w_uP h hx ?_)
    rw [hp]
    refine w_neg (by simp) (w_some (w_uC h hq ?_))
    unfold hB_J42_balanceInsertion_37
    exact w_pos hr (w_ret ⟨rfl, rfl, rfl, rfl⟩)
  obtain ⟨r, G', c, s, e, rfl, rfl, rfl, rfl⟩ := hw
  exact e
theorem bal_123 {G : Gh} {nx x q g m : Nat} {root : Option Nat} {lf rt pa : Nat → Option Nat} {rd : Nat → Int32} {lo hi : Nat → Nat} (h : UNd V G N D nxt pv lf rt pa rd) (hs : Shp N n root lf rt pa ps lo hi) (hg : N g) (h1 : lf g = some q) (h2 : lf q = some x) :
    wH (hB_J42_balanceInsertion_123 V (hL_J42_balanceInsertion_5 V (m + 1)) G nx root (some x) (some q) (some g)) (BalQ V G N n D nxt pv ps) := by
  obtain ⟨a1, a2, a3, a4, a5, a6, a7⟩ := hs.ne' hg h1
  obtain ⟨b1, b2, b3, b4, b5, b6, b7⟩ := hs.ne' a1 h2
  have hsR := hs.rotR hg h1
  have ex : ∀ (hh : ¬ rt q = some x) (xg : x ≠ g), rrP rt pa g q x = some q := by
    intro hh xg
    unfold rrP
    rw [if_neg xg, if_neg b2, if_neg hh]; exact b3
  have x1 : ¬ rt q = some x := by
    intro z
    have := (a7 x z).2.2.2.2
    have c1 := hs.1 x b1
    have c2 := hs.1 q a1
    omega
  have x2 : x ≠ g := by
    intro z; subst z
    have c1 := hs.1 x b1
    have c2 := hs.1 q a1
    omega
  unfold hB_J42_balanceInsertion_123
  refine w_neg (by simp) (w_some (w_usC h a1 ?_))
  intro G1 t1 k1
  refine w_neg (by simp) (w_some (w_usC t1 hg ?_))
  intro G2 t2 k2
  refine w_call0' (P := fun r G' => r = rlT root pa g q ∧ (∃ rd', UNd V G' N D nxt pv (rrL lf rt pa g q) (rrR rt pa g q) (rrP rt pa g q) rd' ∧ ∀ a, rd' a = va_up (va_up rd q 0) g 1 a ∨ rd' a = 0) ∧ ∀ b, ¬ N b → G' b = G2 b) (urotR_at t2 hs hg h1) ?_
  rintro r G3 ⟨rfl, ⟨rd', t3, k3⟩, k4⟩
  have r0 : rd' q = 0 := by
    rcases k3 q with z | z
    · rw [z, up_ne _ _ a2, up_eq]
    · exact z
  rw [bal_stop t3 b1 a1 (ex x1 x2) r0]
  exact w_ret ⟨rfl, rfl, ⟨_, _, _, _, _, _, t3, hsR⟩, fun b hb => by rw [k4 b hb, k2 b (fun z => hb (z ▸ hg)), k1 b (fun z => hb (z ▸ a1))]⟩
theorem bal_89 {G : Gh} {nx x q g m : Nat} {root : Option Nat} {lf rt pa : Nat → Option Nat} {rd : Nat → Int32} {lo hi : Nat → Nat} (h : UNd V G N D nxt pv lf rt pa rd) (hs : Shp N n root lf rt pa ps lo hi) (hg : N g) (h1 : lf g = some q) (h2 : lf q = some x ∨ rt q = some x) :
    wH (hB_J42_balanceInsertion_89 V (hL_J42_balanceInsertion_5 V (m + 1)) G nx root (some x) (some q) (some g)) (BalQ V G N n D nxt pv ps) := by
  obtain ⟨a1, a2, a3, a4, a5, a6, a7⟩ := hs.ne' hg h1
  unfold hB_J42_balanceInsertion_89
  refine w_some (w_uR h a1 (w_if (fun c => ?_) (fun c => ?_)))
  · have hr : rt q = some x := c.symm
    obtain ⟨b1, b2, b3, b4, b5, b6, b7⟩ := hs.ne a1 hr
    have hsL := hs.rotL a1 hr
    have xg : x ≠ g := by
      intro z; subst z
      have c1 := hs.1 x b1
      have c2 := hs.1 q a1
      omega
    refine w_call0' (P := fun r G' => r = rlT root pa q x ∧ (∃ rd', UNd V G' N D nxt pv (rlL lf pa q x) (rlR lf rt pa q x) (rlP lf pa q x) rd' ∧ ∀ a, rd' a = rd a ∨ rd' a = 0) ∧ ∀ b, ¬ N b → G' b = G b) (urotL_at h hs a1 hr) ?_
    rintro r G1 ⟨rfl, ⟨rd', t1, -⟩, k1⟩
    have p1 : rlP lf pa q x q = some x := by unfold rlP; rw [if_pos rfl]
    have p2 : rlP lf pa q x x = some g := by unfold rlP; rw [if_neg b2, if_pos rfl]; exact a3
    have l1 : rlL lf pa q x g = some x := by unfold rlL; rw [if_neg (Ne.symm xg), if_pos ⟨a3, h1⟩]
    have l2 : rlL lf pa q x x = some q := by unfold rlL; rw [if_pos rfl]
    refine w_uP t1 a1 ?_
    rw [p1]
    refine w_neg (by simp) (w_some (w_uP t1 b1 ?_))
    rw [p2]
    unfold hB_J42_balanceInsertion_122
    exact w_mono (bal_123 t1 hsL hg l1 l2) (fun q' G' c s z => BalQ.trans z k1)
  · have hl : lf q = some x := by
      rcases h2 with z | z
      · exact z
      · exact absurd z.symm c
    exact bal_123 h hs hg h1 hl
theorem bal_218 {G : Gh} {nx x q g m : Nat} {root : Option Nat} {lf rt pa : Nat → Option Nat} {rd : Nat → Int32} {lo hi : Nat → Nat} (h : UNd V G N D nxt pv lf rt pa rd) (hs : Shp N n root lf rt pa ps lo hi) (hg : N g) (h1 : rt g = some q) (h2 : rt q = some x) :
    wH (hB_J42_balanceInsertion_218 V (hL_J42_balanceInsertion_5 V (m + 1)) G nx root (some x) (some q) (some g)) (BalQ V G N n D nxt pv ps) := by
  obtain ⟨a1, a2, a3, a4, a5, a6, a7⟩ := hs.ne hg h1
  obtain ⟨b1, b2, b3, b4, b5, b6, b7⟩ := hs.ne a1 h2
  have hsR := hs.rotL hg h1
  have ex : ∀ (hh : ¬ lf q = some x) (xg : x ≠ g), rlP lf pa g q x = some q := by
    intro hh xg
    unfold rlP
    rw [if_neg xg, if_neg b2, if_neg hh]; exact b3
  have x1 : ¬ lf q = some x := by
    intro z
    have := (a7 x z).2.2.2.2
    have c1 := hs.1 x b1
    have c2 := hs.1 q a1
    omega
  have x2 : x ≠ g := by
    intro z; subst z
    have c1 := hs.1 x b1
    have c2 := hs.1 q a1
    omega
  unfold hB_J42_balanceInsertion_218
  refine w_neg (by simp) (w_some (w_usC h a1 ?_))
  intro G1 t1 k1
  refine w_neg (by simp) (w_some (w_usC t1 hg ?_))
  intro G2 t2 k2
  refine w_call0' (P := fun r G' => r = rlT root pa g q ∧ (∃ rd', UNd V G' N D nxt pv (rlL lf pa g q) (rlR lf rt pa g q) (rlP lf pa g q) rd' ∧ ∀ a, rd' a = va_up (va_up rd q 0) g 1 a ∨ rd' a = 0) ∧ ∀ b, ¬ N b → G' b = G2 b) (urotL_at t2 hs hg h1) ?_
  rintro r G3 ⟨rfl, ⟨rd', t3, k3⟩, k4⟩
  have r0 : rd' q = 0 := by
    rcases k3 q with z | z
    · rw [z, up_ne _ _ a2, up_eq]
    · exact z
  rw [bal_stop t3 b1 a1 (ex x1 x2) r0]
  exact w_ret ⟨rfl, rfl, ⟨_, _, _, _, _, _, t3, hsR⟩, fun b hb => by rw [k4 b hb, k2 b (fun z => hb (z ▸ hg)), k1 b (fun z => hb (z ▸ a1))]⟩
theorem bal_184 {G : Gh} {nx x q g m : Nat} {root : Option Nat} {lf rt pa : Nat → Option Nat} {rd : Nat → Int32} {lo hi : Nat → Nat} (h : UNd V G N D nxt pv lf rt pa rd) (hs : Shp N n root lf rt pa ps lo hi) (hg : N g) (h1 : rt g = some q) (h2 : rt q = some x ∨ lf q = some x) :
    wH (hB_J42_balanceInsertion_184 V (hL_J42_balanceInsertion_5 V (m + 1)) G nx root (some x) (some q) (some g)) (BalQ V G N n D nxt pv ps) := by
  obtain ⟨a1, a2, a3, a4, a5, a6, a7⟩ := hs.ne hg h1
  unfold hB_J42_balanceInsertion_184
  refine w_some (w_uL h a1 (w_if (fun c => ?_) (fun c => ?_)))
  · have hr : lf q = some x := c.symm
    obtain ⟨b1, b2, b3, b4, b5, b6, b7⟩ := hs.ne' a1 hr
    have hsL := hs.rotR a1 hr
    have xg : x ≠ g := by
      intro z; subst z
      have c1 := hs.1 x b1
      have c2 := hs.1 q a1
      omega
    refine w_call0' (P := fun r G' => r = rlT root pa q x ∧ (∃ rd', UNd V G' N D nxt pv (rrL lf rt pa q x) (rrR rt pa q x) (rrP rt pa q x) rd' ∧ ∀ a, rd' a = rd a ∨ rd' a = 0) ∧ ∀ b, ¬ N b → G' b = G b) (urotR_at h hs a1 hr) ?_
    rintro r G1 ⟨rfl, ⟨rd', t1, -⟩, k1⟩
    have p1 : rrP rt pa q x q = some x := by unfold rrP; rw [if_pos rfl]
    have p2 : rrP rt pa q x x = some g := by unfold rrP; rw [if_neg b2, if_pos rfl]; exact a3
    have l1 : rrR rt pa q x g = some x := by unfold rrR; rw [if_neg (Ne.symm xg), if_pos ⟨a3, h1⟩]
    have l2 : rrR rt pa q x x = some q := by unfold rrR; rw [if_pos rfl]
    refine w_uP t1 a1 ?_
    rw [p1]
    refine w_neg (by simp) (w_some (w_uP t1 b1 ?_))
    rw [p2]
    unfold hB_J42_balanceInsertion_217
    exact w_mono (bal_218 t1 hsL hg l1 l2) (fun q' G' c s z => BalQ.trans z k1)
  · have hl : rt q = some x := by
      rcases h2 with z | z
      · exact z
      · exact absurd z.symm c
    exact bal_218 h hs hg h1 hl
theorem bal_loop {k : Nat} : ∀ {m : Nat} {G : Gh} {nx x : Nat} {root : Option Nat} {lf rt pa : Nat → Option Nat} {rd : Nat → Int32} {lo hi : Nat → Nat}, k + 2 ≤ m → UNd V G N D nxt pv lf rt pa rd → Shp N n root lf rt pa ps lo hi → N x → n - (hi x - lo x) ≤ k → wH (hL_J42_balanceInsertion_5 V m G nx root (some x)) (BalQ V G N n D nxt pv ps) := by
  induction k with
  | zero =>
    intro m G nx x root lf rt pa rd lo hi hm h hs hx hk
    obtain ⟨m, rfl⟩ := Nat.exists_eq_succ_of_ne_zero (show m ≠ 0 by omega)
    rw [hL_J42_balanceInsertion_5]
    refine w_some (w_uP h hx ?_)
    cases e : pa x with
    | none =>
      refine w_pos rfl (w_usC h hx ?_)
      intro G1 t1 k1
      refine w_ret ⟨rfl, rfl, ⟨_, _, _, _, lo, hi, t1, ?_⟩, fun b hb => k1 b (fun z => hb (z ▸ hx))⟩
      rw [← hs.2.2.2.2.2.2.2.2.2.2 x hx e]; exact hs
    | some q =>
      exfalso
      obtain ⟨q', p1, p2, p3, p4, p5⟩ := hs.par hx (fun z => by have := (hs.2.2.2.1 x z.symm).2.2.2; rw [e] at this; cases this)
      have := hs.1 q' p2
      omega
  | succ k ih =>
    intro m G nx x root lf rt pa rd lo hi hm h hs hx hk
    obtain ⟨m, rfl⟩ := Nat.exists_eq_succ_of_ne_zero (show m ≠ 0 by omega)
    rw [hL_J42_balanceInsertion_5]
    refine w_some (w_uP h hx ?_)
    cases e : pa x with
    | none =>
      refine w_pos rfl (w_usC h hx ?_)
      intro G1 t1 k1
      refine w_ret ⟨rfl, rfl, ⟨_, _, _, _, lo, hi, t1, ?_⟩, fun b hb => k1 b (fun z => hb (z ▸ hx))⟩
      rw [← hs.2.2.2.2.2.2.2.2.2.2 x hx e]; exact hs
    | some q =>
      obtain ⟨q', p1, p2, p3, p4, p5⟩ := hs.par hx (fun z => by have := (hs.2.2.2.1 x z.symm).2.2.2; rw [e] at this; cases this)
      rw [e] at p1
      cases p1
      have done : wH (hB_J42_balanceInsertion_37 V G nx root) (BalQ V G N n D nxt pv ps) := w_ret ⟨rfl, rfl, ⟨_, _, _, _, _, _, h, hs⟩, fun _ _ => rfl⟩
      refine w_neg (by simp) (w_some (w_uC h p2 (w_if (fun _ => done) (fun _ => w_uP h p2 ?_))))
      cases e2 : pa q with
      | none => exact w_pos rfl done
      | some g =>
        obtain ⟨g', g1, g2, g3, g4, g5⟩ := hs.par p2 (fun z => by have := (hs.2.2.2.1 q z.symm).2.2.2; rw [e2] at this; cases this)
        rw [e2] at g1
        cases g1
        have big := hs.1 g g2
        obtain ⟨m, rfl⟩ := Nat.exists_eq_succ_of_ne_zero (show m ≠ 0 by omega)
        refine w_neg (by simp) (w_some (w_uL h g2 (w_if (fun c => w_uR h g2 ?_) (fun c => ?_))))
        · have gl : lf g = some q := c.symm
          cases e3 : rt g with
          | none => exact w_pos rfl (bal_89 h hs g2 gl p3)
          | some u =>
            have uN := (hs.2.2.2.2.2.2.2.2.1 g u g2 e3).1
            refine w_neg (by simp) (w_some (w_uC h uN (w_if (fun _ => bal_89 h hs g2 gl p3) (fun _ => w_usC h uN ?_))))
            intro G1 t1 k1
            refine w_usC t1 p2 ?_
            intro G2 t2 k2
            refine w_usC t2 g2 ?_
            intro G3 t3 k3
            refine w_mono (ih (by omega) t3 hs g2 (by omega)) (fun q' G' c s z => BalQ.trans z (fun b hb => ?_))
            rw [k3 b (fun z => hb (z ▸ g2)), k2 b (fun z => hb (z ▸ p2)), k1 b (fun z => hb (z ▸ uN))]
        · have gr : rt g = some q := by
            rcases g3 with z | z
            · exact absurd z.symm c
            · exact z
          cases e3 : lf g with
          | none => exact w_pos rfl (bal_184 h hs g2 gr p3.symm)
          | some u =>
            have uN := (hs.2.2.2.2.2.2.1 g u g2 e3).1
            refine w_neg (by simp) (w_some (w_uC h uN (w_if (fun _ => bal_184 h hs g2 gr p3.symm) (fun _ => w_usC h uN ?_))))
            intro G1 t1 k1
            refine w_usC t1 p2 ?_
            intro G2 t2 k2
            refine w_usC t2 g2 ?_
            intro G3 t3 k3
            refine w_mono (ih (by omega) t3 hs g2 (by omega)) (fun q' G' c s z => BalQ.trans z (fun b hb => ?_))
            rw [k3 b (fun z => hb (z ▸ g2)), k2 b (fun z => hb (z ▸ p2)), k1 b (fun z => hb (z ▸ uN))]
theorem bal_at {G : Gh} {nx x : Nat} {root : Option Nat} {lf rt pa : Nat → Option Nat} {rd : Nat → Int32} {lo hi : Nat → Nat} (hV : 400 ≤ V.2.2.2.2) (hn : n ≤ 300) (h : UNd V G N D nxt pv lf rt pa rd) (hs : Shp N n root lf rt pa ps lo hi) (hx : N x) : wH (hF_J42_balanceInsertion V G nx root (some x)) (BalQ V G N n D nxt pv ps) := by
  unfold hF_J42_balanceInsertion
  refine w_some (w_usC h hx ?_)
  intro G1 t1 k1
  exact w_mono (bal_loop (k := n) (by omega) t1 hs hx (by omega)) (fun q' G' c s z => BalQ.trans z (fun b hb => k1 b (fun z => hb (z ▸ hx))))
end U

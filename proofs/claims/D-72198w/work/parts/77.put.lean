/-! PURE 8: TreeMap.put -/
theorem entry_init {V : HEn} {G : Gh} {nx a : Nat} {k v q : Option Nat} (h : G a = some (.inr (11, [.null, .null, .null, .null, .null, .int 0]))) (hb : V.1 ≤ a) : wH (hF_J38_init V G nx a k v q) (fun _ G' c s => c = 0 ∧ s = 0 ∧ G' a = some (.inr (11, [va_rf k, va_rf v, va_rf none, va_rf none, va_rf q, .int 1])) ∧ ∀ b, b ≠ a → G' b = G b) := by
  unfold hF_J38_init
  (repeat (first | (with_reducible apply w_some) | ((with_reducible apply w_xI); (first | assumption | exact gset_eq _ _ _ | ((repeat (first | exact gset_eq _ _ _ | refine (gset_ne _ _ (by first | assumption | omega | exact Ne.symm (by assumption))).trans ?_)) <;> assumption)); rfl; rfl) | ((with_reducible apply w_xR); (first | assumption | exact gset_eq _ _ _ | ((repeat (first | exact gset_eq _ _ _ | refine (gset_ne _ _ (by first | assumption | omega | exact Ne.symm (by assumption))).trans ?_)) <;> assumption)); rfl; rfl) | ((with_reducible apply w_xR0); (first | assumption | exact gset_eq _ _ _ | ((repeat (first | exact gset_eq _ _ _ | refine (gset_ne _ _ (by first | assumption | omega | exact Ne.symm (by assumption))).trans ?_)) <;> assumption)); rfl; rfl) | ((with_reducible apply w_xF); (first | assumption | exact gset_eq _ _ _ | ((repeat (first | exact gset_eq _ _ _ | refine (gset_ne _ _ (by first | assumption | omega | exact Ne.symm (by assumption))).trans ?_)) <;> assumption)); rfl; exact Nat.le_of_ble_eq_true rfl; (first | assumption | omega); rfl) | ((with_reducible apply w_gC); (first | assumption | exact gset_eq _ _ _ | ((repeat (first | exact gset_eq _ _ _ | refine (gset_ne _ _ (by first | assumption | omega | exact Ne.symm (by assumption))).trans ?_)) <;> assumption))) | ((with_reducible apply w_aln); (first | assumption | exact gset_eq _ _ _ | ((repeat (first | exact gset_eq _ _ _ | refine (gset_ne _ _ (by first | assumption | omega | exact Ne.symm (by assumption))).trans ?_)) <;> assumption))) | (with_reducible apply w_nmv) | (with_reducible apply w_tick)))
  refine w_ret ⟨rfl, rfl, gset_eq _ _ _, fun b hb => ?_⟩
  rw [gset_ne _ _ hb, gset_ne _ _ hb, gset_ne _ _ hb, gset_ne _ _ hb]
section T
variable {V : HEn} {G : Gh} {o n nx : Nat} {N : Nat → Prop} {lf rt pa : Nat → Option Nat} {co : Nat → Int32} {kv vv : Nat → Option Nat}
variable {x0 x1 root es ks x8 : Option Nat} {sz mc : Int32} {ps lo hi : Nat → Nat} {l : List (Nat × Nat)}
theorem srt_ins {x v p : Nat} (h : Srt l) (hp : LowB l x p) (ha : ∀ y, l[p]? = some y → ¬ y.1 = x) : Srt (l.insertIdx p (x, v)) := by
  intro i j y z hij hy hz
  obtain ⟨p1, p2⟩ := hp
  rw [List.getElem?_insertIdx] at hy hz
  have key : ∀ i y, p ≤ i → l[i]? = some y → x < y.1 := by
    clear hy hz hij i j y z
    intro i y hi hy
    rcases Nat.lt_or_ge x y.1 with w | w
    · exact w
    · have hlen := (List.getElem?_eq_some_iff.mp hy).1
      have e : l[p]? = some l[p] := List.getElem?_eq_getElem (by omega)
      have w1 := p2 p _ e
      have w2 := ha _ e
      rcases Nat.lt_or_ge p i with w3 | w3
      · have w4 := h p i _ _ w3 e hy
        have : ¬ (l[p].1 < x) := fun q => Nat.lt_irrefl _ (w1.mpr q)
        omega
      · have w5 : i = p := by omega
        subst w5
        rw [e] at hy
        have hy := Option.some.inj hy
        rw [hy] at w1 w2
        have : ¬ (y.1 < x) := fun q => Nat.lt_irrefl _ (w1.mpr q)
        omega
  by_cases c1 : i < p
  · rw [if_pos c1] at hy
    by_cases c2 : j < p
    · rw [if_pos c2] at hz; exact h i j _ _ hij hy hz
    · rw [if_neg c2] at hz
      have w1 := (p2 i _ hy).mp c1
      by_cases c3 : j = p
      · rw [if_pos c3] at hz
        split at hz
        · cases hz; exact w1
        · cases hz
      · rw [if_neg c3] at hz
        exact Nat.lt_trans w1 (key _ _ (by omega) hz)
  · rw [if_neg c1] at hy
    have c2 : ¬ j < p := by omega
    rw [if_neg c2] at hz
    have c3 : ¬ j = p := by omega
    rw [if_neg c3] at hz
    by_cases c4 : i = p
    · rw [if_pos c4] at hy
      split at hy
      · cases hy; exact key _ _ (by omega) hz
      · cases hy
    · rw [if_neg c4] at hy
      exact h (i - 1) (j - 1) _ _ (by omega) hy hz
theorem hold_ins {G' : Gh} {ik iv x v e p : Nat} (h : Hold V G N kv vv ps l) (hp : p ≤ l.length) (he : ¬ N e) (hik : IsInt V G' (some ik) x) (hiv : IsInt V G' (some iv) v) (hx : x < 128) (hv : v < 128) (hk : ∀ a, a < V.1 → G' a = G a) : Hold V G' (inN N e) (va_up kv e (some ik)) (va_up vv e (some iv)) (inP ps e p) (l.insertIdx p (x, v)) := by
  intro a ha
  by_cases c : a = e
  · subst c
    refine ⟨x, v, ?_, by rw [up_eq]; exact hik, by rw [up_eq]; exact hiv, hx, hv⟩
    unfold inP; rw [if_pos rfl, List.getElem?_insertIdx, if_neg (by omega), if_pos rfl, if_pos hp]
  · have ha' : N a := by rcases ha with ha | ha; exact ha; exact absurd ha c
    obtain ⟨k, w, q1, q2, q3, q4, q5⟩ := h a ha'
    refine ⟨k, w, ?_, by rw [up_ne _ _ c]; exact q2.keep hk, by rw [up_ne _ _ c]; exact q3.keep hk, q4, q5⟩
    unfold inP; rw [if_neg c, List.getElem?_insertIdx]
    by_cases c2 : p ≤ ps a
    · rw [if_pos c2, if_neg (by omega), if_neg (by omega)]; exact q1
    · rw [if_neg c2, if_pos (by omega)]; exact q1
abbrev putPost (V : HEn) (G : Gh) (o nx : Nat) (N : Nat → Prop) (kv vv : Nat → Option Nat) (ps : Nat → Nat) (mc : Int32) (es ks : Option Nat) (l : List (Nat × Nat)) (ik iv x v p : Nat) : Gh → Nat → Nat → Prop := fun G' c s => c = 1 ∧ s = 6 ∧ TMx V G' o (inN N nx) (va_up kv nx (some ik)) (va_up vv nx (some iv)) (inP ps nx p) (mc + 1) es ks (l.insertIdx p (x, v)) ∧ ∀ b, ¬ N b → b ≠ o → b ≠ nx → G' b = G b
/-- what is asked of a TreeMap's parts: they are old -/
def TOld (o nx : Nat) (N : Nat → Prop) (es ks : Option Nat) : Prop := o < nx ∧ (∀ a, N a → a < nx) ∧ (∀ e, es = some e → e < nx) ∧ (∀ e, ks = some e → e < nx)
theorem addEntry_at {ik iv x v p q : Nat} {d : Int32} (hV : 200 ≤ V.2.2.2.2) (h : TNd V G o N lf rt pa co kv vv) (ho : G o = some (tobj x0 x1 root (nI l.length) mc es ks x8)) (hs : Shp N l.length root lf rt pa ps lo hi) (hh : Hold V G N kv vv ps l) (hsr : Srt l) (hb : V.1 ≤ o) (hl : l.length < 100) (hes : ∀ e, es = some e → G e = some (.inr (14, [va_rf (some o)])) ∧ V.1 ≤ e) (hks : ∀ e, ks = some e → G e = some (.inr (12, [va_rf (some o)])) ∧ V.1 ≤ e) (hold : TOld o nx N es ks)
    (hik : IsInt V G (some ik) x) (hiv : IsInt V G (some iv) v) (hx : x < 128) (hv : v < 128) (hp : LowB l x p) (hab : ∀ y, l[p]? = some y → ¬ y.1 = x) (hq : N q)
    (hd : (d = 1 ∧ lf q = none ∧ p = ps q ∧ ∀ b, N b → ps b + 1 = ps q → rt b ≠ none) ∨ (d = 0 ∧ rt q = none ∧ p = ps q + 1 ∧ ∀ b, N b → ps b = ps q + 1 → lf b ≠ none)) :
    wH (hF_J4_addEntry V G nx o (some ik) (some iv) (some q) d) (fun _ => putPost V G o nx N kv vv ps mc es ks l ik iv x v p) := by
  obtain ⟨o1, o2, o3, o4⟩ := hold
  have nN : ¬ N nx := fun z => Nat.lt_irrefl _ (o2 nx z)
  have hbx : V.1 ≤ nx := by omega
  have qo := (h q hq).2.2.1
  have qn : q ≠ nx := by have := o2 q hq; omega
  have no : ¬ N o := fun z => (h o z).2.2.1 rfl
  unfold hF_J4_addEntry
  refine w_tick (w_call (entry_init (gset_eq _ _ _) hbx) ?_)
  rintro - G1 c s ⟨rfl, rfl, e1, e2⟩
  have h1 : TNd V G1 o (inN N nx) (va_up lf nx none) (va_up rt nx none) (va_up pa nx (some q)) (va_up co nx 1) (va_up kv nx (some ik)) (va_up vv nx (some iv)) := by
    intro a ha
    by_cases c : a = nx
    · subst c; simp only [up_eq]; exact ⟨e1, hbx, by omega, Or.inr trivial⟩
    · simp only [up_ne _ _ c]
      have ha' : N a := by rcases ha with ha | ha; exact ha; exact absurd ha c
      rw [e2 a c, gset_ne _ _ c]; exact h a ha'
  have ho1 : G1 o = some (tobj x0 x1 root (nI l.length) mc es ks x8) := by rw [e2 o (by omega), gset_ne _ _ (by omega), ho]
  have k1 : ∀ b, b ≠ nx → G1 b = G b := fun b hb => by rw [e2 b hb, gset_ne _ _ hb]
  have fin : ∀ (G2 : Gh) (lf2 rt2 : Nat → Option Nat) (lo2 hi2 : Nat → Nat), TNd V G2 o (inN N nx) lf2 rt2 (va_up pa nx (some q)) (va_up co nx 1) (va_up kv nx (some ik)) (va_up vv nx (some iv)) → Shp (inN N nx) (l.length + 1) root lf2 rt2 (va_up pa nx (some q)) (inP ps nx p) lo2 hi2 → (∀ b, b ≠ q → G2 b = G1 b) →
      wH (hB_J4_addEntry_32 V o G2 (nx + 1 + 0) (some nx)) (fun _ G' c s => putPost V G o nx N kv vv ps mc es ks l ik iv x v p G' (1 + (0 + c)) (6 + (0 + s))) := by
    intro G2 lf2 rt2 lo2 hi2 h2 hs2 k2
    have ho2 : G2 o = some (tobj x0 x1 root (nI l.length) mc es ks x8) := by rw [k2 o (Ne.symm qo), ho1]
    unfold hB_J4_addEntry_32
    refine w_pos (gC_at ho2) ?_
    refine w_call0' (fixI_at hb (by omega) (by omega) h2 ho2 hs2 (Or.inr rfl)) ?_
    rintro - G3 ⟨⟨root3, lf3, rt3, pa3, co3, lo3, hi3, h3, ho3, hs3⟩, k3⟩
    refine w_xI ho3 rfl rfl (w_xF ho3 rfl (Nat.le_of_ble_eq_true rfl) hb rfl ?_)
    refine w_xI (gset_eq _ _ _) rfl rfl (w_xF (gset_eq _ _ _) rfl (Nat.le_of_ble_eq_true rfl) hb rfl ?_)
    refine w_ret ?_
    have k9 : ∀ b, ¬ N b → b ≠ o → b ≠ nx → G3 b = G b := by
      intro b b1 b2 b3
      rw [k3 b (by rintro (z | z); exact b1 z; exact b3 z) b2, k2 b (fun z => b1 (z ▸ hq)), k1 b b3]
    have kb : ∀ a, a < V.1 → G3 a = G a := fun a ha => k9 a (fun z => by have := (h a z).2.1; omega) (by omega) (by omega)
    have kg : ∀ (e : va_E) (b : Nat), b ≠ o → gset (gset G3 o e) o e b = G3 b := fun e b hb => by rw [gset_ne _ _ hb, gset_ne _ _ hb]
    have len : (l.insertIdx p (x, v)).length = l.length + 1 := by rw [List.length_insertIdx, if_pos hp.1]
    refine ⟨rfl, rfl, ⟨⟨x0, x1, x8, root3, lf3, rt3, pa3, co3, lo3, hi3, ?_, ?_, ?_⟩, ?_, srt_ins hsr hp hab, hb, by omega, ?_, ?_⟩, ?_⟩
    · intro a ha
      have hao := (h3 a ha).2.2.1
      rw [gset_ne _ _ hao, gset_ne _ _ hao]; exact h3 a ha
    · rw [gset_eq, len, ← nI_1]; rfl
    · rw [len]; exact hs3
    · refine hold_ins hh hp.1 nN ?_ ?_ hx hv ?_
      · exact hik.keep (fun a ha => by rw [gset_ne _ _ (by omega), gset_ne _ _ (by omega)]; exact kb a ha)
      · exact hiv.keep (fun a ha => by rw [gset_ne _ _ (by omega), gset_ne _ _ (by omega)]; exact kb a ha)
      · exact fun a ha => by rw [gset_ne _ _ (by omega), gset_ne _ _ (by omega)]; exact kb a ha
    · intro e he
      have w := hes e he
      have w2 : ¬ N e := fun z => by have := (h e z).1; rw [w.1] at this; cases this
      have w3 : e ≠ o := fun z => by subst z; rw [ho] at w; cases w.1
      rw [gset_ne _ _ w3, gset_ne _ _ w3, k9 e w2 w3 (by have := o3 e he; omega)]; exact w
    · intro e he
      have w := hks e he
      have w2 : ¬ N e := fun z => by have := (h e z).1; rw [w.1] at this; cases this
      have w3 : e ≠ o := fun z => by subst z; rw [ho] at w; cases w.1
      rw [gset_ne _ _ w3, gset_ne _ _ w3, k9 e w2 w3 (by have := o4 e he; omega)]; exact w
    · intro b b1 b2 b3
      rw [gset_ne _ _ b2, gset_ne _ _ b2]; exact k9 b b1 b2 b3
  rcases hd with ⟨rfl, d1, d2, d3⟩ | ⟨rfl, d1, d2, d3⟩
  · refine w_neg (by decide) (w_some (w_tsL h1 (Or.inl hq) ?_))
    intro G2 h2 k2
    subst d2
    exact fin G2 _ _ _ _ h2 (hs.insL hq d1 nN d3) k2
  · refine w_pos rfl (w_some (w_tsR h1 (Or.inl hq) ?_))
    intro G2 h2 k2
    subst d2
    exact fin G2 _ _ _ _ h2 (hs.insR hq d1 nN d3) k2
theorem put_loop {ik iv x v p : Nat} (hV : 200 ≤ V.2.2.2.2) (h : TNd V G o N lf rt pa co kv vv) (ho : G o = some (tobj x0 x1 root (nI l.length) mc es ks x8)) (hs : Shp N l.length root lf rt pa ps lo hi) (hh : Hold V G N kv vv ps l) (hsr : Srt l) (hb : V.1 ≤ o) (hl : l.length < 100) (hes : ∀ e, es = some e → G e = some (.inr (14, [va_rf (some o)])) ∧ V.1 ≤ e) (hks : ∀ e, ks = some e → G e = some (.inr (12, [va_rf (some o)])) ∧ V.1 ≤ e) (hold : TOld o nx N es ks)
    (hik : IsInt V G (some ik) x) (hiv : IsInt V G (some iv) v) (hx : x < 128) (hv : v < 128) (hp : LowB l x p) (hab : ∀ y, l[p]? = some y → ¬ y.1 = x) :
    ∀ (m a : Nat), N a → lo a ≤ p → p ≤ hi a → (∀ b, N b → ps b + 1 = lo a → rt b ≠ none) → (∀ b, N b → ps b = hi a → lf b ≠ none) → hi a - lo a ≤ m →
    wH (hL_J4_put_2_123 V o m G nx (some ik) (some iv) 1 (some a) (some ik)) (fun r G' c s => r = none ∧ putPost V G o nx N kv vv ps mc es ks l ik iv x v p G' c s) := by
  intro m
  have hik' := hik
  obtain ⟨ik', z0, ikb, iks⟩ := hik'
  cases z0
  induction m with
  | zero => intro a ha h1 h2 h3 h4 h5; have := hs.1 a ha; omega
  | succ m ih =>
    intro a ha h1 h2 h3 h4 h5
    obtain ⟨k, w, hk, ⟨ka, e1, e2, e3⟩, -, k128, -⟩ := hh a ha
    have hs' := hs
    obtain ⟨s1, s2, s3, s4, s5, s6, s7, s8, s9, s10, s11⟩ := hs'
    have b1 := s1 a ha
    have b2 := hp.2 (ps a) _ hk
    have add : ∀ (d : Int32) , ((d = 1 ∧ lf a = none ∧ p = ps a ∧ ∀ b, N b → ps b + 1 = ps a → rt b ≠ none) ∨ (d = 0 ∧ rt a = none ∧ p = ps a + 1 ∧ ∀ b, N b → ps b = ps a + 1 → lf b ≠ none)) → wH (hB_J4_put_2_216 V o G (nx + 0) (some o) (some ik) (some iv) (some a) d) (fun r G' c s => r = none ∧ putPost V G o nx N kv vv ps mc es ks l ik iv x v p G' c s) := by
      intro d hd
      unfold hB_J4_put_2_216
      refine w_some (w_pos (gC_at ho) ?_)
      refine w_call (addEntry_at (nx := nx + 0) hV h ho hs hh hsr hb hl hes hks hold hik hiv hx hv hp hab ha hd) ?_
      intro r G' c s hq
      exact w_ret ⟨rfl, hq⟩
    rw [hL_J4_put_2_123]
    refine w_some (w_tK h ha ?_)
    rw [e1]
    refine w_some (w_pos (gC_at iks) (w_call0 (compareTo_at iks e3 hx k128) ?_))
    rcases Nat.lt_trichotomy x k with c | c | c
    · rw [if_pos c]
      refine w_neg (by decide) (w_tL h ha ?_)
      have c' : ¬ ps a < p := fun z => by have := b2.mp z; simp at this; omega
      unfold hB_J4_put_2_196
      cases el : lf a with
      | none =>
        have := s6 a ha el
        exact w_pos rfl (w_neg (by decide) (add 1 (Or.inl ⟨rfl, el, by omega, fun b hb hbb => h3 b hb (by omega)⟩)))
      | some b =>
        obtain ⟨t1, t2, t3, t4⟩ := s7 a b ha el
        refine w_neg (by simp) (ih b t1 (by omega) (by omega) (fun q hq hqq => h3 q hq (by omega)) (fun q hq hqq => ?_) (by omega))
        have : q = a := s2 q a hq ha (by omega)
        subst this; rw [el]; simp
    · subst c
      exfalso
      have z1 : ¬ ps a < p := fun z => by have := b2.mp z; simp at this
      rcases Nat.lt_or_ge p (ps a) with z | z
      · obtain ⟨y, hy⟩ : ∃ y, l[p]? = some y := ⟨l[p]'(by omega), List.getElem?_eq_getElem (by omega)⟩
        have w1 := hsr p (ps a) _ _ z hy hk
        have w2 := hp.2 p _ hy
        simp at w1
        exact absurd (w2.mpr w1) (Nat.lt_irrefl _)
      · have : p = ps a := by omega
        subst this
        exact hab _ hk rfl
    · have c1 : ¬ x < k := by omega
      have c2 : ¬ x = k := by omega
      rw [if_neg c1, if_neg c2]
      refine w_pos (by decide) (w_neg (by decide) (w_tR h ha ?_))
      have c' : ps a < p := b2.mpr (by simp; omega)
      unfold hB_J4_put_2_196
      cases el : rt a with
      | none =>
        have := s8 a ha el
        exact w_pos rfl (w_pos (by decide) (add 0 (Or.inr ⟨rfl, el, by omega, fun b hb hbb => h4 b hb (by omega)⟩)))
      | some b =>
        obtain ⟨t1, t2, t3, t4⟩ := s9 a b ha el
        refine w_neg (by simp) (ih b t1 (by omega) (by omega) (fun q hq hqq => ?_) (fun q hq hqq => h4 q hq (by omega)) (by omega))
        have : q = a := s2 q a hq ha (by omega)
        subst this; rw [el]; simp
/-- put of a new key -/
theorem put_new {ik iv x v p : Nat} (hV : 200 ≤ V.2.2.2.2) (h : TMx V G o N kv vv ps mc es ks l) (hold : TOld o nx N es ks) (hl : l.length < 100) (hik : IsInt V G (some ik) x) (hiv : IsInt V G (some iv) v) (hx : x < 128) (hv : v < 128) (hp : LowB l x p) (hab : ∀ y, l[p]? = some y → ¬ y.1 = x) :
    wH (hF_J4_put V G nx o (some ik) (some iv)) (fun r G' c s => r = none ∧ putPost V G o nx N kv vv ps mc es ks l ik iv x v p G' c s) := by
  obtain ⟨⟨x0, x1, x8, root, lf, rt, pa, co, lo, hi, h1, h2, h3⟩, h4, h5, h6, h7, h8, h9⟩ := h
  have hik' := hik
  obtain ⟨ik', z0, ikb, iks⟩ := hik'
  cases z0
  unfold hF_J4_put hF_J4_put_2
  refine w_pos (gC_at h2) ?_
  refine w_call (Q' := fun r G' c s => r = none ∧ putPost V G o nx N kv vv ps mc es ks l ik iv x v p G' c s) ?_ (fun r G' c s hq => w_ret ⟨hq.1, hq.2⟩)
  refine w_xR h2 rfl rfl ?_
  cases er : root with
  | none =>
    refine w_pos rfl (w_pos (gC_at h2) ?_)
    have e0 : l = [] := List.eq_nil_of_length_eq_zero (h3.2.2.2.2.1 er)
    subst e0
    obtain ⟨o1, o2, o3, o4⟩ := hold
    have nN : ∀ a, ¬ N a := fun a z => by have := h3.1 a z; simp at this; omega
    have p0 : p = 0 := by have := hp.1; simpa using this
    subst p0
    refine w_call (Q' := fun _ => putPost V G o nx N kv vv ps mc es ks [] ik iv x v 0) ?_ (fun r G' c s hq => w_ret ⟨rfl, hq⟩)
    unfold hF_J4_addEntryToEmptyMap
    refine w_pos (gC_at h2) (w_call0 (r := (0 : Int32)) (G := G) ?_ ?_)
    · have hw : wH (hF_J4_compare V G nx o (some ik) (some ik)) (fun r G' c s => r = 0 ∧ G' = G ∧ c = 0 ∧ s = 0) := by
        unfold hF_J4_compare
        refine w_xR h2 rfl rfl (w_pos rfl (w_pos (gok_at iks (by simp)) (w_some (w_pos (gC_at iks) (w_call0 (compareTo_at iks iks hx hx) (w_ret ?_))))))
        simp
      obtain ⟨r, G', c, s, e, rfl, rfl, rfl, rfl⟩ := hw
      exact e
    · refine w_tick (w_call (entry_init (gset_eq _ _ _) (by omega)) ?_)
      rintro - G1 c s ⟨rfl, rfl, e1, e2⟩
      have k1 : ∀ b, b ≠ nx → G1 b = G b := fun b hb => (e2 b hb).trans (gset_ne _ _ hb)
      have ho1 : G1 o = some (tobj x0 x1 root (nI 0) mc es ks x8) := by rw [k1 o (by omega)]; exact h2
      refine w_xF ho1 rfl (Nat.le_of_ble_eq_true rfl) h6 rfl (w_xF (gset_eq _ _ _) rfl (Nat.le_of_ble_eq_true rfl) h6 rfl (w_xI (gset_eq _ _ _) rfl rfl (w_xF (gset_eq _ _ _) rfl (Nat.le_of_ble_eq_true rfl) h6 rfl (w_ret ?_))))
      have kg : ∀ (e1 e2 e3 : va_E) (b : Nat), b ≠ o → gset (gset (gset G1 o e1) o e2) o e3 b = G1 b := fun e1 e2 e3 b hb => by rw [gset_ne _ _ hb, gset_ne _ _ hb, gset_ne _ _ hb]
      have ev : ∀ a, inN N nx a → a = nx := fun a ha => by rcases ha with ha | ha; exact absurd ha (nN a); exact ha
      refine ⟨rfl, rfl, ⟨⟨x0, x1, x8, some nx, fun _ => none, fun _ => none, fun _ => none, fun _ => 1, fun _ => 0, fun _ => 1, ?_, ?_, ?_⟩, ?_, ?_, h6, by simp, ?_, ?_⟩, ?_⟩
      · intro a ha
        have := ev a ha; subst this
        rw [kg _ _ _ _ (by omega)]
        rw [up_eq, up_eq]
        exact ⟨e1, by omega, by omega, Or.inr rfl⟩
      · rw [gset_eq]; rfl
      · refine ⟨?_, ?_, ?_, ?_, ?_, ?_, ?_, ?_, ?_, ?_, ?_⟩
        · intro a ha; have := ev a ha; subst this; simp [inP]
        · intro a b ha hb _; rw [ev a ha, ev b hb]
        · intro i hi'; exact ⟨nx, Or.inr rfl, by simp [inP]; simp at hi'; omega⟩
        · intro r hr; cases hr; exact ⟨Or.inr rfl, rfl, by simp, rfl⟩
        · intro z; cases z
        · intro a ha _; have := ev a ha; subst this; simp [inP]
        · intro a b _ z; cases z
        · intro a ha _; have := ev a ha; subst this; simp [inP]
        · intro a b _ z; cases z
        · intro a b _ z; cases z
        · intro a ha _; rw [ev a ha]
      · refine hold_ins h4 (by simp) (nN nx) ?_ ?_ hx hv ?_
        · exact hik.keep (fun a ha => by rw [kg _ _ _ _ (by omega)]; exact k1 a (by omega))
        · exact hiv.keep (fun a ha => by rw [kg _ _ _ _ (by omega)]; exact k1 a (by omega))
        · exact fun a ha => by rw [kg _ _ _ _ (by omega)]; exact k1 a (by omega)
      · exact srt_ins h5 hp hab
      · intro e he
        have w := h8 e he
        have w3 : e ≠ o := fun z => by subst z; rw [h2] at w; cases w.1
        rw [kg _ _ _ _ w3, k1 e (by have := o3 e he; omega)]; exact w
      · intro e he
        have w := h9 e he
        have w3 : e ≠ o := fun z => by subst z; rw [h2] at w; cases w.1
        rw [kg _ _ _ _ w3, k1 e (by have := o4 e he; omega)]; exact w
      · intro b b1 b2 b3
        rw [kg _ _ _ _ b2]; exact k1 b b3
  | some r =>
    obtain ⟨r1, r2, r3, r4⟩ := h3.2.2.2.1 r er
    refine w_neg (by simp) (w_xR h2 rfl rfl (w_pos rfl (w_call0 (r := some ik) (G := G) rfl ?_)))
    refine w_pos (gok_at iks (by simp)) ?_
    refine put_loop (nx := nx + 0) hV h1 h2 h3 h4 h5 h6 hl h8 h9 hold hik hiv hx hv hp hab _ r r1 (by omega) (by have := hp.1; omega) (fun b hb hbb => ?_) (fun b hb hbb => ?_) (by omega)
    · omega
    · have := h3.1 b hb; omega
end T

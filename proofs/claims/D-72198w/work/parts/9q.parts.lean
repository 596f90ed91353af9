/-! PURE 47: Machine.parts -/
/-- the key of a place, told -/
def keyS (rs : List Ru) (Ls : List Nat) (pt : Nat → Nat) (k : Nat) : List Nat := dgt (some (pt k)) ++ tailR (fun s => (ldP rs Ls k s).map pt) (List.range' 0 5)
/-- the keys of the places below k, each once -/
def kS (f : Nat → List Nat) : Nat → List (List Nat)
  | 0 => []
  | k + 1 => if f k ∈ kS f k then kS f k else kS f k ++ [f k]
def cS : Nat → Nat
  | 0 => 0
  | m + 1 => cS m + (m + 4)
def sS : Nat → Nat
  | 0 => 0
  | m + 1 => sS m + (11 * m + 176)
theorem cS_mono {a b : Nat} (h : a ≤ b) : cS a ≤ cS b ∧ sS a ≤ sS b := by
  induction b with
  | zero => have : a = 0 := by omega
            subst this; exact ⟨Nat.le_refl _, Nat.le_refl _⟩
  | succ b ih =>
    by_cases c : a = b + 1
    · subst c; exact ⟨Nat.le_refl _, Nat.le_refl _⟩
    · have := ih (by omega)
      simp only [cS, sS]; omega
theorem kS_mono {f : Nat → List Nat} {a b : Nat} (h : a ≤ b) : (kS f a).length ≤ (kS f b).length ∧ ∀ (j : Nat) (x : List Nat), (kS f a)[j]? = some x → (kS f b)[j]? = some x := by
  induction b with
  | zero => have : a = 0 := by omega
            subst this; exact ⟨Nat.le_refl _, fun _ _ h => h⟩
  | succ b ih =>
    by_cases c : a = b + 1
    · subst c; exact ⟨Nat.le_refl _, fun _ _ h => h⟩
    · obtain ⟨i1, i2⟩ := ih (by omega)
      rw [kS]
      split
      · exact ⟨i1, i2⟩
      · refine ⟨by simp; omega, fun j x hx => ?_⟩
        have := i2 j x hx
        rw [List.getElem?_append_left (List.getElem?_eq_some_iff.mp this).1]; exact this
theorem tailR_len {f : Nat → Option Nat} : ∀ {ss : List Nat}, (tailR f ss).length ≤ 3 * ss.length
  | [] => by simp [tailR]
  | a :: t => by
    have h1 := tailR_len (f := f) (ss := t)
    have h2 := dgt_len (r := f a)
    have : tailR f (a :: t) = 32 :: dgt (f a) ++ tailR f t := rfl
    rw [this]; simp; omega
theorem keyS_len {rs : List Ru} {Ls : List Nat} {pt : Nat → Nat} {k : Nat} : (keyS rs Ls pt k).length ≤ 17 := by
  have h1 := dgt_len (r := some (pt k))
  have h2 := tailR_len (f := fun s => (ldP rs Ls k s).map pt) (ss := List.range' 0 5)
  unfold keyS
  rw [List.length_append]
  simp at h2
  omega
section X
variable {V : HEn} {G0 : Gh} {nx0 mo po bo bd pl so nu lo ld pa sm na : Nat} {Ls ad : List Nat} {rs : List Ru} {F : Nat → Prop} {f : Nat → Int32} {pt : Nat → Nat}
abbrev PaQ (V : HEn) (G0 : Gh) (nx0 mo po bo pl so nu na : Nat) (Ls : List Nat) (kf : Nat → List Nat) (k : Nat) : Int32 → Gh → Nat → Nat → Prop := fun r G' c s => r = nI (kS kf Ls.length).length ∧ c + (15 * k + cS (kS kf k).length) ≤ 15 * Ls.length + cS (kS kf Ls.length).length ∧ s + (120 * k + sS (kS kf k).length) ≤ 120 * Ls.length + sS (kS kf Ls.length).length ∧ G' mo = some (mcell po bo pl (some na) so nu) ∧ (∃ g, G' na = some (.inl (V.2.1 0, Ls.length, .inl g)) ∧ ∀ i, i < Ls.length → ∃ j, g i = nI j ∧ (kS kf Ls.length)[j]? = some (kf i)) ∧ ∀ b, b < nx0 → b ≠ mo → G' b = G0 b
theorem parts_loop (hV : 1200 ≤ V.2.2.2.2) (hC : Cst V G0) (hD : Dgt V G0) (hM : G0 mo = some (mcell po bo pl (some pa) so nu)) (h : MPl V G0 po bo bd pl lo ld ad rs F Ls) (hL : MLow nx0 po bo bd pl lo ld ad F) (hmo : mo < nx0) (hmb : V.1 ≤ mo) (hpl : pa < nx0) (hpa : G0 pa = some (.inl (V.2.1 0, Ls.length, .inl f))) (hf : ∀ i, i < Ls.length → f i = nI (pt i) ∧ pt i < 100) (hb : V.1 ≤ nx0) (hcl : ∀ k (hk : k < Ls.length) s, s < 5 → pM rs Ls[k] s = 0 → pB rs Ls[k] s ∈ Ls) (hsm : nx0 ≤ sm) (hna : nx0 ≤ na) (hK : (kS (keyS rs Ls pt) Ls.length).length ≤ 40) :
    ∀ (j k m : Nat) (G : Gh) (nx : Nat) (Fm : Nat → Prop) (g : Nat → Int32), k + j = Ls.length → j + 1 ≤ m → nx0 ≤ nx → na < nx → (∀ b, b < nx0 → G b = G0 b) → SMap V G sm Fm (kS (keyS rs Ls pt) k) → (∀ b, Fm b → nx0 ≤ b ∧ b < nx) → ¬ Fm na → G na = some (.inl (V.2.1 0, Ls.length, .inl g)) → (∀ i, i < k → ∃ j, g i = nI j ∧ (kS (keyS rs Ls pt) k)[j]? = some (keyS rs Ls pt i)) →
    wH (hL_X8_parts_18 V mo m G nx (some sm) (some na) (nI k)) (PaQ V G0 nx0 mo po bo pl so nu na Ls (keyS rs Ls pt) k) := by
  have hlen := h.2.2.2.2
  intro j
  induction j with
  | zero =>
    intro k m G nx Fm g hj hm hnx hnax hlow hS hF hFn hG hg
    obtain ⟨m, rfl⟩ := Nat.exists_eq_succ_of_ne_zero (show m ≠ 0 by omega)
    have hkl : k = Ls.length := by omega
    subst hkl
    have hM1 : G mo = some (mcell po bo pl (some pa) so nu) := (hlow mo hmo).trans hM
    rw [hL_X8_parts_18]
    refine w_xR hM1 rfl rfl (w_some (w_aln ((hlow pa hpl).trans hpa) (w_pos (Int32.le_refl _) (w_xF hM1 rfl (Nat.le_of_ble_eq_true rfl) hmb rfl (w_some ?_)))))
    have hne : ∀ b, nx0 ≤ b → b ≠ mo := fun b hb' => by omega
    have hS2 : SMap V (gset G mo (mcell po bo pl (some na) so nu)) sm Fm (kS (keyS rs Ls pt) Ls.length) := hS.keep (fun a ha => gset_ne _ _ (hne a (hF a ha).1)) (fun a ha => gset_ne _ _ (by omega))
    refine w_pos hS2.gC (w_call0 hS2.size (w_ret ⟨rfl, by omega, by omega, gset_eq _ _ _, ⟨g, by rw [gset_ne _ _ (hne na hna)]; exact hG, hg⟩, fun b b1 b2 => by rw [gset_ne _ _ b2]; exact hlow b b1⟩))
  | succ j ih =>
    intro k m G nx Fm g hj hm hnx hnax hlow hS hF hFn hG hg
    obtain ⟨m, rfl⟩ := Nat.exists_eq_succ_of_ne_zero (show m ≠ 0 by omega)
    have hk : k < Ls.length := by omega
    obtain ⟨f1, f2⟩ := hf k hk
    have hM1 : G mo = some (mcell po bo pl (some pa) so nu) := (hlow mo hmo).trans hM
    have hKk := (kS_mono (f := keyS rs Ls pt) (Nat.le_of_lt hk)).1
    rw [hL_X8_parts_18]
    refine w_xR hM1 rfl rfl (w_some (w_aln ((hlow pa hpl).trans hpa) (w_neg (fun z => by have := (nI_leq (by omega) (by omega)).mp z; omega) (w_tick ?_))))
    refine w_call (sb_new (by omega) (by omega) (gset_eq _ _ _)) ?_
    rintro - G1 c1 s1 ⟨rfl, rfl, t1, t2⟩
    have k1 : ∀ b, b < nx → G1 b = G b := fun b hb' => by rw [t2 b (by omega) (by omega)]; exact gset_ne _ _ (by omega)
    have hlow1 : ∀ b, b < nx0 → G1 b = G0 b := fun b hb' => (k1 b (by omega)).trans (hlow b hb')
    refine w_xR ((hlow1 mo hmo).trans hM) rfl rfl (w_some (w_rdI ((hlow1 pa hpl).trans hpa) (gd_nI hk (by omega)) (w_pos (by obtain ⟨ml, ff, z, -⟩ := t1; exact gC_at z) ?_)))
    rw [f1]
    refine w_call (sb_int (V := V) (r := some (pt k)) (by omega) (hD.keep (fun a ha => hlow1 a (by omega))) t1 (by omega) (fun x hx => by cases hx; exact f2) (by omega) (by omega)) ?_
    rintro - G2 c2 s2 ⟨⟨d2, n2, u1, u2, u3⟩, u4⟩
    have hdl := dgt_len (r := some (pt k))
    obtain ⟨rfl, rfl, rfl, rfl⟩ : d2 = nx + 1 ∧ n2 = 16 ∧ c2 = 0 ∧ s2 = 0 := by
      rcases u3 with z | z
      · exact z
      · simp at z; omega
    have k2 : ∀ b, b < nx → G2 b = G b := fun b hb' => by rw [u4 b (by omega) (by omega) (by omega)]; exact k1 b hb'
    have hlow2 : ∀ b, b < nx0 → G2 b = G0 b := fun b hb' => (k2 b (by omega)).trans (hlow b hb')
    refine key_loop (sb := nx) (pa := pa) (pt := pt) hV hC hD hM h hL hmo hpl hpa hf hb hk (hcl k hk) (by omega) 5 0 V.2.2.2.2 G2 _ (nx + 1) 16 ([] ++ dgt (some (pt k))) _ (by omega) (by omega) (by omega) (by omega) (by omega) (by omega) u1 (Or.inl rfl) (by simp; omega) hlow2 ?_
    intro m' G3 c3 s3 d3 n3 y1 y2 y3 y4 y5 y6
    have hkey : [] ++ dgt (some (pt k)) ++ tailR (fun s => (ldP rs Ls k s).map pt) (List.range' 0 5) = keyS rs Ls pt k := rfl
    rw [hkey] at y1
    have k3 : ∀ b, b < nx → G3 b = G b := fun b hb' => by rw [y6 b (by omega) (by omega) (by omega)]; exact k2 b hb'
    have hlow3 : ∀ b, b < nx0 → G3 b = G0 b := fun b hb' => (k3 b (by omega)).trans (hlow b hb')
    rw [hL_X8_parts_51]
    refine w_pos (Int32.le_refl _) (w_some (w_pos (by obtain ⟨ml, ff, z, -⟩ := y1; exact gC_at z) ?_))
    generalize hN : nx + 1 + 1 + 0 + c3 = nx3 at y3 ⊢
    refine w_call (sb_toString y1 (by omega) (by omega)) ?_
    rintro r G4 c4 s4 ⟨rfl, rfl, rfl, v1, v2⟩
    have k4 : ∀ b, b < nx → G4 b = G b := fun b hb' => by rw [v2 b (by omega) (by omega)]; exact k3 b hb'
    have hlow4 : ∀ b, b < nx0 → G4 b = G0 b := fun b hb' => (k4 b (by omega)).trans (hlow b hb')
    have hS4 : SMap V G4 sm Fm (kS (keyS rs Ls pt) k) := hS.keep (fun a ha => k4 a (hF a ha).2) (fun a ha => k4 a (by omega))
    refine w_some (w_pos hS4.gC ?_)
    refine w_call (SMap.has hV hS4 (by omega) v1 (by omega) (fun z => by have := hF _ z; omega)) ?_
    rintro r G5 c5 s5 ⟨rfl, rfl, rfl, x1, x2⟩
    have hlk := keyS_len (rs := rs) (Ls := Ls) (pt := pt) (k := k)
    -- the value is read and kept
    have fin : ∀ (G6 : Gh) (nx6 cc ss : Nat) (F6 : Nat → Prop), SMap V G6 sm F6 (kS (keyS rs Ls pt) (k + 1)) → Str V G6 nx3 (nx3 + 1) (keyS rs Ls pt k) True → keyS rs Ls pt k ∈ kS (keyS rs Ls pt) (k + 1) → (∀ b, F6 b → nx0 ≤ b ∧ b < nx6) → ¬ F6 na → (∀ b, b < nx0 → G6 b = G0 b) → G6 na = G na → nx ≤ nx6 → cc + cS (kS (keyS rs Ls pt) k).length ≤ 15 + cS (kS (keyS rs Ls pt) (k + 1)).length → ss + sS (kS (keyS rs Ls pt) k).length ≤ 120 + sS (kS (keyS rs Ls pt) (k + 1)).length →
        wH (hB_X8_parts_132 V mo (hL_X8_parts_18 V mo m) G6 nx6 (some sm) (some na) (nI k) (some nx3)) (fun r G' c s => PaQ V G0 nx0 mo po bo pl so nu na Ls (keyS rs Ls pt) k r G' (cc + c) (ss + s)) := by
      intro G6 nx6 cc ss F6 z1 z2 z3 z4 z5 z6 z7 z8 z9 z10
      have hK1 := (kS_mono (f := keyS rs Ls pt) (show k + 1 ≤ Ls.length by omega)).1
      obtain ⟨rv, jj, e1, e2, va, rfl, e3, e4⟩ := SMap.get (nx := nx6) hV z1 (by omega) z2 z3
      unfold hB_X8_parts_132
      refine w_some (w_pos z1.gC (w_call0 e1 (w_pos (gok_at e4 (by simp)) (w_some (w_pos (gC_at e4) (w_call0 (intValue_at e4) (w_some (w_wrI (z7.trans hG) (by omega) (gd_nI hk (by omega)) ?_))))))))
      rw [nI_1]
      have zk : ∀ b, b ≠ na → gset G6 na (.inl (V.2.1 0, Ls.length, .inl (upd g k (nI jj)))) b = G6 b := fun b hb' => gset_ne _ _ hb'
      refine w_mono (ih (k + 1) m _ nx6 F6 (upd g k (nI jj)) (by omega) (by omega) (by omega) (by omega) (fun b hb' => by rw [zk b (by omega)]; exact z6 b hb') (z1.keep (fun a ha => zk a (fun w => z5 (w ▸ ha))) (fun a ha => zk a (by omega))) z4 z5 (gset_eq _ _ _) (fun i hi => ?_)) ?_
      · unfold upd
        by_cases ci : i = k
        · subst ci; rw [if_pos rfl]; exact ⟨jj, rfl, e2⟩
        · rw [if_neg ci]
          obtain ⟨j', w1, w2⟩ := hg i (by omega)
          exact ⟨j', w1, (kS_mono (show k ≤ k + 1 by omega)).2 j' _ w2⟩
      · rintro r G' c s ⟨w1, w2, w3, w4⟩
        exact ⟨w1, by omega, by omega, w4⟩
    have k5 : ∀ b, b < nx → G5 b = G b := fun b hb' => by rw [x2 b (by omega)]; exact k4 b hb'
    have hlow5 : ∀ b, b < nx0 → G5 b = G0 b := fun b hb' => (k5 b (by omega)).trans (hlow b hb')
    have hS5 : SMap V G5 sm Fm (kS (keyS rs Ls pt) k) := hS.keep (fun a ha => k5 a (hF a ha).2) (fun a ha => k5 a (by omega))
    by_cases c : keyS rs Ls pt k ∈ kS (keyS rs Ls pt) k
    · have ek : kS (keyS rs Ls pt) (k + 1) = kS (keyS rs Ls pt) k := by rw [kS, if_pos c]
      refine w_neg (by rw [if_pos c]; decide) ?_
      rw [eq_true c] at x1
      refine w_mono (fin G5 _ (4 + c3) (24 + s3 + (keyS rs Ls pt k).length) Fm (by rw [ek]; exact hS5) x1 (by rw [ek]; exact c) (fun b hb' => by have := hF b hb'; omega) hFn hlow5 (k5 na hnax) (by omega) (by rw [ek]; omega) (by rw [ek]; omega)) ?_
      intro r G' c' s' hq
      have e1 : 1 + (1 + (0 + (c3 + (2 + (0 + c'))))) = 4 + c3 + c' := by omega
      have e2 : 4 + (16 + (0 + (s3 + (4 + (keyS rs Ls pt k).length + (0 + s'))))) = 24 + s3 + (keyS rs Ls pt k).length + s' := by omega
      rw [e1, e2]; exact hq
    · have ek : kS (keyS rs Ls pt) (k + 1) = kS (keyS rs Ls pt) k ++ [keyS rs Ls pt k] := by rw [kS, if_neg c]
      have hK1 := (kS_mono (f := keyS rs Ls pt) (show k + 1 ≤ Ls.length by omega)).1
      rw [ek, List.length_append] at hK1
      simp only [List.length_singleton] at hK1
      refine w_pos (by rw [if_neg c]) (w_pos hS5.gC (w_call0 hS5.size ?_))
      obtain ⟨rv, e1, e2⟩ := valueOf_at (nx := nx3 + 2 + 0 + 0) (hC.keep (fun a ha => hlow5 a (by omega))) (show (kS (keyS rs Ls pt) k).length < 128 by omega)
      refine w_call0 e1 (w_pos hS5.gC ?_)
      refine w_call (SMap.put hV hS5 (by omega) x1 (by omega) c (fun a ha => by have := hF a ha; omega) (by omega) (by omega) (fun z => by have := hF _ z; omega) (fun z => by have := hF _ z; omega) e2) ?_
      rintro r G6 c6 s6 ⟨z1, z2, z3, z4, z5⟩
      have k6 : ∀ b, b < nx → ¬ Fm b → G6 b = G b := fun b hb' hb2 => by rw [z5 b hb2 (by omega) (by omega)]; exact k5 b hb'
      have hcs : cS (kS (keyS rs Ls pt) (k + 1)).length = cS (kS (keyS rs Ls pt) k).length + ((kS (keyS rs Ls pt) k).length + 4) := by rw [ek, List.length_append]; rfl
      have hss : sS (kS (keyS rs Ls pt) (k + 1)).length = sS (kS (keyS rs Ls pt) k).length + (11 * (kS (keyS rs Ls pt) k).length + 176) := by rw [ek, List.length_append]; rfl
      refine w_mono (fin G6 _ (4 + c3 + c6) (24 + s3 + (keyS rs Ls pt k).length + s6) _ (by rw [ek]; exact z3) z4 (by rw [ek]; simp) (fun b hb' => ?_) (fun hb' => ?_) (fun b hb' => ?_) (k6 na hnax hFn) (by omega) (by omega) (by omega)) ?_
      · rcases hb' with w | w | w | w
        · have := hF b w; omega
        · omega
        · omega
        · omega
      · rcases hb' with w | w | w | w
        · exact hFn w
        · omega
        · omega
        · omega
      · rw [k6 b (by omega) (fun w => by have := hF b w; omega)]; exact hlow b hb'
      · intro r G' c' s' hq
        have e1 : 1 + (1 + (0 + (c3 + (2 + (0 + (c6 + c')))))) = 4 + c3 + c6 + c' := by omega
        have e2 : 4 + (16 + (0 + (s3 + (4 + (keyS rs Ls pt k).length + (0 + (s6 + s')))))) = 24 + s3 + (keyS rs Ls pt k).length + s6 + s' := by omega
        rw [e1, e2]; exact hq
end X

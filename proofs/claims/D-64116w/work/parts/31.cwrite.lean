/-! ===== contracts: the component writes ===== -/
/-- the changes that were found -/
def cCh (M : Nat → Int → Int) : Nat → List c4 → Prop
  | _, [] => True
  | k, c :: R => M (42 + k) 0 = c.1 ∧ M (42 + k) 1 = c.2.1 ∧ M (42 + k) 2 = c.2.2.1 ∧ M (42 + k) 3 = c.2.2.2 ∧ cCh M (k + 1) R
theorem cCh.kept {M M' : Nat → Int → Int} (L : List c4) : ∀ k, cCh M k L → (∀ a, 42 + k ≤ a → a < 42 + k + L.length → M' a = M a) → cCh M' k L := by
  induction L with
  | nil => intro k _ _; trivial
  | cons c L ih =>
    intro k ⟨h1, h2, h3, h4, h5⟩ hf
    rw [List.length_cons] at hf
    have e := hf (42 + k) (by omega) (by omega)
    exact ⟨by rw [e]; exact h1, by rw [e]; exact h2, by rw [e]; exact h3, by rw [e]; exact h4, ih (k + 1) h5 (fun a a1 a2 => hf a (by omega) (by omega))⟩
theorem cCh.app {M : Nat → Int → Int} (A B : List c4) : ∀ k, cCh M k (A ++ B) ↔ cCh M k A ∧ cCh M (k + A.length) B := by
  induction A with
  | nil => intro k; simp [cCh]
  | cons c A ih =>
    intro k
    simp only [List.cons_append, cCh, ih, List.length_cons]
    rw [show k + (A.length + 1) = k + 1 + A.length by omega]
    constructor
    · rintro ⟨h1, h2, h3, h4, h5, h6⟩; exact ⟨⟨h1, h2, h3, h4, h5⟩, h6⟩
    · rintro ⟨⟨h1, h2, h3, h4, h5⟩, h6⟩; exact ⟨h1, h2, h3, h4, h5, h6⟩
theorem rSh.chg {K : Nat → Option (Nat × Nat)} {g : Nat → Int → Option Nat} (hs : rSh K g) {k : Nat} (hk : k < 25) : g 29 (k : Int) = some (42 + k) ∧ K (42 + k) = some (0, 5) := by
  have h1 : ∀ k : Nat, k < 25 → gOf.contains (29, (k : Int), 42 + k) = true ∧ kOf.contains (42 + k, 0, 5) = true := by decide +kernel
  exact ⟨hs.g (h1 k hk).1, hs.k (h1 k hk).2⟩
theorem CLp_st {mt : Int → Int} {n m : Int} (R : List c4) {i j : Int} (hi : i < n) (hj : 0 ≤ j) (he : mt i = j) (h : CLp mt n m i j R) : CLp mt n m (i + 1) (j + 1) R := by
  cases R with
  | nil =>
    obtain ⟨h1, h2, h3⟩ := h
    exact ⟨by omega, by omega, fun t t1 t2 => by rw [h3 t (by omega) t2]; omega⟩
  | cons c R =>
    obtain ⟨h1, h2, h3, h4, h5, h6, h7, h8, h9, h10, h11, h12⟩ := h
    have hx : i < c.1 := by
      by_cases q : c.1 = i
      · by_cases q2 : c.1 < c.2.1
        · have := h9 i (by omega) (by omega); omega
        · have e : c.2.1 = i := by omega
          have := h10 (by omega)
          rw [e] at this
          omega
      · omega
    exact ⟨by omega, by omega, fun t t1 t2 => by rw [h3 t (by omega) t2]; omega, h4, h5, h6, h7, h8, h9, h10, h11, h12⟩
section
variable {G : j_G} {d N : Nat} {K : Nat → Option (Nat × Nat)} {M : Nat → Int → Int} {g : Nat → Int → Option Nat} {l1 l2 : List Int} {mt : Int → Int}
/-- only field 9 of the patcher and the changes have changed -/
def cF9 (M M' : Nat → Int → Int) : Prop := (∀ a, a ≠ 0 → (a < 42 ∨ 66 < a) → M' a = M a) ∧ ∀ k, k ≠ 9 → M' 0 k = M 0 k
theorem ct_LP_findChanges {L : List c4} (hs : rSh K g) (h1 : cTx M 10 l1) (h2 : cTx M 12 l2) (hm : ∀ i : Int, 0 ≤ i → i < l1.length → M 14 i = mt i) (hg : gm mt 0 l1.length 0 l2.length) (hL : CLp mt l1.length l2.length 0 0 L) :
    j_Ct G jm_LP_findChanges d 0 0 [jr_ 0] (N, K, M, g) (j_pV N K g fun M' => cCh M' 0 L ∧ M' 0 9 = L.length ∧ cF9 M M') := by
  have n24 := h1.2.1
  have m24 := h2.2.1
  have hLl := (CLp_len L 0 0 (by omega) hL).1
  refine j_Ct.ofJ (ls := [jr_ 0, ju_, ju_, ju_]) (by decide) rfl rfl ?_
  refine s_LP_findChanges_0 hs.K0 ?_
  suffices lp : ∀ (f : Nat) (i j : Int) (A R : List c4) (M1 : Nat → Int → Int) (u3 : j_V), (l1.length - i) + (l2.length - j) ≤ f → 0 ≤ i → i ≤ l1.length → 0 ≤ j → j ≤ l2.length → L = A ++ R → CLp mt l1.length l2.length i j R → cCh M1 0 A → M1 0 9 = A.length → cF9 M M1 →
      j_J G jm_LP_findChanges d 0 0 9 [jr_ 0, ji_ i, ji_ j, u3] [] (N, K, M1, g) (j_pV N K g fun M' => cCh M' 0 L ∧ M' 0 9 = L.length ∧ cF9 M M') from
    lp 48 0 0 [] L (j_up M 0 9 0) ju_ (by omega) (by omega) (by omega) (by omega) (by omega) rfl hL trivial (by rw [j_up_eq]; rfl) ⟨fun a a1 a2 => j_up_a a1, fun k hk => j_up_ne (Or.inr hk)⟩
  intro f
  induction f with
  | zero =>
    intro i j A R M1 u3 hf hi0 hi hj0 hj hLA hR hA h9 hfr
    have e10 : M1 10 1 = l1.length := by rw [hfr.1 10 (by omega) (by omega)]; exact h1.1
    have e12 : M1 12 1 = l2.length := by rw [hfr.1 12 (by omega) (by omega)]; exact h2.1
    have ei : i = l1.length := by omega
    have ej : j = l2.length := by omega
    rw [ei, ej] at hR
    have := CLp_end R hR
    subst this
    rw [List.append_nil] at hLA
    subst hLA
    refine s_LP_findChanges_9 hs.K0 hs.G0_3 hs.K9 hs.G9_0 hs.K10 (r6 := by rw [e10]; omega) (k1 := fun q => by omega) (k2 := fun _ => ?_)
    exact s_LP_findChanges_23 hs.K0 hs.G0_3 hs.K9 hs.G9_1 hs.K12 (r6 := by rw [e12]; omega) (k1 := fun _ => ⟨M1, rfl, rfl, hA, h9, hfr⟩) (k2 := fun q => by omega)
  | succ f ih =>
    intro i j A R M1 u3 hf hi0 hi hj0 hj hLA hR hA h9 hfr
    have e10 : M1 10 1 = l1.length := by rw [hfr.1 10 (by omega) (by omega)]; exact h1.1
    have e12 : M1 12 1 = l2.length := by rw [hfr.1 12 (by omega) (by omega)]; exact h2.1
    have e14 : ∀ t : Int, 0 ≤ t → t < l1.length → M1 14 t = mt t := fun t t0 t1 => by rw [hfr.1 14 (by omega) (by omega)]; exact hm t t0 t1
    -- a change
    have chg : (i < l1.length ∨ j < l2.length) → ¬ (i < l1.length ∧ mt i = j) → j_J G jm_LP_findChanges d 0 0 73 [jr_ 0, ji_ i, ji_ j, u3] [] (N, K, M1, g) (j_pV N K g fun M' => cCh M' 0 L ∧ M' 0 9 = L.length ∧ cF9 M M') := by
      intro hb hn
      cases R with
      | nil =>
        obtain ⟨r1, r2, r3⟩ := hR
        by_cases q : i < l1.length
        · exact absurd ⟨q, by rw [r3 i (Int.le_refl _) q]; omega⟩ hn
        · omega
      | cons c R =>
        obtain ⟨r1, r2, r3, r4, r5, r6, r7, r8, r9, r10, r11, r12⟩ := hR
        have hx : c.1 = i := by
          by_cases q : i < c.1
          · exact absurd ⟨by omega, by rw [r3 i (Int.le_refl _) q]; omega⟩ hn
          · omega
        have hy : c.2.2.1 = j := by omega
        have hAl : A.length < 25 := by
          have : (L.length : Int) = A.length + (R.length + 1) := by rw [hLA, List.length_append, List.length_cons]; omega
          omega
        obtain ⟨g29, k42⟩ := hs.chg hAl
        refine s_LP_findChanges_73 hs.K0 hs.G0_8 (tg2 := 2) hs.K29 (r3 := by rw [h9]; omega) (r3' := by rw [h9]; omega) (hg5 := by rw [h9]; exact g29) (hk3 := k42) (k1 := ?_)
        have f2 : cF9 M (j_up (j_up M1 (42 + A.length) 0 i) (42 + A.length) 2 j) := ⟨fun a a1 a2 => by rw [j_up_a (by omega), j_up_a (by omega)]; exact hfr.1 a a1 a2, fun k hk => by rw [j_up_a (by omega), j_up_a (by omega)]; exact hfr.2 k hk⟩
        have h92 : j_up (j_up M1 (42 + A.length) 0 i) (42 + A.length) 2 j 0 9 = A.length := by rw [j_up_a (by omega), j_up_a (by omega)]; exact h9
        have hA2 : cCh (j_up (j_up M1 (42 + A.length) 0 i) (42 + A.length) 2 j) 0 A := hA.kept A 0 (fun a a1 a2 => by rw [j_up_a (by omega), j_up_a (by omega)])
        have w0 : j_up (j_up M1 (42 + A.length) 0 i) (42 + A.length) 2 j (42 + A.length) 0 = c.1 := by rw [j_up_ne (Or.inr (by omega)), j_up_eq, hx]
        have w2 : j_up (j_up M1 (42 + A.length) 0 i) (42 + A.length) 2 j (42 + A.length) 2 = c.2.2.1 := by rw [j_up_eq, hy]
        generalize j_up (j_up M1 (42 + A.length) 0 i) (42 + A.length) 2 j = M2 at f2 h92 hA2 w0 w2 ⊢
        have e10 : M2 10 1 = l1.length := by rw [f2.1 10 (by omega) (by omega)]; exact h1.1
        have e12 : M2 12 1 = l2.length := by rw [f2.1 12 (by omega) (by omega)]; exact h2.1
        have e14 : ∀ t : Int, 0 ≤ t → t < l1.length → M2 14 t = mt t := fun t t0 t1 => by rw [f2.1 14 (by omega) (by omega)]; exact hm t t0 t1
        -- the end of the change
        have fin : ∀ t0 : Int, t0 = c.2.2.2 → j_J G jm_LP_findChanges d 0 0 161 [jr_ 0, ji_ c.2.1, ji_ j, jr_ (42 + A.length)] [ji_ t0] (N, K, M2, g) (j_pV N K g fun M' => cCh M' 0 L ∧ M' 0 9 = L.length ∧ cF9 M M') := by
          intro t0 ht0
          subst ht0
          refine s_LP_findChanges_161 k42 (hk2 := hs.K0) (k1 := ?_)
          have e9 : j_up (j_up M2 (42 + A.length) 1 c.2.1) (42 + A.length) 3 c.2.2.2 0 9 = A.length := by rw [j_up_a (by omega), j_up_a (by omega)]; exact h92
          rw [e9]
          refine ih c.2.1 c.2.2.2 (A ++ [c]) R _ _ (by omega) (by omega) r5 (by omega) r7 (by rw [hLA, List.append_assoc]; rfl) r12 ?_ (by rw [j_up_eq, List.length_append]; rfl) ⟨fun a a1 a2 => by rw [j_up_a a1, j_up_a (by omega), j_up_a (by omega)]; exact f2.1 a a1 a2, fun k hk => by rw [j_up_ne (Or.inr hk), j_up_a (by omega), j_up_a (by omega)]; exact f2.2 k hk⟩
          refine (cCh.app A [c] 0).mpr ⟨hA2.kept A 0 (fun a a1 a2 => by rw [j_up_a (by omega), j_up_a (by omega), j_up_a (by omega)]), ?_⟩
          rw [Nat.zero_add]
          refine ⟨?_, ?_, ?_, ?_, trivial⟩
          · rw [j_up_a (by omega), j_up_ne (Or.inr (by omega)), j_up_ne (Or.inr (by omega))]; exact w0
          · rw [j_up_a (by omega), j_up_ne (Or.inr (by omega)), j_up_eq]
          · rw [j_up_a (by omega), j_up_ne (Or.inr (by omega)), j_up_ne (Or.inr (by omega))]; exact w2
          · rw [j_up_a (by omega), j_up_eq]
        have k125 : j_J G jm_LP_findChanges d 0 0 125 [jr_ 0, ji_ c.2.1, ji_ j, jr_ (42 + A.length)] [] (N, K, M2, g) (j_pV N K g fun M' => cCh M' 0 L ∧ M' 0 9 = L.length ∧ cF9 M M') := by
          refine s_LP_findChanges_125 hs.K0 hs.G0_3 hs.K9 hs.G9_0 hs.K10 (r6 := by rw [e10]; omega) (k1 := fun q => ?_) (k2 := fun q => ?_)
          · exact s_LP_findChanges_151 hs.K0 hs.G0_3 hs.K9 hs.G9_1 hs.K12 (k1 := fin _ (by rw [e12]; exact (r11 (by omega)).symm))
          · exact s_LP_findChanges_139 hs.K0 hs.G0_3 hs.K9 hs.G9_2 hs.K14 (r5 := by omega) (r5' := by omega) (k1 := fin _ (by rw [e14 _ (by omega) (by omega)]; exact r10 (by omega)))
        suffices ls : ∀ (k : Nat) (t : Int), t + k = c.2.1 → c.1 ≤ t → j_J G jm_LP_findChanges d 0 0 93 [jr_ 0, ji_ t, ji_ j, jr_ (42 + A.length)] [] (N, K, M2, g) (j_pV N K g fun M' => cCh M' 0 L ∧ M' 0 9 = L.length ∧ cF9 M M') by
          have := ls (c.2.1 - c.1).toNat c.1 (by omega) (by omega)
          rw [hx] at this
          exact this
        intro k
        induction k with
        | zero =>
          intro t ht t0
          have et : t = c.2.1 := by omega
          subst et
          refine s_LP_findChanges_93 hs.K0 hs.G0_3 hs.K9 hs.G9_0 hs.K10 (r6 := by rw [e10]; omega) (k1 := fun q => k125) (k2 := fun q => ?_)
          have e := e14 c.2.1 (by omega) (by omega)
          have e' := r10 (by omega)
          exact s_LP_findChanges_107 hs.K0 hs.G0_3 hs.K9 hs.G9_2 hs.K14 (r5 := by omega) (r5' := by omega) (r6 := by rw [e]; omega) (k1 := fun _ => k125) (k2 := fun q => by omega)
        | succ k ihk =>
          intro t ht t0
          have e := e14 t (by omega) (by omega)
          have e' := r9 t t0 (by omega)
          refine s_LP_findChanges_93 hs.K0 hs.G0_3 hs.K9 hs.G9_0 hs.K10 (r6 := by rw [e10]; omega) (k1 := fun q => by omega) (k2 := fun q => ?_)
          exact s_LP_findChanges_107 hs.K0 hs.G0_3 hs.K9 hs.G9_2 hs.K14 (r5 := by omega) (r5' := by omega) (r6 := by rw [e]; omega) (k1 := fun _ => by omega) (k2 := fun q => ihk (t + 1) (by omega) (by omega))
    have k37 : (i < l1.length ∨ j < l2.length) → j_J G jm_LP_findChanges d 0 0 37 [jr_ 0, ji_ i, ji_ j, u3] [] (N, K, M1, g) (j_pV N K g fun M' => cCh M' 0 L ∧ M' 0 9 = L.length ∧ cF9 M M') := by
      intro hb
      refine s_LP_findChanges_37 hs.K0 hs.G0_3 hs.K9 hs.G9_0 hs.K10 (r6 := by rw [e10]; omega) (k1 := fun q => chg hb (by omega)) (k2 := fun q => ?_)
      have e := e14 i hi0 (by omega)
      have hr := hg.1 i hi0 (by omega)
      refine s_LP_findChanges_51 hs.K0 hs.G0_3 hs.K9 hs.G9_2 hs.K14 (r5 := by omega) (r5' := by omega) (r6 := by rw [e]; omega) (k1 := fun q2 => chg hb (by omega)) (k2 := fun q2 => ?_)
      exact ih (i + 1) (j + 1) A R M1 _ (by omega) (by omega) (by omega) (by omega) (by omega) hLA (CLp_st R (by omega) hj0 (by omega) hR) hA h9 hfr
    refine s_LP_findChanges_9 hs.K0 hs.G0_3 hs.K9 hs.G9_0 hs.K10 (r6 := by rw [e10]; omega) (k1 := fun q => k37 (by omega)) (k2 := fun q => ?_)
    refine s_LP_findChanges_23 hs.K0 hs.G0_3 hs.K9 hs.G9_1 hs.K12 (r6 := by rw [e12]; omega) (k1 := fun q2 => ?_) (k2 := fun q2 => k37 (by omega))
    have ei : i = l1.length := by omega
    have ej : j = l2.length := by omega
    rw [ei, ej] at hR
    have := CLp_end R hR
    subst this
    rw [List.append_nil] at hLA
    subst hLA
    exact ⟨M1, rfl, rfl, hA, h9, hfr⟩
/-- only the paper has changed -/
def cF3 (M M' : Nat → Int → Int) : Prop := (∀ a, a ≠ 30 → a ≠ 31 → M' a = M a) ∧ ∀ k, k ≠ 1 → M' 30 k = M 30 k
theorem cF3.rfl : cF3 M M := ⟨fun _ _ _ => Eq.refl _, fun _ _ => Eq.refl _⟩
theorem cF3.trans {M1 M2 : Nat → Int → Int} (h1 : cF3 M M1) (h2 : cF3 M1 M2) : cF3 M M2 := ⟨fun a x y => (h2.1 a x y).trans (h1.1 a x y), fun k x => (h2.2 k x).trans (h1.2 k x)⟩
theorem ct_put {P : List Int} {x : Int} (hs : rSh K g) (hc : cPp M P) (hP : (P.length : Int) < 900) : j_Ct G jm_Pp_put d 0 0 [jr_ 30, ji_ x] (N, K, M, g) (j_pV N K g fun M' => cPp M' (P ++ [x]) ∧ cF3 M M') :=
  j_Ct.mono (ct_Pp_put hs hc hP (y := x) (Eq.refl _)) (fun o σ ⟨M', e1, e2, e3, e4, e5⟩ => ⟨M', e1, e2, e3, e4, e5⟩)
theorem ct_Pp_number {P : List Int} {v : Int} (hs : rSh K g) (hc : cPp M P) (hv : 0 ≤ v ∧ v ≤ 99) (hP : (P.length : Int) + 2 ≤ 900) : j_Ct G jm_Pp_number (d + 1) 0 0 [jr_ 30, ji_ v] (N, K, M, g) (j_pV N K g fun M' => cPp M' (P ++ numT v) ∧ cF3 M M') := by
  refine j_Ct.ofJ (ls := [jr_ 30, ji_ v]) (by decide) (Eq.refl _) (Eq.refl _) ?_
  have ed : v.tdiv 10 = v / 10 := Int.tdiv_eq_ediv_of_nonneg hv.1
  have em : v.tmod 10 = v % 10 := Int.tmod_eq_emod_of_nonneg hv.1
  refine s_Pp_number_0 (k1 := fun q => ?_) (k2 := fun q => ?_)
  · refine s_Pp_number_17 (hk1 := hs.K30) (hC := ct_put hs hc (by omega)) (k1 := fun M1 hq => ?_)
    refine s_Pp_number_28 ⟨M1, Eq.refl _, Eq.refl _, ?_, hq.2⟩
    unfold numT
    rw [if_neg (by omega), ← em]
    exact hq.1
  · refine s_Pp_number_6 (hk1 := hs.K30) (hC := ct_put hs hc (by omega)) (k1 := fun M1 hq => ?_)
    refine s_Pp_number_17 (hk1 := hs.K30) (hC := ct_put hs hq.1 (by rw [List.length_append]; simp; omega)) (k1 := fun M2 hq2 => ?_)
    refine s_Pp_number_28 ⟨M2, Eq.refl _, Eq.refl _, ?_, hq.2.trans hq2.2⟩
    have := hq2.1
    unfold numT
    rw [if_pos q, ← em, ← ed]
    rw [List.append_assoc] at this
    exact this
theorem ct_LP_rows {P l : List Int} {sg fr to : Int} {t : Nat} (hs : rSh K g) (hc : cPp M P) (ht : t = 10 ∨ t = 12) (hT : cTx M t l) (hf : 0 ≤ fr) (hft : fr ≤ to) (hto : to ≤ l.length) (hP : (P.length : Int) + 3 * (to - fr) ≤ 900) :
    j_Ct G jm_LP_rows (d + 1) 0 0 [jr_ 0, ji_ sg, jr_ t, ji_ fr, ji_ to] (N, K, M, g) (j_pV N K g fun M' => cPp M' (P ++ rowsT (kpL sg l fr to)) ∧ cF3 M M') := by
  have hR : rTx K g M t (t + 1) l := by
    rcases ht with rfl | rfl
    · exact hT.r hs (Eq.refl _) (Eq.refl _) (Eq.refl _)
    · exact hT.r hs (Eq.refl _) (Eq.refl _) (Eq.refl _)
  have l24 := hT.2.1
  refine j_Ct.ofJ (ls := [jr_ 0, ji_ sg, jr_ t, ji_ fr, ji_ to, ju_]) (by decide) (Eq.refl _) (Eq.refl _) ?_
  refine s_LP_rows_0 ?_
  suffices lp : ∀ (k : Nat) (i : Int) (M1 : Nat → Int → Int), i + k = to → fr ≤ i → cPp M1 (P ++ rowsT (kpL sg l fr i)) → cF3 M M1 →
      j_J G jm_LP_rows (d + 1) 0 0 3 [jr_ 0, ji_ sg, jr_ t, ji_ fr, ji_ to, ji_ i] [] (N, K, M1, g) (j_pV N K g fun M' => cPp M' (P ++ rowsT (kpL sg l fr to)) ∧ cF3 M M') from
    lp (to - fr).toNat fr M (by omega) (by omega) (by rw [kpL_nil (Int.le_refl _)]; simp only [rowsT, List.append_nil]; exact hc) cF3.rfl
  intro k
  induction k with
  | zero =>
    intro i M1 hi h0 hp hfr
    have e : i = to := by omega
    subst e
    exact s_LP_rows_3 (k1 := fun _ => ⟨M1, Eq.refl _, Eq.refl _, hp, hfr⟩) (k2 := fun q => by omega)
  | succ k ih =>
    intro i M1 hi h0 hp hfr
    have hlen : ((P ++ rowsT (kpL sg l fr i)).length : Int) = P.length + 3 * (i - fr) := by
      rw [List.length_append, rowsT_len]
      have := kpL_len (k := sg) (l := l) hf h0 (by omega)
      omega
    have ecell : M1 (t + 1) i = lg l i := by rw [hfr.1 _ (by omega) (by omega)]; exact hT.2.2.1 i (by omega) (by omega)
    refine s_LP_rows_3 (k1 := fun q => by omega) (k2 := fun _ => ?_)
    refine s_LP_rows_10 hs.K0 hs.G0_10 hs.K30 (ct_put hs hp (by omega)) (fun M2 hq => ?_)
    have l2 : (((P ++ rowsT (kpL sg l fr i)) ++ [sg]).length : Int) = P.length + 3 * (i - fr) + 1 := by rw [List.length_append, List.length_singleton]; omega
    have ecell2 : M2 (t + 1) i = lg l i := by rw [hq.2.1 _ (by omega) (by omega)]; exact ecell
    refine s_LP_rows_18 hs.K0 hs.G0_10 hR.1 hR.2.1 hR.2.2.1 (r5 := by omega) (r5' := by omega) (hk4 := hs.K30) (hC := ct_put hs hq.1 (by omega)) (k1 := fun M3 hq3 => ?_)
    rw [ecell2] at hq3
    refine s_LP_rows_32 hs.K0 hs.G0_10 hs.K30 (ct_put hs hq3.1 (by rw [List.length_append]; simp only [List.length_singleton]; omega)) (fun M4 hq4 => ?_)
    refine s_LP_rows_41 ?_
    refine ih (i + 1) M4 (by omega) (by omega) ?_ (((hfr.trans hq.2).trans hq3.2).trans hq4.2)
    rw [kpL_snoc hf h0 (by omega), rowsT_app]
    have := hq4.1
    simp only [List.append_assoc] at this
    exact this
end

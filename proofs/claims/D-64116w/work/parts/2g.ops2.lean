/-! ===== contracts: paper, comparing and matching of the component ===== -/
theorem bmod_mod {x : Int} (h : 0 ≤ x ∧ x ≤ 255) : (x.bmod 256) % 2 ^ 8 = x := by
  have := Int.bmod_emod (x := x) (m := 256)
  rw [show ((2 : Int) ^ 8) = ((256 : Nat) : Int) from rfl, this]
  omega
theorem bmod_mod2 {x : Int} : (x % 2 ^ 8).bmod 256 = x.bmod 256 := by
  rw [show ((2 : Int) ^ 8) = ((256 : Nat) : Int) from rfl, Int.emod_bmod]
theorem bmod_rng {x : Int} : -128 ≤ x.bmod 256 ∧ x.bmod 256 ≤ 127 := by
  have h1 := Int.le_bmod (x := x) (m := 256) (by decide)
  have h2 := Int.bmod_lt (x := x) (m := 256) (by decide)
  omega
section
variable {G : j_G} {d N : Nat} {K : Nat → Option (Nat × Nat)} {M : Nat → Int → Int} {g : Nat → Int → Option Nat} {A : AS}
theorem ct_Pp_put {P : List Int} {x y : Int} (hs : rSh K g) (hc : cPp M P) (hP : (P.length : Int) < 900) (hy : x.bmod 256 = y.bmod 256) : j_Ct G jm_Pp_put d 0 0 [jr_ 30, ji_ x] (N, K, M, g) (j_pV N K g fun M' => cPp M' (P ++ [y]) ∧ (∀ a, a ≠ 30 → a ≠ 31 → M' a = M a) ∧ ∀ k, k ≠ 1 → M' 30 k = M 30 k) := by
  obtain ⟨c1, c2, c3, c4⟩ := hc
  have hb := bmod_rng (x := x)
  refine j_Ct.ofJ (ls := [jr_ 30, ji_ x]) (by decide) rfl rfl ?_
  refine s_Pp_put_0 hs.K30 hs.G30_0 hs.K31 (r4 := hb) (k1 := ⟨_, rfl, rfl, ⟨?_, ?_, fun i i0 i1 => ?_, fun i i0 i1 => ?_⟩, fun a a1 a2 => by rw [j_up_a a2, j_up_a a1], fun k hk => by rw [j_up_a (by omega), j_up_ne (Or.inr hk)]⟩)
  · rw [j_up_a (by omega), j_up_eq, c1, List.length_append]; rfl
  · rw [List.length_append]; simp; omega
  · rw [c1]
    rw [List.length_append, List.length_singleton] at i1
    by_cases hi : i = P.length
    · subst hi; rw [j_up_eq, lg_app2 rfl, hy]
    · rw [j_up_ne (Or.inr hi), j_up_a (by omega), lg_app1 i0 (by omega)]; exact c3 i i0 (by omega)
  · rw [c1]
    by_cases hi : i = P.length
    · subst hi; rw [j_up_eq]; exact hb
    · rw [j_up_ne (Or.inr hi), j_up_a (by omega)]; exact c4 i i0 i1
theorem aInv.paper {P : List Int} (h : aInv A) (h1 : ∀ i : Int, 0 ≤ i → i < P.length → 0 ≤ lg P i ∧ lg P i ≤ 255) (h2 : (P.length : Int) ≤ 900) : aInv (A.1, A.2.1, P) := ⟨h.1, h.2.1, h1, h2⟩
theorem dnL_r {x : Int64} (n : Nat) : ∀ i : Int, 0 ≤ i → i < (dnL x n).length → 0 ≤ lg (dnL x n) i ∧ lg (dnL x n) i ≤ 255 := by
  induction n with
  | zero => intro i i0 i1; simp [dnL] at i1; omega
  | succ n ih =>
    intro i i0 i1
    by_cases hi : i = 0
    · subst hi; exact chA_r
    · rw [dnL, lg_cons (by omega)]
      rw [dnL, List.length_cons] at i1
      exact ih (i - 1) (by omega) (by omega)
theorem byt_app {P R : List Int} (h1 : ∀ i : Int, 0 ≤ i → i < P.length → 0 ≤ lg P i ∧ lg P i ≤ 255) (h2 : ∀ i : Int, 0 ≤ i → i < R.length → 0 ≤ lg R i ∧ lg R i ≤ 255) : ∀ i : Int, 0 ≤ i → i < (P ++ R).length → 0 ≤ lg (P ++ R) i ∧ lg (P ++ R) i ≤ 255 := by
  intro i i0 i1
  rw [List.length_append] at i1
  by_cases h : i < P.length
  · rw [lg_appL i0 h]; exact h1 i i0 h
  · rw [lg_appR (by omega)]; exact h2 _ (by omega) (by omega)
theorem ct_LP_type {n : Int} {x : Int64} (hs : rSh K g) (hc : cInv M A) (ha : aInv A) (hn : -2147483648 ≤ n ∧ n ≤ 2147483647) : j_Ct G jm_LP_type (d + 1) 0 0 [jr_ 0, jl_ x, ji_ n] (N, K, M, g) (j_pI N K g (cP M (fType A x n))) := by
  refine j_Ct.ofJ (ls := [jr_ 0, jl_ x, ju_, ji_ n, ju_]) (by decide) rfl rfl ?_
  refine s_LP_type_0 (ct_LP_within hn (by omega) (by omega)) (fun z M1 hq => ?_)
  obtain ⟨hM, hz⟩ := hq
  subst hM
  have hp := hc.2.2.2
  have hpl := hp.2.1
  refine s_LP_type_7 (r1 := by omega) (k1 := fun c => ?_) (k2 := fun c => ⟨_, M1, rfl, rfl, by unfold fType; rw [if_neg (by omega)]; exact ⟨rfl, hc, ha, cOut.rfl⟩⟩)
  refine s_LP_type_12 hs.K0 hs.G0_10 hs.K30 (r3 := by rw [hp.1]; omega) (k1 := fun c2 => ?_) (k2 := fun c2 => ⟨_, M1, rfl, rfl, by rw [hp.1] at c2; unfold fType; rw [if_pos (by omega), if_pos c2]; exact ⟨rfl, hc, ha, cOut.rfl⟩⟩)
  rw [hp.1] at c2
  suffices lq : ∀ (s : Nat) (P : List Int) (M2 : Nat → Int → Int), (s : Int) ≤ n → P ++ dnL x s = A.2.2 ++ dnL x n.toNat → cPp M2 P → (∀ a, a ≠ 30 → a ≠ 31 → M2 a = M1 a) → j_J G jm_LP_type (d + 1) 0 0 35 [jr_ 0, jl_ x, ju_, ji_ n, ji_ ((s : Int) - 1)] [] (N, K, M2, g) (j_pI N K g (cP M1 (fType A x n))) by
    have := lq n.toNat A.2.2 M1 (by omega) rfl hp (fun _ _ _ => rfl)
    rw [show ((n.toNat : Nat) : Int) = n by omega] at this
    exact this
  intro s
  induction s with
  | zero =>
    intro P M2 hsn hl2 hcl hf
    have hle : P = A.2.2 ++ dnL x n.toNat := by rw [← hl2]; simp [dnL]
    subst hle
    refine s_LP_type_35 (k1 := fun _ => ?_) (k2 := fun q => by omega)
    refine s_LP_type_61 hs.K0 hs.G0_10 hs.K30 ⟨_, M2, rfl, rfl, ?_⟩
    unfold fType
    rw [if_pos (by omega), if_neg (by omega)]
    have hle : ((A.2.2 ++ dnL x n.toNat).length : Int) = A.2.2.length + n := by rw [List.length_append, dnL_len]; omega
    exact ⟨by rw [hcl.1, hle], hc.paper hf hcl, ha.paper (byt_app ha.2.2.1 (dnL_r _)) (by omega), fun a a1 => hf a (by omega) (by omega)⟩
  | succ s ih =>
    intro P M2 hsn hl2 hcl hf
    have hlen2 : ((P ++ dnL x (s + 1)).length : Int) = A.2.2.length + n := by rw [hl2, List.length_append, dnL_len]; omega
    rw [List.length_append, dnL_len] at hlen2
    refine s_LP_type_35 (k1 := fun q => by omega) (k2 := fun _ => ?_)
    rw [show ((s + 1 : Nat) : Int) - 1 = s by omega]
    refine s_LP_type_40 hs.K0 hs.G0_10 hs.K30 (ct_Pp_put hs hcl (by omega) (y := chA x s) (by unfold chA; rw [bmod_mod2])) (fun M3 hq => ?_)
    refine s_LP_type_55 ?_
    have := ih (P ++ [chA x s]) M3 (by omega) (by rw [← hl2, List.append_assoc]; rfl) hq.1 (fun a a1 a2 => by rw [hq.2.1 a a1 a2]; exact hf a a1 a2)
    rw [show (s : Int) + (-1) = (s : Int) - 1 by omega]
    exact this
theorem ct_LP_wipe (hs : rSh K g) (hc : cInv M A) (ha : aInv A) : j_Ct G jm_LP_wipe d 0 0 [jr_ 0] (N, K, M, g) (j_pI N K g (cP M (fWipe A))) := by
  refine j_Ct.ofJ (ls := [jr_ 0, ju_]) (by decide) rfl rfl ?_
  have hp := hc.2.2.2
  refine s_LP_wipe_0 hs.K0 hs.G0_10 hs.K30 ⟨_, _, rfl, rfl, ?_, hc.paper (fun a a1 a2 => j_up_a a1) ⟨by rw [j_up_eq]; rfl, by simp, fun i i0 i1 => by simp at i1; omega, fun i i0 i1 => by rw [j_up_a (by omega)]; exact hp.2.2.2 i i0 i1⟩, ha.paper (fun i i0 i1 => by simp at i1; omega) (by simp), fun a a1 => j_up_a (by omega)⟩
  exact hp.1
theorem ct_LP_character {i : Int} (hs : rSh K g) (hc : cInv M A) (ha : aInv A) (hi : -2147483648 ≤ i ∧ i ≤ 2147483647) : j_Ct G jm_LP_character (d + 1) 0 0 [jr_ 0, ji_ i] (N, K, M, g) (j_pI N K g (cP M (fChar A i))) := by
  refine j_Ct.ofJ (ls := [jr_ 0, ji_ i]) (by decide) rfl rfl ?_
  have hp := hc.2.2.2
  have hpl := hp.2.1
  refine s_LP_character_0 hs.K0 hs.G0_10 hs.K30 (ct_LP_within hi (by omega) (by rw [hp.1]; omega)) (fun z M1 hq => ?_)
  obtain ⟨hM, hz⟩ := hq
  subst hM
  rw [hp.1] at hz
  refine s_LP_character_14 (r1 := by omega) (k1 := fun c => ⟨_, M1, rfl, rfl, ?_, hc, ha, cOut.rfl⟩) (k2 := fun c => ?_)
  · show -3 = if _ then _ else _
    rw [if_neg (by omega)]
  · refine s_LP_character_17 hs.K0 hs.G0_10 hs.K30 hs.G30_0 hs.K31 (r5 := by omega) (r5' := by omega) (k1 := ⟨_, M1, rfl, rfl, ?_, hc, ha, cOut.rfl⟩)
    show M1 31 i % 2 ^ 8 = if _ then _ else _
    rw [if_pos (by omega), hp.2.2.1 i (by omega) (by omega), bmod_mod (ha.2.2.1 i (by omega) (by omega))]
theorem ct_LP_match {i : Int} (hs : rSh K g) (hc : cInv M A) (ha : aInv A) (hi : -2147483648 ≤ i ∧ i ≤ 2147483647) : j_Ct G jm_LP_match (d + 1) 0 0 [jr_ 0, ji_ i] (N, K, M, g) (j_pI N K g (cP M (fMatch A i))) := by
  refine j_Ct.ofJ (ls := [jr_ 0, ji_ i]) (by decide) rfl rfl ?_
  have hla := hc.2.1
  unfold fMatch
  obtain ⟨hb, hla⟩ := hla
  match hC : A.2.1, hla with
  | none, ⟨q1, _⟩ => exact s_LP_match_0 hs.K0 (r1 := by omega) (k1 := fun _ => ⟨_, M, rfl, rfl, rfl, hc, ha, cOut.rfl⟩) (k2 := fun q => absurd q1 q)
  | some (l1, l2, w), ⟨q1, q2, q3, q4⟩ =>
    have hl := q2.2.1
    refine s_LP_match_0 hs.K0 (r1 := by omega) (k1 := fun q => by omega) (k2 := fun _ => ?_)
    refine s_LP_match_7 hs.K0 hs.G0_3 hs.K9 hs.G9_0 hs.K10 (ct_LP_within hi (by omega) (by rw [q2.1]; omega)) (fun z M1 hq => ?_)
    obtain ⟨hM, hz⟩ := hq
    subst hM
    rw [q2.1] at hz
    refine s_LP_match_24 (r1 := by omega) (k1 := fun c => ⟨_, M1, rfl, rfl, ?_, hc, ha, cOut.rfl⟩) (k2 := fun c => ?_)
    · show -3 = if _ then _ else _
      rw [if_neg (by omega)]
    · have e := q4 i (by omega) (by omega)
      have hr := hb i (by omega) (by omega)
      refine s_LP_match_27 hs.K0 hs.G0_3 hs.K9 hs.G9_2 hs.K14 (r5 := by omega) (r5' := by omega) (k1 := fun c2 => ?_) (k2 := fun c2 => ⟨_, M1, rfl, rfl, ?_, hc, ha, cOut.rfl⟩)
      · refine s_LP_match_42 hs.K0 hs.G0_3 hs.K9 hs.G9_2 hs.K14 (r5 := by omega) (r5' := by omega) (k1 := ⟨_, M1, rfl, rfl, ?_, hc, ha, cOut.rfl⟩)
        show M1 14 i = if _ then _ else _
        rw [if_pos (by omega), e]
      · show -3 = if _ then _ else _
        rw [if_neg (by omega)]
theorem rPr_of {p : Nat} {l1 l2 : List Int} (hs : rSh K g) (hp : p = 9 ∨ p = 15 ∨ p = 21) (h1 : cTx M (p + 1) l1) (h2 : cTx M (p + 3) l2) : rPr K g M p l1 l2 := by
  rcases hp with rfl | rfl | rfl
  · exact ⟨hs.K9, hs.G9_0, hs.G9_1, hs.G9_2, hs.K14, h1.r hs rfl rfl rfl, h2.r hs rfl rfl rfl⟩
  · exact ⟨hs.K15, hs.G15_0, hs.G15_1, hs.G15_2, hs.K20, h1.r hs rfl rfl rfl, h2.r hs rfl rfl rfl⟩
  · exact ⟨hs.K21, hs.G21_0, hs.G21_1, hs.G21_2, hs.K26, h1.r hs rfl rfl rfl, h2.r hs rfl rfl rfl⟩
theorem rSd_of (hs : rSh K g) : rSd K g 5 2 := ⟨hs.K5, hs.G5_0, hs.G5_1, hs.G5_2, hs.G5_3, hs.K6, hs.K7, hs.K8⟩
/-- one of the ways, on a pairing that has just begun -/
theorem ct_way {p : Nat} {w : Int} {l1 l2 : List Int} (hs : rSh K g) (hp : p = 9 ∨ p = 15 ∨ p = 21) (h1 : cTx M (p + 1) l1) (h2 : cTx M (p + 3) l2) (h5 : ∀ i : Int, 0 ≤ i → i < 24 → M (p + 5) i = -1) (hw : 0 ≤ w ∧ w ≤ 1) :
    ∃ (y : Nat) (ci : Nat) (y' : j_Mt), g 4 w = some y ∧ K y = some (0, ci) ∧ j_Lf "LinePatcher" 110 ci ⟨"LinePatcher$Way", "run", "(LLinePatcher$Pairing;IIII)V"⟩ y' 5 ∧ j_Ct G y' (d + 30) 0 0 [jr_ y, jr_ p, ji_ 0, ji_ l1.length, ji_ 0, ji_ l2.length] (N, K, M, g) (j_pV N K g fun M' => (∀ i : Int, 0 ≤ i → i < l1.length → M' (p + 5) i = mtF l1 l2 w i) ∧ (∀ i : Int, 0 ≤ i → i < 24 → -128 ≤ M' (p + 5) i ∧ M' (p + 5) i ≤ 127) ∧ j_fr [3, 6, 7, 8, p + 5] M M') := by
  have hP := rPr_of hs hp h1 h2
  have hl1 := h1.2.1
  have hl2 := h2.2.1
  have hgm := mtF_gm (l1 := l1) (l2 := l2) (way := w)
  have post : ∀ M' : Nat → Int → Int, M' (p + 5) = cmpF l1 l2 w (M (p + 5)) → (∀ i : Int, 0 ≤ i → i < l1.length → M' (p + 5) i = mtF l1 l2 w i) ∧ (∀ i : Int, 0 ≤ i → i < 24 → -128 ≤ M' (p + 5) i ∧ M' (p + 5) i ≤ 127) := by
    intro M' hM'
    have e : ∀ i : Int, 0 ≤ i → i < l1.length → M' (p + 5) i = mtF l1 l2 w i := fun i i0 i1 => by
      rw [hM']; exact cmpF_pt (h5 i i0 (by omega))
    refine ⟨e, fun i i0 i1 => ?_⟩
    by_cases hi : i < l1.length
    · rw [e i i0 hi]; have := hgm.1 i i0 hi; omega
    · have : M' (p + 5) i = M (p + 5) i := by
        rw [hM']
        unfold cmpF
        split
        · exact gR_out (by omega) (by omega)
        · exact pm_out 25 _ _ i ⟨by show (0 : Int) ≤ 0; omega, by show (0 : Int) ≤ l1.length; omega, by show (0 : Int) ≤ 0; omega, by show (0 : Int) ≤ l2.length; omega⟩ (Or.inr (by show (l1.length : Int) ≤ i; omega))
      rw [this, h5 i i0 i1]; omega
  by_cases h0 : w = 0
  · subst h0
    refine ⟨2, 3, jm_Re_run, hs.G4_0, hs.K2, lf_LP_Re, ?_⟩
    refine j_Ct.mono (ct_Re_run (d := d + 26) hs.K2 hs.G2_0 hs.K3 hP (by omega) (by omega) (by omega) (by omega) (by omega) (by omega) (by omega)) (fun o σ hq => ?_)
    obtain ⟨M', e1, e2, e3, e4⟩ := hq
    have := post M' (by rw [e3]; rfl)
    exact ⟨M', e1, e2, this.1, this.2, e4.mono (by simp)⟩
  · have h1' : w = 1 := by omega
    subst h1'
    refine ⟨5, 4, jm_Sd_run, hs.G4_1, hs.K5, lf_LP_Sd, ?_⟩
    refine j_Ct.mono (ct_Sd_run (d := d) hs.K2 hs.G2_0 hs.K3 (rSd_of hs) (by omega) (by omega) hP (by omega) (by omega) (by omega) (by omega) (by omega) (by omega) (fun t t0 t1 => h5 t t0 (by omega))) (fun o σ hq => ?_)
    obtain ⟨M', e1, e2, e3, e4⟩ := hq
    have := post M' (by rw [e3]; rfl)
    exact ⟨M', e1, e2, this.1, this.2, e4.mono (by simp)⟩
theorem ct_LP_compare {x y w : Int} (hs : rSh K g) (hc : cInv M A) (ha : aInv A) (hx : -2147483648 ≤ x ∧ x ≤ 2147483647) (hy : -2147483648 ≤ y ∧ y ≤ 2147483647) (hw : -2147483648 ≤ w ∧ w ≤ 2147483647) : j_Ct G jm_LP_compare (d + 31) 0 0 [jr_ 0, ji_ x, ji_ y, ji_ w] (N, K, M, g) (j_pI N K g (cP M (fCmp A x y w))) := by
  refine j_Ct.ofJ (ls := [jr_ 0, ji_ x, ji_ y, ji_ w]) (by decide) rfl rfl ?_
  have bad : ∀ M', M' = M → ¬ (0 ≤ x ∧ x ≤ 3 ∧ 0 ≤ y ∧ y ≤ 3 ∧ 0 ≤ w ∧ w ≤ 1) → j_pI N K g (cP M (fCmp A x y w)) (.inl (some (ji_ (-1)))) (N, K, M', g) := by
    intro M' hM h
    subst hM
    refine ⟨_, M', rfl, rfl, ?_⟩
    unfold fCmp
    rw [if_neg h]
    exact ⟨rfl, hc, ha, cOut.rfl⟩
  refine s_LP_compare_0 (ct_LP_isText hx) (fun z M1 hq => ?_)
  obtain ⟨hM, hz⟩ := hq
  subst hM
  refine s_LP_compare_4 (r1 := by omega) (k1 := fun c => bad _ rfl (by omega)) (k2 := fun c => ?_)
  refine s_LP_compare_7 (ct_LP_isText hy) (fun z2 M1 hq => ?_)
  obtain ⟨hM, hz2⟩ := hq
  subst hM
  refine s_LP_compare_11 (r1 := by omega) (k1 := fun c => bad _ rfl (by omega)) (k2 := fun c2 => ?_)
  refine s_LP_compare_14 (ct_LP_within hw (by omega) (by omega)) (fun z3 M1 hq => ?_)
  obtain ⟨hM, hz3⟩ := hq
  subst hM
  refine s_LP_compare_20 (r1 := by omega) (k1 := fun c3 => ?_) (k2 := fun c => bad _ rfl (by omega))
  have hall : 0 ≤ x ∧ x ≤ 3 ∧ 0 ≤ y ∧ y ≤ 3 ∧ 0 ≤ w ∧ w ≤ 1 := by omega
  have none' : ∀ M', M' = M1 → ¬ (letB (A.1 x) = true ∧ letB (A.1 y) = true) → j_pI N K g (cP M1 (fCmp A x y w)) (.inl (some (ji_ (-3)))) (N, K, M', g) := by
    intro M' hM h
    subst hM
    refine ⟨_, M', rfl, rfl, ?_⟩
    unfold fCmp
    rw [if_pos hall, if_neg h]
    exact ⟨rfl, hc, ha, cOut.rfl⟩
  have hTx := hc.1 x (by omega) (by omega)
  have hTy := hc.1 y (by omega) (by omega)
  have hRx := tA_r hs (by omega) (by omega) hTx
  have hRy := tA_r hs (by omega) (by omega) hTy
  have gx := tA_g hs (t := x) (by omega) (by omega)
  have gy := tA_g hs (t := y) (by omega) (by omega)
  have cx := tA_c (t := x) (by omega) (by omega)
  have cy := tA_c (t := y) (by omega) (by omega)
  refine s_LP_compare_25 hs.K0 hs.G0_0 (tg2 := 0) hs.K1 (r3 := by omega) (r3' := by omega) (hg5 := gx) (hk3 := hRx.1) (hC := ct_Tx_isPlain (d := d + 28) hRx) (k1 := fun z4 M2 hq => ?_)
  obtain ⟨hM, hz4⟩ := hq
  subst hM
  refine s_LP_compare_34 (r1 := by omega) (k1 := fun c => none' _ rfl (fun q => ?_)) (k2 := fun c4 => ?_)
  · rcases hz4 with ⟨e, -⟩ | ⟨-, e⟩
    · omega
    · exact e ((letB_iff _).mp q.1)
  have a1 : allL (A.1 x) := by
    rcases hz4 with ⟨-, e⟩ | ⟨e, -⟩
    · exact e
    · omega
  refine s_LP_compare_37 hs.K0 hs.G0_0 (tg2 := 0) hs.K1 (r3 := by omega) (r3' := by omega) (hg5 := gy) (hk3 := hRy.1) (hC := ct_Tx_isPlain (d := d + 28) hRy) (k1 := fun z5 M3 hq => ?_)
  obtain ⟨hM, hz5⟩ := hq
  subst hM
  refine s_LP_compare_46 (r1 := by omega) (k1 := fun c5 => ?_) (k2 := fun c => none' _ rfl (fun q => by
    rcases hz5 with ⟨e, -⟩ | ⟨-, e⟩
    · omega
    · exact e ((letB_iff _).mp q.2)))
  have a2 : allL (A.1 y) := by
    rcases hz5 with ⟨-, e⟩ | ⟨e, -⟩
    · exact e
    · omega
  obtain ⟨o1, o2, hO1, hO2⟩ : ∃ l1 l2, cTx M3 10 l1 ∧ cTx M3 12 l2 := by
    have := hc.2.1.2
    match hC : A.2.1, this with
    | none, ⟨_, q⟩ => exact q
    | some (l1, l2, w'), ⟨_, q2, q3, _⟩ => exact ⟨l1, l2, q2, q3⟩
  refine s_LP_compare_52 hs.K0 hs.G0_3 hs.G0_0 (tg2 := 0) hs.K1 (r5 := by omega) (r5' := by omega) (hg7 := gx) (tg3 := 0) (hk3 := hs.K1) (r8 := by omega) (r8' := by omega) (hg10 := gy) (hk4 := hs.K9) (hC := ct_Pr_begin (d := d + 28) (rPr_of hs (Or.inl rfl) hO1 hO2) hRx hRy (by omega) (by omega)) (k1 := fun M4 hq => ?_)
  obtain ⟨b1, b2, b3⟩ := hq
  have c10 : cTx M4 10 (A.1 x) := b1.2.2.2.2.2.1.c
  have c12 : cTx M4 12 (A.1 y) := b1.2.2.2.2.2.2.c
  obtain ⟨yy, ci, y', w1, w2, w3, w4⟩ := ct_way (G := G) (d := d) (N := N) (w := w) hs (Or.inl rfl) c10 c12 b2 (by omega)
  refine s_LP_compare_71 hs.K0 hs.G0_2 (tg2 := 1) hs.K4 (r3 := by omega) (r3' := by omega) (hg5 := w1) (hg7 := hs.G0_3) (hk3 := hs.K9) (hg9 := hs.G9_0) (hk4 := hs.K10) (hg11 := hs.G9_1) (hk5 := hs.K12) (hk13 := w2) (hf14 := w3) (hC := by rw [c10.1, c12.1]; exact w4) (k1 := fun M5 hq => ?_)
  obtain ⟨e1, e2, e3⟩ := hq
  have f10 : cTx (j_up M5 0 7 1) 10 (A.1 x) := (c10.kept (e3 _ (by simp)) (e3 _ (by simp))).kept (j_up_a (by omega)) (j_up_a (by omega))
  have f12 : cTx (j_up M5 0 7 1) 12 (A.1 y) := (c12.kept (e3 _ (by simp)) (e3 _ (by simp))).kept (j_up_a (by omega)) (j_up_a (by omega))
  have fM : ∀ a, a ≠ 0 → (a < 3 ∨ 14 < a) → j_up M5 0 7 1 a = M3 a := fun a a0 a1 => by rw [j_up_a a0, e3 a (by simp; omega), b3 a (by simp; omega)]
  refine s_LP_compare_108 hs.K0 hs.G0_3 hs.K9 (hC := ct_Pr_changes (rPr_of hs (Or.inl rfl) f10 f12) (fun i i0 i1 => by rw [j_up_a (by omega)]; exact e2 i i0 i1)) (k1 := fun z6 M6 hq => ?_)
  obtain ⟨hM, hz6⟩ := hq
  subst hM
  refine s_LP_compare_120 ⟨_, _, rfl, rfl, ?_⟩
  unfold fCmp
  rw [if_pos hall, if_pos ⟨(letB_iff _).mpr a1, (letB_iff _).mpr a2⟩]
  refine ⟨?_, ⟨fun t t0 t1 => ?_, ⟨fun i i0 i1 => by rw [j_up_a (by omega)]; exact e2 i i0 i1, j_up_eq _ _ _ _, f10, f12, fun i i0 i1 => by rw [j_up_a (by omega)]; exact e1 i i0 i1⟩, hc.2.2.1.kept (fun a a1 a2 => fM a (by omega) (by omega)), hc.2.2.2.kept (by rw [fM 30 (by omega) (by omega)]) (fM 31 (by omega) (by omega))⟩, ⟨ha.1, fun l1 l2 w' e => ?_, ha.2.2⟩, fun a a1 => fM a (by omega) (by omega)⟩
  · rw [hz6]
    show _ = ((A.1 x).length : Int) + (A.1 y).length - 2 * cntP (mtF (A.1 x) (A.1 y) w) (A.1 x).length
    rw [cntP_cg (f' := mtF (A.1 x) (A.1 y) w) _ (fun i i0 i1 => by rw [j_up_a (by omega)]; exact e1 i i0 i1)]
  · have ct := tA_c t0 t1
    exact (hc.1 t t0 t1).kept (fM _ (by omega) (by omega)) (fM _ (by omega) (by omega))
  · cases e
    exact ⟨a1, a2, hTx.2.1, hTy.2.1⟩
end

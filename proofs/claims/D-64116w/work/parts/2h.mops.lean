/-! ===== contracts: the small operations of the model ===== -/
section
variable {G : j_G} {d N : Nat} {K : Nat → Option (Nat × Nat)} {M : Nat → Int → Int} {g : Nat → Int → Option Nat} {m : Nat} {A : AS}
theorem ct_Mo_size {t : Int} (h : rMo K g m) (hc : mInv M m A) (ht : -2147483648 ≤ t ∧ t ≤ 2147483647) : j_Ct G jm_Mo_size (d + 1) 0 0 [jr_ m, ji_ t] (N, K, M, g) (j_pI N K g (mP m M (fSize A t))) := by
  refine j_Ct.ofJ (ls := [jr_ m, ji_ t]) (by decide) rfl rfl ?_
  refine s_Mo_size_0 (ct_Mo_within ht (by omega) (by omega)) (fun z M' hq => ?_)
  obtain ⟨hM, hz⟩ := hq
  subst hM
  refine s_Mo_size_6 (r1 := by omega) (k1 := fun c => ⟨_, M', rfl, rfl, ?_, hc, mOut.rfl⟩) (k2 := fun c => ?_)
  · show -1 = if _ then _ else _
    rw [if_neg (by omega)]
  · refine s_Mo_size_9 h.o h.g1 h.k2 (r3 := by omega) (r3' := by omega) (k1 := ⟨_, M', rfl, rfl, ?_, hc, mOut.rfl⟩)
    show M' (m + 2) t = if _ then _ else _
    rw [if_pos (by omega)]
    exact (hc.1 t (by omega) (by omega)).1
theorem mInv.text {M' : Nat → Int → Int} (hc : mInv M m A) {t : Int} {l : List Int} (h0 : 0 ≤ t) (h1 : t ≤ 3) (hf : ∀ a, a ≠ m + 1 → a ≠ m + 2 → M' a = M a) (hf1 : ∀ s i : Int, 0 ≤ s → s ≤ 3 → s ≠ t → 0 ≤ i → i < 24 → M' (m + 1) (24 * s + i) = M (m + 1) (24 * s + i)) (hf2 : ∀ s : Int, s ≠ t → M' (m + 2) s = M (m + 2) s) (hl : mTx M' m t l) : mInv M' m (upT A.1 t l, A.2) := by
  obtain ⟨q1, q2, q3, q4⟩ := hc
  have e0 := hf m (by omega) (by omega)
  refine ⟨mTx.up h0 h1 q1 hf1 hf2 hl, ?_, by rw [e0]; exact q3, by rw [hf _ (by omega) (by omega)]; exact q4⟩
  match hC : A.2.1, q2 with
  | none, q => simp only [hC]; rw [e0]; exact q
  | some (l1, l2, w), q =>
    simp only [hC]
    unfold mCp
    rw [e0, hf _ (by omega) (by omega), hf _ (by omega) (by omega), hf _ (by omega) (by omega)]
    exact q
theorem ct_Mo_clear {t : Int} (h : rMo K g m) (hc : mInv M m A) (ht : -2147483648 ≤ t ∧ t ≤ 2147483647) : j_Ct G jm_Mo_clear (d + 1) 0 0 [jr_ m, ji_ t] (N, K, M, g) (j_pI N K g (mP m M (fClear A t))) := by
  refine j_Ct.ofJ (ls := [jr_ m, ji_ t, ju_]) (by decide) rfl rfl ?_
  refine s_Mo_clear_0 (ct_Mo_within ht (by omega) (by omega)) (fun z M' hq => ?_)
  obtain ⟨hM, hz⟩ := hq
  subst hM
  refine s_Mo_clear_6 (r1 := by omega) (k1 := fun c => ?_) (k2 := fun c => ⟨_, M', rfl, rfl, ?_⟩)
  · refine s_Mo_clear_11 h.o h.g1 h.k2 (r3 := by omega) (r3' := by omega) (r4 := by omega) (r4' := by omega) (k1 := ⟨_, _, rfl, rfl, ?_⟩)
    unfold fClear
    rw [if_pos (by omega)]
    refine ⟨(hc.1 t (by omega) (by omega)).1, hc.text (by omega) (by omega) (fun a a1 a2 => j_up_a a2) (fun s i _ _ _ _ _ => by rw [j_up_a (by omega)]) (fun s hs => j_up_ne (Or.inr hs)) ⟨by rw [j_up_eq]; rfl, by simp, fun i i0 i1 => by simp at i1; omega, fun i i0 i1 => by simp at i1; omega⟩, fun a a1 => j_up_a (by omega)⟩
  · unfold fClear
    rw [if_neg (by omega)]
    exact ⟨rfl, hc, mOut.rfl⟩
theorem ct_Mo_line {t i : Int} (h : rMo K g m) (hc : mInv M m A) (ht : -2147483648 ≤ t ∧ t ≤ 2147483647) (hi : -2147483648 ≤ i ∧ i ≤ 2147483647) : j_Ct G jm_Mo_line (d + 1) 0 0 [jr_ m, ji_ t, ji_ i] (N, K, M, g) (j_pI N K g (mP m M (fLine A t i))) := by
  refine j_Ct.ofJ (ls := [jr_ m, ji_ t, ji_ i]) (by decide) rfl rfl ?_
  refine s_Mo_line_0 (ct_Mo_within ht (by omega) (by omega)) (fun z M' hq => ?_)
  obtain ⟨hM, hz⟩ := hq
  subst hM
  refine s_Mo_line_6 (r1 := by omega) (k1 := fun c => ?_) (k2 := fun c => ⟨_, M', rfl, rfl, ?_, hc, mOut.rfl⟩)
  · obtain ⟨q1, q2, q3, q4⟩ := hc.1 t (by omega) (by omega)
    refine s_Mo_line_13 h.o h.g1 h.k2 (r3 := by omega) (r3' := by omega) (hC := ct_Mo_within hi (by omega) (by rw [q1]; omega)) (k1 := fun z2 M1 hq => ?_)
    obtain ⟨hM, hz2⟩ := hq
    subst hM
    rw [q1] at hz2
    refine s_Mo_line_26 (r1 := by omega) (k1 := fun c2 => ⟨_, M1, rfl, rfl, ?_, hc, mOut.rfl⟩) (k2 := fun c2 => ?_)
    · show -3 = if _ then (if _ then _ else _) else _
      rw [if_pos (by omega), if_neg (by omega)]
    · refine s_Mo_line_29 h.o h.g0 h.k1 (r3 := by omega) (r3' := by omega) (k1 := ⟨_, M1, rfl, rfl, ?_, hc, mOut.rfl⟩)
      show M1 (m + 1) (24 * t + i) = if _ then (if _ then _ else _) else _
      rw [if_pos (by omega), if_pos (by omega)]
      exact q4 i (by omega) (by omega)
  · show -1 = if _ then _ else _
    rw [if_neg (by omega)]
theorem ct_Mo_add {t n : Int} {x : Int64} (h : rMo K g m) (hc : mInv M m A) (ht : -2147483648 ≤ t ∧ t ≤ 2147483647) (hn : -2147483648 ≤ n ∧ n ≤ 2147483647) : j_Ct G jm_Mo_add (d + 2) 0 0 [jr_ m, ji_ t, jl_ x, ji_ n] (N, K, M, g) (j_pI N K g (mP m M (fAdd A t x n))) := by
  refine j_Ct.ofJ (ls := [jr_ m, ji_ t, jl_ x, ju_, ji_ n, ju_, ju_]) (by decide) rfl rfl ?_
  have bad : ∀ M', M' = M → ¬ (0 ≤ t ∧ t ≤ 3 ∧ 1 ≤ n ∧ n ≤ 8 ∧ letB (dnL x n.toNat) = true) → j_pI N K g (mP m M (fAdd A t x n)) (.inl (some (ji_ (-1)))) (N, K, M', g) := by
    intro M' hM h
    subst hM
    refine ⟨_, M', rfl, rfl, ?_⟩
    unfold fAdd
    rw [if_neg h]
    exact ⟨rfl, hc, mOut.rfl⟩
  -- behind the loop of letters
  have k65 : ∀ (b : Bool) (u6 : Int), (b = true ↔ (0 ≤ t ∧ t ≤ 3 ∧ 1 ≤ n ∧ n ≤ 8 ∧ letB (dnL x n.toNat) = true)) → j_J G jm_Mo_add (d + 2) 0 0 65 [jr_ m, ji_ t, jl_ x, ju_, ji_ n, ji_ (j_bz b), ji_ u6] [] (N, K, M, g) (j_pI N K g (mP m M (fAdd A t x n))) := by
    intro b u6 hb
    refine s_Mo_add_65 (r1 := j_bz_rng b) (k1 := fun c => ?_) (k2 := fun c => bad _ rfl (fun q => by have := j_bz_0.mp c; rw [hb.mpr q] at this; cases this))
    have hok := hb.mp (j_bz_1.mp c)
    obtain ⟨t0, t1, n0, n1, hlB⟩ := hok
    have hall := (letB_iff _).mp hlB
    obtain ⟨q1, q2, q3, q4⟩ := hc.1 t (by omega) (by omega)
    refine s_Mo_add_72 h.o h.g1 h.k2 (r3 := by omega) (r3' := by omega) (r4 := by rw [q1]; omega) (k1 := fun c3 => ?_) (k2 := fun c3 => ⟨_, M, rfl, rfl, ?_⟩)
    · rw [q1] at c3
      suffices lq : ∀ (s : Nat) (l : List Int) (M2 : Nat → Int → Int), (s : Int) ≤ n → l ++ dnL x s = A.1 t ++ dnL x n.toNat → mTx M2 m t l → (∀ a, a ≠ m + 1 → a ≠ m + 2 → M2 a = M a) → (∀ s i : Int, 0 ≤ s → s ≤ 3 → s ≠ t → 0 ≤ i → i < 24 → M2 (m + 1) (24 * s + i) = M (m + 1) (24 * s + i)) → (∀ s : Int, s ≠ t → M2 (m + 2) s = M (m + 2) s) → j_J G jm_Mo_add (d + 2) 0 0 95 [jr_ m, ji_ t, jl_ x, ju_, ji_ n, ji_ (j_bz b), ji_ ((s : Int) - 1)] [] (N, K, M2, g) (j_pI N K g (mP m M (fAdd A t x n))) by
        have := lq n.toNat (A.1 t) M (by omega) rfl ⟨q1, q2, q3, q4⟩ (fun _ _ _ => rfl) (fun _ _ _ _ _ _ _ => rfl) (fun _ _ => rfl)
        rw [show ((n.toNat : Nat) : Int) = n by omega] at this
        exact this
      intro s
      induction s with
      | zero =>
        intro l M2 hsn hl2 hcl hf hf1 hf2
        have hle : l = A.1 t ++ dnL x n.toNat := by rw [← hl2]; simp [dnL]
        subst hle
        refine s_Mo_add_95 (k1 := fun _ => ?_) (k2 := fun q => by omega)
        refine s_Mo_add_148 h.o h.g1 h.k2 (r3 := by omega) (r3' := by omega) (k1 := ⟨_, M2, rfl, rfl, ?_⟩)
        unfold fAdd
        rw [if_pos ⟨by omega, by omega, by omega, by omega, hlB⟩, if_neg (by omega)]
        have hle : ((A.1 t ++ dnL x n.toNat).length : Int) = (A.1 t).length + n := by rw [List.length_append, dnL_len]; omega
        exact ⟨by rw [hcl.1, hle], hc.text (by omega) (by omega) hf hf1 hf2 hcl, fun a a1 => hf a (by omega) (by omega)⟩
      | succ s ih =>
        intro l M2 hsn hl2 hcl hf hf1 hf2
        have hch := (dnL_all n.toNat).mp hall s (by omega) (by omega)
        have hlen2 : ((l ++ dnL x (s + 1)).length : Int) = (A.1 t).length + n := by rw [hl2, List.length_append, dnL_len]; omega
        rw [List.length_append, dnL_len] at hlen2
        obtain ⟨w1, w2, w3, w4⟩ := hcl
        refine s_Mo_add_95 (k1 := fun q => by omega) (k2 := fun _ => ?_)
        rw [show ((s + 1 : Nat) : Int) - 1 = s by omega]
        refine s_Mo_add_100 h.o h.g0 h.g1 h.k2 (r5 := by omega) (r5' := by omega) (hk3 := h.k1) (r6 := by rw [w1]; omega) (r6' := by rw [w1]; omega) (r7 := by omega) (r7' := by omega) (r8 := by omega) (r8' := by omega) (k1 := ?_)
        rw [j_up_a (by omega : m + 2 ≠ m + 1), w1]
        have := ih (l ++ [chA x s]) (j_up (j_up M2 (m + 1) (24 * t + l.length) (chA x s)) (m + 2) t (l.length + 1)) (by omega) (by rw [← hl2, List.append_assoc]; rfl) ⟨?_, ?_, ?_, ?_⟩ (fun a a1 a2 => by rw [j_up_a a2, j_up_a a1]; exact hf a a1 a2) (fun s' i s0 s1 s2 i0 i1 => by rw [j_up_a (by omega), j_up_ne (Or.inr (by omega))]; exact hf1 s' i s0 s1 s2 i0 i1) (fun s' hs' => by rw [j_up_ne (Or.inr hs'), j_up_a (by omega)]; exact hf2 s' hs')
        · rw [show (s : Int) + (-1) = (s : Int) - 1 by omega]
          exact this
        · rw [j_up_eq, List.length_append]; rfl
        · rw [List.length_append]; simp; omega
        · refine chL_app w3 (fun i i0 i1 => ?_)
          simp at i1
          have : i = 0 := by omega
          subst this
          show 0 ≤ chA x s ∧ chA x s ≤ 127
          omega
        · intro i i0 i1
          rw [List.length_append, List.length_singleton] at i1
          rw [j_up_a (by omega)]
          by_cases hi : i = l.length
          · rw [hi, j_up_eq, lg_app2 rfl]
          · rw [j_up_ne (Or.inr (by omega)), lg_app1 i0 (by omega)]; exact w4 i i0 (by omega)
    · rw [q1] at c3
      unfold fAdd
      rw [if_pos ⟨by omega, by omega, by omega, by omega, hlB⟩, if_pos c3]
      exact ⟨rfl, hc, mOut.rfl⟩
  have kF : ∀ k : Int, -2147483648 ≤ k ∧ k ≤ 2147483647 → ¬ (0 ≤ t ∧ t ≤ 3 ∧ 1 ≤ n ∧ n ≤ 8 ∧ letB (dnL x n.toNat) = true) → j_J G jm_Mo_add (d + 2) 0 0 30 [jr_ m, ji_ t, jl_ x, ju_, ji_ n, ji_ 0, ji_ k] [] (N, K, M, g) (j_pI N K g (mP m M (fAdd A t x n))) := by
    intro k hk hno
    have fin := k65 false k ⟨fun q => (by cases q), fun q => absurd q hno⟩
    exact s_Mo_add_30 (k1 := fun _ => fin) (k2 := fun _ => s_Mo_add_37 (k1 := fun _ => fin) (k2 := fun q => absurd rfl q))
  refine s_Mo_add_0 (ct_Mo_within ht (by omega) (by omega)) (fun z M' hq => ?_)
  obtain ⟨hM, hz⟩ := hq
  subst hM
  refine s_Mo_add_6 (r1 := by omega) (k1 := fun c => kF 0 (by omega) (by omega)) (k2 := fun c => ?_)
  refine s_Mo_add_9 (ct_Mo_within hn (by omega) (by omega)) (fun z2 M' hq => ?_)
  obtain ⟨hM, hz2⟩ := hq
  subst hM
  refine s_Mo_add_17 (r1 := by omega) (k1 := fun c => kF 0 (by omega) (by omega)) (k2 := fun c2 => ?_)
  suffices lp : ∀ (s : Nat) (k : Int), k + s = n → 0 ≤ k → (∀ i : Int, 0 ≤ i → i < k → 97 ≤ chA x i ∧ chA x i ≤ 122) → j_J G jm_Mo_add (d + 2) 0 0 30 [jr_ m, ji_ t, jl_ x, ju_, ji_ n, ji_ 1, ji_ k] [] (N, K, M', g) (j_pI N K g (mP m M' (fAdd A t x n))) from
    lp n.toNat 0 (by omega) (by omega) (fun i a b => by omega)
  intro s
  induction s with
  | zero =>
    intro k hk k0 hl
    exact s_Mo_add_30 (k1 := fun _ => k65 true k ⟨fun _ => ⟨by omega, by omega, by omega, by omega, (letB_iff _).mpr ((dnL_all _).mpr (fun i i0 i1 => hl i i0 (by omega)))⟩, fun _ => rfl⟩) (k2 := fun q => by omega)
  | succ s ih =>
    intro k hk k0 hl
    have hcr := chA_r (x := x) (k := k)
    refine s_Mo_add_30 (k1 := fun q => by omega) (k2 := fun _ => ?_)
    refine s_Mo_add_37 (k1 := fun q => by omega) (k2 := fun _ => ?_)
    refine s_Mo_add_42 (ct_Mo_isLetter (v := chA x k) (by omega)) (fun w M2 hq => ?_)
    obtain ⟨hM, hw⟩ := hq
    subst hM
    refine s_Mo_add_57 ?_
    by_cases hc3 : w = 1
    · rw [hc3]
      exact ih (k + 1) (by omega) (by omega) (fun i i0 i1 => by
        by_cases hi : i = k
        · subst hi; omega
        · exact hl i i0 (by omega))
    · have hw0 : w = 0 := by omega
      rw [hw0]
      refine kF (k + 1) (by omega) (fun q => ?_)
      have := (dnL_all n.toNat).mp ((letB_iff _).mp q.2.2.2.2) k k0 (by omega)
      omega
theorem ct_Mo_put {P : List Int} {x : Int} (h : rMo K g m) (h1 : M m 24 = P.length) (h2 : ∀ i : Int, 0 ≤ i → i < P.length → M (m + 18) i = lg P i) (hP : (P.length : Int) < 900) : j_Ct G jm_Mo_put d 0 0 [jr_ m, ji_ x] (N, K, M, g) (j_pV N K g fun M' => M' m 24 = (P ++ [x]).length ∧ (∀ i : Int, 0 ≤ i → i < (P ++ [x]).length → M' (m + 18) i = lg (P ++ [x]) i) ∧ j_fm m [24] [m + 18] M M') := by
  refine j_Ct.ofJ (ls := [jr_ m, ji_ x]) (by decide) rfl rfl ?_
  refine s_Mo_put_0 h.o h.g25 h.k18 (k1 := ⟨_, rfl, rfl, ?_, fun i i0 i1 => ?_, (j_fm.arr (by omega) (by simp)).trans (j_fm.fld (by simp))⟩)
  · rw [j_up_eq, j_up_a (by omega), h1, List.length_append]; rfl
  · rw [List.length_append, List.length_singleton] at i1
    rw [j_up_a (by omega), h1]
    by_cases hi : i = P.length
    · subst hi; rw [j_up_eq, lg_app2 rfl]
    · rw [j_up_ne (Or.inr hi), lg_app1 i0 (by omega)]; exact h2 i i0 (by omega)
theorem mInv.paper {M' : Nat → Int → Int} {F : List Int} {L : List Nat} {P : List Int} (hc : mInv M m A) (hf : j_fm m F L M M') (h15 : (15 : Int) ∉ F ∧ (16 : Int) ∉ F ∧ (17 : Int) ∉ F) (hL : m + 1 ∉ L ∧ m + 2 ∉ L ∧ m + 13 ∉ L ∧ m + 14 ∉ L ∧ m + 15 ∉ L) (h1 : M' m 24 = P.length) (h2 : ∀ i : Int, 0 ≤ i → i < P.length → M' (m + 18) i = lg P i) : mInv M' m (A.1, A.2.1, P) := by
  obtain ⟨q1, q2, q3, q4⟩ := hc
  refine ⟨fun t t0 t1 => (q1 t t0 t1).kept (hf.1 _ (by omega) hL.1) (hf.1 _ (by omega) hL.2.1), ?_, h1, h2⟩
  match hC : A.2.1, q2 with
  | none, q => simp only [hC]; rw [hf.2 _ h15.1]; exact q
  | some (l1, l2, w), q =>
    simp only [hC]
    unfold mCp
    rw [hf.2 _ h15.1, hf.2 _ h15.2.1, hf.2 _ h15.2.2, hf.1 _ (by omega) hL.2.2.1, hf.1 _ (by omega) hL.2.2.2.1, hf.1 _ (by omega) hL.2.2.2.2]
    exact q
theorem ct_Mo_type {n : Int} {x : Int64} (h : rMo K g m) (hc : mInv M m A) (ha : aInv A) (hn : -2147483648 ≤ n ∧ n ≤ 2147483647) : j_Ct G jm_Mo_type (d + 1) 0 0 [jr_ m, jl_ x, ji_ n] (N, K, M, g) (j_pI N K g (mP m M (fType A x n))) := by
  refine j_Ct.ofJ (ls := [jr_ m, jl_ x, ju_, ji_ n, ju_]) (by decide) rfl rfl ?_
  refine s_Mo_type_0 (ct_Mo_within hn (by omega) (by omega)) (fun z M1 hq => ?_)
  obtain ⟨hM, hz⟩ := hq
  subst hM
  obtain ⟨c1, c2, c3, c4⟩ := hc
  have hpl := ha.2.2.2
  refine s_Mo_type_7 (r1 := by omega) (k1 := fun c => ?_) (k2 := fun c => ⟨_, M1, rfl, rfl, by unfold fType; rw [if_neg (by omega)]; exact ⟨rfl, ⟨c1, c2, c3, c4⟩, mOut.rfl⟩⟩)
  refine s_Mo_type_12 h.o (r1 := by rw [c3]; omega) (k1 := fun c2 => ?_) (k2 := fun c2' => ⟨_, M1, rfl, rfl, by rw [c3] at c2'; unfold fType; rw [if_pos (by omega), if_pos c2']; exact ⟨rfl, ⟨c1, c2, c3, c4⟩, mOut.rfl⟩⟩)
  rw [c3] at c2
  suffices lq : ∀ (s : Nat) (P : List Int) (M2 : Nat → Int → Int), (s : Int) ≤ n → P ++ dnL x s = A.2.2 ++ dnL x n.toNat → M2 m 24 = P.length → (∀ i : Int, 0 ≤ i → i < P.length → M2 (m + 18) i = lg P i) → j_fm m [24] [m + 18] M1 M2 → j_J G jm_Mo_type (d + 1) 0 0 32 [jr_ m, jl_ x, ju_, ji_ n, ji_ ((s : Int) - 1)] [] (N, K, M2, g) (j_pI N K g (mP m M1 (fType A x n))) by
    have := lq n.toNat A.2.2 M1 (by omega) rfl c3 c4 j_fm.rfl
    rw [show ((n.toNat : Nat) : Int) = n by omega] at this
    exact this
  intro s
  induction s with
  | zero =>
    intro P M2 hsn hl2 hp1 hp2 hf
    have hle : P = A.2.2 ++ dnL x n.toNat := by rw [← hl2]; simp [dnL]
    subst hle
    refine s_Mo_type_32 (k1 := fun _ => ?_) (k2 := fun q => by omega)
    refine s_Mo_type_59 h.o ⟨_, M2, rfl, rfl, ?_⟩
    unfold fType
    rw [if_pos (by omega), if_neg (by omega)]
    have hle : ((A.2.2 ++ dnL x n.toNat).length : Int) = A.2.2.length + n := by rw [List.length_append, dnL_len]; omega
    exact ⟨by rw [hp1, hle], mInv.paper ⟨c1, by assumption, c3, c4⟩ hf (by simp) (by simp) hp1 hp2, mOut.of hf (by simp)⟩
  | succ s ih =>
    intro P M2 hsn hl2 hp1 hp2 hf
    have hlen2 : ((P ++ dnL x (s + 1)).length : Int) = A.2.2.length + n := by rw [hl2, List.length_append, dnL_len]; omega
    rw [List.length_append, dnL_len] at hlen2
    refine s_Mo_type_32 (k1 := fun q => by omega) (k2 := fun _ => ?_)
    rw [show ((s + 1 : Nat) : Int) - 1 = s by omega]
    refine s_Mo_type_37 h.o (ct_Mo_put (x := chA x s) h hp1 hp2 (by omega)) (fun M3 hq => ?_)
    refine s_Mo_type_53 ?_
    have := ih (P ++ [chA x s]) M3 (by omega) (by rw [← hl2, List.append_assoc]; rfl) hq.1 hq.2.1 (hf.trans hq.2.2)
    rw [show (s : Int) + (-1) = (s : Int) - 1 by omega]
    exact this
theorem ct_Mo_wipe (h : rMo K g m) (hc : mInv M m A) : j_Ct G jm_Mo_wipe d 0 0 [jr_ m] (N, K, M, g) (j_pI N K g (mP m M (fWipe A))) := by
  refine j_Ct.ofJ (ls := [jr_ m, ju_]) (by decide) rfl rfl ?_
  have hf : j_fm m [24] [m + 18] M (j_up M m 24 0) := j_fm.fld (by simp)
  exact s_Mo_wipe_0 h.o ⟨_, _, rfl, rfl, hc.2.2.1, mInv.paper hc hf (by simp) (by simp) (by rw [j_up_eq]; rfl) (fun i i0 i1 => by simp at i1; omega), mOut.of hf (by simp)⟩
theorem ct_Mo_character {i : Int} (h : rMo K g m) (hc : mInv M m A) (ha : aInv A) (hi : -2147483648 ≤ i ∧ i ≤ 2147483647) : j_Ct G jm_Mo_character (d + 1) 0 0 [jr_ m, ji_ i] (N, K, M, g) (j_pI N K g (mP m M (fChar A i))) := by
  refine j_Ct.ofJ (ls := [jr_ m, ji_ i]) (by decide) rfl rfl ?_
  have hp := hc.2.2
  have hpl := ha.2.2.2
  refine s_Mo_character_0 h.o (ct_Mo_within hi (by omega) (by rw [hp.1]; omega)) (fun z M1 hq => ?_)
  obtain ⟨hM, hz⟩ := hq
  subst hM
  rw [hp.1] at hz
  refine s_Mo_character_11 (r1 := by omega) (k1 := fun c => ⟨_, M1, rfl, rfl, ?_, hc, mOut.rfl⟩) (k2 := fun c => ?_)
  · show -3 = if _ then _ else _
    rw [if_neg (by omega)]
  · refine s_Mo_character_14 h.o h.g25 h.k18 (r3 := by omega) (r3' := by omega) (k1 := ⟨_, M1, rfl, rfl, ?_, hc, mOut.rfl⟩)
    show M1 (m + 18) i = if _ then _ else _
    rw [if_pos (by omega)]
    exact hp.2 i (by omega) (by omega)
theorem ct_Mo_match' {i : Int} (h : rMo K g m) (hc : mInv M m A) (ha : aInv A) (hi : -2147483648 ≤ i ∧ i ≤ 2147483647) : j_Ct G jm_Mo_match (d + 1) 0 0 [jr_ m, ji_ i] (N, K, M, g) (j_pI N K g (mP m M (fMatch A i))) := by
  have h2 := hc.2.1
  match hC : A.2.1, h2 with
  | none, q =>
    refine j_Ct.mono (ct_Mo_match (d := d) (l1 := []) (l2 := []) (mt := fun _ => 0) h (Or.inl q) hi) (fun o σ hq => ?_)
    obtain ⟨z, M', e1, e2, e3, e4⟩ := hq
    subst e3
    refine ⟨z, M', e1, e2, ?_, hc, mOut.rfl⟩
    rw [e4, if_neg (by omega)]
    unfold fMatch
    rw [hC]
  | some (l1, l2, w), q =>
    obtain ⟨b1, b2, b3, b4⟩ := ha.2.1 l1 l2 w hC
    refine j_Ct.mono (ct_Mo_match (d := d) h (Or.inr ⟨q.1, q, b3, mtF_gm, b4⟩) hi) (fun o σ hq => ?_)
    obtain ⟨z, M', e1, e2, e3, e4⟩ := hq
    subst e3
    refine ⟨z, M', e1, e2, ?_, hc, mOut.rfl⟩
    rw [e4]
    unfold fMatch
    rw [hC]
    show _ = if _ then _ else _
    by_cases c : 0 ≤ i ∧ i < (l1.length : Int) ∧ 0 ≤ mtF l1 l2 w i
    · rw [if_pos c, if_pos ⟨q.1, c⟩]
    · rw [if_neg c, if_neg (fun z => c z.2)]
theorem ct_Mo_compare' {x y w : Int} (h : rMo K g m) (hc : mInv M m A) (hx : -2147483648 ≤ x ∧ x ≤ 2147483647) (hy : -2147483648 ≤ y ∧ y ≤ 2147483647) (hw : -2147483648 ≤ w ∧ w ≤ 2147483647) : j_Ct G jm_Mo_compare (d + 4) 0 0 [jr_ m, ji_ x, ji_ y, ji_ w] (N, K, M, g) (j_pI N K g (mP m M (fCmp A x y w))) := by
  refine j_Ct.mono (ct_Mo_compare (d := d) h A.1 hc.1 hx hy hw) (fun o σ hq => ?_)
  obtain ⟨z, M', e1, e2, e3⟩ := hq
  refine ⟨z, M', e1, e2, ?_⟩
  unfold fCmp
  rcases e3 with ⟨q1, q2, q3⟩ | ⟨q1, ⟨q2, q3, q4⟩ | ⟨q2, q3, q4, q5, q6⟩⟩
  · subst q2
    rw [if_neg q3]
    exact ⟨q1, hc, mOut.rfl⟩
  · subst q3
    rw [if_pos q1, if_neg (fun z => q4 ⟨(letB_iff _).mp z.1, (letB_iff _).mp z.2⟩)]
    exact ⟨q2, hc, mOut.rfl⟩
  · rw [if_pos q1, if_pos ⟨(letB_iff _).mpr q2, (letB_iff _).mpr q3⟩]
    refine ⟨q4, ⟨fun t t0 t1 => (hc.1 t t0 t1).kept (q6.1 _ (by omega) (by simp)) (q6.1 _ (by omega) (by simp)), q5, by rw [q6.2 _ (by simp)]; exact hc.2.2.1, by rw [q6.1 _ (by omega) (by simp)]; exact hc.2.2.2⟩, mOut.of q6 (by simp)⟩
end

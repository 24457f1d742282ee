/-! ===== contracts: the small operations, of both ===== -/
/-- the component leaves this as it is -/
def cOut (M M' : Nat → Int → Int) : Prop := ∀ a : Nat, (a = 32 ∨ a = 33 ∨ 67 ≤ a) → M' a = M a
def cP (M : Nat → Int → Int) (f : Int × AS) : Int → (Nat → Int → Int) → Prop := fun z M' => z = f.1 ∧ cInv M' f.2 ∧ aInv f.2 ∧ cOut M M'
def mOut (m : Nat) (M M' : Nat → Int → Int) : Prop := ∀ a : Nat, (a < m ∨ m + 26 < a) → M' a = M a
def mP (m : Nat) (M : Nat → Int → Int) (f : Int × AS) : Int → (Nat → Int → Int) → Prop := fun z M' => z = f.1 ∧ mInv M' m f.2 ∧ mOut m M M'
theorem cOut.rfl {M : Nat → Int → Int} : cOut M M := fun _ _ => Eq.refl _
theorem mOut.rfl {m : Nat} {M : Nat → Int → Int} : mOut m M M := fun _ _ => Eq.refl _
theorem mOut.of {m : Nat} {F : List Int} {L : List Nat} {M M' : Nat → Int → Int} (h : j_fm m F L M M') (hL : ∀ a ∈ L, m ≤ a ∧ a ≤ m + 26) : mOut m M M' := fun a ha => h.1 a (by omega) (fun q => by have := hL a q; omega)
theorem lg_nil (i : Int) : lg [] i = 0 := by unfold lg; simp
theorem aInv.text {A : AS} {t : Int} {l : List Int} (h : aInv A) (h1 : chL l) (h2 : (l.length : Int) ≤ 24) : aInv (upT A.1 t l, A.2) := by
  refine ⟨fun s s0 s1 => ?_, h.2⟩
  show chL (if s = t then l else A.1 s) ∧ ((if s = t then l else A.1 s).length : Int) ≤ 24
  by_cases q : s = t
  · rw [if_pos q]; exact ⟨h1, h2⟩
  · rw [if_neg q]; exact h.1 s s0 s1
theorem chL_app {l r : List Int} (h1 : chL l) (h2 : chL r) : chL (l ++ r) := by
  intro i i0 i1
  rw [List.length_append] at i1
  by_cases h : i < l.length
  · rw [lg_appL i0 h]; exact h1 i i0 h
  · rw [lg_appR (by omega)]; exact h2 _ (by omega) (by omega)
theorem upT_upT {T : Int → List Int} {t : Int} {l l' : List Int} : upT (upT T t l) t l' = upT T t l' := by
  funext s
  unfold upT
  by_cases h : s = t
  · rw [if_pos h, if_pos h]
  · rw [if_neg h, if_neg h, if_neg h]
theorem upT_id {T : Int → List Int} {t : Int} : upT T t (T t) = T := by
  funext s
  unfold upT
  by_cases h : s = t
  · rw [if_pos h, h]
  · rw [if_neg h]
theorem upT_t {T : Int → List Int} {t : Int} {l : List Int} : upT T t l t = l := by unfold upT; rw [if_pos rfl]
section
variable {G : j_G} {d N : Nat} {K : Nat → Option (Nat × Nat)} {M : Nat → Int → Int} {g : Nat → Int → Option Nat} {A : AS}
theorem ct_LP_size {t : Int} (hs : rSh K g) (hc : cInv M A) (ha : aInv A) (ht : -2147483648 ≤ t ∧ t ≤ 2147483647) : j_Ct G jm_LP_size (d + 2) 0 0 [jr_ 0, ji_ t] (N, K, M, g) (j_pI N K g (cP M (fSize A t))) := by
  refine j_Ct.ofJ (ls := [jr_ 0, ji_ t]) (by decide) rfl rfl ?_
  refine s_LP_size_0 (ct_LP_isText ht) (fun z M' hq => ?_)
  obtain ⟨hM, hz⟩ := hq
  subst hM
  refine s_LP_size_4 (r1 := by omega) (k1 := fun c => ⟨_, M', rfl, rfl, ?_, hc, ha, cOut.rfl⟩) (k2 := fun c => ?_)
  · show -1 = if _ then _ else _
    rw [if_neg (by omega)]
  · have hT := hc.1 t (by omega) (by omega)
    have hR := tA_r hs (by omega) (by omega) hT
    refine s_LP_size_7 hs.K0 hs.G0_0 (tg2 := 0) hs.K1 (r3 := by omega) (r3' := by omega) (hg5 := tA_g hs (by omega) (by omega)) (hk3 := hR.1) (k1 := ⟨_, M', rfl, rfl, ?_, hc, ha, cOut.rfl⟩)
    show M' (tA t) 1 = if _ then _ else _
    rw [if_pos (by omega), hT.1]
theorem ct_LP_clear {t : Int} (hs : rSh K g) (hc : cInv M A) (ha : aInv A) (ht : -2147483648 ≤ t ∧ t ≤ 2147483647) : j_Ct G jm_LP_clear (d + 2) 0 0 [jr_ 0, ji_ t] (N, K, M, g) (j_pI N K g (cP M (fClear A t))) := by
  refine j_Ct.ofJ (ls := [jr_ 0, ji_ t, ju_]) (by decide) rfl rfl ?_
  refine s_LP_clear_0 (ct_LP_isText ht) (fun z M' hq => ?_)
  obtain ⟨hM, hz⟩ := hq
  subst hM
  refine s_LP_clear_4 (r1 := by omega) (k1 := fun c => ?_) (k2 := fun c => ⟨_, M', rfl, rfl, ?_⟩)
  · have hT := hc.1 t (by omega) (by omega)
    have hR := tA_r hs (by omega) (by omega) hT
    have ht' := tA_c (t := t) (by omega) (by omega)
    refine s_LP_clear_9 hs.K0 hs.G0_0 (tg2 := 0) hs.K1 (r3 := by omega) (r3' := by omega) (hg5 := tA_g hs (by omega) (by omega)) (hk3 := hR.1) (tg4 := 0) (hk4 := hs.K1) (r6 := by omega) (r6' := by omega) (hg8 := tA_g hs (by omega) (by omega)) (hk5 := hR.1) (k1 := ⟨_, _, rfl, rfl, ?_⟩)
    unfold fClear
    rw [if_pos (by omega)]
    refine ⟨hT.1, hc.text (by omega) (by omega) (fun a a1 a2 => j_up_a a1) ⟨by rw [j_up_eq]; rfl, by simp, fun i i0 i1 => by simp at i1; omega, fun i i0 i1 => ?_⟩, ha.text (fun i i0 i1 => by simp at i1; omega) (by simp), fun a a1 => j_up_a (by omega)⟩
    rw [j_up_a (by omega)]
    exact hT.2.2.2 i i0 i1
  · unfold fClear
    rw [if_neg (by omega)]
    exact ⟨rfl, hc, ha, cOut.rfl⟩
theorem ct_LP_line {t i : Int} (hs : rSh K g) (hc : cInv M A) (ha : aInv A) (ht : -2147483648 ≤ t ∧ t ≤ 2147483647) (hi : -2147483648 ≤ i ∧ i ≤ 2147483647) : j_Ct G jm_LP_line (d + 2) 0 0 [jr_ 0, ji_ t, ji_ i] (N, K, M, g) (j_pI N K g (cP M (fLine A t i))) := by
  refine j_Ct.ofJ (ls := [jr_ 0, ji_ t, ji_ i]) (by decide) rfl rfl ?_
  refine s_LP_line_0 (ct_LP_isText ht) (fun z M' hq => ?_)
  obtain ⟨hM, hz⟩ := hq
  subst hM
  refine s_LP_line_4 (r1 := by omega) (k1 := fun c => ?_) (k2 := fun c => ⟨_, M', rfl, rfl, ?_, hc, ha, cOut.rfl⟩)
  · have hT := hc.1 t (by omega) (by omega)
    have hR := tA_r hs (by omega) (by omega) hT
    have hl := hT.2.1
    refine s_LP_line_9 hs.K0 hs.G0_0 (tg2 := 0) hs.K1 (r3 := by omega) (r3' := by omega) (hg5 := tA_g hs (by omega) (by omega)) (hk3 := hR.1) (hC := ct_LP_within hi (by omega) (by rw [hT.1]; omega)) (k1 := fun z2 M1 hq => ?_)
    obtain ⟨hM, hz2⟩ := hq
    subst hM
    rw [hT.1] at hz2
    refine s_LP_line_25 (r1 := by omega) (k1 := fun c2 => ⟨_, M1, rfl, rfl, ?_, hc, ha, cOut.rfl⟩) (k2 := fun c2 => ?_)
    · show -3 = if _ then (if _ then _ else _) else _
      rw [if_pos (by omega), if_neg (by omega)]
    · refine s_LP_line_28 hs.K0 hs.G0_0 (tg2 := 0) hs.K1 (r3 := by omega) (r3' := by omega) (hg5 := tA_g hs (by omega) (by omega)) (hk3 := hR.1) (hg7 := hR.2.1) (hk4 := hR.2.2.1) (r8 := by omega) (r8' := by omega) (k1 := ⟨_, M1, rfl, rfl, ?_, hc, ha, cOut.rfl⟩)
      show M1 (tA t + 1) i = if _ then (if _ then _ else _) else _
      rw [if_pos (by omega), if_pos (by omega)]
      exact hT.2.2.1 i (by omega) (by omega)
  · show -1 = if _ then _ else _
    rw [if_neg (by omega)]
theorem ct_LP_add {t n : Int} {x : Int64} (hs : rSh K g) (hc : cInv M A) (ha : aInv A) (ht : -2147483648 ≤ t ∧ t ≤ 2147483647) (hn : -2147483648 ≤ n ∧ n ≤ 2147483647) : j_Ct G jm_LP_add (d + 3) 0 0 [jr_ 0, ji_ t, jl_ x, ji_ n] (N, K, M, g) (j_pI N K g (cP M (fAdd A t x n))) := by
  refine j_Ct.ofJ (ls := [jr_ 0, ji_ t, jl_ x, ju_, ji_ n, ju_, ju_]) (by decide) rfl rfl ?_
  have bad : ∀ M', M' = M → ¬ (0 ≤ t ∧ t ≤ 3 ∧ 1 ≤ n ∧ n ≤ 8 ∧ letB (dnL x n.toNat) = true) → j_pI N K g (cP M (fAdd A t x n)) (.inl (some (ji_ (-1)))) (N, K, M', g) := by
    intro M' hM h
    subst hM
    refine ⟨_, M', rfl, rfl, ?_⟩
    unfold fAdd
    rw [if_neg h]
    exact ⟨rfl, hc, ha, cOut.rfl⟩
  refine s_LP_add_0 (ct_LP_isText ht) (fun z M' hq => ?_)
  obtain ⟨hM, hz⟩ := hq
  subst hM
  refine s_LP_add_4 (r1 := by omega) (k1 := fun c => bad _ rfl (by omega)) (k2 := fun c => ?_)
  refine s_LP_add_7 (ct_LP_within hn (by omega) (by omega)) (fun z2 M1 hq => ?_)
  obtain ⟨hM, hz2⟩ := hq
  subst hM
  refine s_LP_add_15 (r1 := by omega) (k1 := fun c2 => ?_) (k2 := fun c2 => bad _ rfl (by omega))
  suffices lp : ∀ (s : Nat) (k : Int), k + s = n → 0 ≤ k → (∀ i : Int, 0 ≤ i → i < k → 97 ≤ chA x i ∧ chA x i ≤ 122) → j_J G jm_LP_add (d + 3) 0 0 23 [jr_ 0, ji_ t, jl_ x, ju_, ji_ n, ji_ k, ju_] [] (N, K, M1, g) (j_pI N K g (cP M1 (fAdd A t x n))) from
    lp n.toNat 0 (by omega) (by omega) (fun i a b => by omega)
  intro s
  induction s with
  | zero =>
    intro k hk k0 hl
    have hall : allL (dnL x n.toNat) := (dnL_all _).mpr (fun i i0 i1 => hl i i0 (by omega))
    have hT := hc.1 t (by omega) (by omega)
    have hR := tA_r hs (by omega) (by omega) hT
    have ht' := tA_c (t := t) (by omega) (by omega)
    have hlen := hT.2.1
    have hlB := (letB_iff _).mpr hall
    refine s_LP_add_23 (k1 := fun _ => ?_) (k2 := fun q => by omega)
    refine s_LP_add_56 hs.K0 hs.G0_0 (tg2 := 0) hs.K1 (r3 := by omega) (r3' := by omega) (hg5 := tA_g hs (by omega) (by omega)) (hk3 := hR.1) (r6 := by rw [hT.1]; omega) (k1 := fun c3 => ?_) (k2 := fun c3 => ⟨_, M1, rfl, rfl, ?_⟩)
    · rw [hT.1] at c3
      suffices lq : ∀ (s : Nat) (l : List Int) (M2 : Nat → Int → Int), (s : Int) ≤ n → l ++ dnL x s = A.1 t ++ dnL x n.toNat → cTx M2 (tA t) l → (∀ a, a ≠ tA t → a ≠ tA t + 1 → M2 a = M1 a) → j_J G jm_LP_add (d + 3) 0 0 86 [jr_ 0, ji_ t, jl_ x, ju_, ji_ n, jr_ (tA t), ji_ ((s : Int) - 1)] [] (N, K, M2, g) (j_pI N K g (cP M1 (fAdd A t x n))) by
        have := lq n.toNat (A.1 t) M1 (by omega) rfl hT (fun _ _ _ => rfl)
        rw [show ((n.toNat : Nat) : Int) = n by omega] at this
        exact this
      intro s
      induction s with
      | zero =>
        intro l M2 hsn hl2 hcl hf
        have hle : l = A.1 t ++ dnL x n.toNat := by rw [← hl2]; simp [dnL]
        subst hle
        refine s_LP_add_86 (k1 := fun _ => ?_) (k2 := fun q => by omega)
        refine s_LP_add_115 hR.1 ⟨_, M2, rfl, rfl, ?_⟩
        unfold fAdd
        rw [if_pos ⟨by omega, by omega, by omega, by omega, hlB⟩, if_neg (by omega)]
        have hle : ((A.1 t ++ dnL x n.toNat).length : Int) = (A.1 t).length + n := by rw [List.length_append, dnL_len]; omega
        refine ⟨by rw [hcl.1, hle], hc.text (by omega) (by omega) hf hcl, ha.text (chL_app (ha.1 t (by omega) (by omega)).1 (allL_ch hall)) (by omega), fun a a1 => hf a (by omega) (by omega)⟩
      | succ s ih =>
        intro l M2 hsn hl2 hcl hf
        have hch := (dnL_all n.toNat).mp hall s (by omega) (by omega)
        have hlen2 : ((l ++ dnL x (s + 1)).length : Int) = (A.1 t).length + n := by rw [hl2, List.length_append, dnL_len]; omega
        rw [List.length_append, dnL_len] at hlen2
        have hR2 := tA_r hs (by omega) (by omega) hcl
        refine s_LP_add_86 (k1 := fun q => by omega) (k2 := fun _ => ?_)
        rw [show ((s + 1 : Nat) : Int) - 1 = s by omega]
        refine s_LP_add_91 hR2.1 (ct_Tx_add hR2 (x := chA x s) (by omega)) (fun w M3 hq => ?_)
        rcases hq with ⟨-, q, -⟩ | ⟨-, -, q1, q2⟩
        · omega
        · refine s_LP_add_108 ?_
          have := ih (l ++ [chA x s]) M3 (by omega) (by rw [← hl2, List.append_assoc]; rfl) q1.c (fun a a1 a2 => by rw [q2 a (by simp; omega)]; exact hf a a1 a2)
          rw [show (s : Int) + (-1) = (s : Int) - 1 by omega]
          exact this
    · rw [hT.1] at c3
      unfold fAdd
      rw [if_pos ⟨by omega, by omega, by omega, by omega, hlB⟩, if_pos c3]
      exact ⟨rfl, hc, ha, cOut.rfl⟩
  | succ s ih =>
    intro k hk k0 hl
    have hcr := chA_r (x := x) (k := k)
    refine s_LP_add_23 (k1 := fun q => by omega) (k2 := fun _ => ?_)
    refine s_LP_add_30 (ct_LP_isLetter (v := chA x k) (by omega)) (fun w M2 hq => ?_)
    obtain ⟨hM, hw⟩ := hq
    subst hM
    refine s_LP_add_45 (r1 := by omega) (k1 := fun c3 => ?_) (k2 := fun c3 => bad _ rfl (fun q => ?_))
    · exact ih (k + 1) (by omega) (by omega) (fun i i0 i1 => by
        by_cases hi : i = k
        · subst hi; omega
        · exact hl i i0 (by omega))
    · have := (dnL_all n.toNat).mp ((letB_iff _).mp q.2.2.2.2) k k0 (by omega)
      omega
end

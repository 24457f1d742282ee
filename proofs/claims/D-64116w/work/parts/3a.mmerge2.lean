/-! ===== contracts: merge of the model ===== -/
section
variable {G : j_G} {d N : Nat} {K : Nat → Option (Nat × Nat)} {M : Nat → Int → Int} {g : Nat → Int → Option Nat} {m : Nat} {A : AS}
abbrev mGA (m : Nat) : List Nat := [m + 3, m + 4, m + 5, m + 6, m + 7, m + 8, m + 9, m + 10, m + 11, m + 12, m + 25, m + 26]
theorem mInv.rest {M' : Nat → Int → Int} (hc : mInv M m A) (hf : j_fm m [2, 3, 8, 35] (mGA m) M M') : mInv M' m A := by
  have := mInv.paper (P := A.2.2) hc hf (by simp) (by simp) (by rw [hf.2 _ (by simp)]; exact hc.2.2.1) (by rw [hf.1 _ (by omega) (by simp)]; exact hc.2.2.2)
  exact this
theorem ct_Mo_merge (h : rMo K g m) (hc : mInv M m A) (ha : aInv A) : j_Ct G jm_Mo_merge (d + 4) 0 0 [jr_ m] (N, K, M, g) (j_pI N K g (mP m M (fMerge A))) := by
  have T0 := hc.1 0 (by omega) (by omega)
  have T1 := hc.1 1 (by omega) (by omega)
  have T2 := hc.1 2 (by omega) (by omega)
  have H0 := (ha.1 0 (by omega) (by omega)).1
  have H1 := (ha.1 1 (by omega) (by omega)).1
  have H2 := (ha.1 2 (by omega) (by omega)).1
  have n24 := T0.2.1
  have m24 := T1.2.1
  have k24 := T2.2.1
  refine j_Ct.ofJ (ls := [jr_ m, ju_, ju_, ju_, ju_, ju_, ju_, ju_]) (by decide) rfl rfl ?_
  have none' : ∀ M', M' = M → ¬ (letB (A.1 0) = true ∧ letB (A.1 1) = true ∧ letB (A.1 2) = true) → j_pI N K g (mP m M (fMerge A)) (.inl (some (ji_ (-3)))) (N, K, M', g) := by
    intro M' hM h
    subst hM
    refine ⟨_, M', rfl, rfl, ?_⟩
    unfold fMerge
    rw [if_neg h]
    exact ⟨rfl, hc, mOut.rfl⟩
  refine s_Mo_merge_0 h.o (ct_Mo_allLetters (d := d + 1) h (by omega) T0) (fun z M1 hq => ?_)
  obtain ⟨hM, hz⟩ := hq
  subst hM
  refine s_Mo_merge_5 (r1 := by omega) (k1 := fun c => none' _ rfl (fun q => ?_)) (k2 := fun c => ?_)
  · rcases hz with ⟨e, -⟩ | ⟨-, e⟩
    · omega
    · exact e ((letB_iff _).mp q.1)
  have al0 : allL (A.1 0) := by
    rcases hz with ⟨-, e⟩ | ⟨e, -⟩
    · exact e
    · omega
  refine s_Mo_merge_8 h.o (ct_Mo_allLetters (d := d + 1) h (by omega) T1) (fun z2 M1 hq => ?_)
  obtain ⟨hM, hz2⟩ := hq
  subst hM
  refine s_Mo_merge_13 (r1 := by omega) (k1 := fun c => none' _ rfl (fun q => ?_)) (k2 := fun c2 => ?_)
  · rcases hz2 with ⟨e, -⟩ | ⟨-, e⟩
    · omega
    · exact e ((letB_iff _).mp q.2.1)
  have al1 : allL (A.1 1) := by
    rcases hz2 with ⟨-, e⟩ | ⟨e, -⟩
    · exact e
    · omega
  refine s_Mo_merge_16 h.o (ct_Mo_allLetters (d := d + 1) h (by omega) T2) (fun z3 M1 hq => ?_)
  obtain ⟨hM, hz3⟩ := hq
  subst hM
  refine s_Mo_merge_21 (r1 := by omega) (k1 := fun cc3 => ?_) (k2 := fun c => none' _ rfl (fun q => by
    rcases hz3 with ⟨e, -⟩ | ⟨-, e⟩
    · omega
    · exact e ((letB_iff _).mp q.2.2)))
  have al2 : allL (A.1 2) := by
    rcases hz3 with ⟨-, e⟩ | ⟨e, -⟩
    · exact e
    · omega
  unfold fMerge
  rw [if_pos ⟨(letB_iff _).mpr al0, (letB_iff _).mpr al1, (letB_iff _).mpr al2⟩]
  generalize hRes : mgF (A.1 0) (A.1 1) (A.1 2) (mtF (A.1 0) (A.1 1) 0) (mtF (A.1 0) (A.1 2) 0) ((A.1 0).length + 1) 0 0 0 [] 0 = Res
  refine s_Mo_merge_27 h.o (ct_Mo_take h (by omega) (by omega) T0 T2) (fun M2 hq => ?_)
  obtain ⟨a1, a2, a3, a4, a5⟩ := hq
  refine s_Mo_merge_33 h.o (ct_Mo_compareAll (d := d) h a1 a2 a3 (by omega)) (fun M3 hq => ?_)
  obtain ⟨b1, b2⟩ := hq
  have hm2 : ∀ i : Int, 0 ≤ i → i < (A.1 0).length → M3 (m + 5) i = mtF (A.1 0) (A.1 2) 0 i := fun i i0 i1 => by rw [b1]; exact cmpF_pt (a4 i i0 i1)
  have f3 : j_fm m [2, 3, 8, 35] (mGA m) M1 M3 := (a5.mono (by simp) (by simp)).trans (b2.mono (by simp) (by simp))
  have e2 : M3 m 2 = (A.1 0).length := by rw [b2.2 _ (by simp)]; exact a2
  clear a1 a2 a3 a4 a5 b1 b2
  have gm1 := mtF_gm (l1 := A.1 0) (l2 := A.1 1) (way := 0)
  have gm2 := mtF_gm (l1 := A.1 0) (l2 := A.1 2) (way := 0)
  refine s_Mo_merge_38 ?_
  -- the second one is kept
  suffices lq : ∀ (k : Nat) (i : Int) (M4 : Nat → Int → Int), i + k = (A.1 0).length → 0 ≤ i → j_fm m [] [m + 26] M3 M4 → (∀ j : Int, 0 ≤ j → j < i → M4 (m + 26) j = mtF (A.1 0) (A.1 2) 0 j) →
      j_J G jm_Mo_merge (d + 4) 0 0 40 [jr_ m, ji_ i, ju_, ju_, ju_, ju_, ju_, ju_] [] (N, K, M4, g) (j_pI N K g (mP m M1 (mgR A Res))) from
    lq (A.1 0).length 0 M3 (by omega) (by omega) j_fm.rfl (fun j x y => by omega)
  intro k
  induction k with
  | succ k ih =>
    intro i M4 hi i0 hf4 h26
    have e2' : M4 m 2 = (A.1 0).length := by rw [hf4.2 _ (by simp)]; exact e2
    have e5 : M4 (m + 5) i = mtF (A.1 0) (A.1 2) 0 i := by rw [hf4.1 _ (by omega) (by simp)]; exact hm2 i i0 (by omega)
    refine s_Mo_merge_40 h.o (r2 := by rw [e2']; omega) (k1 := fun q => by omega) (k2 := fun _ => ?_)
    refine s_Mo_merge_48 h.o h.g37 h.g6 h.k5 (r5 := by omega) (r5' := by omega) (hk3 := h.k26) (r6 := by omega) (r6' := by omega) (k1 := ?_)
    refine ih (i + 1) _ (by omega) (by omega) (hf4.trans (j_fm.arr (by omega) (by simp))) (fun j j0 j1 => ?_)
    by_cases hj : j = i
    · subst hj; rw [j_up_eq, e5]
    · rw [j_up_ne (Or.inr hj)]; exact h26 j j0 (by omega)
  | zero =>
    intro i M4 hi i0 hf4 h26
    have e2' : M4 m 2 = (A.1 0).length := by rw [hf4.2 _ (by simp)]; exact e2
    refine s_Mo_merge_40 h.o (r2 := by rw [e2']; omega) (k1 := fun _ => ?_) (k2 := fun q => by omega)
    have f4 : j_fm m [2, 3, 8, 35] (mGA m) M1 M4 := f3.trans (hf4.mono (by simp) (by simp))
    have T04 := T0.kept (f4.1 (m + 1) (by omega) (by simp)) (f4.1 (m + 2) (by omega) (by simp))
    have T14 := T1.kept (f4.1 (m + 1) (by omega) (by simp)) (f4.1 (m + 2) (by omega) (by simp))
    refine s_Mo_merge_66 h.o (ct_Mo_take h (by omega) (by omega) T04 T14) (fun M5 hq => ?_)
    obtain ⟨a1, a2, a3, a4, a5⟩ := hq
    refine s_Mo_merge_72 h.o (ct_Mo_compareAll (d := d) h a1 a2 a3 (by omega)) (fun M6 hq => ?_)
    obtain ⟨b1, b2⟩ := hq
    have hm1 : ∀ i : Int, 0 ≤ i → i < (A.1 0).length → M6 (m + 5) i = mtF (A.1 0) (A.1 1) 0 i := fun i i0 i1 => by rw [b1]; exact cmpF_pt (a4 i i0 i1)
    have h26' : ∀ i : Int, 0 ≤ i → i < (A.1 0).length → M6 (m + 26) i = mtF (A.1 0) (A.1 2) 0 i := fun j j0 j1 => by rw [b2.1 _ (by omega) (by simp), a5.1 _ (by omega) (by simp)]; exact h26 j j0 (by omega)
    have f6 : j_fm m [2, 3, 8, 35] (mGA m) M1 M6 := (f4.trans (a5.mono (by simp) (by simp))).trans (b2.mono (by simp) (by simp))
    clear a1 a2 a3 a4 a5 b1 b2 hm2 e2 f3 hf4 h26 e2' f4 T04 T14
    refine s_Mo_merge_77 h.o ?_
    have ou0 : mOu (j_up M6 m 35 0) m [] := ⟨j_up_eq _ _ _ _, by simp, fun i i0 i1 => by simp at i1; omega⟩
    have fo0 : j_fm m [35] [m + 25] M6 (j_up M6 m 35 0) := j_fm.fld (by simp)
    generalize mtF (A.1 0) (A.1 1) 0 = mt1 at hRes hm1 gm1
    generalize mtF (A.1 0) (A.1 2) 0 = mt2 at hRes h26' gm2
    have fr : ∀ M', j_fm m [35] [m + 25] M6 M' → j_fm m [2, 3, 8, 35] (mGA m) M1 M' := fun M' hf => f6.trans (hf.mono (by simp) (by simp))
    have t3 : ∀ M', j_fm m [35] [m + 25] M6 M' → m3 M' m (A.1 0) (A.1 1) (A.1 2) := fun M' hf => by
      have hg := fr M' hf
      exact ⟨T0.kept (hg.1 _ (by omega) (by simp)) (hg.1 _ (by omega) (by simp)), T1.kept (hg.1 _ (by omega) (by simp)) (hg.1 _ (by omega) (by simp)), T2.kept (hg.1 _ (by omega) (by simp)) (hg.1 _ (by omega) (by simp))⟩
    have full : ∀ M' : Nat → Int → Int, Res = none → j_fm m [35] [m + 25] M6 M' → j_pI N K g (mP m M1 (mgR A Res)) (.inl (some (ji_ (-2)))) (N, K, M', g) := by
      intro M' hR hf
      subst hR
      exact ⟨_, M', rfl, rfl, rfl, hc.rest (fr M' hf), mOut.of (fr M' hf) (by simp)⟩
    suffices lp : ∀ (s : Nat) (cf base one two : Int) (out : List Int) (M' : Nat → Int → Int) (u6 u7 : j_V), mgF (A.1 0) (A.1 1) (A.1 2) mt1 mt2 s base one two out cf = Res → (s : Int) ≤ (A.1 0).length + 1 → 0 ≤ base → (1 ≤ s → base ≤ (A.1 0).length + 1 - s ∧ one ≤ (A.1 1).length ∧ two ≤ (A.1 2).length) → 0 ≤ one → 0 ≤ two → (∀ t : Int, (A.1 0).length + 1 - s ≤ t → t < (A.1 0).length → (mt1 t ≠ -1 → one ≤ mt1 t) ∧ (mt2 t ≠ -1 → two ≤ mt2 t)) → chL out → j_fm m [35] [m + 25] M6 M' → mOu M' m out →
        j_J G jm_Mo_merge (d + 4) 0 0 94 [jr_ m, ji_ cf, ji_ base, ji_ one, ji_ two, ji_ ((A.1 0).length + 1 - s), u6, u7] [] (N, K, M', g) (j_pI N K g (mP m M1 (mgR A Res))) by
      have := lp ((A.1 0).length + 1) 0 0 0 0 [] _ ju_ ju_ hRes (by omega) (by omega) (fun _ => ⟨by omega, by omega, by omega⟩) (by omega) (by omega) (fun t t0 t1 => ⟨fun q => by have := gm1.1 t (by omega) t1; omega, fun q => by have := gm2.1 t (by omega) t1; omega⟩) (fun i i0 i1 => by simp at i1; omega) fo0 ou0
      rw [show ((A.1 0).length : Int) + 1 - (((A.1 0).length + 1 : Nat) : Int) = 0 by omega] at this
      exact this
    intro s
    induction s with
    | zero =>
      intro cf base one two out M' u6 u7 hres hs1 hb0 hb1 ho0 ht0 hmn hch hf ho
      have hR : Res = some (cf, out) := hres.symm
      subst hR
      have e0 : M' (m + 2) 0 = (A.1 0).length := (t3 M' hf).1.1
      refine s_Mo_merge_94 h.o h.g1 h.k2 (r3 := by omega) (r3' := by omega) (r5 := by rw [e0]; omega) (k1 := fun _ => ?_) (k2 := fun q => by omega)
      refine s_Mo_merge_285 h.o (ct_Mo_keep h (by omega) ho hch) (fun M2 hq => ?_)
      obtain ⟨w1, w2, w3, w4⟩ := hq
      have hg := fr M' hf
      refine s_Mo_merge_290 ⟨_, M2, rfl, rfl, rfl, (hc.rest hg).text (by omega) (by omega) w2 w3 w4 w1, fun a a1 => ?_⟩
      rw [w2 a (by omega) (by omega)]
      exact mOut.of hg (by simp) a a1
    | succ s ih =>
      intro cf base one two out M' u6 u7 hres hs1 hb0 hb1 ho0 ht0 hmn hch hf ho
      obtain ⟨hb1, ho1, ht1⟩ := hb1 (by omega)
      have h3 := t3 M' hf
      have e0 : M' (m + 2) 0 = (A.1 0).length := h3.1.1
      have e1 : M' (m + 2) 1 = (A.1 1).length := h3.2.1.1
      have e2 : M' (m + 2) 2 = (A.1 2).length := h3.2.2.1
      have ei : ((A.1 0).length : Int) + 1 - ((s + 1 : Nat) : Int) = (A.1 0).length - s := by omega
      rw [ei] at hb1 hmn ⊢
      refine s_Mo_merge_94 h.o h.g1 h.k2 (r3 := by omega) (r3' := by omega) (r5 := by rw [e0]; omega) (k1 := fun q => by omega) (k2 := fun _ => ?_)
      cases s with
      | zero =>
        refine s_Mo_merge_105 h.o h.g1 h.k2 (r3 := by omega) (r3' := by omega) (r5 := by rw [e0]; omega) (k1 := fun q => by omega) (k2 := fun _ => ?_)
        refine s_Mo_merge_121 (k1 := fun _ => ?_) (k2 := fun q => by omega)
        refine s_Mo_merge_148 (k1 := fun q => by omega) (k2 := fun _ => ?_)
        refine s_Mo_merge_158 h.o h.g1 h.k2 (r3 := by omega) (r3' := by omega) (k1 := ?_)
        refine s_Mo_merge_174 (k1 := fun q => by omega) (k2 := fun _ => ?_)
        refine s_Mo_merge_181 h.o h.g1 h.k2 (r3 := by omega) (r3' := by omega) (k1 := ?_)
        rw [e1, e2, show ((A.1 0).length : Int) - ((0 : Nat) : Int) = (A.1 0).length by omega]
        have hres' : (if ((out ++ prT (A.1 0) (A.1 1) (A.1 2) base (A.1 0).length one (A.1 1).length two (A.1 2).length).length : Int) ≤ 24 then some (cf + (if clB (A.1 0) (A.1 1) (A.1 2) base (A.1 0).length one (A.1 1).length two (A.1 2).length = true then 1 else 0), out ++ prT (A.1 0) (A.1 1) (A.1 2) base (A.1 0).length one (A.1 1).length two (A.1 2).length) else none) = Res := hres
        refine s_Mo_merge_197 h.o (ct_Mo_mergeParts (d := d) h h3 ⟨⟨hb0, by omega, by omega⟩, ⟨ho0, ho1, by omega⟩, ht0, ht1, by omega⟩ ho) (fun z M2 hq => ?_)
        obtain ⟨f2, h2⟩ := hq
        have f2' := hf.trans f2
        have hzr : -1 ≤ z ∧ z ≤ 1 := by rcases h2 with ⟨q, -⟩ | ⟨q, -⟩ <;> rw [q] <;> (try split) <;> omega
        refine s_Mo_merge_200 (r1 := by omega) (k1 := fun c => ?_) (k2 := fun c => ?_)
        · rcases h2 with ⟨q, -⟩ | ⟨-, q⟩
          · rw [q] at c; split at c <;> omega
          · rw [if_neg (by omega)] at hres'
            exact full M2 hres'.symm f2'
        · rcases h2 with ⟨q, q', q''⟩ | ⟨q, -⟩
          · rw [if_pos q'] at hres'
            refine s_Mo_merge_207 (k1 := fun _ => ?_) (k2 := fun q => by omega)
            refine s_Mo_merge_229 (k1 := fun q => by omega) (k2 := fun _ => ?_)
            refine s_Mo_merge_257 (k1 := fun q => by omega) (k2 := fun _ => ?_)
            rw [← q] at hres'
            have := ih (cf + z) ((A.1 0).length + 1) one two _ M2 (ji_ 1) (ji_ z) hres' (by omega) (by omega) (fun q => by omega) ho0 ht0 (fun t t0 t1 => by omega) (chL_app hch (prT_ch H1 H2)) f2' q''
            rw [show ((A.1 0).length : Int) + 1 - ((0 : Nat) : Int) = (A.1 0).length + 1 by omega] at this
            exact this
          · omega
      | succ s =>
        have ei2 : ((A.1 0).length : Int) - ((s + 1 : Nat) : Int) = (A.1 0).length - ((s : Int) + 1) := by omega
        rw [ei2] at hb1 hmn ⊢
        have hres' := hres
        rw [mgF] at hres'
        generalize hii : ((A.1 0).length : Int) - ((s : Int) + 1) = i at hres' hb1 hmn ⊢
        have hi : 0 ≤ i ∧ i < (A.1 0).length := by omega
        have w5 : M' (m + 5) i = mt1 i := by rw [hf.1 _ (by omega) (by simp)]; exact hm1 i hi.1 hi.2
        have w26 : M' (m + 26) i = mt2 i := by rw [hf.1 _ (by omega) (by simp)]; exact h26' i hi.1 hi.2
        have rr1 := gm1.1 i hi.1 hi.2
        have rr2 := gm2.1 i hi.1 hi.2
        have skip : ∀ u6 u7 : j_V, ¬ (0 ≤ mt1 i ∧ 0 ≤ mt2 i) → j_J G jm_Mo_merge (d + 4) 0 0 94 [jr_ m, ji_ cf, ji_ base, ji_ one, ji_ two, ji_ (i + 1), u6, u7] [] (N, K, M', g) (j_pI N K g (mP m M1 (mgR A Res))) := by
          intro u6 u7 hno
          rw [if_neg hno] at hres'
          have := ih cf base one two out M' u6 u7 hres' (by omega) hb0 (fun _ => ⟨by omega, ho1, ht1⟩) ho0 ht0 (fun t t0 t1 => hmn t (by omega) t1) hch hf ho
          rw [show ((A.1 0).length : Int) + 1 - ((s + 1 : Nat) : Int) = i + 1 by omega] at this
          exact this
        refine s_Mo_merge_105 h.o h.g1 h.k2 (r3 := by omega) (r3' := by omega) (r5 := by rw [e0]; omega) (k1 := fun _ => ?_) (k2 := fun q => by omega)
        refine s_Mo_merge_121 (k1 := fun q => absurd rfl q) (k2 := fun _ => ?_)
        refine s_Mo_merge_128 h.o h.g6 h.k5 (r3 := by omega) (r3' := by omega) (r4 := by rw [w5]; omega) (k1 := fun q => skip _ _ (by omega)) (k2 := fun q1 => ?_)
        refine s_Mo_merge_138 h.o h.g37 h.k26 (r3 := by omega) (r3' := by omega) (r4 := by rw [w26]; omega) (k1 := fun q => skip _ _ (by omega)) (k2 := fun q2 => ?_)
        rw [w5] at q1
        rw [w26] at q2
        rw [if_pos ⟨q1, q2⟩] at hres'
        have hmi := hmn i (by omega) hi.2
        refine s_Mo_merge_148 (k1 := fun _ => ?_) (k2 := fun q => absurd rfl q)
        refine s_Mo_merge_167 h.o h.g6 h.k5 (r3 := by omega) (r3' := by omega) (k1 := ?_)
        refine s_Mo_merge_174 (k1 := fun _ => ?_) (k2 := fun q => absurd rfl q)
        refine s_Mo_merge_190 h.o h.g37 h.k26 (r3 := by omega) (r3' := by omega) (k1 := ?_)
        rw [w5, w26]
        have hlen : ((out ++ prT (A.1 0) (A.1 1) (A.1 2) base i one (mt1 i) two (mt2 i) ++ [lg (A.1 0) i]).length : Int) = (out ++ prT (A.1 0) (A.1 1) (A.1 2) base i one (mt1 i) two (mt2 i)).length + 1 := by rw [List.length_append, List.length_singleton]; omega
        refine s_Mo_merge_197 h.o (ct_Mo_mergeParts (d := d) h h3 ⟨⟨hb0, by omega, by omega⟩, ⟨ho0, hmi.1 (by omega), by omega⟩, ht0, hmi.2 (by omega), by omega⟩ ho) (fun z M2 hq => ?_)
        obtain ⟨f2, h2⟩ := hq
        have f2' := hf.trans f2
        have hzr : -1 ≤ z ∧ z ≤ 1 := by rcases h2 with ⟨q, -⟩ | ⟨q, -⟩ <;> rw [q] <;> (try split) <;> omega
        refine s_Mo_merge_200 (r1 := by omega) (k1 := fun c => ?_) (k2 := fun c => ?_)
        · rcases h2 with ⟨q, -⟩ | ⟨-, q⟩
          · rw [q] at c; split at c <;> omega
          · rw [if_neg (by omega)] at hres'
            exact full M2 hres'.symm f2'
        · rcases h2 with ⟨q, q', q''⟩ | ⟨q, -⟩
          · rw [← q] at hres'
            refine s_Mo_merge_207 (k1 := fun q => absurd rfl q) (k2 := fun _ => ?_)
            have h32 := t3 M2 f2'
            have e35 : M2 (m + 1) i = lg (A.1 0) i := by
              have := h32.1.2.2.2 i hi.1 hi.2
              rw [show 24 * (0 : Int) + i = i by omega] at this
              exact this
            refine s_Mo_merge_212 h.o h.g0 h.k1 (r3 := by omega) (r3' := by omega) (hC := ct_Mo_tryEmit (d := d + 2) h q'') (k1 := fun z2 M3 hq3 => ?_)
            rw [e35] at hq3
            obtain ⟨f3, h3'⟩ := hq3
            have f3' := f2'.trans f3
            have w53 : M3 (m + 5) i = mt1 i := by rw [f3'.1 _ (by omega) (by simp)]; exact hm1 i hi.1 hi.2
            have w263 : M3 (m + 26) i = mt2 i := by rw [f3'.1 _ (by omega) (by simp)]; exact h26' i hi.1 hi.2
            refine s_Mo_merge_223 (r1 := by omega) (k1 := fun c => ?_) (k2 := fun c => ?_)
            · rcases h3' with ⟨-, p', p''⟩ | ⟨y, -⟩
              · rw [if_pos p'] at hres'
                refine s_Mo_merge_229 (k1 := fun _ => ?_) (k2 := fun q => absurd rfl q)
                refine s_Mo_merge_248 h.o h.g6 h.k5 (r3 := by omega) (r3' := by omega) (k1 := ?_)
                refine s_Mo_merge_257 (k1 := fun _ => ?_) (k2 := fun q => absurd rfl q)
                refine s_Mo_merge_268 h.o h.g37 h.k26 (r3 := by omega) (r3' := by omega) (k1 := ?_)
                rw [w53, w263]
                have hch0 := H0 i hi.1 hi.2
                have := ih (cf + z) (i + 1) (mt1 i + 1) (mt2 i + 1) _ M3 (ji_ 0) (ji_ z) hres' (by omega) (by omega) (fun _ => ⟨by omega, by omega, by omega⟩) (by omega) (by omega) (fun t t0 t1 => ⟨fun q => by have := gm1.2 i t hi.1 (by omega) t1 (by omega) q; omega, fun q => by have := gm2.2 i t hi.1 (by omega) t1 (by omega) q; omega⟩) (chL_app (chL_app hch (prT_ch H1 H2)) (chL_1 hch0)) f3' p''
                rw [show ((A.1 0).length : Int) + 1 - ((s + 1 : Nat) : Int) = i + 1 by omega] at this
                exact this
              · omega
            · rcases h3' with ⟨y, -⟩ | ⟨-, y⟩
              · omega
              · rw [if_neg (by omega)] at hres'
                exact full M3 hres'.symm f3'
          · omega
end

/-! ===== contracts: merge of the component ===== -/
section
variable {G : j_G} {d N : Nat} {K : Nat → Option (Nat × Nat)} {M : Nat → Int → Int} {g : Nat → Int → Option Nat} {A : AS}
/-- what merging may change -/
def mgO (M M' : Nat → Int → Int) : Prop := ∀ a, a ≠ 3 → (a < 6 ∨ 8 < a) → (a < 15 ∨ 28 < a) → M' a = M a
theorem ct_LP_merge (hs : rSh K g) (hc : cInv M A) (ha : aInv A) : j_Ct G jm_LP_merge (d + 31) 0 0 [jr_ 0] (N, K, M, g) (j_pI N K g (cP M (fMerge A))) := by
  have T0 := hc.1 0 (by omega) (by omega)
  have T1 := hc.1 1 (by omega) (by omega)
  have T2 := hc.1 2 (by omega) (by omega)
  have T3 := hc.1 3 (by omega) (by omega)
  have H0 := (ha.1 0 (by omega) (by omega)).1
  have H1 := (ha.1 1 (by omega) (by omega)).1
  have H2 := (ha.1 2 (by omega) (by omega)).1
  rw [show tA 0 = 34 from rfl] at T0
  rw [show tA 1 = 36 from rfl] at T1
  rw [show tA 2 = 38 from rfl] at T2
  rw [show tA 3 = 40 from rfl] at T3
  have R0 := T0.r hs rfl rfl rfl
  have R1 := T1.r hs rfl rfl rfl
  have R2 := T2.r hs rfl rfl rfl
  obtain ⟨⟨pl1, pl2, hl1, hl2⟩, ⟨pr1, pr2, hr1, hr2⟩, lo, hlo⟩ := hc.2.2.1
  -- what is left when nothing was written to a text
  have keep : ∀ M', mgO M M' → cRs M' → cInv M' A ∧ cOut M M' := fun M' hf hrs => ⟨⟨fun t t0 t1 => by
    have ct := tA_c t0 t1
    exact (hc.1 t t0 t1).kept (hf _ (by omega) (by omega) (by omega)) (hf _ (by omega) (by omega) (by omega)), hc.2.1.kept (by rw [hf 0 (by omega) (by omega) (by omega)]) (fun a a1 a2 => hf a (by omega) (by omega) (by omega)), hrs, hc.2.2.2.kept (by rw [hf 30 (by omega) (by omega) (by omega)]) (hf 31 (by omega) (by omega) (by omega))⟩, fun a a1 => hf a (by omega) (by omega) (by omega)⟩
  refine j_Ct.ofJ (ls := [jr_ 0, ju_, ju_, ju_, ju_, ju_, ju_, ju_, ju_, ju_, ju_]) (by decide) rfl rfl ?_
  have none' : ∀ M', M' = M → ¬ (letB (A.1 0) = true ∧ letB (A.1 1) = true ∧ letB (A.1 2) = true) → j_pI N K g (cP M (fMerge A)) (.inl (some (ji_ (-3)))) (N, K, M', g) := by
    intro M' hM h
    subst hM
    refine ⟨_, M', rfl, rfl, ?_⟩
    unfold fMerge
    rw [if_neg h]
    exact ⟨rfl, hc, ha, cOut.rfl⟩
  refine s_LP_merge_0 hs.K0 hs.G0_0 (tg2 := 0) hs.K1 (r3 := by omega) (r3' := by omega) (hg5 := hs.G1_0) (hk3 := hs.K34) (hC := ct_Tx_isPlain (d := d + 28) R0) (k1 := fun z M1 hq => ?_)
  obtain ⟨hM, hz⟩ := hq
  subst hM
  refine s_LP_merge_9 (r1 := by omega) (k1 := fun c => none' _ rfl (fun q => ?_)) (k2 := fun c => ?_)
  · rcases hz with ⟨e, -⟩ | ⟨-, e⟩
    · omega
    · exact e ((letB_iff _).mp q.1)
  have al0 : allL (A.1 0) := by
    rcases hz with ⟨-, e⟩ | ⟨e, -⟩
    · exact e
    · omega
  refine s_LP_merge_12 hs.K0 hs.G0_0 (tg2 := 0) hs.K1 (r3 := by omega) (r3' := by omega) (hg5 := hs.G1_1) (hk3 := hs.K36) (hC := ct_Tx_isPlain (d := d + 28) R1) (k1 := fun z2 M1 hq => ?_)
  obtain ⟨hM, hz2⟩ := hq
  subst hM
  refine s_LP_merge_21 (r1 := by omega) (k1 := fun c => none' _ rfl (fun q => ?_)) (k2 := fun c2 => ?_)
  · rcases hz2 with ⟨e, -⟩ | ⟨-, e⟩
    · omega
    · exact e ((letB_iff _).mp q.2.1)
  have al1 : allL (A.1 1) := by
    rcases hz2 with ⟨-, e⟩ | ⟨e, -⟩
    · exact e
    · omega
  refine s_LP_merge_24 hs.K0 hs.G0_0 (tg2 := 0) hs.K1 (r3 := by omega) (r3' := by omega) (hg5 := hs.G1_2) (hk3 := hs.K38) (hC := ct_Tx_isPlain (d := d + 28) R2) (k1 := fun z3 M1 hq => ?_)
  obtain ⟨hM, hz3⟩ := hq
  subst hM
  refine s_LP_merge_33 (r1 := by omega) (k1 := fun cc3 => ?_) (k2 := fun c => none' _ rfl (fun q => by
    rcases hz3 with ⟨e, -⟩ | ⟨-, e⟩
    · omega
    · exact e ((letB_iff _).mp q.2.2)))
  have al2 : allL (A.1 2) := by
    rcases hz3 with ⟨-, e⟩ | ⟨e, -⟩
    · exact e
    · omega
  unfold fMerge
  rw [if_pos ⟨(letB_iff _).mpr al0, (letB_iff _).mpr al1, (letB_iff _).mpr al2⟩]
  have n24 := T0.2.1
  have m24 := T1.2.1
  have k24 := T2.2.1
  generalize hRes : mgF (A.1 0) (A.1 1) (A.1 2) (mtF (A.1 0) (A.1 1) 0) (mtF (A.1 0) (A.1 2) 0) ((A.1 0).length + 1) 0 0 0 [] 0 = Res
  -- the pairings
  refine s_LP_merge_39 hs.K0 hs.G0_4 hs.G0_0 (tg2 := 0) hs.K1 (r5 := by omega) (r5' := by omega) (hg7 := hs.G1_0) (tg3 := 0) (hk3 := hs.K1) (r8 := by omega) (r8' := by omega) (hg10 := hs.G1_1) (hk4 := hs.K15) (hC := ct_Pr_begin (d := d + 28) (rPr_of hs (Or.inr (Or.inl rfl)) hl1 hl2) R0 R1 (by omega) (by omega)) (k1 := fun M2 hq => ?_)
  obtain ⟨x1, x2, x3⟩ := hq
  have cl1 : cTx M2 16 (A.1 0) := x1.2.2.2.2.2.1.c
  have cl2 : cTx M2 18 (A.1 1) := x1.2.2.2.2.2.2.c
  have R0' : rTx K g M2 34 35 (A.1 0) := R0.kept (x3 _ (by simp)) (x3 _ (by simp))
  have R2' : rTx K g M2 38 39 (A.1 2) := R2.kept (x3 _ (by simp)) (x3 _ (by simp))
  have hr1' : cTx M2 22 pr1 := hr1.kept (x3 _ (by simp)) (x3 _ (by simp))
  have hr2' : cTx M2 24 pr2 := hr2.kept (x3 _ (by simp)) (x3 _ (by simp))
  refine s_LP_merge_58 hs.K0 hs.G0_5 hs.G0_0 (tg2 := 0) hs.K1 (r5 := by omega) (r5' := by omega) (hg7 := hs.G1_0) (tg3 := 0) (hk3 := hs.K1) (r8 := by omega) (r8' := by omega) (hg10 := hs.G1_2) (hk4 := hs.K21) (hC := ct_Pr_begin (d := d + 28) (rPr_of hs (Or.inr (Or.inr rfl)) hr1' hr2') R0' R2' (by omega) (by omega)) (k1 := fun M3 hq => ?_)
  obtain ⟨y1, y2, y3⟩ := hq
  have cr1 : cTx M3 22 (A.1 0) := y1.2.2.2.2.2.1.c
  have cr2 : cTx M3 24 (A.1 2) := y1.2.2.2.2.2.2.c
  have cl1' : cTx M3 16 (A.1 0) := cl1.kept (y3 _ (by simp)) (y3 _ (by simp))
  have cl2' : cTx M3 18 (A.1 1) := cl2.kept (y3 _ (by simp)) (y3 _ (by simp))
  have x2' : ∀ i : Int, 0 ≤ i → i < 24 → M3 20 i = -1 := fun i i0 i1 => by rw [y3 20 (by simp)]; exact x2 i i0 i1
  obtain ⟨ya, cia, ma, wa1, wa2, wa3, wa4⟩ := ct_way (G := G) (d := d) (N := N) (w := 0) hs (Or.inr (Or.inl rfl)) cl1' cl2' x2' (by omega)
  have eya : ya = 2 := by rw [hs.G4_0] at wa1; exact (Option.some.inj wa1).symm
  subst eya
  refine s_LP_merge_77 hs.K0 hs.G0_1 hs.G0_4 hs.K15 hs.G15_0 hs.K16 hs.G15_1 hs.K18 wa2 wa3 (hC := by rw [cl1'.1, cl2'.1]; exact wa4) (k1 := fun M4 hq => ?_)
  obtain ⟨e1, e2, e3⟩ := hq
  have cr1' : cTx M4 22 (A.1 0) := cr1.kept (e3 _ (by simp)) (e3 _ (by simp))
  have cr2' : cTx M4 24 (A.1 2) := cr2.kept (e3 _ (by simp)) (e3 _ (by simp))
  have y2' : ∀ i : Int, 0 ≤ i → i < 24 → M4 26 i = -1 := fun i i0 i1 => by rw [e3 26 (by simp)]; exact y2 i i0 i1
  obtain ⟨yb, cib, mb, wb1, wb2, wb3, wb4⟩ := ct_way (G := G) (d := d) (N := N) (w := 0) hs (Or.inr (Or.inr rfl)) cr1' cr2' y2' (by omega)
  have eyb : yb = 2 := by rw [hs.G4_0] at wb1; exact (Option.some.inj wb1).symm
  subst eyb
  refine s_LP_merge_112 hs.K0 hs.G0_1 hs.G0_5 hs.K21 hs.G21_0 hs.K22 hs.G21_1 hs.K24 wb2 wb3 (hC := by rw [cr1'.1, cr2'.1]; exact wb4) (k1 := fun M5 hq => ?_)
  obtain ⟨g1, g2, g3⟩ := hq
  refine s_LP_merge_147 hs.K0 hs.G0_6 hs.K27 ?_
  have hO5 : mgO M1 M5 := fun a a1 a2 a3 => by rw [g3 a (by simp; omega), e3 a (by simp; omega), y3 a (by simp; omega), x3 a (by simp; omega)]
  have hcl : cTx M5 16 (A.1 0) ∧ cTx M5 18 (A.1 1) := ⟨(cl1'.kept (e3 _ (by simp)) (e3 _ (by simp))).kept (g3 _ (by simp)) (g3 _ (by simp)), (cl2'.kept (e3 _ (by simp)) (e3 _ (by simp))).kept (g3 _ (by simp)) (g3 _ (by simp))⟩
  have hcr : cTx M5 22 (A.1 0) ∧ cTx M5 24 (A.1 2) := ⟨cr1'.kept (g3 _ (by simp)) (g3 _ (by simp)), cr2'.kept (g3 _ (by simp)) (g3 _ (by simp))⟩
  have m20 : ∀ i : Int, 0 ≤ i → i < (A.1 0).length → M5 20 i = mtF (A.1 0) (A.1 1) 0 i := fun i i0 i1 => by rw [g3 20 (by simp)]; exact e1 i i0 i1
  have m26 : ∀ i : Int, 0 ≤ i → i < (A.1 0).length → M5 26 i = mtF (A.1 0) (A.1 2) 0 i := g1
  have hcell : ∀ i : Int, 0 ≤ i → i < 24 → -128 ≤ M5 28 i ∧ M5 28 i ≤ 127 := fun i i0 i1 => by rw [g3 28 (by simp), e3 28 (by simp), y3 28 (by simp), x3 28 (by simp)]; exact hlo.2.2.2 i i0 i1
  have out0 : rTx K g (j_up M5 27 1 0) 27 28 [] := ⟨hs.K27, hs.G27_0, hs.K28, by rw [j_up_eq]; rfl, by simp, fun i i0 i1 => by simp at i1; omega, fun i i0 i1 => by rw [j_up_a (by omega)]; exact hcell i i0 i1⟩
  have fr0 : j_fr [27, 28] M5 (j_up M5 27 1 0) := j_fr.up (by simp)
  clear x1 x2 x3 y1 y2 y3 e1 e2 e3 g1 g2 g3 wa1 wa2 wa3 wa4 wb1 wb2 wb3 wb4 cl1 cl2 cr1 cr2 cl1' cl2' cr1' cr2' x2' y2' R0' R2' hr1' hr2' hcell
  have gm1 := mtF_gm (l1 := A.1 0) (l2 := A.1 1) (way := 0)
  have gm2 := mtF_gm (l1 := A.1 0) (l2 := A.1 2) (way := 0)
  -- what holds of a state of the loop
  have rs : ∀ M', j_fr [27, 28] M5 M' → (∃ l', rTx K g M' 27 28 l') → cRs M' := fun M' hf ⟨l', hl'⟩ => ⟨⟨_, _, hcl.1.kept (hf _ (by simp)) (hf _ (by simp)), hcl.2.kept (hf _ (by simp)) (hf _ (by simp))⟩, ⟨_, _, hcr.1.kept (hf _ (by simp)) (hf _ (by simp)), hcr.2.kept (hf _ (by simp)) (hf _ (by simp))⟩, l', hl'.c⟩
  have gO : ∀ M', j_fr [27, 28] M5 M' → mgO M1 M' := fun M' hf a a1 a2 a3 => by rw [hf a (by simp; omega)]; exact hO5 a a1 a2 a3
  have t3 : ∀ M', j_fr [27, 28] M5 M' → c3 M' (A.1 0) (A.1 1) (A.1 2) := fun M' hf => by
    have hg := gO M' hf
    exact ⟨T0.kept (hg _ (by omega) (by omega) (by omega)) (hg _ (by omega) (by omega) (by omega)), T1.kept (hg _ (by omega) (by omega) (by omega)) (hg _ (by omega) (by omega) (by omega)), T2.kept (hg _ (by omega) (by omega) (by omega)) (hg _ (by omega) (by omega) (by omega))⟩
  generalize mtF (A.1 0) (A.1 1) 0 = mt1 at hRes m20 gm1
  generalize mtF (A.1 0) (A.1 2) 0 = mt2 at hRes m26 gm2
  -- no room
  have full : ∀ (M' : Nat → Int → Int) (cf base one two i : Int) (u7 u8 u9 u10 : j_V), Res = none → j_fr [27, 28] M5 M' → (∃ l', rTx K g M' 27 28 l') → -2147483648 ≤ i ∧ i ≤ 2147483647 →
      j_J G jm_LP_merge (d + 31) 0 0 170 [jr_ 0, ji_ cf, ji_ 0, ji_ base, ji_ one, ji_ two, ji_ i, u7, u8, u9, u10] [] (N, K, M', g) (j_pI N K g (cP M1 (mgR A Res))) := by
    intro M' cf base one two i u7 u8 u9 u10 hR hf hl' hi
    subst hR
    have k424 : j_J G jm_LP_merge (d + 31) 0 0 424 [jr_ 0, ji_ cf, ji_ 0, ji_ base, ji_ one, ji_ two, ji_ i, u7, u8, u9, u10] [] (N, K, M', g) (j_pI N K g (cP M1 (-2, A))) := by
      have := keep M' (gO M' hf) (rs M' hf hl')
      exact s_LP_merge_424 (k1 := fun q => absurd rfl q) (k2 := fun _ => ⟨_, M', rfl, rfl, rfl, this.1, ha, this.2⟩)
    have e34 : M' 34 1 = (A.1 0).length := (t3 M' hf).1.1
    refine s_LP_merge_170 hs.K0 hs.G0_0 (tg2 := 0) hs.K1 (r3 := by omega) (r3' := by omega) (hg5 := hs.G1_0) (hk3 := hs.K34) (r7 := by rw [e34]; omega) (k1 := fun _ => k424) (k2 := fun _ => ?_)
    exact s_LP_merge_184 (k1 := fun _ => k424) (k2 := fun q => absurd rfl q)
  -- a part
  have part : ∀ (out : List Int) (M' : Nat → Int → Int) (cf base one two i x7 eo et : Int) (u9 u10 : j_V) (Q : j_O → j_S → Prop), r3 (A.1 0) (A.1 1) (A.1 2) base i one eo two et → j_fr [27, 28] M5 M' → rTx K g M' 27 28 out →
      (∀ (z : Int) (M2 : Nat → Int → Int) (x10 : Int), j_fr [27, 28] M5 M2 → ((z = 1 ∧ ((out ++ prT (A.1 0) (A.1 1) (A.1 2) base i one eo two et).length : Int) ≤ 24 ∧ rTx K g M2 27 28 (out ++ prT (A.1 0) (A.1 1) (A.1 2) base i one eo two et)) ∨ (z = 0 ∧ 24 < ((out ++ prT (A.1 0) (A.1 1) (A.1 2) base i one eo two et).length : Int) ∧ ∃ l', rTx K g M2 27 28 l')) →
        j_J G jm_LP_merge (d + 31) 0 0 363 [jr_ 0, ji_ (cf + (if clB (A.1 0) (A.1 1) (A.1 2) base i one eo two et = true then 1 else 0)), ji_ 1, ji_ base, ji_ one, ji_ two, ji_ i, ji_ x7, ji_ eo, ji_ et, ji_ x10] [ji_ z] (N, K, M2, g) Q) →
      j_J G jm_LP_merge (d + 31) 0 0 296 [jr_ 0, ji_ cf, ji_ 1, ji_ base, ji_ one, ji_ two, ji_ i, ji_ x7, ji_ eo, u9, u10] [ji_ et] (N, K, M', g) Q := by
    intro out M' cf base one two i x7 eo et u9 u10 Q hr hf ho kk
    have h3 := t3 M' hf
    refine s_LP_merge_296 hs.K0 (ct_LP_clash (d := d + 29) hs h3 hr) (fun z M2 hq => ?_)
    obtain ⟨hM, hz⟩ := hq
    subst hM
    have hzr : z = 0 ∨ z = 1 := by rw [hz]; split <;> omega
    refine s_LP_merge_313 (r1 := by omega) (k1 := fun c => ?_) (k2 := fun c => ?_)
    · have hcl : ¬ (clB (A.1 0) (A.1 1) (A.1 2) base i one eo two et = true) := fun q => by rw [if_pos q] at hz; omega
      rw [if_neg hcl] at kk
      refine s_LP_merge_326 (r1 := by omega) (k1 := fun _ => ?_) (k2 := fun q => absurd c q)
      refine s_LP_merge_348 hs.K0 (ct_LP_putPart (d := d + 28) hs h3 hr ho) (fun z2 M3 hq2 => ?_)
      have e : prT (A.1 0) (A.1 1) (A.1 2) base i one eo two et = if sl (A.1 0) base i = sl (A.1 1) one eo then sl (A.1 2) two et else sl (A.1 1) one eo := by unfold prT; rw [if_neg hcl]
      rw [← e] at hq2
      exact kk z2 M3 z (hf.trans hq2.1) hq2.2
    · have hcl : clB (A.1 0) (A.1 1) (A.1 2) base i one eo two et = true := by
        by_cases q : clB (A.1 0) (A.1 1) (A.1 2) base i one eo two et = true
        · exact q
        · rw [if_neg q] at hz; omega
      rw [if_pos hcl] at kk
      refine s_LP_merge_326 (r1 := by omega) (k1 := fun q => absurd q c) (k2 := fun _ => ?_)
      refine s_LP_merge_333 hs.K0 (ct_LP_putClash (d := d + 28) hs h3 hr.2.1 hr.2.2 ho) (fun z2 M3 hq2 => ?_)
      have e : prT (A.1 0) (A.1 1) (A.1 2) base i one eo two et = [60] ++ sl (A.1 1) one eo ++ [61] ++ sl (A.1 2) two et ++ [62] := by unfold prT; rw [if_pos hcl]
      rw [← e] at hq2
      refine s_LP_merge_345 ?_
      exact kk z2 M3 z (hf.trans hq2.1) hq2.2
  -- the loop
  suffices lp : ∀ (s : Nat) (cf base one two : Int) (out : List Int) (M' : Nat → Int → Int) (u7 u8 u9 u10 : j_V), mgF (A.1 0) (A.1 1) (A.1 2) mt1 mt2 s base one two out cf = Res → (s : Int) ≤ (A.1 0).length + 1 → 0 ≤ base → (1 ≤ s → base ≤ (A.1 0).length + 1 - s ∧ one ≤ (A.1 1).length ∧ two ≤ (A.1 2).length) → 0 ≤ one → 0 ≤ two → (∀ t : Int, (A.1 0).length + 1 - s ≤ t → t < (A.1 0).length → (mt1 t ≠ -1 → one ≤ mt1 t) ∧ (mt2 t ≠ -1 → two ≤ mt2 t)) → 0 ≤ cf → cf ≤ 100 - s → chL out → j_fr [27, 28] M5 M' → rTx K g M' 27 28 out →
      j_J G jm_LP_merge (d + 31) 0 0 170 [jr_ 0, ji_ cf, ji_ 1, ji_ base, ji_ one, ji_ two, ji_ ((A.1 0).length + 1 - s), u7, u8, u9, u10] [] (N, K, M', g) (j_pI N K g (cP M1 (mgR A Res))) by
    have := lp ((A.1 0).length + 1) 0 0 0 0 [] _ ju_ ju_ ju_ ju_ hRes (by omega) (by omega) (fun _ => ⟨by omega, by omega, by omega⟩) (by omega) (by omega) (fun t t0 t1 => ⟨fun q => by have := gm1.1 t (by omega) t1; omega, fun q => by have := gm2.1 t (by omega) t1; omega⟩) (by omega) (by omega) (fun i i0 i1 => by simp at i1; omega) fr0 out0
    rw [show ((A.1 0).length : Int) + 1 - (((A.1 0).length + 1 : Nat) : Int) = 0 by omega] at this
    exact this
  intro s
  induction s with
  | zero =>
    intro cf base one two out M' u7 u8 u9 u10 hres hs1 hb0 hb1 ho0 ht0 hmn c0 c1 hch hf ho
    have hR : Res = some (cf, out) := hres.symm
    subst hR
    have e34 : M' 34 1 = (A.1 0).length := (t3 M' hf).1.1
    have hg := gO M' hf
    refine s_LP_merge_170 hs.K0 hs.G0_0 (tg2 := 0) hs.K1 (r3 := by omega) (r3' := by omega) (hg5 := hs.G1_0) (hk3 := hs.K34) (r7 := by rw [e34]; omega) (k1 := fun _ => ?_) (k2 := fun q => by omega)
    refine s_LP_merge_424 (k1 := fun _ => ?_) (k2 := fun q => by omega)
    have T3' : cTx M' 40 (A.1 3) := T3.kept (hg _ (by omega) (by omega) (by omega)) (hg _ (by omega) (by omega) (by omega))
    refine s_LP_merge_431 hs.K0 hs.G0_0 (tg2 := 0) hs.K1 (r3 := by omega) (r3' := by omega) (hg5 := hs.G1_3) (hg7 := hs.G0_6) (hk3 := hs.K40) (hC := ct_Tx_copy (d := d + 29) (T3'.r hs rfl rfl rfl) ho (by omega)) (k1 := fun M2 hq => ?_)
    have k1 := keep M' hg (rs M' hf ⟨_, ho⟩)
    refine s_LP_merge_444 ⟨_, M2, rfl, rfl, rfl, ?_, ha.text hch ho.2.2.2.2.1, fun a a1 => by rw [hq.2 a (by simp; omega)]; exact k1.2 a a1⟩
    exact k1.1.text (t := 3) (by omega) (by omega) (fun a a1 a2 => hq.2 a (by rw [show tA 3 = 40 from rfl] at a1 a2; simp; omega)) hq.1.c
  | succ s ih =>
    intro cf base one two out M' u7 u8 u9 u10 hres hs1 hb0 hb1 ho0 ht0 hmn c0 c1 hch hf ho
    obtain ⟨hb1, ho1, ht1⟩ := hb1 (by omega)
    have e34 : M' 34 1 = (A.1 0).length := (t3 M' hf).1.1
    have e36 : M' 36 1 = (A.1 1).length := (t3 M' hf).2.1.1
    have e38 : M' 38 1 = (A.1 2).length := (t3 M' hf).2.2.1
    have ei : ((A.1 0).length : Int) + 1 - ((s + 1 : Nat) : Int) = (A.1 0).length - s := by omega
    rw [ei] at hb1 hmn ⊢
    refine s_LP_merge_170 hs.K0 hs.G0_0 (tg2 := 0) hs.K1 (r3 := by omega) (r3' := by omega) (hg5 := hs.G1_0) (hk3 := hs.K34) (r7 := by rw [e34]; omega) (k1 := fun q => by omega) (k2 := fun _ => ?_)
    refine s_LP_merge_184 (k1 := fun q => by omega) (k2 := fun _ => ?_)
    cases s with
    | zero =>
      -- the end
      refine s_LP_merge_188 hs.K0 hs.G0_0 (tg2 := 0) hs.K1 (r3 := by omega) (r3' := by omega) (hg5 := hs.G1_0) (hk3 := hs.K34) (r7 := by rw [e34]; omega) (k1 := fun q => by omega) (k2 := fun _ => ?_)
      refine s_LP_merge_207 (k1 := fun _ => ?_) (k2 := fun q => by omega)
      refine s_LP_merge_240 (k1 := fun q => by omega) (k2 := fun _ => ?_)
      refine s_LP_merge_245 hs.K0 hs.G0_0 (tg2 := 0) hs.K1 (r3 := by omega) (r3' := by omega) (hg5 := hs.G1_1) (hk3 := hs.K36) (k1 := ?_)
      refine s_LP_merge_267 (k1 := fun q => by omega) (k2 := fun _ => ?_)
      refine s_LP_merge_274 hs.K0 hs.G0_0 (tg2 := 0) hs.K1 (r3 := by omega) (r3' := by omega) (hg5 := hs.G1_2) (hk3 := hs.K38) (k1 := ?_)
      rw [e36, e38, show ((A.1 0).length : Int) - ((0 : Nat) : Int) = (A.1 0).length by omega]
      refine part out M' cf base one two (A.1 0).length 1 (A.1 1).length (A.1 2).length _ _ _ ⟨⟨hb0, by omega, by omega⟩, ⟨ho0, ho1, by omega⟩, ht0, ht1, by omega⟩ hf ho (fun z M2 x10 hf2 hz => ?_)
      have hres' : (if ((out ++ prT (A.1 0) (A.1 1) (A.1 2) base (A.1 0).length one (A.1 1).length two (A.1 2).length).length : Int) ≤ 24 then some (cf + (if clB (A.1 0) (A.1 1) (A.1 2) base (A.1 0).length one (A.1 1).length two (A.1 2).length = true then 1 else 0), out ++ prT (A.1 0) (A.1 1) (A.1 2) base (A.1 0).length one (A.1 1).length two (A.1 2).length) else none) = Res := hres
      refine s_LP_merge_363 (r1 := by omega) (k1 := fun c => ?_) (k2 := fun c => ?_)
      · rcases hz with ⟨q, -⟩ | ⟨-, q, q'⟩
        · omega
        · rw [if_neg (by omega)] at hres'
          exact full M2 _ _ _ _ _ _ _ _ _ hres'.symm hf2 q' (by omega)
      · rcases hz with ⟨q, q', q''⟩ | ⟨q, -⟩
        · subst q
          rw [if_pos q'] at hres'
          refine s_LP_merge_368 (k1 := fun _ => ?_) (k2 := fun q => by omega)
          have := ih (cf + (if clB (A.1 0) (A.1 1) (A.1 2) base (A.1 0).length one (A.1 1).length two (A.1 2).length = true then 1 else 0)) ((A.1 0).length + 1) ((A.1 1).length + 1) ((A.1 2).length + 1) _ M2 (ji_ 1) (ji_ (A.1 1).length) (ji_ (A.1 2).length) (ji_ x10) hres' (by omega) (by omega) (fun q => by omega) (by omega) (by omega) (fun t t0 t1 => by omega) (by split <;> omega) (by split <;> omega) (chL_app hch (prT_ch H1 H2)) hf2 q''
          rw [show ((A.1 0).length : Int) + 1 - ((0 : Nat) : Int) = (A.1 0).length + 1 by omega] at this
          exact this
        · omega
    | succ s =>
      have ei2 : ((A.1 0).length : Int) - ((s + 1 : Nat) : Int) = (A.1 0).length - ((s : Int) + 1) := by omega
      rw [ei2] at hb1 hmn ⊢
      have hres' := hres
      rw [mgF] at hres'
      generalize hii : ((A.1 0).length : Int) - ((s : Int) + 1) = i at hres' hb1 hmn ⊢
      have hi : 0 ≤ i ∧ i < (A.1 0).length := by omega
      have w20 : M' 20 i = mt1 i := by rw [hf 20 (by simp)]; exact m20 i hi.1 hi.2
      have w26 : M' 26 i = mt2 i := by rw [hf 26 (by simp)]; exact m26 i hi.1 hi.2
      have rr1 := gm1.1 i hi.1 hi.2
      have rr2 := gm2.1 i hi.1 hi.2
      have skip : ∀ u7 u8 u9 u10 : j_V, ¬ (0 ≤ mt1 i ∧ 0 ≤ mt2 i) → j_J G jm_LP_merge (d + 31) 0 0 170 [jr_ 0, ji_ cf, ji_ 1, ji_ base, ji_ one, ji_ two, ji_ (i + 1), u7, u8, u9, u10] [] (N, K, M', g) (j_pI N K g (cP M1 (mgR A Res))) := by
        intro u7 u8 u9 u10 hno
        rw [if_neg hno] at hres'
        have := ih cf base one two out M' u7 u8 u9 u10 hres' (by omega) hb0 (fun _ => ⟨by omega, ho1, ht1⟩) ho0 ht0 (fun t t0 t1 => hmn t (by omega) t1) c0 (by omega) hch hf ho
        rw [show ((A.1 0).length : Int) + 1 - ((s + 1 : Nat) : Int) = i + 1 by omega] at this
        exact this
      refine s_LP_merge_188 hs.K0 hs.G0_0 (tg2 := 0) hs.K1 (r3 := by omega) (r3' := by omega) (hg5 := hs.G1_0) (hk3 := hs.K34) (r7 := by rw [e34]; omega) (k1 := fun _ => ?_) (k2 := fun q => by omega)
      refine s_LP_merge_207 (k1 := fun q => absurd rfl q) (k2 := fun _ => ?_)
      refine s_LP_merge_214 hs.K0 hs.G0_4 hs.K15 hs.G15_2 hs.K20 (r5 := by omega) (r5' := by omega) (r6 := by rw [w20]; omega) (k1 := fun q => skip _ _ _ _ (by omega)) (k2 := fun q1 => ?_)
      refine s_LP_merge_227 hs.K0 hs.G0_5 hs.K21 hs.G21_2 hs.K26 (r5 := by omega) (r5' := by omega) (r6 := by rw [w26]; omega) (k1 := fun q => skip _ _ _ _ (by omega)) (k2 := fun q2 => ?_)
      rw [w20] at q1
      rw [w26] at q2
      rw [if_pos ⟨q1, q2⟩] at hres'
      have hmi := hmn i (by omega) hi.2
      refine s_LP_merge_240 (k1 := fun _ => ?_) (k2 := fun q => absurd rfl q)
      refine s_LP_merge_257 hs.K0 hs.G0_4 hs.K15 hs.G15_2 hs.K20 (r5 := by omega) (r5' := by omega) (k1 := ?_)
      refine s_LP_merge_267 (k1 := fun _ => ?_) (k2 := fun q => absurd rfl q)
      refine s_LP_merge_286 hs.K0 hs.G0_5 hs.K21 hs.G21_2 hs.K26 (r5 := by omega) (r5' := by omega) (k1 := ?_)
      rw [w20, w26]
      refine part out M' cf base one two i 0 (mt1 i) (mt2 i) _ _ _ ⟨⟨hb0, by omega, by omega⟩, ⟨ho0, hmi.1 (by omega), by omega⟩, ht0, hmi.2 (by omega), by omega⟩ hf ho (fun z M2 x10 hf2 hz => ?_)
      have hlen : ((out ++ prT (A.1 0) (A.1 1) (A.1 2) base i one (mt1 i) two (mt2 i) ++ [lg (A.1 0) i]).length : Int) = (out ++ prT (A.1 0) (A.1 1) (A.1 2) base i one (mt1 i) two (mt2 i)).length + 1 := by rw [List.length_append, List.length_singleton]; omega
      refine s_LP_merge_363 (r1 := by omega) (k1 := fun c => ?_) (k2 := fun c => ?_)
      · rcases hz with ⟨q, -⟩ | ⟨-, q, q'⟩
        · omega
        · rw [if_neg (by omega)] at hres'
          exact full M2 _ _ _ _ _ _ _ _ _ hres'.symm hf2 q' (by omega)
      · rcases hz with ⟨q, q', q''⟩ | ⟨q, -⟩
        · subst q
          refine s_LP_merge_368 (k1 := fun q => absurd rfl q) (k2 := fun _ => ?_)
          have hc3 := t3 M2 hf2
          have e35 : M2 35 i = lg (A.1 0) i := hc3.1.2.2.1 i hi.1 hi.2
          have hch0 := H0 i hi.1 hi.2
          refine s_LP_merge_373 hs.K0 hs.G0_6 hs.G0_0 (tg2 := 0) hs.K1 (r5 := by omega) (r5' := by omega) (hg7 := hs.G1_0) (hk3 := hs.K34) (hg9 := hs.G34_0) (hk4 := hs.K35) (r10 := by omega) (r10' := by omega) (hk5 := hs.K27) (hC := ct_oadd q'' (by rw [e35]; omega)) (k1 := fun z2 M3 hq3 => ?_)
          rw [e35] at hq3
          obtain ⟨f3, h3⟩ := hq3
          have f3' := hf2.trans f3
          refine s_LP_merge_392 (r1 := by omega) (k1 := fun c => ?_) (k2 := fun c => ?_)
          · rcases h3 with ⟨q, -⟩ | ⟨-, q, q'⟩
            · omega
            · rw [if_neg (by omega)] at hres'
              exact full M3 _ _ _ _ _ _ _ _ _ hres'.symm f3' q' (by omega)
          · rcases h3 with ⟨-, p', p''⟩ | ⟨q, -⟩
            · rw [if_pos p'] at hres'
              have := ih _ (i + 1) (mt1 i + 1) (mt2 i + 1) _ M3 (ji_ 0) (ji_ (mt1 i)) (ji_ (mt2 i)) (ji_ x10) hres' (by omega) (by omega) (fun _ => ⟨by omega, by omega, by omega⟩) (by omega) (by omega) (fun t t0 t1 => ⟨fun q => by have := gm1.2 i t hi.1 (by omega) t1 (by omega) q; omega, fun q => by have := gm2.2 i t hi.1 (by omega) t1 (by omega) q; omega⟩) (by split <;> omega) (by split <;> omega) (chL_app (chL_app hch (prT_ch H1 H2)) (chL_1 hch0)) f3' p''
              rw [show ((A.1 0).length : Int) + 1 - ((s + 1 : Nat) : Int) = i + 1 by omega] at this
              exact this
            · omega
        · omega
end

/-! ===== contracts: the model's row of all lines ===== -/
def mOp (M : Nat → Int → Int) (m : Nat) : Int → List (Int × Int) → Prop
  | _, [] => True
  | k, p :: O => M (m + 16) k = p.1 ∧ M (m + 17) k = p.2 ∧ mOp M m (k + 1) O
section
variable {M M' : Nat → Int → Int} {m : Nat}
theorem mOp.kept (O : List (Int × Int)) : ∀ k, mOp M m k O → (∀ i, k ≤ i → i < k + O.length → M' (m + 16) i = M (m + 16) i ∧ M' (m + 17) i = M (m + 17) i) → mOp M' m k O := by
  induction O with
  | nil => intro k _ _; trivial
  | cons p O ih =>
    intro k ⟨h1, h2, h3⟩ hf
    rw [List.length_cons] at hf
    have e := hf k (by omega) (by omega)
    exact ⟨by rw [e.1]; exact h1, by rw [e.2]; exact h2, ih (k + 1) h3 (fun i a b => hf i (by omega) (by omega))⟩
theorem mOp.app (A B : List (Int × Int)) : ∀ k, mOp M m k (A ++ B) ↔ mOp M m k A ∧ mOp M m (k + A.length) B := by
  induction A with
  | nil => intro k; simp [mOp]
  | cons p A ih =>
    intro k
    simp only [List.cons_append, mOp, ih, List.length_cons]
    rw [show k + ((A.length + 1 : Nat) : Int) = k + 1 + A.length by omega]
    constructor
    · rintro ⟨h1, h2, h3, h4⟩; exact ⟨⟨h1, h2, h3⟩, h4⟩
    · rintro ⟨⟨h1, h2, h3⟩, h4⟩; exact ⟨h1, h2, h3, h4⟩
end
theorem mid_tot {l1 l2 : List Int} {n m : Int} (hn : n = l1.length) (hm : m = l2.length) (R : List c4) : ∀ i j, 0 ≤ i → 0 ≤ j → vl n m i j R → ((midOf l1 l2 i R n).length : Int) ≤ (n - i) + (m - j) := by
  induction R with
  | nil =>
    intro i j hi hj ⟨h1, h2⟩
    rw [midOf]
    have := kpL_len (k := 32) (l := l1) hi h1 (by omega)
    omega
  | cons c R ih =>
    intro i j hi hj ⟨h1, h2, h3, h4, h5, h6, h7, h8⟩
    have a := ih _ _ (by omega) (by omega) h8
    rw [midOf, List.length_append, List.length_append, List.length_append]
    have b1 := kpL_len (k := 32) (l := l1) hi h1 (by omega)
    have b2 := kpL_len (k := 45) (l := l1) (by omega) h3 (by omega)
    have b3 := kpL_len (k := 43) (l := l2) (by omega) h5 (by omega)
    omega
section
variable {G : j_G} {d N : Nat} {K : Nat → Option (Nat × Nat)} {M : Nat → Int → Int} {g : Nat → Int → Option Nat} {m : Nat} {l1 l2 : List Int} {mt : Int → Int}
theorem ct_Mo_op {O : List (Int × Int)} {k c : Int} (h : rMo K g m) (h1 : M m 21 = O.length) (h2 : mOp M m 0 O) (hO : (O.length : Int) < 48) :
    j_Ct G jm_Mo_op d 0 0 [jr_ m, ji_ k, ji_ c] (N, K, M, g) (j_pV N K g fun M' => M' m 21 = (O ++ [(k, c)]).length ∧ mOp M' m 0 (O ++ [(k, c)]) ∧ j_fm m [21] [m + 16, m + 17] M M') := by
  have e16 : ∀ (X : Nat → Int → Int) (i z : Int), j_up X (m + 16) i z m = X m := fun X i z => j_up_a (by omega)
  have e17 : ∀ (X : Nat → Int → Int) (i z : Int), j_up X (m + 17) i z m = X m := fun X i z => j_up_a (by omega)
  refine j_Ct.ofJ (ls := [jr_ m, ji_ k, ji_ c]) (by decide) rfl rfl ?_
  refine s_Mo_op_0 h.o h.g22 h.k16 (hg5 := h.g23) (hk3 := h.k17) (r6 := by rw [e16, h1]; omega) (r6' := by rw [e16, h1]; omega) (k1 := ?_)
  simp only [e16, e17, h1]
  refine ⟨_, rfl, rfl, ?_, ?_, ((j_fm.arr (by omega) (by simp)).trans (j_fm.arr (by omega) (by simp))).trans (j_fm.fld (by simp))⟩
  · rw [j_up_eq, List.length_append]; rfl
  · refine (mOp.app O [(k, c)] 0).mpr ⟨h2.kept O 0 (fun i i0 i1 => ?_), ?_, ?_, trivial⟩
    · constructor
      · rw [j_up_a (by omega), j_up_a (by omega), j_up_ne (Or.inr (by omega))]
      · rw [j_up_a (by omega), j_up_ne (Or.inr (by omega)), j_up_a (by omega)]
    · rw [j_up_a (by omega), j_up_a (by omega), Int.zero_add, j_up_eq]
    · rw [j_up_a (by omega), Int.zero_add, j_up_eq]
theorem ct_Mo_row {L : List c4} (h : rMo K g m) (hc : mCp M m l1 l2 mt) (n24 : (l1.length : Int) ≤ 24) (m24 : (l2.length : Int) ≤ 24) (hg : gm mt 0 l1.length 0 l2.length) (hL : CLp mt l1.length l2.length 0 0 L) :
    j_Ct G jm_Mo_row (d + 1) 0 0 [jr_ m] (N, K, M, g) (j_pV N K g fun M' => M' m 21 = (midOf l1 l2 0 L l1.length).length ∧ mOp M' m 0 (midOf l1 l2 0 L l1.length) ∧ j_fm m [21] [m + 16, m + 17] M M') := by
  obtain ⟨c1, c2, c3, cx, c5⟩ := hc
  have hTl := mid_tot (l1 := l1) (l2 := l2) rfl rfl L 0 0 (by omega) (by omega) (CLp.vl L 0 0 hL)
  refine j_Ct.ofJ (ls := [jr_ m, ju_, ju_, ju_]) (by decide) rfl rfl ?_
  refine s_Mo_row_0 h.o ?_
  suffices lp : ∀ (f : Nat) (i j : Int) (R : List c4) (O : List (Int × Int)) (M1 : Nat → Int → Int) (u3 : j_V), (l1.length - i) + (l2.length - j) ≤ f → 0 ≤ i → i ≤ l1.length → 0 ≤ j → j ≤ l2.length → CLp mt l1.length l2.length i j R → O ++ midOf l1 l2 i R l1.length = midOf l1 l2 0 L l1.length → M1 m 21 = O.length → mOp M1 m 0 O → j_fm m [21] [m + 16, m + 17] M M1 →
      j_J G jm_Mo_row (d + 1) 0 0 9 [jr_ m, ji_ i, ji_ j, u3] [] (N, K, M1, g) (j_pV N K g fun M' => M' m 21 = (midOf l1 l2 0 L l1.length).length ∧ mOp M' m 0 (midOf l1 l2 0 L l1.length) ∧ j_fm m [21] [m + 16, m + 17] M M') from
    lp 48 0 0 L [] _ _ (by omega) (by omega) (by omega) (by omega) (by omega) hL rfl (by rw [j_up_eq]; rfl) trivial (j_fm.fld (by simp))
  -- at the end
  have done : ∀ (R : List c4) (O : List (Int × Int)) (M1 : Nat → Int → Int) (u3 : j_V), CLp mt l1.length l2.length l1.length l2.length R → O ++ midOf l1 l2 l1.length R l1.length = midOf l1 l2 0 L l1.length → M1 m 21 = O.length → mOp M1 m 0 O → j_fm m [21] [m + 16, m + 17] M M1 →
      j_J G jm_Mo_row (d + 1) 0 0 9 [jr_ m, ji_ l1.length, ji_ l2.length, u3] [] (N, K, M1, g) (j_pV N K g fun M' => M' m 21 = (midOf l1 l2 0 L l1.length).length ∧ mOp M' m 0 (midOf l1 l2 0 L l1.length) ∧ j_fm m [21] [m + 16, m + 17] M M') := by
    intro R O M1 u3 hR hO h21 hop hf
    have := CLp_end R hR
    subst this
    rw [midOf, kpL_nil (Int.le_refl _), List.append_nil] at hO
    subst hO
    have e16 : M1 m 16 = l1.length := by rw [hf.2 _ (by simp)]; exact c2
    have e17 : M1 m 17 = l2.length := by rw [hf.2 _ (by simp)]; exact c3
    refine s_Mo_row_9 h.o (r2 := by rw [e16]; omega) (k1 := fun q => by omega) (k2 := fun _ => ?_)
    exact s_Mo_row_17 h.o (r2 := by rw [e17]; omega) (k1 := fun _ => ⟨M1, rfl, rfl, h21, hop, hf⟩) (k2 := fun q => by omega)
  intro f
  induction f with
  | zero =>
    intro i j R O M1 u3 hfu hi0 hi hj0 hj hR hO h21 hop hf
    have ei : i = l1.length := by omega
    have ej : j = l2.length := by omega
    subst ei
    subst ej
    exact done R O M1 u3 hR hO h21 hop hf
  | succ f ih =>
    intro i j R O M1 u3 hfu hi0 hi hj0 hj hR hO h21 hop hf
    by_cases hend : i < l1.length ∨ j < l2.length
    · -- what comes next
      obtain ⟨ex, ey, R', x1, x2, y1, y2, hold, hmt, hmn, hmid, hR', hlt⟩ : ∃ (ex ey : Int) (R' : List c4), i ≤ ex ∧ ex ≤ l1.length ∧ j ≤ ey ∧ ey ≤ l2.length ∧ (∀ t, i ≤ t → t < ex → mt t = -1) ∧ (ex < l1.length → mt ex = ey) ∧ (ex = l1.length → ey = l2.length) ∧ midOf l1 l2 i R l1.length = kpL 45 l1 i ex ++ (kpL 43 l2 j ey ++ midOf l1 l2 ex R' l1.length) ∧ CLp mt l1.length l2.length ex ey R' ∧ (ex < l1.length ∨ (ex = l1.length ∧ ey = l2.length)) := by
        by_cases hm : i < l1.length ∧ mt i = j
        · refine ⟨i, j, R, Int.le_refl _, hi, Int.le_refl _, hj, fun t _ _ => by omega, fun _ => hm.2, fun q => by omega, ?_, hR, Or.inl hm.1⟩
          rw [kpL_nil (Int.le_refl _), kpL_nil (Int.le_refl _)]
          rfl
        · cases R with
          | nil =>
            obtain ⟨r1, r2, r3⟩ := hR
            by_cases q : i < l1.length
            · exact absurd ⟨q, by rw [r3 i (Int.le_refl _) q]; omega⟩ hm
            · omega
          | cons c R =>
            obtain ⟨r1, r2, r3, r4, r5, r6, r7, r8, r9, r10, r11, r12⟩ := hR
            have hx : c.1 = i := by
              by_cases q : i < c.1
              · exact absurd ⟨by omega, by rw [r3 i (Int.le_refl _) q]; omega⟩ hm
              · omega
            have hy : c.2.2.1 = j := by omega
            refine ⟨c.2.1, c.2.2.2, R, by omega, r5, by omega, r7, fun t t1 t2 => r9 t (by omega) t2, r10, r11, ?_, r12, ?_⟩
            · rw [midOf, hx, hy, kpL_nil (Int.le_refl _)]
              rfl
            · by_cases q : c.2.1 = l1.length
              · exact Or.inr ⟨q, r11 q⟩
              · exact Or.inl (by omega)
      rw [hmid] at hO
      have hOl : (O.length : Int) + ((ex - i) + ((ey - j) + (midOf l1 l2 ex R' l1.length).length)) ≤ 48 := by
        have e := congrArg List.length hO
        rw [List.length_append, List.length_append, List.length_append] at e
        have b2 := kpL_len (k := 45) (l := l1) hi0 x1 x2
        have b3 := kpL_len (k := 43) (l := l2) hj0 y1 y2
        omega
      have k105 : ∀ (O2 : List (Int × Int)) (M2 : Nat → Int → Int) (x3 : Int), O2 ++ midOf l1 l2 ex R' l1.length = midOf l1 l2 0 L l1.length → (O2.length : Int) + (midOf l1 l2 ex R' l1.length).length ≤ 48 → M2 m 21 = O2.length → mOp M2 m 0 O2 → j_fm m [21] [m + 16, m + 17] M M2 →
          j_J G jm_Mo_row (d + 1) 0 0 105 [jr_ m, ji_ ex, ji_ ey, ji_ x3] [] (N, K, M2, g) (j_pV N K g fun M' => M' m 21 = (midOf l1 l2 0 L l1.length).length ∧ mOp M' m 0 (midOf l1 l2 0 L l1.length) ∧ j_fm m [21] [m + 16, m + 17] M M') := by
        intro O2 M2 x3 hO2 hl2 h212 hop2 hf2
        have e16 : M2 m 16 = l1.length := by rw [hf2.2 _ (by simp)]; exact c2
        refine s_Mo_row_105 h.o (r2 := by rw [e16]; omega) (k1 := fun q => ?_) (k2 := fun q => ?_)
        · have ee : ex = l1.length := by omega
          have ee2 := hmn ee
          rw [ee, ee2] at hR' ⊢
          rw [ee] at hO2
          exact done R' O2 M2 _ hR' hO2 h212 hop2 hf2
        · have hx : ex < l1.length := by omega
          have hmx := hmt hx
          have e13 : M2 (m + 13) ex = lg l1 ex := by rw [hf2.1 _ (by omega) (by simp)]; exact (cx ex (by omega) hx).1
          have hR'' := CLp_st R' hx (by omega) hmx hR'
          have hey : ey < l2.length := by have := hg.1 ex (by omega) hx; omega
          have hstep : midOf l1 l2 ex R' l1.length = (32, lg l1 ex) :: midOf l1 l2 (ex + 1) R' l1.length := by
            rw [mid_kp R' (s := ex) (t := ex + 1) (by omega) (by omega) (by
              cases R' with
              | nil => show ex + 1 ≤ _; omega
              | cons c R' => exact hR''.1)]
            rw [kpL_cons (by omega) (by omega) (by omega), kpL_nil (Int.le_refl _)]
            rfl
          rw [hstep] at hO2 hl2
          rw [List.length_cons] at hl2
          refine s_Mo_row_113 h.o h.g18 h.k13 (r3 := by omega) (r3' := by omega) (hC := ct_Mo_op h h212 hop2 (by omega)) (k1 := fun M3 hq => ?_)
          rw [e13] at hq
          refine s_Mo_row_125 ?_
          exact ih (ex + 1) (ey + 1) R' (O2 ++ [(32, lg l1 ex)]) M3 _ (by omega) (by omega) (by omega) (by omega) (by omega) hR'' (by rw [List.append_assoc]; exact hO2) hq.1 hq.2.1 (hf2.trans hq.2.2)
      have k82 : ∀ (k : Nat) (u : Int) (O2 : List (Int × Int)) (M2 : Nat → Int → Int), u + k = ey → j ≤ u → O2 ++ (kpL 43 l2 u ey ++ midOf l1 l2 ex R' l1.length) = midOf l1 l2 0 L l1.length → (O2.length : Int) + ((ey - u) + (midOf l1 l2 ex R' l1.length).length) ≤ 48 → M2 m 21 = O2.length → mOp M2 m 0 O2 → j_fm m [21] [m + 16, m + 17] M M2 →
          j_J G jm_Mo_row (d + 1) 0 0 82 [jr_ m, ji_ ex, ji_ u, ji_ ey] [] (N, K, M2, g) (j_pV N K g fun M' => M' m 21 = (midOf l1 l2 0 L l1.length).length ∧ mOp M' m 0 (midOf l1 l2 0 L l1.length) ∧ j_fm m [21] [m + 16, m + 17] M M') := by
        intro k
        induction k with
        | zero =>
          intro u O2 M2 hu hju hO2 hl2 h212 hop2 hf2
          have eu : u = ey := by omega
          subst eu
          rw [kpL_nil (Int.le_refl _), List.nil_append] at hO2
          exact s_Mo_row_82 (k1 := fun _ => k105 O2 M2 _ hO2 (by omega) h212 hop2 hf2) (k2 := fun q => by omega)
        | succ k ihk =>
          intro u O2 M2 hu hju hO2 hl2 h212 hop2 hf2
          rw [kpL_cons (by omega) (by omega) (by omega)] at hO2
          have e14 : M2 (m + 14) u = lg l2 u := by rw [hf2.1 _ (by omega) (by simp)]; exact c5 u (by omega) (by omega)
          refine s_Mo_row_82 (k1 := fun q => by omega) (k2 := fun _ => ?_)
          refine s_Mo_row_87 h.o h.g19 h.k14 (r3 := by omega) (r3' := by omega) (hC := ct_Mo_op h h212 hop2 (by omega)) (k1 := fun M3 hq => ?_)
          rw [e14] at hq
          refine s_Mo_row_99 ?_
          exact ihk (u + 1) (O2 ++ [(43, lg l2 u)]) M3 (by omega) (by omega) (by rw [List.append_assoc]; exact hO2) (by rw [List.length_append, List.length_singleton]; omega) hq.1 hq.2.1 (hf2.trans hq.2.2)
      have k60 : ∀ (O2 : List (Int × Int)) (M2 : Nat → Int → Int) (u3 : j_V), O2 ++ (kpL 43 l2 j ey ++ midOf l1 l2 ex R' l1.length) = midOf l1 l2 0 L l1.length → (O2.length : Int) + ((ey - j) + (midOf l1 l2 ex R' l1.length).length) ≤ 48 → M2 m 21 = O2.length → mOp M2 m 0 O2 → j_fm m [21] [m + 16, m + 17] M M2 →
          j_J G jm_Mo_row (d + 1) 0 0 60 [jr_ m, ji_ ex, ji_ j, u3] [] (N, K, M2, g) (j_pV N K g fun M' => M' m 21 = (midOf l1 l2 0 L l1.length).length ∧ mOp M' m 0 (midOf l1 l2 0 L l1.length) ∧ j_fm m [21] [m + 16, m + 17] M M') := by
        intro O2 M2 u3 hO2 hl2 h212 hop2 hf2
        have e16 : M2 m 16 = l1.length := by rw [hf2.2 _ (by simp)]; exact c2
        have e17 : M2 m 17 = l2.length := by rw [hf2.2 _ (by simp)]; exact c3
        have nx := k82 (ey - j).toNat j O2 M2 (by omega) (by omega) hO2 hl2 h212 hop2 hf2
        refine s_Mo_row_60 h.o (r2 := by rw [e16]; omega) (k1 := fun q => ?_) (k2 := fun q => ?_)
        · refine s_Mo_row_77 h.o ?_
          rw [e17, ← hmn (by omega)]
          exact nx
        · refine s_Mo_row_68 h.o h.g20 h.k15 (r3 := by omega) (r3' := by omega) (k1 := ?_)
          have : M2 (m + 15) ex = ey := by rw [hf2.1 _ (by omega) (by simp), (cx ex (by omega) (by omega)).2]; exact hmt (by omega)
          rw [this]
          exact nx
      have k25 : ∀ (k : Nat) (t : Int) (O2 : List (Int × Int)) (M2 : Nat → Int → Int), t + k = ex → i ≤ t → O2 ++ (kpL 45 l1 t ex ++ (kpL 43 l2 j ey ++ midOf l1 l2 ex R' l1.length)) = midOf l1 l2 0 L l1.length → (O2.length : Int) + ((ex - t) + ((ey - j) + (midOf l1 l2 ex R' l1.length).length)) ≤ 48 → M2 m 21 = O2.length → mOp M2 m 0 O2 → j_fm m [21] [m + 16, m + 17] M M2 →
          j_J G jm_Mo_row (d + 1) 0 0 25 [jr_ m, ji_ t, ji_ j, u3] [] (N, K, M2, g) (j_pV N K g fun M' => M' m 21 = (midOf l1 l2 0 L l1.length).length ∧ mOp M' m 0 (midOf l1 l2 0 L l1.length) ∧ j_fm m [21] [m + 16, m + 17] M M') := by
        intro k
        induction k with
        | zero =>
          intro t O2 M2 ht hit hO2 hl2 h212 hop2 hf2
          have et : t = ex := by omega
          subst et
          rw [kpL_nil (Int.le_refl _), List.nil_append] at hO2
          have e16 : M2 m 16 = l1.length := by rw [hf2.2 _ (by simp)]; exact c2
          have nx := k60 O2 M2 u3 hO2 (by omega) h212 hop2 hf2
          refine s_Mo_row_25 h.o (r2 := by rw [e16]; omega) (k1 := fun _ => nx) (k2 := fun q => ?_)
          have e15 : M2 (m + 15) t = mt t := by rw [hf2.1 _ (by omega) (by simp)]; exact (cx t (by omega) (by omega)).2
          have := hmt (by omega)
          exact s_Mo_row_33 h.o h.g20 h.k15 (r3 := by omega) (r3' := by omega) (r4 := by rw [e15]; omega) (k1 := fun _ => nx) (k2 := fun q => by omega)
        | succ k ihk =>
          intro t O2 M2 ht hit hO2 hl2 h212 hop2 hf2
          have e16 : M2 m 16 = l1.length := by rw [hf2.2 _ (by simp)]; exact c2
          have e15 : M2 (m + 15) t = mt t := by rw [hf2.1 _ (by omega) (by simp)]; exact (cx t (by omega) (by omega)).2
          have e13 : M2 (m + 13) t = lg l1 t := by rw [hf2.1 _ (by omega) (by simp)]; exact (cx t (by omega) (by omega)).1
          have em := hold t hit (by omega)
          rw [kpL_cons (by omega) (by omega) (by omega)] at hO2
          refine s_Mo_row_25 h.o (r2 := by rw [e16]; omega) (k1 := fun q => by omega) (k2 := fun _ => ?_)
          refine s_Mo_row_33 h.o h.g20 h.k15 (r3 := by omega) (r3' := by omega) (r4 := by rw [e15]; omega) (k1 := fun q => by omega) (k2 := fun _ => ?_)
          refine s_Mo_row_42 h.o h.g18 h.k13 (r3 := by omega) (r3' := by omega) (hC := ct_Mo_op h h212 hop2 (by omega)) (k1 := fun M3 hq => ?_)
          rw [e13] at hq
          refine s_Mo_row_54 ?_
          exact ihk (t + 1) (O2 ++ [(45, lg l1 t)]) M3 (by omega) (by omega) (by rw [List.append_assoc]; exact hO2) (by rw [List.length_append, List.length_singleton]; omega) hq.1 hq.2.1 (hf2.trans hq.2.2)
      have e16 : M1 m 16 = l1.length := by rw [hf.2 _ (by simp)]; exact c2
      have e17 : M1 m 17 = l2.length := by rw [hf.2 _ (by simp)]; exact c3
      have nx := k25 (ex - i).toNat i O M1 (by omega) (by omega) hO hOl h21 hop hf
      refine s_Mo_row_9 h.o (r2 := by rw [e16]; omega) (k1 := fun _ => nx) (k2 := fun q => ?_)
      exact s_Mo_row_17 h.o (r2 := by rw [e17]; omega) (k1 := fun q2 => by omega) (k2 := fun _ => nx)
    · have ei : i = l1.length := by omega
      have ej : j = l2.length := by omega
      subst ei
      subst ej
      exact done R O M1 u3 hR hO h21 hop hf
end

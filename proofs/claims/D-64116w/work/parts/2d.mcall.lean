/-! ===== the model: compare and match ===== -/
/-- what comparing matches -/
def cmpF (l1 l2 : List Int) (way : Int) (old : Int → Int) : Int → Int := if way = 0 then gR l1 l2 0 l1.length 0 l2.length old else pm l1 l2 25 (0, (l1.length : Int), 0, (l2.length : Int)) old
/-- the matches of two rows -/
def mtF (l1 l2 : List Int) (way : Int) : Int → Int := cmpF l1 l2 way (fun _ => -1)
section
variable {l1 l2 : List Int}
theorem gR_pt {a0 a1 b0 b1 t : Int} {o o' : Int → Int} (h : o t = o' t) : gR l1 l2 a0 a1 b0 b1 o t = gR l1 l2 a0 a1 b0 b1 o' t := by unfold gR gu; rw [h]
theorem mk1_pt {i j c t : Int} {o o' : Int → Int} (h : o t = o' t) : mk1 i j c o t = mk1 i j c o' t := by unfold mk1; rw [h]
theorem mkA_pt {tp : Int → Int} {L : List Int} {t : Int} {o o' : Int → Int} (h : o t = o' t) : mkA tp L o t = mkA tp L o' t := by unfold mkA; rw [h]
theorem pm_pt (f : Nat) : ∀ (r : rg) (o o' : Int → Int) (t : Int), o t = o' t → pm l1 l2 f r o t = pm l1 l2 f r o' t := by
  induction f with
  | zero => intro r o o' t h; exact h
  | succ f ih =>
    intro r o o' t h
    have he : endsM l1 l2 r o t = endsM l1 l2 r o' t := mk1_pt (mk1_pt h)
    rw [pm, pm]
    by_cases hm : mxR l1 l2 (core l1 l2 r) ≤ 0
    · rw [if_pos hm, if_pos hm]
      exact gR_pt he
    · rw [if_neg hm, if_neg hm]
      have h2 : mkA (tpR l1 l2 (core l1 l2 r)) (anR l1 l2 (core l1 l2 r)) (endsM l1 l2 r o) t = mkA (tpR l1 l2 (core l1 l2 r)) (anR l1 l2 (core l1 l2 r)) (endsM l1 l2 r o') t := mkA_pt he
      generalize mkA (tpR l1 l2 (core l1 l2 r)) (anR l1 l2 (core l1 l2 r)) (endsM l1 l2 r o) = p at h2 ⊢
      generalize mkA (tpR l1 l2 (core l1 l2 r)) (anR l1 l2 (core l1 l2 r)) (endsM l1 l2 r o') = p' at h2 ⊢
      generalize rngs (tpR l1 l2 (core l1 l2 r)) (core l1 l2 r).2.1 (core l1 l2 r).2.2.2 (core l1 l2 r).1 (core l1 l2 r).2.2.1 (anR l1 l2 (core l1 l2 r)) = L
      induction L generalizing p p' with
      | nil => exact h2
      | cons r' L ihL =>
        rw [List.foldl_cons, List.foldl_cons]
        exact ihL _ _ (ih r' p p' t h2)
theorem cmpF_pt {way t : Int} {o o' : Int → Int} (h : o t = o' t) : cmpF l1 l2 way o t = cmpF l1 l2 way o' t := by
  unfold cmpF
  split
  · exact gR_pt h
  · exact pm_pt _ _ _ _ _ h
theorem mtF_gm {way : Int} : gm (mtF l1 l2 way) 0 l1.length 0 l2.length := by
  unfold mtF cmpF
  split
  · exact gm_gR (by omega) (fun _ _ _ => rfl)
  · exact pm_gm 25 (0, (l1.length : Int), 0, (l2.length : Int)) _ ⟨by show (0 : Int) ≤ 0; omega, by show (0 : Int) ≤ l1.length; omega, by show (0 : Int) ≤ 0; omega, by show (0 : Int) ≤ l2.length; omega⟩ (fun _ _ _ => rfl)
theorem cntP_cg {f f' : Int → Int} (n : Nat) : (∀ i : Int, 0 ≤ i → i < n → f i = f' i) → cntP f n = cntP f' n := by
  induction n with
  | zero => intro _; rfl
  | succ n ih =>
    intro h
    unfold cntP
    rw [ih (fun i a b => h i a (by omega)), h n (by omega) (by omega)]
end
/-- the latest comparison of the model -/
def mCp (M : Nat → Int → Int) (m : Nat) (l1 l2 : List Int) (mt : Int → Int) : Prop := M m 15 = 1 ∧ M m 16 = l1.length ∧ M m 17 = l2.length ∧ (∀ i : Int, 0 ≤ i → i < l1.length → M (m + 13) i = lg l1 i ∧ M (m + 15) i = mt i) ∧ ∀ i : Int, 0 ≤ i → i < l2.length → M (m + 14) i = lg l2 i
section
variable {G : j_G} {d N : Nat} {K : Nat → Option (Nat × Nat)} {M : Nat → Int → Int} {g : Nat → Int → Option Nat} {m : Nat} {l1 l2 : List Int}
theorem ct_Mo_compareAll {way : Int} (h : rMo K g m) (hA : mAB M m l1 l2) (h2 : M m 2 = l1.length) (h3 : M m 3 = l2.length) (hw : 0 ≤ way ∧ way ≤ 1) :
    j_Ct G jm_Mo_compareAll (d + 3) 0 0 [jr_ m, ji_ way] (N, K, M, g) (j_pV N K g fun M' => M' (m + 5) = cmpF l1 l2 way (M (m + 5)) ∧ j_fm m [8] [m + 5, m + 6, m + 7, m + 8, m + 9, m + 10, m + 11, m + 12] M M') := by
  have l1l := hA.1
  have l2l := hA.2.1
  refine j_Ct.ofJ (ls := [jr_ m, ji_ way]) (by decide) rfl rfl ?_
  refine s_Mo_compareAll_0 (k1 := fun c => ?_) (k2 := fun c => ?_)
  · have ew : cmpF l1 l2 way (M (m + 5)) = pm l1 l2 25 (0, (l1.length : Int), 0, (l2.length : Int)) (M (m + 5)) := by unfold cmpF; rw [if_neg c]
    rw [ew]
    have e0 : j_up M m 8 0 m 8 = (([] : List rg).length : Int) := j_up_eq _ _ _ _
    refine s_Mo_compareAll_19 h.o (hC := ct_Mo_await (R := []) h e0 (by simp) trivial) (k1 := fun M1 hq => ?_)
    obtain ⟨w1, sk1, f1⟩ := hq
    rw [j_up_ne (Or.inr (by omega)), j_up_ne (Or.inr (by omega)), h2, h3] at sk1
    have f1' : j_fm m [8] [m + 7, m + 8, m + 9, m + 10] M M1 := (j_fm.fld (by simp)).trans f1
    suffices lp : ∀ (k : Nat) (R : List rg) (M2 : Nat → Int → Int), wts R ≤ k → M2 m 8 = R.length → mSk M2 m R → (∀ r ∈ R, inR l1 l2 r) → szs R ≤ 25 → j_fm m [8] [m + 5, m + 6, m + 7, m + 8, m + 9, m + 10, m + 11, m + 12] M M2 →
        j_J G jm_Mo_compareAll (d + 3) 0 0 38 [jr_ m, ji_ way] [] (N, K, M2, g) (j_pV N K g fun M' => M' (m + 5) = R.foldl (fun o r => pm l1 l2 25 r o) (M2 (m + 5)) ∧ j_fm m [8] [m + 5, m + 6, m + 7, m + 8, m + 9, m + 10, m + 11, m + 12] M M') by
      have := lp 49 [(0, (l1.length : Int), 0, (l2.length : Int))] M1 (by simp only [wts]; omega) (by rw [w1]; rfl) sk1 (fun r hr => by
        rw [List.mem_singleton] at hr
        subst hr
        refine ⟨⟨?_, ?_, ?_, ?_⟩, ?_, ?_⟩ <;> (try dsimp only) <;> omega) (by simp only [szs]; omega) (f1'.mono (by simp) (by simp))
      rw [f1'.1 (m + 5) (by omega) (by simp)] at this
      exact this
    intro k
    induction k with
    | zero =>
      intro R M2 hk hw2 sk2 hR hsz hf
      cases R with
      | nil => exact s_Mo_compareAll_38 h.o (r1 := by rw [hw2]; simp) (k1 := fun _ => ⟨M2, rfl, rfl, rfl, hf⟩) (k2 := fun q => by rw [hw2] at q; simp at q)
      | cons r R =>
        have a := wts_0 R (fun r hr => (hR r (by simp [hr])).1)
        have b := (hR r (by simp)).1.2.1
        simp only [wts] at hk
        omega
    | succ k ih =>
      intro R M2 hk hw2 sk2 hR hsz hf
      cases R with
      | nil => exact s_Mo_compareAll_38 h.o (r1 := by rw [hw2]; simp) (k1 := fun _ => ⟨M2, rfl, rfl, rfl, hf⟩) (k2 := fun q => by rw [hw2] at q; simp at q)
      | cons r R =>
        obtain ⟨x1, x2, x3, x4⟩ := r
        have hl : (((x1, x2, x3, x4) :: R).length : Int) = R.length + 1 := by simp
        have b := szs_ge R (fun r hr => (hR r (by simp [hr])).1)
        have b2 : x1 ≤ x2 := (hR (x1, x2, x3, x4) (by simp)).1.2.1
        have hsz' := hsz
        simp only [szs] at hsz
        have e8 : j_up M2 m 8 (M2 m 8 - 1) m 8 = R.length := by rw [j_up_eq]; omega
        have ea : ∀ a : Nat, a ≠ m → j_up M2 m 8 (M2 m 8 - 1) a = M2 a := fun a ha => j_up_a ha
        obtain ⟨v1, v2, v3, v4, v5⟩ := sk2
        dsimp only at v1 v2 v3 v4
        have hA2 : mAB (j_up M2 m 8 (M2 m 8 - 1)) m l1 l2 := hA.kept (by rw [ea _ (by omega)]; exact hf.1 _ (by omega) (by simp)) (by rw [ea _ (by omega)]; exact hf.1 _ (by omega) (by simp))
        have cc := ct_Mo_standOut (G := G) (d := d) (N := N) (M := j_up M2 m 8 (M2 m 8 - 1)) (R := R) h hA2 (hR (x1, x2, x3, x4) (by simp)) e8 (v5.kept R (fun a ha k k0 k1 => by rw [ea a (by omega)])) (fun r hr => (hR r (by simp [hr])).1) hsz'
        refine s_Mo_compareAll_38 h.o (r1 := by omega) (k1 := fun q => by omega) (k2 := fun _ => ?_)
        refine s_Mo_compareAll_45 h.o h.g9 h.k7 (r3 := by rw [e8]; omega) (r3' := by rw [e8]; omega) (hg5 := h.g10) (hk3 := h.k8) (r6 := by rw [e8]; omega) (r6' := by rw [e8]; omega) (hg8 := h.g11) (hk4 := h.k9) (r9 := by rw [e8]; omega) (r9' := by rw [e8]; omega) (hg11 := h.g12) (hk5 := h.k10) (r12 := by rw [e8]; omega) (r12' := by rw [e8]; omega)
          (hC := by rw [e8, ea (m + 7) (by omega), ea (m + 8) (by omega), ea (m + 9) (by omega), ea (m + 10) (by omega), v1, v2, v3, v4]; exact cc) (k1 := fun M3 hq => ?_)
        obtain ⟨P, p1, p2, p3, p4, p5, p6, p7⟩ := hq
        refine s_Mo_compareAll_95 ?_
        rw [ea (m + 5) (by omega)] at p6
        have := ih (P ++ R) M3 (by rw [wts_app]; simp only [wts] at hk; omega) p2 p1 (fun r hr => by
          rcases List.mem_append.mp hr with q | q
          · exact p3 r q
          · exact hR r (by simp [q])) (by rw [szs_app]; omega) (hf.trans ((j_fm.fld (by simp)).trans p7))
        rw [List.foldl_append, p6] at this
        exact this
  · have ew : cmpF l1 l2 way (M (m + 5)) = gR l1 l2 0 l1.length 0 l2.length (M (m + 5)) := by unfold cmpF; rw [if_pos c]
    rw [ew]
    refine s_Mo_compareAll_4 h.o (hC := by rw [h2, h3]; exact ct_Mo_compareShort (d := d + 2) h hA (by omega) (by omega) (by omega) (by omega) (by omega) (by omega)) (k1 := fun M1 hq => ?_)
    exact s_Mo_compareAll_18 ⟨M1, rfl, rfl, hq.1, hq.2.mono (by simp) (by simp)⟩
/-- the arrays that comparing uses -/
abbrev mCA (m : Nat) : List Nat := [m + 3, m + 4, m + 5, m + 6, m + 7, m + 8, m + 9, m + 10, m + 11, m + 12, m + 13, m + 14, m + 15]
theorem ct_Mo_compare {x y way : Int} (h : rMo K g m) (T : Int → List Int) (hT : ∀ t : Int, 0 ≤ t → t ≤ 3 → mTx M m t (T t)) (hx : -2147483648 ≤ x ∧ x ≤ 2147483647) (hy : -2147483648 ≤ y ∧ y ≤ 2147483647) (hw : -2147483648 ≤ way ∧ way ≤ 2147483647) :
    j_Ct G jm_Mo_compare (d + 4) 0 0 [jr_ m, ji_ x, ji_ y, ji_ way] (N, K, M, g) (j_pI N K g fun z M' =>
      (z = -1 ∧ M' = M ∧ ¬ (0 ≤ x ∧ x ≤ 3 ∧ 0 ≤ y ∧ y ≤ 3 ∧ 0 ≤ way ∧ way ≤ 1)) ∨
      ((0 ≤ x ∧ x ≤ 3 ∧ 0 ≤ y ∧ y ≤ 3 ∧ 0 ≤ way ∧ way ≤ 1) ∧ ((z = -3 ∧ M' = M ∧ ¬ (allL (T x) ∧ allL (T y))) ∨
        (allL (T x) ∧ allL (T y) ∧ z = (T x).length + (T y).length - 2 * cntP (mtF (T x) (T y) way) (T x).length ∧ mCp M' m (T x) (T y) (mtF (T x) (T y) way) ∧ j_fm m [2, 3, 8, 15, 16, 17] (mCA m) M M')))) := by
  refine j_Ct.ofJ (ls := [jr_ m, ji_ x, ji_ y, ji_ way, ju_, ju_]) (by decide) rfl rfl ?_
  refine s_Mo_compare_0 (ct_Mo_within hx (by omega) (by omega)) (fun z M1 hq => ?_)
  obtain ⟨hM, hz⟩ := hq
  subst hM
  refine s_Mo_compare_6 (r1 := by omega) (k1 := fun c => ⟨_, M1, rfl, rfl, Or.inl ⟨rfl, rfl, by omega⟩⟩) (k2 := fun c1 => ?_)
  refine s_Mo_compare_9 (ct_Mo_within hy (by omega) (by omega)) (fun z2 M1 hq => ?_)
  obtain ⟨hM, hz2⟩ := hq
  subst hM
  refine s_Mo_compare_15 (r1 := by omega) (k1 := fun c => ⟨_, M1, rfl, rfl, Or.inl ⟨rfl, rfl, by omega⟩⟩) (k2 := fun c2 => ?_)
  refine s_Mo_compare_18 (ct_Mo_within hw (by omega) (by omega)) (fun z3 M1 hq => ?_)
  obtain ⟨hM, hz3⟩ := hq
  subst hM
  refine s_Mo_compare_24 (r1 := by omega) (k1 := fun c3 => ?_) (k2 := fun c => ⟨_, M1, rfl, rfl, Or.inl ⟨rfl, rfl, by omega⟩⟩)
  have hall : 0 ≤ x ∧ x ≤ 3 ∧ 0 ≤ y ∧ y ≤ 3 ∧ 0 ≤ way ∧ way ≤ 1 := by omega
  have hTx := hT x (by omega) (by omega)
  have hTy := hT y (by omega) (by omega)
  generalize T x = l1 at hTx ⊢
  generalize T y = l2 at hTy ⊢
  refine s_Mo_compare_29 h.o (ct_Mo_allLetters (d := d + 1) h (by omega) hTx) (fun z4 M1 hq => ?_)
  obtain ⟨hM, hz4⟩ := hq
  subst hM
  refine s_Mo_compare_34 (r1 := by omega) (k1 := fun c => ⟨_, M1, rfl, rfl, Or.inr ⟨hall, Or.inl ⟨rfl, rfl, fun q => ?_⟩⟩⟩) (k2 := fun c4 => ?_)
  · rcases hz4 with ⟨e, -⟩ | ⟨-, e⟩
    · omega
    · exact e q.1
  have a1 : allL l1 := by
    rcases hz4 with ⟨-, e⟩ | ⟨e, -⟩
    · exact e
    · omega
  refine s_Mo_compare_37 h.o (ct_Mo_allLetters (d := d + 1) h (by omega) hTy) (fun z5 M1 hq => ?_)
  obtain ⟨hM, hz5⟩ := hq
  subst hM
  refine s_Mo_compare_42 (r1 := by omega) (k1 := fun c5 => ?_) (k2 := fun c => ⟨_, M1, rfl, rfl, Or.inr ⟨hall, Or.inl ⟨rfl, rfl, fun q => by
    rcases hz5 with ⟨e, -⟩ | ⟨-, e⟩
    · omega
    · exact e q.2⟩⟩⟩)
  have a2 : allL l2 := by
    rcases hz5 with ⟨-, e⟩ | ⟨e, -⟩
    · exact e
    · omega
  refine s_Mo_compare_48 h.o (ct_Mo_take h (by omega) (by omega) hTx hTy) (fun M2 hq => ?_)
  obtain ⟨t1, t2, t3, t4, t5⟩ := hq
  refine s_Mo_compare_54 h.o (ct_Mo_compareAll (d := d) h t1 t2 t3 (by omega)) (fun M3 hq => ?_)
  obtain ⟨u1, u2⟩ := hq
  have l1l := t1.1
  have l2l := t1.2.1
  have hmt : ∀ i : Int, 0 ≤ i → i < l1.length → M3 (m + 5) i = mtF l1 l2 way i := fun i i0 i1 => by
    rw [u1]; exact cmpF_pt (t4 i i0 i1)
  have hgm := mtF_gm (l1 := l1) (l2 := l2) (way := way)
  have t1' : mAB M3 m l1 l2 := t1.kept (u2.1 _ (by omega) (by simp)) (u2.1 _ (by omega) (by simp))
  have b2 : M3 m 2 = l1.length := by rw [u2.2 _ (by simp)]; exact t2
  have b3 : M3 m 3 = l2.length := by rw [u2.2 _ (by simp)]; exact t3
  have f3 : j_fm m [2, 3, 8, 15, 16, 17] (mCA m) M1 M3 := (t5.mono (by simp) (by simp)).trans (u2.mono (by simp) (by simp))
  clear u1 u2 t1 t2 t3 t4 t5
  refine s_Mo_compare_59 h.o ?_
  rw [j_up_ne (Or.inr (by omega) : m ≠ m ∨ (2 : Int) ≠ 15), b2, j_up_ne (Or.inr (by omega) : m ≠ m ∨ (3 : Int) ≠ 16), j_up_ne (Or.inr (by omega) : m ≠ m ∨ (3 : Int) ≠ 15), b3]
  have f4 : j_fm m [15, 16, 17] [] M3 (j_up (j_up (j_up M3 m 15 1) m 16 l1.length) m 17 l2.length) := ((j_fm.fld (by simp)).trans (j_fm.fld (by simp))).trans (j_fm.fld (by simp))
  have g15 : j_up (j_up (j_up M3 m 15 1) m 16 l1.length) m 17 (l2.length : Int) m 15 = 1 := by rw [j_up_ne (Or.inr (by omega)), j_up_ne (Or.inr (by omega)), j_up_eq]
  have g16 : j_up (j_up (j_up M3 m 15 1) m 16 l1.length) m 17 (l2.length : Int) m 16 = l1.length := by rw [j_up_ne (Or.inr (by omega)), j_up_eq]
  have g17 : j_up (j_up (j_up M3 m 15 1) m 16 l1.length) m 17 (l2.length : Int) m 17 = l2.length := j_up_eq _ _ _ _
  generalize j_up (j_up (j_up M3 m 15 1) m 16 l1.length) m 17 (l2.length : Int) = M4 at f4 g15 g16 g17 ⊢
  suffices lp : ∀ (k n : Nat) (M5 : Nat → Int → Int), (n : Int) + k = l1.length → j_fm m [] [m + 13, m + 15] M4 M5 → (∀ i : Int, 0 ≤ i → i < n → M5 (m + 13) i = lg l1 i ∧ M5 (m + 15) i = mtF l1 l2 way i) →
      j_J G jm_Mo_compare (d + 4) 0 0 86 [jr_ m, ji_ x, ji_ y, ji_ way, ji_ (cntP (mtF l1 l2 way) n), ji_ n] [] (N, K, M5, g) (j_pI N K g fun z M' =>
      (z = -1 ∧ M' = M1 ∧ ¬ (0 ≤ x ∧ x ≤ 3 ∧ 0 ≤ y ∧ y ≤ 3 ∧ 0 ≤ way ∧ way ≤ 1)) ∨
      ((0 ≤ x ∧ x ≤ 3 ∧ 0 ≤ y ∧ y ≤ 3 ∧ 0 ≤ way ∧ way ≤ 1) ∧ ((z = -3 ∧ M' = M1 ∧ ¬ (allL l1 ∧ allL l2)) ∨
        (allL l1 ∧ allL l2 ∧ z = l1.length + l2.length - 2 * cntP (mtF l1 l2 way) l1.length ∧ mCp M' m l1 l2 (mtF l1 l2 way) ∧ j_fm m [2, 3, 8, 15, 16, 17] (mCA m) M1 M')))) from
    lp l1.length 0 M4 (by omega) j_fm.rfl (fun i a b => by omega)
  intro k
  induction k with
  | zero =>
    intro n M5 hn f5 hx5
    have hnl : n = l1.length := by omega
    subst hnl
    have hc := cntP_le (mtF l1 l2 way) l1.length
    have c2 : M5 m 2 = l1.length := by rw [f5.2 _ (by simp), f4.2 _ (by simp), b2]
    refine s_Mo_compare_86 h.o (r2 := by rw [c2]; omega) (k1 := fun _ => ?_) (k2 := fun q => by omega)
    suffices lq : ∀ (k : Nat) (j : Int) (M6 : Nat → Int → Int), j + k = l2.length → 0 ≤ j → j_fm m [] [m + 14] M5 M6 → (∀ i : Int, 0 ≤ i → i < j → M6 (m + 14) i = lg l2 i) →
        j_J G jm_Mo_compare (d + 4) 0 0 153 [jr_ m, ji_ x, ji_ y, ji_ way, ji_ (cntP (mtF l1 l2 way) l1.length), ji_ j] [] (N, K, M6, g) (j_pI N K g fun z M' =>
        (z = -1 ∧ M' = M1 ∧ ¬ (0 ≤ x ∧ x ≤ 3 ∧ 0 ≤ y ∧ y ≤ 3 ∧ 0 ≤ way ∧ way ≤ 1)) ∨
        ((0 ≤ x ∧ x ≤ 3 ∧ 0 ≤ y ∧ y ≤ 3 ∧ 0 ≤ way ∧ way ≤ 1) ∧ ((z = -3 ∧ M' = M1 ∧ ¬ (allL l1 ∧ allL l2)) ∨
          (allL l1 ∧ allL l2 ∧ z = l1.length + l2.length - 2 * cntP (mtF l1 l2 way) l1.length ∧ mCp M' m l1 l2 (mtF l1 l2 way) ∧ j_fm m [2, 3, 8, 15, 16, 17] (mCA m) M1 M')))) from
      lq l2.length 0 M5 (by omega) (by omega) j_fm.rfl (fun i a b => by omega)
    intro k
    induction k with
    | zero =>
      intro j M6 hj hj0 f6 hy6
      have d2 : M6 m 2 = l1.length := by rw [f6.2 _ (by simp), c2]
      have d3 : M6 m 3 = l2.length := by rw [f6.2 _ (by simp), f5.2 _ (by simp), f4.2 _ (by simp), b3]
      refine s_Mo_compare_153 h.o (r2 := by rw [d3]; omega) (k1 := fun _ => ?_) (k2 := fun q => by omega)
      refine s_Mo_compare_182 h.o ⟨_, M6, rfl, rfl, Or.inr ⟨hall, Or.inr ⟨a1, a2, ?_, ⟨?_, ?_, ?_, fun i i0 i1 => ?_, fun i i0 i1 => hy6 i i0 (by omega)⟩, ?_⟩⟩⟩
      · rw [d2, d3]
      · rw [f6.2 _ (by simp), f5.2 _ (by simp), g15]
      · rw [f6.2 _ (by simp), f5.2 _ (by simp), g16]
      · rw [f6.2 _ (by simp), f5.2 _ (by simp), g17]
      · rw [f6.1 _ (by omega) (by simp), f6.1 _ (by omega) (by simp)]; exact hx5 i i0 (by omega)
      · exact ((f3.trans (f4.mono (by simp) (by simp))).trans (f5.mono (by simp) (by simp))).trans (f6.mono (by simp) (by simp))
    | succ k ih =>
      intro j M6 hj hj0 f6 hy6
      have d3 : M6 m 3 = l2.length := by rw [f6.2 _ (by simp), f5.2 _ (by simp), f4.2 _ (by simp), b3]
      refine s_Mo_compare_153 h.o (r2 := by rw [d3]; omega) (k1 := fun q => by omega) (k2 := fun _ => ?_)
      refine s_Mo_compare_162 h.o h.g19 h.g5 h.k4 (hk3 := h.k14) (k1 := ?_)
      refine ih (j + 1) _ (by omega) (by omega) (f6.trans (j_fm.arr (by omega) (by simp))) (fun i i0 i1 => ?_)
      by_cases hi : i = j
      · subst hi
        rw [j_up_eq, f6.1 _ (by omega) (by simp), f5.1 _ (by omega) (by simp), f4.1 _ (by omega) (by simp)]
        exact t1'.2.2.2.2.2 i i0 (by omega)
      · rw [j_up_ne (Or.inr hi)]; exact hy6 i i0 (by omega)
  | succ k ih =>
    intro n M5 hn f5 hx5
    have hc := cntP_le (mtF l1 l2 way) n
    have c2 : M5 m 2 = l1.length := by rw [f5.2 _ (by simp), f4.2 _ (by simp), b2]
    refine s_Mo_compare_86 h.o (r2 := by rw [c2]; omega) (k1 := fun q => by omega) (k2 := fun _ => ?_)
    have e3 : M5 (m + 3) n = lg l1 n := by
      rw [f5.1 _ (by omega) (by simp), f4.1 _ (by omega) (by simp)]
      exact t1'.2.2.2.2.1 n (by omega) (by omega)
    have e5 : M5 (m + 5) n = mtF l1 l2 way n := by
      rw [f5.1 _ (by omega) (by simp), f4.1 _ (by omega) (by simp)]
      exact hmt n (by omega) (by omega)
    have rg5 := hgm.1 n (by omega) (by omega)
    have s5 : ∀ a b c : Int, j_up (j_up M5 (m + 13) n a) (m + 15) n b (m + 5) c = M5 (m + 5) c := fun a b c => by rw [j_up_a (by omega), j_up_a (by omega)]
    have s5' : ∀ a c : Int, j_up M5 (m + 13) n a (m + 5) c = M5 (m + 5) c := fun a c => by rw [j_up_a (by omega)]
    have nx : ∀ c : Int, c = cntP (mtF l1 l2 way) (n + 1) → j_J G jm_Mo_compare (d + 4) 0 0 86 [jr_ m, ji_ x, ji_ y, ji_ way, ji_ c, ji_ ((n : Int) + 1)] [] (N, K, j_up (j_up M5 (m + 13) n (lg l1 n)) (m + 15) n (mtF l1 l2 way n), g) (j_pI N K g fun z M' =>
        (z = -1 ∧ M' = M1 ∧ ¬ (0 ≤ x ∧ x ≤ 3 ∧ 0 ≤ y ∧ y ≤ 3 ∧ 0 ≤ way ∧ way ≤ 1)) ∨
        ((0 ≤ x ∧ x ≤ 3 ∧ 0 ≤ y ∧ y ≤ 3 ∧ 0 ≤ way ∧ way ≤ 1) ∧ ((z = -3 ∧ M' = M1 ∧ ¬ (allL l1 ∧ allL l2)) ∨
          (allL l1 ∧ allL l2 ∧ z = l1.length + l2.length - 2 * cntP (mtF l1 l2 way) l1.length ∧ mCp M' m l1 l2 (mtF l1 l2 way) ∧ j_fm m [2, 3, 8, 15, 16, 17] (mCA m) M1 M')))) := by
      intro c hc'
      have := ih (n + 1) (j_up (j_up M5 (m + 13) n (lg l1 n)) (m + 15) n (mtF l1 l2 way n)) (by omega) (f5.trans ((j_fm.arr (by omega) (by simp)).trans (j_fm.arr (by omega) (by simp)))) (fun i i0 i1 => by
        rw [j_up_a (by omega : m + 13 ≠ m + 15)]
        by_cases hi : i = n
        · subst hi; rw [j_up_eq, j_up_eq]; exact ⟨rfl, rfl⟩
        · rw [j_up_ne (Or.inr hi), j_up_ne (Or.inr hi), j_up_a (by omega)]; exact hx5 i i0 (by omega))
      rw [← hc'] at this
      exact this
    have ecn : cntP (mtF l1 l2 way) (n + 1) = cntP (mtF l1 l2 way) n + (if 0 ≤ mtF l1 l2 way n then 1 else 0) := rfl
    refine s_Mo_compare_95 h.o h.g18 h.g4 h.k3 (hk3 := h.k13) (hg8 := h.g20) (hg10 := h.g6) (hk4 := h.k5) (hk5 := h.k15) (r14 := by rw [s5, e5]; omega) (k1 := fun c => ?_) (k2 := fun c => ?_)
    · rw [s5, e5] at c
      rw [s5', e5, e3]
      exact nx _ (by rw [ecn, if_neg (by omega)]; omega)
    · rw [s5, e5] at c
      rw [s5', e5, e3]
      exact nx _ (by rw [ecn, if_pos (by omega)])
theorem ct_Mo_match {i : Int} {mt : Int → Int} (h : rMo K g m) (hc : M m 15 = 0 ∨ M m 15 = 1 ∧ mCp M m l1 l2 mt ∧ (l1.length : Int) ≤ 24 ∧ gm mt 0 l1.length 0 l2.length ∧ (l2.length : Int) ≤ 24) (hi : -2147483648 ≤ i ∧ i ≤ 2147483647) :
    j_Ct G jm_Mo_match (d + 1) 0 0 [jr_ m, ji_ i] (N, K, M, g) (j_pI N K g fun z M' => M' = M ∧ z = if M m 15 = 1 ∧ 0 ≤ i ∧ i < l1.length ∧ 0 ≤ mt i then mt i else -3) := by
  refine j_Ct.ofJ (ls := [jr_ m, ji_ i]) (by decide) rfl rfl ?_
  rcases hc with h15 | ⟨h15, ⟨-, c16, c17, cx, cy⟩, hl1, hgm, hl2⟩
  · exact s_Mo_match_0 h.o (r1 := by omega) (k1 := fun _ => ⟨_, M, rfl, rfl, rfl, by rw [if_neg (by omega)]⟩) (k2 := fun q => absurd h15 q)
  · refine s_Mo_match_0 h.o (r1 := by omega) (k1 := fun q => by omega) (k2 := fun _ => ?_)
    refine s_Mo_match_7 h.o (ct_Mo_within hi (by omega) (by rw [c16]; omega)) (fun z M' hq => ?_)
    obtain ⟨hM, hz⟩ := hq
    subst hM
    rw [c16] at hz
    refine s_Mo_match_18 (r1 := by omega) (k1 := fun c => ⟨_, M', rfl, rfl, rfl, by rw [if_neg (by omega)]⟩) (k2 := fun c => ?_)
    have e := (cx i (by omega) (by omega)).2
    have r := hgm.1 i (by omega) (by omega)
    refine s_Mo_match_21 h.o h.g20 h.k15 (r4 := by rw [e]; omega) (k1 := fun c2 => ⟨_, M', rfl, rfl, rfl, by rw [if_neg (by omega)]⟩) (k2 := fun c2 => ?_)
    exact s_Mo_match_30 h.o h.g20 h.k15 (k1 := ⟨_, M', rfl, rfl, rfl, by rw [e] at c2 ⊢; rw [if_pos ⟨h15, by omega, by omega, c2⟩]⟩)
end

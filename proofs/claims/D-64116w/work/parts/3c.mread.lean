/-! ===== contracts: the model reads ===== -/
section
variable {P : List Int}
theorem lineS_r {a old fresh : Int} (ha : 0 ≤ a ∧ a ≤ P.length) (ho : 0 ≤ old) (hf : 0 ≤ fresh) : a ≤ (lineS P a old fresh).1.1 ∧ (lineS P a old fresh).1.1 ≤ P.length ∧ 0 ≤ (lineS P a old fresh).2.1 ∧ 0 ≤ (lineS P a old fresh).2.2 ∧ (lineS P a old fresh).2.1 ≤ old ∧ (lineS P a old fresh).2.2 ≤ fresh ∧ ((lineS P a old fresh).1.2 = false → (lineS P a old fresh).2.1 + (lineS P a old fresh).2.2 < old + fresh ∧ (lineS P a old fresh).1.1 = a + 3) := by
  have hin : ∀ a : Int, 0 ≤ lkF P a → a < P.length := fun a ha => by
    unfold lkF at ha
    split at ha
    · assumption
    · omega
  unfold lineS
  by_cases hm : mayS (lkF P a) old fresh = true
  · rw [if_pos hm]
    unfold mayS at hm
    simp only [Bool.or_eq_true, Bool.and_eq_true, decide_eq_true_eq] at hm
    have i1 := hin a (by omega)
    have hd : 0 ≤ (if lkF P a = 43 then old else old - 1) ∧ 0 ≤ (if lkF P a = 45 then fresh else fresh - 1) ∧ (if lkF P a = 43 then old else old - 1) ≤ old ∧ (if lkF P a = 45 then fresh else fresh - 1) ≤ fresh ∧ (if lkF P a = 43 then old else old - 1) + (if lkF P a = 45 then fresh else fresh - 1) < old + fresh := by
      split <;> split <;> omega
    by_cases hl : 97 ≤ lkF P (a + 1) ∧ lkF P (a + 1) ≤ 122
    · rw [if_pos hl]
      have i2 := hin (a + 1) (by omega)
      have hw := wantS_r (P := P) (c := 10) (s := (a + 2, false)) (by omega) (by dsimp only; omega)
      dsimp only at hw ⊢
      refine ⟨by omega, hw.2.1, hd.1, hd.2.1, hd.2.2.1, hd.2.2.2.1, fun q => ⟨hd.2.2.2.2, ?_⟩⟩
      have := hw.2.2.1 q
      omega
    · rw [if_neg hl]
      exact ⟨by dsimp only; omega, by dsimp only; omega, hd.1, hd.2.1, hd.2.2.1, hd.2.2.2.1, fun q => (by cases q)⟩
  · rw [if_neg hm]
    exact ⟨Int.le_refl _, ha.2, ho, hf, Int.le_refl _, Int.le_refl _, fun q => (by cases q)⟩
end
section
variable {G : j_G} {d N : Nat} {K : Nat → Option (Nat × Nat)} {M : Nat → Int → Int} {g : Nat → Int → Option Nat} {m : Nat} {P : List Int}
/-- the loop over the lines -/
theorem mo_lines {Q : j_O → j_S → Prop} {u1 : Nat} (h : rMo K g m) (hP : (P.length : Int) ≤ 900) (hb : ∀ i : Int, 0 ≤ i → i < P.length → 0 ≤ lg P i ∧ lg P i ≤ 255) : ∀ (f : Nat) (s : pS) (old fresh n : Int) (M : Nat → Int → Int) (u4 u5 : j_V), mPp M m P → mRd M m s → 0 ≤ s.1 ∧ s.1 ≤ P.length → 0 ≤ old ∧ old ≤ 99 → 0 ≤ fresh ∧ fresh ≤ 99 → (s.2 = false → old + fresh ≤ f) → 0 ≤ n →
    (∀ (M2 : Nat → Int → Int) (o' f' : Int) (u4 u5 : j_V), mPp M2 m P → mRd M2 m (linesS P f s old fresh n).1 → j_fm m [33, 34] [] M M2 → j_J G jm_Mo_readHunk (d + 2) 0 0 336 [jr_ m, ji_ o', ji_ f', ji_ (linesS P f s old fresh n).2, u4, u5] [] (N, K, M2, g) Q) →
    j_J G jm_Mo_readHunk (d + 2) 0 0 117 [jr_ m, ji_ old, ji_ fresh, ji_ n, u4, u5] [] (N, K, M, g) Q := by
  intro f
  induction f with
  | zero =>
    intro s old fresh n M u4 u5 hp hr h0 ho hf hof hn kk
    have k := kk M old fresh u4 u5 hp hr j_fm.rfl
    refine s_Mo_readHunk_117 h.o (r1 := by rw [hr.2]; exact j_bz_rng _) (k1 := fun _ => k) (k2 := fun q => ?_)
    rw [hr.2] at q
    have := hof (j_bz_0.mp q)
    refine s_Mo_readHunk_124 (k1 := fun q => by omega) (k2 := fun _ => ?_)
    exact s_Mo_readHunk_128 (k1 := fun _ => k) (k2 := fun q => by omega)
  | succ f ih =>
    intro s old fresh n M u4 u5 hp hr h0 ho hf hof hn kk
    by_cases hgo : s.2 = false ∧ (0 < old ∨ 0 < fresh)
    · have hst : linesS P (f + 1) s old fresh n = linesS P f (lineS P s.1 old fresh).1 (lineS P s.1 old fresh).2.1 (lineS P s.1 old fresh).2.2 (n + 1) := by rw [linesS, if_pos hgo]
      rw [hst] at kk
      have hL := lineS_r (P := P) h0 ho.1 hf.1
      have hl := lkF_r hb h0.1
      -- what comes behind a line
      have nxt : ∀ (M2 : Nat → Int → Int) (o' f' : Int) (u4 u5 : j_V), o' = (lineS P s.1 old fresh).2.1 → f' = (lineS P s.1 old fresh).2.2 → mPp M2 m P → mRd M2 m (lineS P s.1 old fresh).1 → j_fm m [33, 34] [] M M2 → j_J G jm_Mo_readHunk (d + 2) 0 0 117 [jr_ m, ji_ o', ji_ f', ji_ (n + 1), u4, u5] [] (N, K, M2, g) Q := by
        intro M2 o' f' u4 u5 e1 e2 hp2 hr2 hf2
        subst e1
        subst e2
        refine ih _ _ _ (n + 1) M2 u4 u5 hp2 hr2 (by omega) (by omega) (by omega) (fun q => ?_) (by omega) (fun M3 o' f' u4 u5 q1 q2 q3 => kk M3 o' f' u4 u5 q1 q2 (hf2.trans q3))
        have := (hL.2.2.2.2.2.2 q).1
        have := hof hgo.1
        omega
      have k132 : j_J G jm_Mo_readHunk (d + 2) 0 0 132 [jr_ m, ji_ old, ji_ fresh, ji_ n, u4, u5] [] (N, K, M, g) Q := by
        refine s_Mo_readHunk_132 h.o (ct_Mo_look h hp hP hr.1 h0) (fun z M1 hq => ?_)
        obtain ⟨hM, hz⟩ := hq
        subst hM
        subst hz
        -- behind 'may'
        have k196 : ∀ b : Bool, b = mayS (lkF P s.1) old fresh → j_J G jm_Mo_readHunk (d + 2) 0 0 196 [jr_ m, ji_ old, ji_ fresh, ji_ n, ji_ (lkF P s.1), u5] [ji_ (j_bz b)] (N, K, M1, g) Q := by
          intro b hbm
          -- the end of the line: state (a', failed so far)
          have k271 : ∀ (a' : Int) (M2 : Nat → Int → Int) (o' f' x5 : Int), a' = (if b = true then s.1 + 1 else s.1) → M2 m 34 = j_bz (!b) → mPp M2 m P → j_fm m [33, 34] [] M1 M2 → o' = (lineS P s.1 old fresh).2.1 → f' = (lineS P s.1 old fresh).2.2 →
              j_J G jm_Mo_readHunk (d + 2) 0 0 271 [jr_ m, ji_ o', ji_ f', ji_ n, ji_ (lkF P s.1), ji_ x5] [ji_ a', jr_ m] (N, K, M2, g) Q := by
            intro a' M2 o' f' x5 ha' h34 hp2 hf2 ho' hf'
            have ha0 : 0 ≤ a' ∧ a' ≤ P.length := by
              rw [ha']
              split
              · rename_i hb1
                rw [hb1] at hbm
                unfold mayS at hbm
                have hm := hbm.symm
                simp only [Bool.or_eq_true, Bool.and_eq_true, decide_eq_true_eq] at hm
                have := hl.2.2.mp (by omega)
                omega
              · omega
            have e33 : j_up M2 m 33 a' m 33 = a' := j_up_eq _ _ _ _
            have e34 : j_up M2 m 33 a' m 34 = j_bz (!b) := by rw [j_up_ne (Or.inr (by omega))]; exact h34
            have f3 : j_fm m [33, 34] [] M1 (j_up M2 m 33 a') := hf2.trans (j_fm.fld (by simp))
            have p3 : mPp (j_up M2 m 33 a') m P := ⟨by rw [j_up_ne (Or.inr (by omega))]; exact hp2.1, by rw [j_up_a (by omega)]; exact hp2.2⟩
            have k297 : ∀ c : Bool, (lineS P s.1 old fresh).1 = wantS P 10 ((if c = true then a' else a' + 1), c) → (c = false → a' < P.length) → j_J G jm_Mo_readHunk (d + 2) 0 0 297 [jr_ m, ji_ o', ji_ f', ji_ n, ji_ (lkF P s.1), ji_ x5] [ji_ (j_bz c), jr_ m] (N, K, j_up M2 m 33 a', g) Q := by
              intro c hlc hca
              generalize j_up M2 m 33 a' = M3 at e33 e34 f3 p3
              have w33 : j_up M3 m 34 (j_bz c) m 33 = a' := by rw [j_up_ne (Or.inr (by omega))]; exact e33
              have w34 : j_up M3 m 34 (j_bz c) m 34 = j_bz c := j_up_eq _ _ _ _
              have f4 : j_fm m [33, 34] [] M1 (j_up M3 m 34 (j_bz c)) := f3.trans (j_fm.fld (by simp))
              have p4 : mPp (j_up M3 m 34 (j_bz c)) m P := ⟨by rw [j_up_ne (Or.inr (by omega))]; exact p3.1, by rw [j_up_a (by omega)]; exact p3.2⟩
              have k321 : ∀ t : Int, t = (if c = true then a' else a' + 1) → j_J G jm_Mo_readHunk (d + 2) 0 0 321 [jr_ m, ji_ o', ji_ f', ji_ n, ji_ (lkF P s.1), ji_ x5] [ji_ t, jr_ m] (N, K, j_up M3 m 34 (j_bz c), g) Q := by
                intro t ht
                generalize j_up M3 m 34 (j_bz c) = M4 at w33 w34 f4 p4
                have x33 : j_up M4 m 33 t m 33 = t := j_up_eq _ _ _ _
                have x34 : j_up M4 m 33 t m 34 = j_bz c := by rw [j_up_ne (Or.inr (by omega))]; exact w34
                have f5 : j_fm m [33, 34] [] M1 (j_up M4 m 33 t) := f4.trans (j_fm.fld (by simp))
                have p5 : mPp (j_up M4 m 33 t) m P := ⟨by rw [j_up_ne (Or.inr (by omega))]; exact p4.1, by rw [j_up_a (by omega)]; exact p4.2⟩
                have ht0 : 0 ≤ t ∧ t ≤ P.length := by
                  rw [ht]
                  cases c with
                  | true => rw [if_pos rfl]; exact ha0
                  | false => rw [if_neg (by simp)]; have := hca rfl; omega
                refine s_Mo_readHunk_321 h.o (hk2 := h.o) (hC := ct_Mo_want (s := (t, c)) (d := d) h p5 hP hb ⟨x33, x34⟩ ht0 (by omega)) (k1 := fun M5 hq => ?_)
                refine s_Mo_readHunk_330 ?_
                have f6 := f5.trans (hq.2.mono (by simp) (by simp))
                refine nxt M5 o' f' _ _ ho' hf' ⟨by rw [hq.2.2 _ (by simp)]; exact p5.1, by rw [hq.2.1 _ (by omega) (by simp)]; exact p5.2⟩ ?_ f6
                rw [hlc, ← ht]
                exact hq.1
              refine s_Mo_readHunk_297 h.o (j_bz01 c) (hk2 := h.o) (r2 := by rw [w34]; exact j_bz_rng c) (k1 := fun q => ?_) (k2 := fun q => ?_)
              · rw [w34] at q
                have hc0 := j_bz_0.mp q
                refine s_Mo_readHunk_315 h.o (k1 := ?_)
                rw [w33]
                exact k321 _ (by rw [if_neg (by rw [hc0]; simp)])
              · rw [w34] at q
                have hc1 := j_bz_1.mp q
                refine s_Mo_readHunk_308 h.o (k1 := ?_)
                rw [w33]
                exact k321 _ (by rw [if_pos hc1])
            have eL : (lineS P s.1 old fresh).1 = if b = true then (if 97 ≤ lkF P (s.1 + 1) ∧ lkF P (s.1 + 1) ≤ 122 then wantS P 10 (s.1 + 2, false) else (s.1 + 1, true)) else (s.1, true) := by
              unfold lineS
              rw [← hbm]
              cases b <;> rfl
            refine s_Mo_readHunk_271 h.o (hk2 := h.o) (r1 := by rw [e34]; exact j_bz_rng _) (k1 := fun q => ?_) (k2 := fun q => ?_)
            · rw [e34] at q
              have hb0 : b = false := by
                have hq := j_bz_1.mp q
                cases hbb : b with
                | false => rfl
                | true => rw [hbb] at hq; cases hq
              subst hb0
              refine k297 true ?_ (fun q => (by cases q))
              rw [eL, if_neg (by simp), if_pos rfl]
              rw [if_neg (by simp)] at ha'
              rw [ha']
              unfold wantS
              rw [if_pos rfl]
            · rw [e34] at q
              have hb1 : b = true := by
                have hq := j_bz_0.mp q
                cases hbb : b with
                | true => rfl
                | false => rw [hbb] at hq; cases hq
              subst hb1
              rw [if_pos rfl] at ha' eL
              subst ha'
              have hl1 := lkF_r (a := s.1 + 1) hb (by omega)
              refine s_Mo_readHunk_282 h.o (ct_Mo_look (s := (s.1 + 1, false)) h p3 hP e33 (by dsimp only; omega)) (fun z M4 hq => ?_)
              obtain ⟨hM, hz⟩ := hq
              subst hM
              subst hz
              refine s_Mo_readHunk_286 (ct_Mo_isLetter (by dsimp only; omega)) (fun z2 M4 hq => ?_)
              obtain ⟨hM, hz2⟩ := hq
              subst hM
              dsimp only at hz2
              refine s_Mo_readHunk_289 (r1 := by omega) (k1 := fun q2 => k297 false ?_ (fun _ => hl1.2.2.mp (by omega))) (k2 := fun q2 => k297 true ?_ (fun q => (by cases q)))
              · rw [eL, if_pos (by omega), if_neg (by simp), show s.1 + 1 + 1 = s.1 + 2 by omega]
              · rw [eL, if_neg (by omega), if_pos rfl]
                unfold wantS
                rw [if_pos rfl]
          have e2 : (lineS P s.1 old fresh).2 = if b = true then ((if lkF P s.1 = 43 then old else old - 1), (if lkF P s.1 = 45 then fresh else fresh - 1)) else (old, fresh) := by
            unfold lineS
            rw [← hbm]
            cases b <;> rfl
          have k209 : ∀ M2 : Nat → Int → Int, M2 = j_up M1 m 34 (j_bz (!b)) → j_J G jm_Mo_readHunk (d + 2) 0 0 209 [jr_ m, ji_ old, ji_ fresh, ji_ n, ji_ (lkF P s.1), ji_ (j_bz b)] [ji_ (j_bz (!b)), jr_ m] (N, K, M1, g) Q := by
            intro M2 hM2
            have h34 : M2 m 34 = j_bz (!b) := by rw [hM2, j_up_eq]
            have h33 : M2 m 33 = s.1 := by rw [hM2, j_up_ne (Or.inr (by omega))]; exact hr.1
            have f2 : j_fm m [33, 34] [] M1 M2 := by rw [hM2]; exact j_fm.fld (by simp)
            have p2 : mPp M2 m P := by rw [hM2]; exact ⟨by rw [j_up_ne (Or.inr (by omega))]; exact hp.1, by rw [j_up_a (by omega)]; exact hp.2⟩
            cases b with
            | false =>
              rw [if_neg (by simp)] at e2
              refine s_Mo_readHunk_209 h.o (j_bz01 _) (r2 := j_bz_rng _) (k1 := fun _ => ?_) (k2 := fun q => absurd rfl q)
              rw [← hM2]
              refine s_Mo_readHunk_231 (r1 := j_bz_rng _) (k1 := fun _ => ?_) (k2 := fun q => absurd rfl q)
              refine s_Mo_readHunk_251 (r1 := j_bz_rng _) (k1 := fun _ => ?_) (k2 := fun q => absurd rfl q)
              refine s_Mo_readHunk_267 h.o (k1 := ?_)
              rw [h33]
              exact k271 _ M2 _ _ _ (by simp) h34 p2 f2 (by rw [e2]) (by rw [e2])
            | true =>
              rw [if_pos rfl] at e2
              have fin : ∀ o' f' : Int, o' = (lineS P s.1 old fresh).2.1 → f' = (lineS P s.1 old fresh).2.2 → j_J G jm_Mo_readHunk (d + 2) 0 0 251 [jr_ m, ji_ o', ji_ fresh, ji_ n, ji_ (lkF P s.1), ji_ (j_bz true)] [ji_ f'] (N, K, M2, g) Q := by
                intro o' f' q1 q2
                refine s_Mo_readHunk_251 (r1 := j_bz_rng _) (k1 := fun q => by cases q) (k2 := fun _ => ?_)
                refine s_Mo_readHunk_258 h.o (k1 := ?_)
                rw [h33]
                exact k271 _ M2 _ _ _ (by simp) h34 p2 f2 q1 q2
              have k231 : ∀ o' : Int, o' = (lineS P s.1 old fresh).2.1 → j_J G jm_Mo_readHunk (d + 2) 0 0 231 [jr_ m, ji_ old, ji_ fresh, ji_ n, ji_ (lkF P s.1), ji_ (j_bz true)] [ji_ o'] (N, K, M2, g) Q := by
                intro o' q1
                refine s_Mo_readHunk_231 (r1 := j_bz_rng _) (k1 := fun q => by cases q) (k2 := fun _ => ?_)
                refine s_Mo_readHunk_237 (r1 := by omega) (k1 := fun q => fin _ _ q1 ?_) (k2 := fun q => fin _ _ q1 ?_)
                · rw [e2]; dsimp only; rw [if_pos q]
                · rw [e2]; dsimp only; rw [if_neg q]
              refine s_Mo_readHunk_209 h.o (j_bz01 _) (r2 := j_bz_rng _) (k1 := fun q => by cases q) (k2 := fun _ => ?_)
              rw [← hM2]
              refine s_Mo_readHunk_217 (r1 := by omega) (k1 := fun q => k231 _ ?_) (k2 := fun q => k231 _ ?_)
              · rw [e2]; dsimp only; rw [if_pos q]
              · rw [e2]; dsimp only; rw [if_neg q]
          refine s_Mo_readHunk_196 (r1 := j_bz_rng b) (k1 := fun q => ?_) (k2 := fun q => ?_)
          · have hb1 := j_bz_1.mp q
            have := k209 _ rfl
            rw [hb1] at this ⊢
            exact this
          · have hb0 := j_bz_0.mp q
            have := k209 _ rfl
            rw [hb0] at this ⊢
            exact this
        have t1 : mayS (lkF P s.1) old fresh = true → j_J G jm_Mo_readHunk (d + 2) 0 0 196 [jr_ m, ji_ old, ji_ fresh, ji_ n, ji_ (lkF P s.1), u5] [ji_ 1] (N, K, M1, g) Q := fun q => k196 true q.symm
        have t0 : mayS (lkF P s.1) old fresh = false → j_J G jm_Mo_readHunk (d + 2) 0 0 196 [jr_ m, ji_ old, ji_ fresh, ji_ n, ji_ (lkF P s.1), u5] [ji_ 0] (N, K, M1, g) Q := fun q => k196 false q.symm
        refine s_Mo_readHunk_136 (r1 := by omega) (k1 := fun q1 => ?_) (k2 := fun q1 => ?_)
        · refine s_Mo_readHunk_161 (r1 := by omega) (k1 := fun q2 => ?_) (k2 := fun q2 => ?_)
          · refine s_Mo_readHunk_180 (r1 := by omega) (k1 := fun q3 => t0 (by unfold mayS; simp; omega)) (k2 := fun q3 => ?_)
            exact s_Mo_readHunk_187 (k1 := fun q4 => t0 (by unfold mayS; simp; omega)) (k2 := fun q4 => t1 (by unfold mayS; simp; omega))
          · exact s_Mo_readHunk_168 (k1 := fun q4 => t0 (by unfold mayS; simp; omega)) (k2 := fun q4 => t1 (by unfold mayS; simp; omega))
        · refine s_Mo_readHunk_145 (k1 := fun q2 => t0 (by unfold mayS; simp; omega)) (k2 := fun q2 => ?_)
          exact s_Mo_readHunk_149 (k1 := fun q4 => t0 (by unfold mayS; simp; omega)) (k2 := fun q4 => t1 (by unfold mayS; simp; omega))
      refine s_Mo_readHunk_117 h.o (r1 := by rw [hr.2]; exact j_bz_rng _) (k1 := fun q => ?_) (k2 := fun q => ?_)
      · rw [hr.2, hgo.1] at q
        exact absurd rfl q
      · refine s_Mo_readHunk_124 (k1 := fun _ => k132) (k2 := fun q2 => ?_)
        exact s_Mo_readHunk_128 (k1 := fun q3 => by omega) (k2 := fun _ => k132)
    · have hst : linesS P (f + 1) s old fresh n = (s, n) := by rw [linesS, if_neg hgo]
      rw [hst] at kk
      have k := kk M old fresh u4 u5 hp hr j_fm.rfl
      refine s_Mo_readHunk_117 h.o (r1 := by rw [hr.2]; exact j_bz_rng _) (k1 := fun _ => k) (k2 := fun q => ?_)
      rw [hr.2] at q
      have hs := j_bz_0.mp q
      refine s_Mo_readHunk_124 (k1 := fun q => absurd ⟨hs, Or.inl q⟩ hgo) (k2 := fun _ => ?_)
      exact s_Mo_readHunk_128 (k1 := fun _ => k) (k2 := fun q => absurd ⟨hs, Or.inr q⟩ hgo)
end

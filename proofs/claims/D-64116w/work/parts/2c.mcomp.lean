/-! ===== the model: comparing ===== -/
/-- the sum of the weights -/
def wts : List rg → Int
  | [] => 0
  | r :: l => (2 * (r.2.1 - r.1) + 1) + wts l
theorem wts_app (A B : List rg) : wts (A ++ B) = wts A + wts B := by
  induction A with
  | nil => simp [wts]
  | cons r A ih => simp only [List.cons_append, wts, ih]; omega
theorem wts_szs (A : List rg) : wts A = 2 * szs A - A.length := by
  induction A with
  | nil => simp [wts, szs]
  | cons r A ih => simp only [List.length_cons, wts, szs, ih]; omega
theorem wts_0 (A : List rg) (h : ∀ r ∈ A, okR r) : 0 ≤ wts A := by
  have := szs_ge A h
  have := wts_szs A
  omega
theorem mxr_n {tp : Int → Int} {a0 : Int} (n : Nat) : mxr (rk tp a0) a0 n ≤ n := by
  induction n with
  | zero => simp [mxr]
  | succ n ih =>
    have hrec := rk_rec (tp := tp) (a0 := a0) n
    have hm0 := mxr_0 (f := rk tp a0) (a0 := a0) n
    have : rk tp a0 (a0 + n) ≤ n + 1 := by
      rw [hrec]
      split
      · rcases bst_at (f := rk tp a0) (tp := tp) (a0 := a0) (v := tp (a0 + n)) n with q | ⟨k, k1, k2, k3, k4, k5⟩
        · omega
        · have := mxr_ge (f := rk tp a0) (a0 := a0) n k k1 k2
          omega
      · omega
    unfold mxr
    split <;> omega
/-- in both rows -/
def inR (l1 l2 : List Int) (r : rg) : Prop := okR r ∧ r.2.1 ≤ l1.length ∧ r.2.2.2 ≤ l2.length
section
variable {G : j_G} {d N : Nat} {K : Nat → Option (Nat × Nat)} {g : Nat → Int → Option Nat} {m : Nat} {l1 l2 : List Int} {Q : j_O → j_S → Prop}
theorem mo_so1 {X eX Y eY : Int} {D : Nat} {u7 u8 u9 u10 u11 u12 : j_V} (h : rMo K g m) (hi2 : eX ≤ l1.length) (hj2 : eY ≤ l2.length) : ∀ (f : Nat) (i j : Int) (M : Nat → Int → Int), mAB M m l1 l2 → eX - i ≤ f → 0 ≤ i → i ≤ eX → 0 ≤ j → j ≤ eY →
    (∀ M2, M2 (m + 5) = mk1 i j (pfx l1 l2 eX eY f i j) (M (m + 5)) → j_fm m [] [m + 5] M M2 → j_J G jm_Mo_standOut D 0 0 61 [jr_ m, ji_ X, ji_ eX, ji_ Y, ji_ eY, ji_ (i + pfx l1 l2 eX eY f i j), ji_ (j + pfx l1 l2 eX eY f i j), ji_ eX, ji_ eY, u9, u10, u11, u12] [] (N, K, M2, g) Q) →
    j_J G jm_Mo_standOut D 0 0 6 [jr_ m, ji_ X, ji_ eX, ji_ Y, ji_ eY, ji_ i, ji_ j, u7, u8, u9, u10, u11, u12] [] (N, K, M, g) Q := by
  intro f
  induction f with
  | zero =>
    intro i j M hA hf hi hi1 hj hj1 kk
    have l1l := hA.1
    have := kk M (by rw [pfx, mk1_0]) j_fm.rfl
    rw [pfx, Int.add_zero, Int.add_zero] at this
    exact s_Mo_standOut_6 (k1 := fun h => this) (k2 := fun h => by omega)
  | succ f ih =>
    intro i j M hA hf hi hi1 hj hj1 kk
    have hA0 := hA
    obtain ⟨q1, q2, q3, q4, q5, q6⟩ := hA
    have stop : ¬ (i < eX ∧ j < eY ∧ lg l1 i = lg l2 j) → j_J G jm_Mo_standOut D 0 0 61 [jr_ m, ji_ X, ji_ eX, ji_ Y, ji_ eY, ji_ i, ji_ j, ji_ eX, ji_ eY, u9, u10, u11, u12] [] (N, K, M, g) Q := by
      intro hn
      have e : pfx l1 l2 eX eY (f + 1) i j = 0 := by rw [pfx, if_neg hn]
      have := kk M (by rw [e, mk1_0]) j_fm.rfl
      rw [e, Int.add_zero, Int.add_zero] at this
      exact this
    refine s_Mo_standOut_6 (k1 := fun h => stop (by omega)) (k2 := fun h1 => ?_)
    refine s_Mo_standOut_12 (k1 := fun h2 => stop (by omega)) (k2 := fun h2 => ?_)
    have e1 := q5 i (by omega) (by omega)
    have e2 := q6 j (by omega) (by omega)
    have r1 := q3 i (by omega) (by omega)
    have r2 := q4 j (by omega) (by omega)
    refine s_Mo_standOut_19 h.o h.g4 h.k3 (hg5 := h.g5) (hk3 := h.k4) (r7 := by rw [e1]; omega) (r8 := by rw [e2]; omega) (k1 := fun h3 => stop (by omega)) (k2 := fun h3 => ?_)
    have he : lg l1 i = lg l2 j := by omega
    have hpf := pfx_r (l1 := l1) (l2 := l2) (a1 := eX) (b1 := eY) f (i + 1) (j + 1)
    have e : pfx l1 l2 eX eY (f + 1) i j = pfx l1 l2 eX eY f (i + 1) (j + 1) + 1 := by rw [pfx, if_pos ⟨h1, h2, he⟩]
    refine s_Mo_standOut_36 h.o h.g6 h.k5 (k1 := ?_)
    refine ih (i + 1) (j + 1) _ (hA0.kept (j_up_a (by omega)) (j_up_a (by omega))) (by omega) (by omega) (by omega) (by omega) (by omega) (fun M2 h1 h2 => ?_)
    have := kk M2 (by rw [h1, e, mk1_l hpf.1, j_up_s]) ((j_fm.arr (by omega) (by simp)).trans h2)
    rw [e, show i + (pfx l1 l2 eX eY f (i + 1) (j + 1) + 1) = i + 1 + pfx l1 l2 eX eY f (i + 1) (j + 1) by omega, show j + (pfx l1 l2 eX eY f (i + 1) (j + 1) + 1) = j + 1 + pfx l1 l2 eX eY f (i + 1) (j + 1) by omega] at this
    exact this
theorem mo_so2 {X eX Y eY i j : Int} {D : Nat} {u9 u10 u11 u12 : j_V} (h : rMo K g m) (hi : 0 ≤ i) (hj : 0 ≤ j) : ∀ (f : Nat) (u v : Int) (M : Nat → Int → Int), mAB M m l1 l2 → u - i ≤ f → i ≤ u → j ≤ v → u ≤ l1.length → v ≤ l2.length →
    (∀ M2, M2 (m + 5) = mk1 (u - sfx l1 l2 i j f u v) (v - sfx l1 l2 i j f u v) (sfx l1 l2 i j f u v) (M (m + 5)) → j_fm m [] [m + 5] M M2 → j_J G jm_Mo_standOut D 0 0 114 [jr_ m, ji_ X, ji_ eX, ji_ Y, ji_ eY, ji_ i, ji_ j, ji_ (u - sfx l1 l2 i j f u v), ji_ (v - sfx l1 l2 i j f u v), u9, u10, u11, u12] [] (N, K, M2, g) Q) →
    j_J G jm_Mo_standOut D 0 0 61 [jr_ m, ji_ X, ji_ eX, ji_ Y, ji_ eY, ji_ i, ji_ j, ji_ u, ji_ v, u9, u10, u11, u12] [] (N, K, M, g) Q := by
  intro f
  induction f with
  | zero =>
    intro u v M hA hf hi1 hj1 hi2 hj2 kk
    have l1l := hA.1
    have := kk M (by rw [sfx, mk1_0]) j_fm.rfl
    rw [sfx, Int.sub_zero, Int.sub_zero] at this
    exact s_Mo_standOut_61 (k1 := fun h => this) (k2 := fun h => by omega)
  | succ f ih =>
    intro u v M hA hf hi1 hj1 hi2 hj2 kk
    have hA0 := hA
    obtain ⟨q1, q2, q3, q4, q5, q6⟩ := hA
    have stop : ¬ (i < u ∧ j < v ∧ lg l1 (u - 1) = lg l2 (v - 1)) → j_J G jm_Mo_standOut D 0 0 114 [jr_ m, ji_ X, ji_ eX, ji_ Y, ji_ eY, ji_ i, ji_ j, ji_ u, ji_ v, u9, u10, u11, u12] [] (N, K, M, g) Q := by
      intro hn
      have e : sfx l1 l2 i j (f + 1) u v = 0 := by rw [sfx, if_neg hn]
      have := kk M (by rw [e, mk1_0]) j_fm.rfl
      rw [e, Int.sub_zero, Int.sub_zero] at this
      exact this
    refine s_Mo_standOut_61 (k1 := fun h => stop (by omega)) (k2 := fun h1 => ?_)
    refine s_Mo_standOut_68 (k1 := fun h2 => stop (by omega)) (k2 := fun h2 => ?_)
    have e1 := q5 (u - 1) (by omega) (by omega)
    have e2 := q6 (v - 1) (by omega) (by omega)
    have r1 := q3 (u - 1) (by omega) (by omega)
    have r2 := q4 (v - 1) (by omega) (by omega)
    refine s_Mo_standOut_75 h.o h.g4 h.k3 (hg5 := h.g5) (hk3 := h.k4) (r7 := by rw [e1]; omega) (r8 := by rw [e2]; omega) (k1 := fun h3 => stop (by omega)) (k2 := fun h3 => ?_)
    have he : lg l1 (u - 1) = lg l2 (v - 1) := by omega
    have eu : u + (-1) = u - 1 := by omega
    have ev : v + (-1) = v - 1 := by omega
    have hsf := sfx_r (l1 := l1) (l2 := l2) (i := i) (j := j) f (u - 1) (v - 1)
    have e : sfx l1 l2 i j (f + 1) u v = sfx l1 l2 i j f (u - 1) (v - 1) + 1 := by rw [sfx, if_pos ⟨h1, h2, he⟩]
    refine s_Mo_standOut_96 h.o h.g6 h.k5 (k1 := ?_)
    rw [ev, eu]
    refine ih (u - 1) (v - 1) _ (hA0.kept (j_up_a (by omega)) (j_up_a (by omega))) (by omega) (by omega) (by omega) (by omega) (by omega) (fun M2 h1 h2 => ?_)
    have := kk M2 (by rw [h1, e, mk1_r hsf.1, j_up_s]) ((j_fm.arr (by omega) (by simp)).trans h2)
    rw [e, show u - (sfx l1 l2 i j f (u - 1) (v - 1) + 1) = u - 1 - sfx l1 l2 i j f (u - 1) (v - 1) by omega, show v - (sfx l1 l2 i j f (u - 1) (v - 1) + 1) = v - 1 - sfx l1 l2 i j f (u - 1) (v - 1) by omega] at this
    exact this
theorem mkA_cons {tp : Int → Int} {L : List Int} {x : Int} {old : Int → Int} : mkA tp (x :: L) old = fun t => if t = x then tp x else mkA tp L old t := by
  funext t
  unfold mkA
  by_cases hx : t = x
  · subst hx; simp
  · rw [if_neg hx]
    by_cases h : t ∈ L
    · rw [if_pos h, if_pos (by simp [h])]
    · rw [if_neg h, if_neg (by simp [h, hx])]
theorem rngs_hd {tp : Int → Int} {p q i j i' j' endA endB : Int} {P : List rg} (B : List Int) (h : rngs tp p q i j B = (i, endA, j, endB) :: P) : rngs tp p q i' j' B = (i', endA, j', endB) :: P := by
  cases B with
  | nil => simp only [rngs, List.cons.injEq, Prod.mk.injEq] at h ⊢; simp_all
  | cons x B =>
    simp only [rngs, List.cons.injEq, Prod.mk.injEq, true_and] at h ⊢
    exact ⟨h.1, h.2⟩
theorem ct_Mo_standOut {M : Nat → Int → Int} {X eX Y eY : Int} {R : List rg} (h : rMo K g m) (hA : mAB M m l1 l2) (hr : inR l1 l2 (X, eX, Y, eY)) (hw : M m 8 = R.length) (hS : mSk M m R) (hR : ∀ r ∈ R, okR r) (hsz : szs ((X, eX, Y, eY) :: R) ≤ 25) :
    j_Ct G jm_Mo_standOut (d + 2) 0 0 [jr_ m, ji_ X, ji_ eX, ji_ Y, ji_ eY] (N, K, M, g) (j_pV N K g fun M' => ∃ P : List rg, mSk M' m (P ++ R) ∧ M' m 8 = (P ++ R).length ∧ (∀ r ∈ P, inR l1 l2 r) ∧ szs P ≤ eX - X + 1 ∧ wts P < 2 * (eX - X) + 1 ∧ P.foldl (fun o r => pm l1 l2 25 r o) (M' (m + 5)) = pm l1 l2 25 (X, eX, Y, eY) (M (m + 5)) ∧ j_fm m [8] [m + 5, m + 6, m + 7, m + 8, m + 9, m + 10, m + 11, m + 12] M M') := by
  obtain ⟨okr, hX2, hY2⟩ := hr
  dsimp only at hX2 hY2
  have hX : 0 ≤ X := okr.1
  have hX1 : X ≤ eX := okr.2.1
  have hY : 0 ≤ Y := okr.2.2.1
  have hY1 : Y ≤ eY := okr.2.2.2
  have l1l := hA.1
  have l2l := hA.2.1
  have hszR := szs_ge R hR
  simp only [szs] at hsz
  obtain ⟨k1, k2, k3, k4, k5, k6, k7⟩ := core_ok (l1 := l1) (l2 := l2) okr
  refine j_Ct.ofJ (ls := [jr_ m, ji_ X, ji_ eX, ji_ Y, ji_ eY, ju_, ju_, ju_, ju_, ju_, ju_, ju_, ju_]) (by decide) rfl rfl ?_
  refine s_Mo_standOut_0 ?_
  refine mo_so1 h hX2 hY2 24 X Y M hA (by omega) hX hX1 hY hY1 (fun M1 hM1 hf1 => ?_)
  have hA1 : mAB M1 m l1 l2 := hA.kept (hf1.1 _ (by omega) (by simp)) (hf1.1 _ (by omega) (by simp))
  have hp := pfx_r (l1 := l1) (l2 := l2) (a1 := eX) (b1 := eY) 24 X Y
  refine mo_so2 h (by omega) (by omega) 24 eX eY M1 hA1 (by omega) (by omega) (by omega) hX2 hY2 (fun M2 hM2 hf2 => ?_)
  have hA2 : mAB M2 m l1 l2 := hA1.kept (hf2.1 _ (by omega) (by simp)) (hf2.1 _ (by omega) (by simp))
  have hends : M2 (m + 5) = endsM l1 l2 (X, eX, Y, eY) (M (m + 5)) := by
    rw [hM2, hM1]
    unfold endsM core
    dsimp only
    rw [show eX - (eX - sfx l1 l2 (X + pfx l1 l2 eX eY 24 X Y) (Y + pfx l1 l2 eX eY 24 X Y) 24 eX eY) = sfx l1 l2 (X + pfx l1 l2 eX eY 24 X Y) (Y + pfx l1 l2 eX eY 24 X Y) 24 eX eY by omega, show X + pfx l1 l2 eX eY 24 X Y - X = pfx l1 l2 eX eY 24 X Y by omega]
  have hcore : core l1 l2 (X, eX, Y, eY) = (X + pfx l1 l2 eX eY 24 X Y, eX - sfx l1 l2 (X + pfx l1 l2 eX eY 24 X Y) (Y + pfx l1 l2 eX eY 24 X Y) 24 eX eY, Y + pfx l1 l2 eX eY 24 X Y, eY - sfx l1 l2 (X + pfx l1 l2 eX eY 24 X Y) (Y + pfx l1 l2 eX eY 24 X Y) 24 eX eY) := rfl
  generalize X + pfx l1 l2 eX eY 24 X Y = i at hcore ⊢
  generalize Y + pfx l1 l2 eX eY 24 X Y = j at hcore ⊢
  generalize eX - sfx l1 l2 i j 24 eX eY = u at hcore ⊢
  generalize eY - sfx l1 l2 i j 24 eX eY = v at hcore ⊢
  have hpm : pm l1 l2 25 (X, eX, Y, eY) (M (m + 5)) = if mxR l1 l2 (i, u, j, v) ≤ 0 then gR l1 l2 i u j v (M2 (m + 5)) else (rngs (tpR l1 l2 (i, u, j, v)) u v i j (anR l1 l2 (i, u, j, v))).foldl (fun o r' => pm l1 l2 24 r' o) (mkA (tpR l1 l2 (i, u, j, v)) (anR l1 l2 (i, u, j, v)) (M2 (m + 5))) := by
    rw [pm, hcore, ← hends]
  rw [hpm]
  rw [hcore] at k1 k2 k3 k4 k5 k6 k7
  dsimp only at k2 k3 k4 k5 k6 k7
  have q1 : 0 ≤ i := k1.1
  have q2 : i ≤ u := k1.2.1
  have q3 : 0 ≤ j := k1.2.2.1
  have q4 : j ≤ v := k1.2.2.2
  clear hpm hcore hends hM1 hM2 hp
  have fr2 : j_fm m [8] [m + 5, m + 6, m + 7, m + 8, m + 9, m + 10, m + 11, m + 12] M M2 := (hf1.mono (by simp) (by simp)).trans (hf2.mono (by simp) (by simp))
  have fr2' : j_fm m [] [m + 5] M M2 := hf1.trans hf2
  refine s_Mo_standOut_114 h.o (ct_Mo_findRanks (d := d) h hA2 q1 q2 (by omega) q3 q4 (by omega)) (fun z M3 hq => ?_)
  obtain ⟨hz, hT, hf3⟩ := hq
  have hA3 : mAB M3 m l1 l2 := hA2.kept (hf3.1 _ (by omega) (by simp)) (hf3.1 _ (by omega) (by simp))
  have e5 : M3 (m + 5) = M2 (m + 5) := hf3.1 _ (by omega) (by simp)
  have fr3 : j_fm m [8] [m + 5, m + 6, m + 7, m + 8, m + 9, m + 10, m + 11, m + 12] M M3 := fr2.trans (hf3.mono (by simp) (by simp))
  have hS3 : mSk M3 m R := hS.kept R (fun a ha k k0 k1 => by rw [hf3.1 a (by omega) (by simp; omega), fr2'.1 a (by omega) (by simp; omega)])
  have hw3 : M3 m 8 = R.length := by rw [hf3.2 _ (by simp), fr2'.2 _ (by simp), hw]
  have hmx0 := mxr_0 (f := rk (tpR l1 l2 (i, u, j, v)) i) (a0 := i) (u - i).toNat
  have hmxu : mxR l1 l2 (i, u, j, v) = mxr (rk (tpR l1 l2 (i, u, j, v)) i) i (u - i).toNat := rfl
  have hmxl : mxR l1 l2 (i, u, j, v) ≤ 24 := by
    have := mxr_n (tp := tpR l1 l2 (i, u, j, v)) (a0 := i) (u - i).toNat
    omega
  refine s_Mo_standOut_126 (r1 := by omega) (k1 := fun c => ?_) (k2 := fun c => ?_)
  · rw [if_neg (by omega)]
    have hne := an_ne (l1 := l1) (l2 := l2) (k := (i, u, j, v)) (by omega)
    have hu : upw (tpR l1 l2 (i, u, j, v)) i u j v (anR l1 l2 (i, u, j, v)) := an_upw (l1 := l1) (l2 := l2) (k := (i, u, j, v)) k1
    have hL : anR l1 l2 (i, u, j, v) = chs (rk (tpR l1 l2 (i, u, j, v)) i) i (u - i).toNat (mxR l1 l2 (i, u, j, v)) := rfl
    have hTr : ∀ t, i ≤ t → t < u → tpR l1 l2 (i, u, j, v) t = -1 ∨ j ≤ tpR l1 l2 (i, u, j, v) t ∧ tpR l1 l2 (i, u, j, v) t < v := fun t _ _ => tpF_r q4
    generalize anR l1 l2 (i, u, j, v) = L at hne hu hL ⊢
    rw [hz]
    generalize mxR l1 l2 (i, u, j, v) = mx at hL hmxl hmxu hz ⊢
    generalize tpR l1 l2 (i, u, j, v) = tp at hu hL hT hTr hmxu hmx0 ⊢
    have hTk : ∀ t, i ≤ t → t < u → 0 ≤ rk tp i t ∧ rk tp i t ≤ 24 := by
      intro t t1 t2
      have a := mxr_ge (f := rk tp i) (a0 := i) (u - i).toNat t t1 (by omega)
      have b := mxr_n (tp := tp) (a0 := i) (u - i).toNat
      have c := rk_pos (tp := tp) (a0 := i) (t := t) t1
      constructor
      · by_cases q : 0 ≤ tp t
        · have := c.1 q; omega
        · have := c.2 (by omega); omega
      · omega
    have rok := rngs_ok (tp := tp) (p := u) (q := v) L i j q1 q3 hu
    have hLl : (L.length : Int) + 1 ≤ u - i + 1 := by
      have a := szs_ge (rngs tp u v i j L) (fun r hr => (rok r hr).1)
      rw [rngs_sz] at a
      have b := rngs_len (tp := tp) (p := u) (q := v) L i j
      omega
    suffices lp : ∀ (n : Nat) (r endA endB : Int) (B : List Int) (P : List rg) (M4 : Nat → Int → Int), i + n ≤ u → chs (rk tp i) i n r ++ B = L → 0 ≤ r → r ≤ 24 → rngs tp u v i j B = (i, endA, j, endB) :: P → mSk M4 m (P ++ R) → M4 m 8 = (P ++ R).length → M4 (m + 5) = mkA tp B (M2 (m + 5)) → j_fm m [8] [m + 5, m + 7, m + 8, m + 9, m + 10] M3 M4 →
        j_J G jm_Mo_standOut (d + 2) 0 0 160 [jr_ m, ji_ X, ji_ eX, ji_ Y, ji_ eY, ji_ i, ji_ j, ji_ u, ji_ v, ji_ r, ji_ endA, ji_ endB, ji_ (i + n - 1)] [] (N, K, M4, g) (j_pV N K g fun M' => ∃ P : List rg, mSk M' m (P ++ R) ∧ M' m 8 = (P ++ R).length ∧ (∀ r ∈ P, inR l1 l2 r) ∧ szs P ≤ eX - X + 1 ∧ wts P < 2 * (eX - X) + 1 ∧ P.foldl (fun o r => pm l1 l2 25 r o) (M' (m + 5)) = (rngs tp u v i j L).foldl (fun o r' => pm l1 l2 24 r' o) (mkA tp L (M2 (m + 5))) ∧ j_fm m [8] [m + 5, m + 6, m + 7, m + 8, m + 9, m + 10, m + 11, m + 12] M M') by
      have := lp (u - i).toNat mx u v [] [] M3 (by omega) (by rw [List.append_nil]; exact hL.symm) (by omega) hmxl rfl hS3 hw3 (by rw [mkA_nil, e5]) j_fm.rfl
      rw [show i + ((u - i).toNat : Int) - 1 = u - 1 by omega] at this
      exact this
    intro n
    induction n with
    | zero =>
      intro r endA endB B P M4 hn hch hr0 hr1 hrn hSk hw4 hM4 hf4
      have hBL : B = L := by rw [← hch]; rfl
      subst hBL
      have hPl : P.length = B.length := by
        have := rngs_len (tp := tp) (p := u) (q := v) B i j
        rw [hrn, List.length_cons] at this
        omega
      have hPR : ((P ++ R).length : Int) < 60 := by rw [List.length_append]; omega
      refine s_Mo_standOut_160 (k1 := fun _ => ?_) (k2 := fun q => by omega)
      refine s_Mo_standOut_241 h.o (ct_Mo_await h hw4 hPR hSk) (fun M5 hq => ?_)
      obtain ⟨w5, sk5, f5⟩ := hq
      rw [← List.cons_append, ← hrn] at sk5
      refine s_Mo_standOut_253 ⟨M5, rfl, rfl, rngs tp u v i j B, sk5, ?_, fun r hr => ?_, ?_, ?_, ?_, ?_⟩
      · rw [w5, hrn]; simp
      · obtain ⟨o1, o2, o3, o4, o5, o6⟩ := rok r hr
        exact ⟨o1, by omega, by omega⟩
      · rw [rngs_sz]; omega
      · rw [wts_szs, rngs_sz, rngs_len]
        have : B.length ≠ 0 := fun q => hne (List.length_eq_zero_iff.mp q)
        omega
      · rw [f5.1 _ (by omega) (by simp), hM4]
        refine foldl_cg _ (fun o r hr => ?_) _
        obtain ⟨o1, o2, o3, o4, o5, o6⟩ := rok r hr
        exact (pm_ge (f := 24) (f' := 25) o1 (by have := o6 hne; omega) (by omega)).symm
      · exact (fr3.trans (hf4.mono (by simp) (by simp))).trans (f5.mono (by simp) (by simp))
    | succ n ih =>
      intro r endA endB B P M4 hn hch hr0 hr1 hrn hSk hw4 hM4 hf4
      have hPl : P.length = B.length := by
        have := rngs_len (tp := tp) (p := u) (q := v) B i j
        rw [hrn, List.length_cons] at this
        omega
      have hBL : B.length ≤ L.length := by rw [← hch, List.length_append]; omega
      have hPR : ((P ++ R).length : Int) < 60 := by rw [List.length_append]; omega
      have ek : i + ((n + 1 : Nat) : Int) - 1 = i + n := by omega
      rw [ek]
      obtain ⟨t1, t2⟩ := hT (i + n) (by omega) (by omega)
      have t1' : M4 (m + 11) (i + n) = tp (i + n) := by rw [hf4.1 _ (by omega) (by simp)]; exact t1
      have t2' : M4 (m + 12) (i + n) = rk tp i (i + n) := by rw [hf4.1 _ (by omega) (by simp)]; exact t2
      have tk := hTk (i + n) (by omega) (by omega)
      have tr := hTr (i + n) (by omega) (by omega)
      have ech : chs (rk tp i) i (n + 1) r = if rk tp i (i + n) = r ∧ 0 < r then chs (rk tp i) i n (r - 1) ++ [i + (n : Int)] else chs (rk tp i) i n r := rfl
      refine s_Mo_standOut_160 (k1 := fun q => by omega) (k2 := fun _ => ?_)
      refine s_Mo_standOut_167 h.o h.g14 h.k12 (r4 := by rw [t2']; omega) (k1 := fun c => ?_) (k2 := fun c => ?_)
      · rw [t2'] at c
        rw [ech, if_neg (fun z => c z.1)] at hch
        exact ih r endA endB B P M4 (by omega) hch hr0 hr1 hrn hSk hw4 hM4 hf4
      · rw [t2'] at c
        refine s_Mo_standOut_179 (k1 := fun c2 => ?_) (k2 := fun c2 => ?_)
        · rw [ech, if_neg (by omega)] at hch
          exact ih r endA endB B P M4 (by omega) hch hr0 hr1 hrn hSk hw4 hM4 hf4
        · rw [ech, if_pos ⟨c, c2⟩] at hch
          have e11 : j_up M4 (m + 5) (i + n) (M4 (m + 11) (i + n)) (m + 11) (i + n) = tp (i + n) := by rw [j_up_a (by omega), t1']
          have hw4' : j_up M4 (m + 5) (i + n) (M4 (m + 11) (i + n)) m 8 = (P ++ R).length := by rw [j_up_a (by omega)]; exact hw4
          have hSk' : mSk (j_up M4 (m + 5) (i + n) (M4 (m + 11) (i + n))) m (P ++ R) := hSk.kept _ (fun a ha k k0 k1 => by rw [j_up_a (by omega)])
          refine s_Mo_standOut_184 h.o h.g6 h.g13 h.k11 (hk3 := h.k5) (hC := ct_Mo_await h hw4' hPR hSk') (k1 := fun M5 hq => ?_)
          obtain ⟨w5, sk5, f5⟩ := hq
          have f45 : j_fm m [8] [m + 5, m + 7, m + 8, m + 9, m + 10] M4 M5 := (j_fm.arr (by omega) (by simp)).trans (f5.mono (by simp) (by simp))
          have t11 : M5 (m + 11) (i + n) = tp (i + n) := by rw [f45.1 _ (by omega) (by simp), t1']
          rw [e11] at sk5
          refine s_Mo_standOut_219 h.o h.g13 h.k11 (k1 := ?_)
          rw [t11]
          refine ih (r - 1) (i + n) (tp (i + n)) ((i + n) :: B) ((i + n + 1, endA, tp (i + n) + 1, endB) :: P) M5 (by omega) (by rw [← hch, List.append_assoc]; rfl) (by omega) (by omega) ?_ sk5 ?_ ?_ (hf4.trans f45)
          · rw [rngs, rngs_hd B hrn]
          · rw [w5]; simp
          · rw [f5.1 _ (by omega) (by simp), j_up_s, mkA_cons, hM4, t1']
  · rw [if_pos (by omega)]
    refine s_Mo_standOut_133 h.o (ct_Mo_compareShort (d := d + 1) h hA3 q1 q2 (by omega) q3 q4 (by omega)) (fun M4 hq => ?_)
    obtain ⟨hM4, hf4⟩ := hq
    refine s_Mo_standOut_145 ⟨M4, rfl, rfl, [], ?_, ?_, (fun r hr => by cases hr), (by simp only [szs]; omega), (by simp only [wts]; omega), ?_, fr3.trans (hf4.mono (by simp) (by simp))⟩
    · exact hS3.kept R (fun a ha k k0 k1 => by rw [hf4.1 a (by omega) (by simp; omega)])
    · rw [hf4.2 _ (by simp), hw3]; rfl
    · show M4 (m + 5) = _
      rw [hM4, e5]
end

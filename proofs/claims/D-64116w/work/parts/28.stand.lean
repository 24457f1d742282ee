/-! ===== contracts: Standing ===== -/
def rSd (K : Nat → Option (Nat × Nat)) (g : Nat → Int → Option Nat) (s o : Nat) : Prop :=
  K s = some (0, 4) ∧ g s 0 = some o ∧ g s 1 = some (s + 1) ∧ g s 2 = some (s + 2) ∧ g s 3 = some (s + 3) ∧ K (s + 1) = some (1, 25) ∧ K (s + 2) = some (1, 24) ∧ K (s + 3) = some (1, 24)
section
variable {tp : Int → Int} {a0 : Int}
theorem lat_inc {n : Nat} {r x y : Int} (hr : 1 ≤ r) (hx : lat (rk tp a0) a0 n r x) (hy : lat (rk tp a0) a0 n (r + 1) y) : tp x < tp y := by
  obtain ⟨x1, x2, x3, x4⟩ := hx
  obtain ⟨y1, y2, y3, y4⟩ := hy
  obtain ⟨k, k1, k2, k3, k4, k5⟩ := rk_ex (tp := tp) y1 (by omega)
  have hkx : k ≤ x := by
    by_cases h : k ≤ x
    · exact h
    · exact absurd (by omega) (x4 k (by omega) (by omega))
  have := rk_dn (tp := tp) k1 hkx k3 (by omega)
  omega
theorem lat_mono {n : Nat} {T : Int → Int} {P : Int} (h : ∀ r, 1 ≤ r → r ≤ P → lat (rk tp a0) a0 n r (T r)) (s : Nat) : ∀ r, 1 ≤ r → r + s ≤ P → tp (T r) ≤ tp (T (r + s)) := by
  induction s with
  | zero => intro r _ _; rw [show r + ((0 : Nat) : Int) = r by omega]; exact Int.le_refl _
  | succ s ih =>
    intro r h1 h2
    have a := ih r h1 (by omega)
    have b := lat_inc (tp := tp) (by omega) (h (r + s) (by omega) (by omega)) (h (r + s + 1) (by omega) (by omega))
    rw [show r + ((s + 1 : Nat) : Int) = r + s + 1 by omega]
    omega
theorem rank_ok {n : Nat} {T : Int → Int} {rho : Int} (h : ∀ r, 1 ≤ r → r ≤ mxr (rk tp a0) a0 n → lat (rk tp a0) a0 n r (T r)) (hp : 0 ≤ tp (a0 + n)) (h1 : 1 ≤ rho) (h2 : rho ≤ mxr (rk tp a0) a0 n + 1) (h3 : ∀ r, 1 ≤ r → r < rho → tp (T r) < tp (a0 + n)) (h4 : rho = mxr (rk tp a0) a0 n + 1 ∨ tp (a0 + n) ≤ tp (T rho)) : rk tp a0 (a0 + n) = rho := by
  rw [rk_rec, if_pos hp]
  have hb0 := bst_0 (f := rk tp a0) (tp := tp) (a0 := a0) (v := tp (a0 + n)) n
  have hge : rho - 1 ≤ bst (rk tp a0) tp a0 n (tp (a0 + n)) := by
    by_cases hr : rho = 1
    · omega
    · obtain ⟨x1, x2, x3, x4⟩ := h (rho - 1) (by omega) (by omega)
      have xp : 0 ≤ tp (T (rho - 1)) := by
        by_cases q : 0 ≤ tp (T (rho - 1))
        · exact q
        · have := (rk_pos (tp := tp) x1).2 (by omega); omega
      have := bst_ge (f := rk tp a0) (tp := tp) (v := tp (a0 + n)) n _ x1 x2 xp (h3 _ (by omega) (by omega))
      omega
  have hle : bst (rk tp a0) tp a0 n (tp (a0 + n)) ≤ rho - 1 := by
    rcases bst_at (f := rk tp a0) (tp := tp) (a0 := a0) (v := tp (a0 + n)) n with q | ⟨k, k1, k2, k3, k4, k5⟩
    · omega
    · by_cases hc : bst (rk tp a0) tp a0 n (tp (a0 + n)) ≤ rho - 1
      · exact hc
      · have hm := mxr_ge (f := rk tp a0) n k k1 k2
        obtain ⟨x1, x2, x3, x4⟩ := h (rk tp a0 k) (by omega) hm
        have hkx : k ≤ T (rk tp a0 k) := by
          by_cases q : k ≤ T (rk tp a0 k)
          · exact q
          · exact absurd rfl (x4 k (by omega) k2)
        have a := rk_dn (tp := tp) k1 hkx k3 x3.symm
        have b := lat_mono h (rk tp a0 k - rho).toNat rho h1 (by omega)
        rw [show rho + ((rk tp a0 k - rho).toNat : Int) = rk tp a0 k by omega] at b
        omega
  omega
end
theorem mkA_app {tp : Int → Int} {L : List Int} {x : Int} {old : Int → Int} : mkA tp (L ++ [x]) old = mkA tp L (fun t => if t = x then tp x else old t) := by
  funext t
  unfold mkA
  by_cases h : t ∈ L
  · rw [if_pos h, if_pos (by simp [h])]
  · rw [if_neg h]
    by_cases hx : t = x
    · subst hx; simp
    · show _ = (if t = x then tp x else old t)
      rw [if_neg hx, if_neg (by simp [h, hx])]
section
variable {G : j_G} {d N : Nat} {K : Nat → Option (Nat × Nat)} {M : Nat → Int → Int} {g : Nat → Int → Option Nat} {o c p s : Nat} {l1 l2 l : List Int}
theorem ct_Sd_once {t ca : Nat} {fr to v : Int} (h : rTx K g M t ca l) (hf : 0 ≤ fr) (hft : fr ≤ to) (hto : to ≤ l.length) (hv : -128 ≤ v ∧ v ≤ 127) :
    j_Ct G jm_Sd_once d 0 0 [jr_ t, ji_ fr, ji_ to, ji_ v] (N, K, M, g) (j_pI N K g fun z M' => M' = M ∧ z = if cn l fr (to - fr).toNat v = 1 then ls l fr (to - fr).toNat v else -1) := by
  obtain ⟨h1, h2, h3, h4, h5, h6, h7⟩ := h
  refine j_Ct.ofJ (ls := [jr_ t, ji_ fr, ji_ to, ji_ v, ju_, ju_, ju_]) (by decide) rfl rfl ?_
  refine s_Sd_once_0 ?_
  suffices lp : ∀ (k n : Nat), (n : Int) + k = to - fr →
      j_J G jm_Sd_once d 0 0 9 [jr_ t, ji_ fr, ji_ to, ji_ v, ji_ (ls l fr n v), ji_ (cn l fr n v), ji_ (fr + n)] [] (N, K, M, g) (j_pI N K g fun z M' => M' = M ∧ z = if cn l fr (to - fr).toNat v = 1 then ls l fr (to - fr).toNat v else -1) by
    have := lp (to - fr).toNat 0 (by omega)
    simp only [ls, cn] at this
    rw [show fr + ((0 : Nat) : Int) = fr by omega] at this
    exact this
  intro k
  induction k with
  | zero =>
    intro n hn
    have hc := cn_0 (l := l) (a := fr) (v := v) n
    have hl := ls_r (l := l) (a := fr) (v := v) n
    have e : (to - fr).toNat = n := by omega
    refine s_Sd_once_9 (k1 := fun h => ?_) (k2 := fun h => by omega)
    refine s_Sd_once_62 (k1 := fun h => ⟨_, M, rfl, rfl, rfl, ?_⟩) (k2 := fun h => ⟨_, M, rfl, rfl, rfl, ?_⟩)
    · rw [e, if_neg h]
    · rw [e, if_pos h]
  | succ k ih =>
    intro n hn
    have hc := cn_0 (l := l) (a := fr) (v := v) n
    have hl := ls_r (l := l) (a := fr) (v := v) n
    have e := h6 (fr + n) (by omega) (by omega)
    have hr := h7 (fr + n) (by omega) (by omega)
    refine s_Sd_once_9 (k1 := fun h => by omega) (k2 := fun h => ?_)
    have nx := ih (n + 1) (by omega)
    rw [show fr + ((n + 1 : Nat) : Int) = fr + n + 1 by omega] at nx
    simp only [ls, cn] at nx
    rw [← e] at nx
    refine s_Sd_once_15 h1 h2 h3 (k1 := fun hv => ?_) (k2 := fun hv => ?_)
    · rw [if_neg hv, if_neg hv] at nx
      exact s_Sd_once_33 h1 h2 h3 (k1 := fun _ => nx) (k2 := fun q => absurd q hv)
    · rw [if_pos hv, if_pos hv] at nx
      exact s_Sd_once_33 h1 h2 h3 (k1 := fun q => absurd hv q) (k2 := fun _ => nx)
theorem ct_Sd_anchor {i0 eX j0 eY : Int} (hS : rSd K g s o) (hP : rPr K g M p l1 l2) (hsp : s + 3 < p) (hi : 0 ≤ i0) (hi1 : i0 ≤ eX) (hi2 : eX ≤ l1.length) (hj : 0 ≤ j0) (hj1 : j0 ≤ eY) (hj2 : eY ≤ l2.length) :
    j_Ct G jm_Sd_anchor (d + 1) 0 0 [jr_ s, jr_ p, ji_ i0, ji_ eX, ji_ j0, ji_ eY] (N, K, M, g) (j_pI N K g fun z M' => (z = 1 ∧ 0 < mxR l1 l2 (i0, eX, j0, eY) ∨ z = 0 ∧ mxR l1 l2 (i0, eX, j0, eY) ≤ 0) ∧ M' (p + 5) = mkA (tpR l1 l2 (i0, eX, j0, eY)) (anR l1 l2 (i0, eX, j0, eY)) (M (p + 5)) ∧ j_fr [s + 1, s + 2, s + 3, p + 5] M M') := by
  obtain ⟨s1, s2, s3, s4, s5, s6, s7, s8⟩ := hS
  have l1l := hP.2.2.2.2.2.1.2.2.2.2.1
  have l2l := hP.2.2.2.2.2.2.2.2.2.2.1
  obtain ⟨tp, htp⟩ : ∃ tp, tp = tpR l1 l2 (i0, eX, j0, eY) := ⟨_, rfl⟩
  have htp' : ∀ i, tp i = tpF l1 l2 i0 eX j0 eY i := fun i => by rw [htp]
  have tpr : ∀ i, tp i = -1 ∨ (j0 ≤ tp i ∧ tp i < eY) := fun i => by rw [htp']; exact tpF_r hj1
  have eM : mxR l1 l2 (i0, eX, j0, eY) = mxr (rk tp i0) i0 (eX - i0).toNat := by rw [htp]
  have eA : anR l1 l2 (i0, eX, j0, eY) = chs (rk tp i0) i0 (eX - i0).toNat (mxr (rk tp i0) i0 (eX - i0).toNat) := by rw [htp]
  rw [eM, eA, ← htp]
  clear eM eA
  refine j_Ct.ofJ (ls := [jr_ s, jr_ p, ji_ i0, ji_ eX, ji_ j0, ji_ eY, ju_, ju_, ju_, ju_, ju_]) (by decide) rfl rfl ?_
  refine s_Sd_anchor_0 ?_
  suffices lp : ∀ (k n : Nat) (M1 : Nat → Int → Int) (u8 u9 u10 : j_V), (n : Int) + k = eX - i0 → j_fr [s + 1, s + 2, s + 3] M M1 → (∀ t, i0 ≤ t → t < i0 + n → M1 (s + 2) t = tp t) → (∀ r, 1 ≤ r → r ≤ mxr (rk tp i0) i0 n → lat (rk tp i0) i0 n r (M1 (s + 1) r)) → (∀ t, i0 ≤ t → t < i0 + n → 0 ≤ tp t → (rk tp i0 t = 1 → M1 (s + 3) t = -1) ∧ (2 ≤ rk tp i0 t → lat (rk tp i0) i0 (t - i0).toNat (rk tp i0 t - 1) (M1 (s + 3) t))) → mxr (rk tp i0) i0 n ≤ n →
      j_J G jm_Sd_anchor (d + 1) 0 0 6 [jr_ s, jr_ p, ji_ i0, ji_ eX, ji_ j0, ji_ eY, ji_ (mxr (rk tp i0) i0 n), ji_ (i0 + n), u8, u9, u10] [] (N, K, M1, g) (j_pI N K g fun z M' => (z = 1 ∧ 0 < mxr (rk tp i0) i0 (eX - i0).toNat ∨ z = 0 ∧ mxr (rk tp i0) i0 (eX - i0).toNat ≤ 0) ∧ M' (p + 5) = mkA tp (chs (rk tp i0) i0 (eX - i0).toNat (mxr (rk tp i0) i0 (eX - i0).toNat)) (M (p + 5)) ∧ j_fr [s + 1, s + 2, s + 3, p + 5] M M') by
    have := lp (eX - i0).toNat 0 M ju_ ju_ ju_ (by omega) j_fr.rfl (fun t a b => by omega) (fun r a b => by simp only [mxr] at b; omega) (fun t a b => by omega) (by simp [mxr])
    simp only [mxr] at this
    rw [show i0 + ((0 : Nat) : Int) = i0 by omega] at this
    exact this
  intro k
  induction k with
  | zero =>
    intro n M1 u8 u9 u10 hn hf hto htops hbef hmn
    have en : (eX - i0).toNat = n := by omega
    have hm0 := mxr_0 (f := rk tp i0) (a0 := i0) n
    rw [en]
    refine s_Sd_anchor_6 (k1 := fun h => ?_) (k2 := fun h => by omega)
    suffices mk : ∀ (r m : Nat) (x : Int) (M3 : Nat → Int → Int), (r = 0 ∧ x = -1 ∨ lat (rk tp i0) i0 m r x ∧ 1 ≤ r) → (m : Int) ≤ n → j_fr [p + 5] M1 M3 →
        j_J G jm_Sd_anchor (d + 1) 0 0 192 [jr_ s, jr_ p, ji_ i0, ji_ eX, ji_ j0, ji_ eY, ji_ (mxr (rk tp i0) i0 n), ji_ x, u8, u9, u10] [] (N, K, M3, g) (j_pI N K g fun z M' => (z = 1 ∧ 0 < mxr (rk tp i0) i0 n ∨ z = 0 ∧ mxr (rk tp i0) i0 n ≤ 0) ∧ M' (p + 5) = mkA tp (chs (rk tp i0) i0 m r) (M3 (p + 5)) ∧ j_fr [s + 1, s + 2, s + 3, p + 5] M M') by
      have e5 : M1 (p + 5) = M (p + 5) := hf _ (by simp; omega)
      refine s_Sd_anchor_174 (k1 := fun h => ?_) (k2 := fun h => ?_)
      · refine s_Sd_anchor_183 s1 s3 s6 (k1 := ?_)
        have := mk (mxr (rk tp i0) i0 n).toNat n (M1 (s + 1) (mxr (rk tp i0) i0 n)) M1 (Or.inr ⟨by
          have q := htops (mxr (rk tp i0) i0 n) (by omega) (by omega)
          rw [show (((mxr (rk tp i0) i0 n).toNat : Nat) : Int) = mxr (rk tp i0) i0 n by omega]; exact q, by omega⟩) (by omega) j_fr.rfl
        rw [e5, show (((mxr (rk tp i0) i0 n).toNat : Nat) : Int) = mxr (rk tp i0) i0 n by omega] at this
        exact this
      · have := mk 0 n (-1) M1 (Or.inl ⟨rfl, rfl⟩) (by omega) j_fr.rfl
        rw [e5] at this
        rw [h] at this ⊢
        exact this
    intro r
    induction r with
    | zero =>
      intro m x M3 hx hm hf3
      have hx1 : x = -1 := by
        rcases hx with ⟨-, h⟩ | ⟨-, h⟩
        · exact h
        · omega
      subst hx1
      refine s_Sd_anchor_192 (k1 := fun h => ?_) (k2 := fun h => by omega)
      have hfin : M3 (p + 5) = mkA tp (chs (rk tp i0) i0 m ((0 : Nat) : Int)) (M3 (p + 5)) := by
        rw [chs_0 m (by omega)]
        funext t
        unfold mkA
        simp
      have hfr : j_fr [s + 1, s + 2, s + 3, p + 5] M M3 := (hf.mono (by simp)).trans (hf3.mono (by simp))
      exact s_Sd_anchor_224 (k1 := fun h => ⟨_, M3, rfl, rfl, Or.inr ⟨rfl, h⟩, hfin, hfr⟩) (k2 := fun h => ⟨_, M3, rfl, rfl, Or.inl ⟨rfl, h⟩, hfin, hfr⟩)
    | succ r ihr =>
      intro m x M3 hx hm hf3
      have hl : lat (rk tp i0) i0 m ((r + 1 : Nat) : Int) x := by
        rcases hx with ⟨h, -⟩ | ⟨h, -⟩
        · omega
        · exact h
      have hl' := hl
      obtain ⟨x1, x2, x3, x4⟩ := hl
      have xp : 0 ≤ tp x := by
        by_cases q : 0 ≤ tp x
        · exact q
        · have := (rk_pos (tp := tp) x1).2 (by omega); omega
      have e2 : M3 (s + 2) x = tp x := by rw [hf3 _ (by simp; omega)]; exact hto x x1 (by omega)
      have tx := tpr x
      have eb : (M3 (s + 2) x).bmod 256 = tp x := by rw [e2]; exact bmod_id (by omega)
      refine s_Sd_anchor_192 (k1 := fun h => by omega) (k2 := fun h => ?_)
      refine s_Sd_anchor_197 hP.1 hP.2.2.2.1 s1 s4 s7 (hk4 := hP.2.2.2.2.1) (r7 := by rw [eb]; omega) (hg9 := s5) (hk5 := s8) (k1 := ?_)
      rw [eb, j_up_a (by omega : s + 3 ≠ p + 5), hf3 (s + 3) (by simp; omega)]
      have hb := hbef x x1 (by omega) xp
      have := ihr (x - i0).toNat (M1 (s + 3) x) (j_up M3 (p + 5) x (tp x)) (by
        by_cases hr : r = 0
        · left; exact ⟨hr, hb.1 (by omega)⟩
        · right
          refine ⟨?_, by omega⟩
          have q := hb.2 (by omega)
          rw [show rk tp i0 x - 1 = (r : Int) by omega] at q
          exact q) (by omega) (hf3.trans (j_fr.up (by simp)))
      rw [j_up_s] at this
      rw [chs_lat m (by omega) hl', mkA_app, show ((r + 1 : Nat) : Int) - 1 = r by omega]
      exact this
  | succ k ih =>
    intro n M1 u8 u9 u10 hn hf hto htops hbef hmn
    have hm0 := mxr_0 (f := rk tp i0) (a0 := i0) n
    have hP1 : rPr K g M1 p l1 l2 := hP.kept (hf _ (by simp; omega)) (hf _ (by simp; omega)) (hf _ (by simp; omega)) (hf _ (by simp; omega))
    obtain ⟨q1, q2, q3, q4, q5, hx, hy⟩ := hP1
    have hx' := hx
    have hy' := hy
    obtain ⟨a1, a2, a3, a4, a5, a6, a7⟩ := hx
    have e6 := a6 (i0 + n) (by omega) (by omega)
    have hr6 := a7 (i0 + n) (by omega) (by omega)
    refine s_Sd_anchor_6 (k1 := fun h => by omega) (k2 := fun h => ?_)
    refine s_Sd_anchor_12 q1 q2 a1 a2 a3 (hC := ct_Sd_once hx' hi hi1 hi2 hr6) (k1 := fun z M' hq => ?_)
    obtain ⟨hM, hz⟩ := hq
    subst hM
    have hl := ls_r (l := l1) (a := i0) (v := M' (p + 2) (i0 + n)) (eX - i0).toNat
    -- behind the store to[i] = v
    have k75 : ∀ (v x9 : Int), v = tp (i0 + n) →
        j_J G jm_Sd_anchor (d + 1) 0 0 75 [jr_ s, jr_ p, ji_ i0, ji_ eX, ji_ j0, ji_ eY, ji_ (mxr (rk tp i0) i0 n), ji_ (i0 + n), ji_ (M' (p + 2) (i0 + n)), ji_ x9, u10] [ji_ v, ji_ (i0 + n), jr_ (s + 2)] (N, K, M', g) (j_pI N K g fun z M' => (z = 1 ∧ 0 < mxr (rk tp i0) i0 (eX - i0).toNat ∨ z = 0 ∧ mxr (rk tp i0) i0 (eX - i0).toNat ≤ 0) ∧ M' (p + 5) = mkA tp (chs (rk tp i0) i0 (eX - i0).toNat (mxr (rk tp i0) i0 (eX - i0).toNat)) (M (p + 5)) ∧ j_fr [s + 1, s + 2, s + 3, p + 5] M M') := by
      intro v x9 hv
      have e22 : j_up M' (s + 2) (i0 + n) v (s + 2) (i0 + n) = v := j_up_eq _ _ _ _
      have tv := tpr (i0 + n)
      have hto2 : ∀ t, i0 ≤ t → t < i0 + (n + 1 : Nat) → j_up M' (s + 2) (i0 + n) v (s + 2) t = tp t := by
        intro t t1 t2
        by_cases ht : t = i0 + n
        · rw [ht, j_up_eq, hv]
        · rw [j_up_ne (Or.inr ht)]; exact hto t t1 (by omega)
      have hmx : mxr (rk tp i0) i0 (n + 1) = if mxr (rk tp i0) i0 n < rk tp i0 (i0 + n) then rk tp i0 (i0 + n) else mxr (rk tp i0) i0 n := rfl
      refine s_Sd_anchor_75 s7 (hk2 := s1) (hg3 := s4) (hk3 := s7) (r5 := by rw [e22]; omega) (k1 := fun h3 => ?_) (k2 := fun h3 => ?_)
      · rw [e22] at h3
        have hrk : rk tp i0 (i0 + n) = 0 := (rk_pos (tp := tp) (by omega)).2 (by omega)
        rw [if_neg (by omega)] at hmx
        have := ih (n + 1) (j_up M' (s + 2) (i0 + n) v) (ji_ (M' (p + 2) (i0 + n))) (ji_ x9) u10 (by omega) (hf.trans (j_fr.up (by simp))) hto2 (fun r r1 r2 => by
          rw [j_up_a (by omega)]
          rw [hmx] at r2
          obtain ⟨x1, x2, x3, x4⟩ := htops r r1 r2
          refine ⟨x1, by omega, x3, fun t t1 t2 => ?_⟩
          by_cases ht : t = i0 + n
          · rw [ht, hrk]; omega
          · exact x4 t t1 (by omega)) (fun t t1 t2 t3 => by
          rw [j_up_a (by omega)]
          refine hbef t t1 ?_ t3
          by_cases ht : t = i0 + n
          · rw [ht] at t3; omega
          · omega) (by rw [hmx]; omega)
        rw [hmx, show i0 + ((n + 1 : Nat) : Int) = i0 + n + 1 by omega] at this
        exact this
      · rw [e22] at h3
        have hp : 0 ≤ tp (i0 + n) := by omega
        have eT : j_up M' (s + 2) (i0 + n) v (s + 1) = M' (s + 1) := j_up_a (by omega)
        have eB : j_up M' (s + 2) (i0 + n) v (s + 3) = M' (s + 3) := j_up_a (by omega)
        have fin : ∀ rho : Int, 1 ≤ rho → rho ≤ mxr (rk tp i0) i0 n + 1 → (∀ r, 1 ≤ r → r < rho → tp (M' (s + 1) r) < tp (i0 + n)) → (rho = mxr (rk tp i0) i0 n + 1 ∨ tp (i0 + n) ≤ tp (M' (s + 1) rho)) →
            j_J G jm_Sd_anchor (d + 1) 0 0 124 [jr_ s, jr_ p, ji_ i0, ji_ eX, ji_ j0, ji_ eY, ji_ (mxr (rk tp i0) i0 n), ji_ (i0 + n), ji_ (M' (p + 2) (i0 + n)), ji_ x9, ji_ rho] [] (N, K, j_up M' (s + 2) (i0 + n) v, g) (j_pI N K g fun z M' => (z = 1 ∧ 0 < mxr (rk tp i0) i0 (eX - i0).toNat ∨ z = 0 ∧ mxr (rk tp i0) i0 (eX - i0).toNat ≤ 0) ∧ M' (p + 5) = mkA tp (chs (rk tp i0) i0 (eX - i0).toNat (mxr (rk tp i0) i0 (eX - i0).toNat)) (M (p + 5)) ∧ j_fr [s + 1, s + 2, s + 3, p + 5] M M') := by
          intro rho r1 r2 r3 r4
          have hrk := rank_ok htops hp r1 r2 r3 r4
          rw [hrk] at hmx
          refine s_Sd_anchor_124 (ct_Ma_max (by omega) (by omega)) (fun z M'' hq => ?_)
          obtain ⟨hM, hz2⟩ := hq
          subst hM
          have hzm : z = mxr (rk tp i0) i0 (n + 1) := by rw [hmx]; split <;> omega
          have k158 : ∀ t2 : Int, (rho = 1 → t2 = -1) → (2 ≤ rho → t2 = M' (s + 1) (rho - 1)) →
              j_J G jm_Sd_anchor (d + 1) 0 0 158 [jr_ s, jr_ p, ji_ i0, ji_ eX, ji_ j0, ji_ eY, ji_ z, ji_ (i0 + n), ji_ (M' (p + 2) (i0 + n)), ji_ x9, ji_ rho] [ji_ t2, ji_ (i0 + n), jr_ (s + 3)] (N, K, j_up M' (s + 2) (i0 + n) v, g) (j_pI N K g fun z M' => (z = 1 ∧ 0 < mxr (rk tp i0) i0 (eX - i0).toNat ∨ z = 0 ∧ mxr (rk tp i0) i0 (eX - i0).toNat ≤ 0) ∧ M' (p + 5) = mkA tp (chs (rk tp i0) i0 (eX - i0).toNat (mxr (rk tp i0) i0 (eX - i0).toNat)) (M (p + 5)) ∧ j_fr [s + 1, s + 2, s + 3, p + 5] M M') := by
            intro t2 t21 t22
            refine s_Sd_anchor_158 s8 (hk2 := s1) (hg3 := s3) (hk3 := s6) (k1 := ?_)
            have := ih (n + 1) (j_up (j_up (j_up M' (s + 2) (i0 + n) v) (s + 3) (i0 + n) t2) (s + 1) rho (i0 + n)) (ji_ (M' (p + 2) (i0 + n))) (ji_ x9) (ji_ rho) (by omega) (((hf.trans (j_fr.up (by simp))).trans (j_fr.up (by simp))).trans (j_fr.up (by simp))) (fun t t1 t2 => by
                rw [j_up_a (by omega), j_up_a (by omega)]; exact hto2 t t1 t2) (fun r q1 q2 => by
                by_cases hr : r = rho
                · subst hr
                  rw [j_up_eq]
                  exact ⟨by omega, by omega, hrk, fun t t1 t2 => by omega⟩
                · rw [j_up_ne (Or.inr hr), j_up_a (by omega), j_up_a (by omega)]
                  obtain ⟨x1, x2, x3, x4⟩ := htops r q1 (by rw [hmx] at q2; split at q2 <;> omega)
                  refine ⟨x1, by omega, x3, fun t t1 t2 => ?_⟩
                  by_cases ht : t = i0 + n
                  · rw [ht, hrk]; omega
                  · exact x4 t t1 (by omega)) (fun t t1 t2' t3 => by
                rw [j_up_a (by omega : s + 3 ≠ s + 1)]
                by_cases ht : t = i0 + n
                · subst ht
                  rw [j_up_eq, hrk]
                  refine ⟨t21, fun h2 => ?_⟩
                  rw [t22 h2, show (i0 + (n : Int) - i0).toNat = n by omega]
                  exact htops _ (by omega) (by omega)
                · rw [j_up_ne (Or.inr ht), j_up_a (by omega)]
                  exact hbef t t1 (by omega) t3) (by rw [hmx]; split <;> omega)
            rw [← hzm, show i0 + ((n + 1 : Nat) : Int) = i0 + n + 1 by omega] at this
            exact this
          refine s_Sd_anchor_131 s1 s5 (k1 := fun h4 => ?_) (k2 := fun h4 => ?_)
          · refine s_Sd_anchor_149 s1 s3 s6 (k1 := ?_)
            exact k158 _ (fun q => absurd q h4) (fun _ => by rw [eT])
          · exact k158 _ (fun _ => rfl) (fun q => by omega)
        suffices lr : ∀ (k2 : Nat) (rho : Int), rho + k2 = mxr (rk tp i0) i0 n + 1 → 1 ≤ rho → (∀ r, 1 ≤ r → r < rho → tp (M' (s + 1) r) < tp (i0 + n)) →
            j_J G jm_Sd_anchor (d + 1) 0 0 89 [jr_ s, jr_ p, ji_ i0, ji_ eX, ji_ j0, ji_ eY, ji_ (mxr (rk tp i0) i0 n), ji_ (i0 + n), ji_ (M' (p + 2) (i0 + n)), ji_ x9, ji_ rho] [] (N, K, j_up M' (s + 2) (i0 + n) v, g) (j_pI N K g fun z M' => (z = 1 ∧ 0 < mxr (rk tp i0) i0 (eX - i0).toNat ∨ z = 0 ∧ mxr (rk tp i0) i0 (eX - i0).toNat ≤ 0) ∧ M' (p + 5) = mkA tp (chs (rk tp i0) i0 (eX - i0).toNat (mxr (rk tp i0) i0 (eX - i0).toNat)) (M (p + 5)) ∧ j_fr [s + 1, s + 2, s + 3, p + 5] M M') from
          lr (mxr (rk tp i0) i0 n).toNat 1 (by omega) (by omega) (fun r a b => by omega)
        intro k2
        induction k2 with
        | zero =>
          intro rho q1 q2 q3
          exact s_Sd_anchor_89 (k1 := fun h => fin rho q2 (by omega) q3 (Or.inl (by omega))) (k2 := fun h => by omega)
        | succ k2 ih2 =>
          intro rho q1 q2 q3
          obtain ⟨x1, x2, x3, x4⟩ := htops rho q2 (by omega)
          have eX2 : j_up M' (s + 2) (i0 + n) v (s + 2) (M' (s + 1) rho) = tp (M' (s + 1) rho) := hto2 _ x1 (by omega)
          have tx := tpr (M' (s + 1) rho)
          refine s_Sd_anchor_89 (k1 := fun h => by omega) (k2 := fun h => ?_)
          refine s_Sd_anchor_96 s1 s4 s3 s6 (hk3 := s7) (r6 := by rw [eT]; omega) (r6' := by rw [eT]; omega) (r8 := by rw [eT, eX2]; omega) (r9 := by rw [e22]; omega) (k1 := fun h4 => ?_) (k2 := fun h4 => ?_)
          · rw [eT, eX2, e22, hv] at h4
            exact fin rho q2 (by omega) q3 (Or.inr h4)
          · rw [eT, eX2, e22, hv] at h4
            refine ih2 (rho + 1) (by omega) (by omega) (fun r a b => ?_)
            by_cases hr : r = rho
            · rw [hr]; exact h4
            · exact q3 r a (by omega)
    have etp : tp (i0 + n) = if cn l1 i0 (eX - i0).toNat (M' (p + 2) (i0 + n)) = 1 ∧ cn l2 j0 (eY - j0).toNat (M' (p + 2) (i0 + n)) = 1 then ls l2 j0 (eY - j0).toNat (M' (p + 2) (i0 + n)) else -1 := by
      rw [htp', e6]; rfl
    refine s_Sd_anchor_35 (r1 := by rw [hz]; split <;> omega) (k1 := fun h2 => ?_) (k2 := fun h2 => ?_)
    · refine s_Sd_anchor_45 s1 s4 (k1 := fun _ => k75 _ _ ?_) (k2 := fun q => absurd rfl q)
      rw [etp, if_neg]
      rintro ⟨c1, -⟩
      rw [if_pos c1, ls_1 _ c1 (i0 + n) (by omega) (by omega) e6.symm] at hz
      exact h2 hz
    · have c1 : cn l1 i0 (eX - i0).toNat (M' (p + 2) (i0 + n)) = 1 := by
        by_cases q : cn l1 i0 (eX - i0).toNat (M' (p + 2) (i0 + n)) = 1
        · exact q
        · rw [if_neg q] at hz; omega
      refine s_Sd_anchor_45 s1 s4 (k1 := fun q => absurd q (by omega)) (k2 := fun _ => ?_)
      refine s_Sd_anchor_58 q1 q3 (ct_Sd_once hy' hj hj1 hj2 hr6) (fun w M'' hq => ?_)
      obtain ⟨hM, hw⟩ := hq
      subst hM
      refine s_Sd_anchor_71 (k75 _ _ ?_)
      rw [etp, hw]
      by_cases q : cn l2 j0 (eY - j0).toNat (M'' (p + 2) (i0 + n)) = 1
      · rw [if_pos q, if_pos ⟨c1, q⟩]
      · rw [if_neg q, if_neg (fun h => q h.2)]
end

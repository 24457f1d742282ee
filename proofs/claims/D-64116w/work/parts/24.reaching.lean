/-! ===== contracts: Reaching ===== -/
def triF (d : Int) : Int := d * (d + 1) / 2
def cellF (d k : Int) : Int := triF d + (k + d) / 2
theorem triF_s (d : Int) : triF (d + 1) = triF d + (d + 1) := by
  unfold triF
  rw [show (d + 1) * (d + 1 + 1) = d * (d + 1) + (d + 1) * 2 by rw [Int.mul_add (d + 1) (d + 1) 1, Int.add_mul d 1 (d + 1)]; omega, Int.add_mul_ediv_right _ _ (by decide)]
theorem triF_lt (t : Nat) : ∀ d : Int, 0 ≤ d → triF d + (d + 1) ≤ triF (d + 1 + t) := by
  induction t with
  | zero => intro d h; rw [show d + 1 + ((0 : Nat) : Int) = d + 1 by omega, triF_s]; omega
  | succ t ih =>
    intro d h
    have := ih d h
    have e := triF_s (d + 1 + t)
    rw [show d + 1 + ((t + 1 : Nat) : Int) = d + 1 + t + 1 by omega, e]
    omega
theorem triF_mono {d d' : Int} (h0 : 0 ≤ d) (h : d < d') : triF d + (d + 1) ≤ triF d' := by
  have := triF_lt (d' - d - 1).toNat d h0
  rw [show d + 1 + ((d' - d - 1).toNat : Int) = d' by omega] at this
  exact this
theorem triF_0 {d : Int} (h : 0 ≤ d) : 0 ≤ triF d := by
  by_cases hd : d = 0
  · rw [hd]; decide
  · have := triF_mono (d := 0) (d' := d) (by omega) (by omega)
    have e : triF 0 = 0 := by decide
    omega
theorem triF_48 {d : Int} (h0 : 0 ≤ d) (h : d ≤ 48) : triF d ≤ 1176 := by
  by_cases hd : d = 48
  · rw [hd]; decide
  · have := triF_mono (d := d) (d' := 48) h0 (by omega)
    have e : triF 48 = 1176 := by decide
    omega
theorem cellF_in {d k : Int} (h0 : 0 ≤ d) (h : d ≤ 48) (h1 : -d ≤ k) (h2 : k ≤ d) : 0 ≤ cellF d k ∧ cellF d k < 1225 := by
  have a := triF_0 h0
  have b := triF_48 h0 h
  unfold cellF
  omega
theorem cellF_inj {d k d' k' : Int} (h0 : 0 ≤ d) (h1 : -d ≤ k) (h2 : k ≤ d) (h3 : (k + d) % 2 = 0) (h0' : 0 ≤ d') (h1' : -d' ≤ k') (h2' : k' ≤ d') (h3' : (k' + d') % 2 = 0) (h : cellF d k = cellF d' k') : d = d' ∧ k = k' := by
  have key : d = d' := by
    rcases Int.lt_trichotomy d d' with q | q | q
    · have := triF_mono h0 q
      unfold cellF at h
      omega
    · exact q
    · have := triF_mono h0' q
      unfold cellF at h
      omega
  subst key
  unfold cellF at h
  exact ⟨rfl, by omega⟩
theorem rGd_rng {l1 l2 : List Int} {X n Y m d k r : Int} (hn : 0 ≤ n ∧ n ≤ 24) (hm : 0 ≤ m ∧ m ≤ 24) (hk : -50 ≤ k ∧ k ≤ 50) (h : rGd l1 l2 X n Y m d k r) : 0 ≤ r ∧ r ≤ 99 := by
  obtain ⟨a, b, c⟩ := h
  by_cases h1 : k < -n
  · rcases a h1 with q | q <;> omega
  · by_cases h2 : m < k
    · rcases b h2 with q | q <;> omega
    · rcases (c (by omega) (by omega)).1 with q | ⟨⟨v1, v2, v3, v4⟩, -⟩ <;> omega
/-- the first D rows of the table -/
def rTb (l1 l2 : List Int) (X n Y m : Int) (R : Int → Int) (D : Int) : Prop := ∀ d k : Int, 0 ≤ d → d < D → -d ≤ k → k ≤ d → (k + d) % 2 = 0 → rGd l1 l2 X n Y m d k (R (cellF d k))
section
variable {G : j_G} {d N : Nat} {K : Nat → Option (Nat × Nat)} {M : Nat → Int → Int} {g : Nat → Int → Option Nat} {o c p : Nat} {l1 l2 : List Int} {X n Y m D : Int}
theorem ct_Re_cell {dd k : Int} (h0 : 0 ≤ dd) (h : dd ≤ 48) (h1 : -dd ≤ k) (h2 : k ≤ dd) : j_Ct G jm_Re_cell d 0 0 [ji_ dd, ji_ k] (N, K, M, g) (j_pI N K g fun z M' => M' = M ∧ z = cellF dd k) := by
  have hm : 0 ≤ dd * (dd + 1) := Int.mul_nonneg h0 (by omega)
  have hm2 : dd * (dd + 1) ≤ 48 * 49 := Int.mul_le_mul h (by omega) (by omega) (by omega)
  refine j_Ct.ofJ (ls := [ji_ dd, ji_ k]) (by decide) rfl rfl ?_
  refine s_Re_cell_0 (k1 := ⟨_, M, rfl, rfl, rfl, ?_⟩)
  rw [Int.tdiv_eq_ediv_of_nonneg hm, Int.tdiv_eq_ediv_of_nonneg (by omega)]
  rfl
theorem ct_Re_get {dd k : Int} (hO : K o = some (0, 3)) (hg : g o 0 = some c) (hc : K c = some (2, 1225)) (hd : -100 ≤ dd ∧ dd ≤ 48) (hk : -100 ≤ k ∧ k ≤ 100) : j_Ct G jm_Re_get (d + 1) 0 0 [jr_ o, ji_ dd, ji_ k] (N, K, M, g) (j_pI N K g fun z M' => M' = M ∧ ((z = 99 ∧ (dd < 0 ∨ k < -dd ∨ dd < k ∨ (k + dd) % 2 ≠ 0)) ∨ (z = M c (cellF dd k) ∧ 0 ≤ dd ∧ -dd ≤ k ∧ k ≤ dd ∧ (k + dd) % 2 = 0))) := by
  refine j_Ct.ofJ (ls := [jr_ o, ji_ dd, ji_ k]) (by decide) rfl rfl ?_
  refine s_Re_get_0 (k1 := fun h => ⟨_, M, rfl, rfl, rfl, Or.inl ⟨rfl, by omega⟩⟩) (k2 := fun h => ?_)
  refine s_Re_get_4 (k1 := fun h => ⟨_, M, rfl, rfl, rfl, Or.inl ⟨rfl, by omega⟩⟩) (k2 := fun h => ?_)
  refine s_Re_get_10 (k1 := fun h => ⟨_, M, rfl, rfl, rfl, Or.inl ⟨rfl, by omega⟩⟩) (k2 := fun h => ?_)
  have e : (k + dd).tmod 2 = (k + dd) % 2 := Int.tmod_eq_emod_of_nonneg (by omega)
  refine s_Re_get_15 (r2 := by rw [e]; omega) (k1 := fun h => ?_) (k2 := fun h => ⟨_, M, rfl, rfl, rfl, Or.inl ⟨rfl, by rw [e] at h; omega⟩⟩)
  rw [e] at h
  have hin := cellF_in (d := dd) (k := k) (by omega) (by omega) (by omega) (by omega)
  refine s_Re_get_28 hO hg (ct_Re_cell (by omega) (by omega) (by omega) (by omega)) (fun z M' hq => ?_)
  obtain ⟨rfl, rfl⟩ := hq
  exact s_Re_get_37 hc (k1 := ⟨_, _, rfl, rfl, rfl, Or.inr ⟨rfl, by omega, by omega, by omega, h⟩⟩)
/-- what get gives out of a table -/
theorem rGet {dd k z : Int} (hT : rTb l1 l2 X n Y m (M c) D) (hd : dd < D) (hpar : (k + dd) % 2 = 0) (h0 : 0 ≤ dd) (h : (z = 99 ∧ (dd < 0 ∨ k < -dd ∨ dd < k ∨ (k + dd) % 2 ≠ 0)) ∨ (z = M c (cellF dd k) ∧ 0 ≤ dd ∧ -dd ≤ k ∧ k ≤ dd ∧ (k + dd) % 2 = 0)) : rGd l1 l2 X n Y m dd k z := by
  rcases h with ⟨rfl, q⟩ | ⟨rfl, q1, q2, q3, q4⟩
  · exact rGd_99 (by omega)
  · exact hT dd k q1 hd q2 q3 q4
theorem ct_Re_back {dd k : Int} (hO : K o = some (0, 3)) (hg : g o 0 = some c) (hc : K c = some (2, 1225)) (hn : 0 ≤ n ∧ n ≤ 24) (hm : 0 ≤ m ∧ m ≤ 24) (hT : rTb l1 l2 X n Y m (M c) D) (hd0 : 0 ≤ dd) (hdD : dd < D) (hd : dd ≤ 47) (hk1 : -dd - 1 ≤ k) (hk2 : k ≤ dd + 1) (hpar : (k + dd) % 2 = 1) (hkn : k ≤ n + m) :
    j_Ct G jm_Re_back (d + 2) 0 0 [jr_ o, ji_ dd, ji_ k, ji_ n, ji_ m] (N, K, M, g) (j_pI N K g fun z M' => M' = M ∧ rBk l1 l2 X n Y m (dd + 1) k z ∧ 0 ≤ z ∧ z ≤ 99) := by
  refine j_Ct.ofJ (ls := [jr_ o, ji_ dd, ji_ k, ji_ n, ji_ m, ju_, ju_, ju_]) (by decide) rfl rfl ?_
  refine s_Re_back_0 hO (ct_Re_get hO hg hc (by omega) (by omega)) (fun z M' hq => ?_)
  obtain ⟨rfl, hz⟩ := hq
  have g1 := rGet hT hdD (by omega) hd0 hz
  refine s_Re_back_16 hO (ct_Re_get hO hg hc (by omega) (by omega)) (fun w M' hq => ?_)
  obtain ⟨rfl, hw⟩ := hq
  have g2 := rGet hT hdD (by omega) hd0 hw
  have r1 := rGd_rng hn hm (by omega) g1
  have r2 := rGd_rng hn hm (by omega) g2
  have fin : rBk l1 l2 X n Y m (dd + 1) k (bkF z w (n - m + k) n m) := rBk_of hn hm (by omega) (by rw [show dd + 1 - 1 = dd by omega]; exact g1) (by rw [show dd + 1 - 1 = dd by omega]; exact g2) (by omega) hkn
  generalize hb : bkF z w (n - m + k) n m = b at fin
  unfold bkF at hb
  have k125 : ∀ (x7 v o2 w2 : Int), o2 = (if (if z = 99 then 99 else max (z - 1) 0) = 99 ∨ n < (if z = 99 then 99 else max (z - 1) 0) + 1 then 99 else (if z = 99 then 99 else max (z - 1) 0)) → w2 = (if (if w = 99 then 99 else max w (max (n - m + k) 0)) = 99 ∨ m < (if w = 99 then 99 else max w (max (n - m + k) 0)) - (n - m + k) + 1 then 99 else (if w = 99 then 99 else max w (max (n - m + k) 0))) →
      j_J G jm_Re_back (d + 2) 0 0 125 [jr_ o, ji_ dd, ji_ k, ji_ n, ji_ m, ji_ ((n - m) + k), ji_ o2, ji_ x7] [ji_ w2] (N, K, M', g) (j_pI N K g fun z M2 => M2 = M' ∧ rBk l1 l2 X n Y m (dd + 1) k z ∧ 0 ≤ z ∧ z ≤ 99) := by
    intro x7 v o2 w2 e1 e2
    rw [← e1, ← e2] at hb
    have ro : 0 ≤ o2 ∧ o2 ≤ 99 := by rw [e1]; (repeat' split) <;> omega
    have rw' : 0 ≤ w2 ∧ w2 ≤ 200 := by rw [e2]; (repeat' split) <;> omega
    refine s_Re_back_125 (ct_Ma_min (by omega) (by omega)) (fun r M' hq => ?_)
    obtain ⟨rfl, hr⟩ := hq
    refine s_Re_back_134 ⟨r, _, rfl, rfl, rfl, ?_, by omega, by omega⟩
    have : r = b := by omega
    rw [this]; exact fin
  have k97 : ∀ (x6 w1 o2 : Int), w1 = (if w = 99 then 99 else max w (max (n - m + k) 0)) → o2 = (if (if z = 99 then 99 else max (z - 1) 0) = 99 ∨ n < (if z = 99 then 99 else max (z - 1) 0) + 1 then 99 else (if z = 99 then 99 else max (z - 1) 0)) →
      j_J G jm_Re_back (d + 2) 0 0 97 [jr_ o, ji_ dd, ji_ k, ji_ n, ji_ m, ji_ ((n - m) + k), ji_ x6, ji_ w1] [ji_ o2] (N, K, M', g) (j_pI N K g fun z M2 => M2 = M' ∧ rBk l1 l2 X n Y m (dd + 1) k z ∧ 0 ≤ z ∧ z ≤ 99) := by
    intro x6 w1 o2 e1 e2
    have rw1 : 0 ≤ w1 ∧ w1 ≤ 200 := by rw [e1]; split <;> omega
    refine s_Re_back_97 (k1 := fun h => ?_) (k2 := fun h => ?_)
    · exact k125 _ 0 _ _ e2 (by rw [← e1, if_pos (Or.inl h)])
    · refine s_Re_back_106 (k1 := fun h2 => ?_) (k2 := fun h2 => ?_)
      · exact k125 _ 0 _ _ e2 (by rw [← e1, if_neg (by omega)])
      · exact k125 _ 0 _ _ e2 (by rw [← e1, if_pos (by omega)])
  have k73 : ∀ (x7 o1 w1 : Int), o1 = (if z = 99 then 99 else max (z - 1) 0) → w1 = (if w = 99 then 99 else max w (max (n - m + k) 0)) →
      j_J G jm_Re_back (d + 2) 0 0 73 [jr_ o, ji_ dd, ji_ k, ji_ n, ji_ m, ji_ ((n - m) + k), ji_ o1, ji_ x7] [ji_ w1] (N, K, M', g) (j_pI N K g fun z M2 => M2 = M' ∧ rBk l1 l2 X n Y m (dd + 1) k z ∧ 0 ≤ z ∧ z ≤ 99) := by
    intro x7 o1 w1 e1 e2
    have ro1 : 0 ≤ o1 ∧ o1 ≤ 99 := by rw [e1]; split <;> omega
    refine s_Re_back_73 (k1 := fun h => ?_) (k2 := fun h => ?_)
    · exact k97 _ _ _ e2 (by rw [← e1, if_pos (Or.inl h)])
    · refine s_Re_back_82 (k1 := fun h2 => ?_) (k2 := fun h2 => ?_)
      · exact k97 _ _ _ e2 (by rw [← e1, if_neg (by omega)])
      · exact k97 _ _ _ e2 (by rw [← e1, if_pos (by omega)])
  have k48 : ∀ (x6 o1 : Int), o1 = (if z = 99 then 99 else max (z - 1) 0) →
      j_J G jm_Re_back (d + 2) 0 0 48 [jr_ o, ji_ dd, ji_ k, ji_ n, ji_ m, ji_ ((n - m) + k), ji_ x6, ji_ w] [ji_ o1] (N, K, M', g) (j_pI N K g fun z M2 => M2 = M' ∧ rBk l1 l2 X n Y m (dd + 1) k z ∧ 0 ≤ z ∧ z ≤ 99) := by
    intro x6 o1 e1
    refine s_Re_back_48 (k1 := fun h => ?_) (k2 := fun h => ?_)
    · refine s_Re_back_62 (ct_Ma_max (by omega) (by omega)) (fun a M' hq => ?_)
      obtain ⟨rfl, ha⟩ := hq
      refine s_Re_back_70 (ct_Ma_max (by omega) (by omega)) (fun a2 M' hq => ?_)
      obtain ⟨rfl, ha2⟩ := hq
      exact k73 _ _ _ e1 (by rw [if_neg h]; omega)
    · exact k73 _ _ _ e1 (by rw [if_pos h])
  refine s_Re_back_26 (k1 := fun h => ?_) (k2 := fun h => ?_)
  · refine s_Re_back_40 (ct_Ma_max (by omega) (by omega)) (fun a M' hq => ?_)
    obtain ⟨rfl, ha⟩ := hq
    exact k48 _ _ (by rw [if_neg h]; omega)
  · exact k48 _ _ (by rw [if_pos h])

theorem ct_Re_fill (hO : K o = some (0, 3)) (hg : g o 0 = some c) (hc : K c = some (2, 1225)) (hP : rPr K g M p l1 l2) (hX : 0 ≤ X) (hXn : X + n ≤ l1.length) (hY : 0 ≤ Y) (hYm : Y + m ≤ l2.length) (hn : 0 ≤ n ∧ n ≤ 24) (hm : 0 ≤ m ∧ m ≤ 24) (hcp : c < p) :
    j_Ct G jm_Re_fill (d + 3) 0 0 [jr_ o, jr_ p, ji_ X, ji_ n, ji_ Y, ji_ m] (N, K, M, g) (j_pV N K g fun M' => rTb l1 l2 X n Y m (M' c) (DD l1 l2 X n Y m 0 0 + 1) ∧ j_fr [c] M M') := by
  have hD0 := DD_abs (l1 := l1) (l2 := l2) (X := X) (n := n) (Y := Y) (m := m) (i := 0) (j := 0) hn.1 hm.1
  have hDp := DD_par (l1 := l1) (l2 := l2) (X := X) (n := n) (Y := Y) (m := m) (i := 0) (j := 0)
  generalize hD : DD l1 l2 X n Y m 0 0 = D at hD0 hDp ⊢
  refine j_Ct.ofJ (ls := [jr_ o, jr_ p, ji_ X, ji_ n, ji_ Y, ji_ m, ju_, ju_, ju_, ju_, ju_]) (by decide) rfl rfl ?_
  refine s_Re_fill_0 ?_
  suffices lp : ∀ (s : Nat) (dd : Int) (b : Bool) (M1 : Nat → Int → Int) (u8 u9 u10 : j_V), dd + s = D + 1 → 0 ≤ dd → (b = true ↔ dd = D + 1) → rTb l1 l2 X n Y m (M1 c) dd → j_fr [c] M M1 → u8 = ju_ ∨ (∃ z, u8 = ji_ z) → u9 = ju_ ∨ (∃ z, u9 = ji_ z) →
      j_J G jm_Re_fill (d + 3) 0 0 6 [jr_ o, jr_ p, ji_ X, ji_ n, ji_ Y, ji_ m, ji_ dd, ji_ (j_bz b), u8, u9, u10] [] (N, K, M1, g) (j_pV N K g fun M' => rTb l1 l2 X n Y m (M' c) (D + 1) ∧ j_fr [c] M M') from
    lp (D + 1).toNat 0 false M _ _ _ (by omega) (by omega) (by simp; omega) (fun dd k a b => by omega) j_fr.rfl (Or.inl rfl) (Or.inl rfl)
  intro s
  induction s with
  | zero =>
    intro dd b M1 u8 u9 u10 hs h0 hb hT hfr hu8 hu9
    have hb1 : b = true := hb.mpr (by omega)
    subst hb1
    refine s_Re_fill_6 (r1 := j_bz_rng _) (k1 := fun h => ⟨M1, rfl, rfl, ?_, hfr⟩) (k2 := fun h => by cases h)
    rw [show D + 1 = dd by omega]; exact hT
  | succ s ih =>
    intro dd b M1 u8 u9 u10 hs h0 hb hT hfr hu8 hu9
    have hb1 : b = false := by
      cases b
      · rfl
      · have := hb.mp rfl; omega
    subst hb1
    refine s_Re_fill_6 (r1 := j_bz_rng _) (k1 := fun h => absurd rfl h) (k2 := fun h => ?_)
    refine s_Re_fill_11 ?_
    suffices lk : ∀ (s : Nat) (k : Int) (b : Bool) (M2 : Nat → Int → Int) (u9 u10 : j_V), k + 2 * s = dd + 2 → -dd ≤ k → (b = true ↔ (dd = D ∧ m - n < k)) → rTb l1 l2 X n Y m (M2 c) dd → (∀ k', -dd ≤ k' → k' < k → (k' + dd) % 2 = 0 → rGd l1 l2 X n Y m dd k' (M2 c (cellF dd k'))) → j_fr [c] M M2 → u9 = ju_ ∨ (∃ z, u9 = ji_ z) →
        j_J G jm_Re_fill (d + 3) 0 0 16 [jr_ o, jr_ p, ji_ X, ji_ n, ji_ Y, ji_ m, ji_ dd, ji_ (j_bz b), ji_ k, u9, u10] [] (N, K, M2, g) (j_pV N K g fun M' => rTb l1 l2 X n Y m (M' c) (D + 1) ∧ j_fr [c] M M') from
      lk (dd + 1).toNat (-dd) false M1 u9 u10 (by omega) (by omega) (by simp; omega) hT (fun k' a b => by omega) hfr hu9
    intro s'
    induction s' with
    | zero =>
      intro k b M2 u9 u10 hk hk0 hb2 hT2 hT3 hfr2 hu9
      refine s_Re_fill_16 (k1 := fun h => ?_) (k2 := fun h => by omega)
      refine ih (dd + 1) b M2 _ _ _ (by omega) (by omega) ?_ ?_ hfr2 (Or.inr ⟨_, rfl⟩) hu9
      · rw [hb2]; omega
      · intro d' k' a1 a2 a3 a4 a5
        by_cases hdd : d' = dd
        · subst hdd; exact hT3 k' a3 (by omega) a5
        · exact hT2 d' k' a1 (by omega) a3 a4 a5
    | succ s' ih' =>
      intro k b M2 u9 u10 hk hk0 hb2 hT2 hT3 hfr2 hu9
      have hP2 : rPr K g M2 p l1 l2 := hP.kept (hfr2 _ (by simp; omega)) (hfr2 _ (by simp; omega)) (hfr2 _ (by simp; omega)) (hfr2 _ (by simp; omega))
      refine s_Re_fill_16 (k1 := fun h => by omega) (k2 := fun h => ?_)
      have hin := cellF_in (d := dd) (k := k) h0 (by omega) (by omega) (by omega)
      -- behind the sliding: the store, and on
      have st : ∀ (r : Int), rGd l1 l2 X n Y m dd k r → j_J G jm_Re_fill (d + 3) 0 0 105 [jr_ o, jr_ p, ji_ X, ji_ n, ji_ Y, ji_ m, ji_ dd, ji_ (j_bz b), ji_ k, ji_ ((n - m) + k), ji_ r] [] (N, K, M2, g) (j_pV N K g fun M' => rTb l1 l2 X n Y m (M' c) (D + 1) ∧ j_fr [c] M M') := by
        intro r hr
        have rr := rGd_rng hn hm (by omega) hr
        refine s_Re_fill_105 hO hg (ct_Re_cell h0 (by omega) (by omega) (by omega)) (fun z M' hq => ?_)
        obtain ⟨rfl, rfl⟩ := hq
        have eb : r.bmod 256 = r := bmod_id (by omega)
        have next : ∀ c1 : Bool, (c1 = true ↔ (n - m + k = 0 ∧ r = 0)) → j_J G jm_Re_fill (d + 3) 0 0 16 [jr_ o, jr_ p, ji_ X, ji_ n, ji_ Y, ji_ m, ji_ dd, ji_ (j_bz (b || c1)), ji_ (k + 2), ji_ ((n - m) + k), ji_ r] [] (N, K, j_up M' c (cellF dd k) (r.bmod 256), g) (j_pV N K g fun M' => rTb l1 l2 X n Y m (M' c) (D + 1) ∧ j_fr [c] M M') := by
          intro c1 hc1
          rw [eb]
          refine ih' (k + 2) (b || c1) _ _ _ (by omega) (by omega) ?_ ?_ ?_ (hfr2.trans (j_fr.up (by simp))) (Or.inr ⟨_, rfl⟩)
          · rw [Bool.or_eq_true, hb2, hc1]
            constructor
            · rintro (q | ⟨q1, q2⟩)
              · omega
              · have h9 := (hr.2.2 (by omega) (by omega)).1
                rcases h9 with h9 | ⟨-, h9⟩
                · omega
                · rw [q2, show (0 : Int) - (n - m + k) = 0 by omega, hD] at h9
                  omega
            · rintro ⟨q1, q2⟩
              by_cases hkk : k = m - n
              · right
                have h9 := (hr.2.2 (by omega) (by omega)).2 0 ⟨by omega, by omega, by omega, by omega⟩ (by rw [show (0 : Int) - (n - m + k) = 0 by omega, hD]; omega)
                omega
              · left; omega
          · intro d' k' a1 a2 a3 a4 a5
            rw [j_up_ne (Or.inr (fun e => by have := cellF_inj a1 a3 a4 a5 h0 hk0 (by omega) (by omega) e; omega))]
            exact hT2 d' k' a1 a2 a3 a4 a5
          · intro k' a1 a2 a3
            by_cases hkk : k' = k
            · rw [hkk, j_up_eq]; exact hr
            · rw [j_up_ne (Or.inr (fun e => by have := cellF_inj h0 a1 (by omega) a3 h0 hk0 (by omega) (by omega) e; omega))]
              exact hT3 k' a1 (by omega) a3
        refine s_Re_fill_116 hc (r2 := by rw [eb]; omega) (k1 := fun hne => ?_) (k2 := fun he => ?_)
        · exact s_Re_fill_137 (c0 := b) (c1 := false) rfl rfl (next false ⟨fun q => (by cases q), fun q => absurd q.1 hne⟩)
        · refine s_Re_fill_127 (k1 := fun hr0 => ?_) (k2 := fun hr0 => ?_)
          · exact s_Re_fill_137 (c0 := b) (c1 := false) rfl rfl (next false ⟨fun q => (by cases q), fun q => absurd q.2 hr0⟩)
          · exact s_Re_fill_137 (c0 := b) (c1 := true) rfl rfl (next true ⟨fun _ => ⟨he, hr0⟩, fun _ => rfl⟩)
      -- the sliding
      have sld : ∀ (bk : Int), 0 ≤ bk → bk ≤ 99 → (∀ r : Int, (bk = 99 → r = 99) → (bk ≠ 99 → 0 ≤ r ∧ r ≤ bk) → (bk ≠ 99 → r < bk → 0 ≤ r - (n - m + k)) → (bk ≠ 99 → ∀ t : Int, r ≤ t → t < bk → lg l1 (X + t) = lg l2 (Y + (t - (n - m + k)))) → (bk ≠ 99 → r ≤ 0 ∨ r - (n - m + k) ≤ 0 ∨ lg l1 (X + (r - 1)) ≠ lg l2 (Y + (r - (n - m + k) - 1))) → rGd l1 l2 X n Y m dd k r) → (bk ≠ 99 → bk ≤ 0 ∨ bk - (n - m + k) ≤ 0 ∨ (bk ≤ n ∧ bk - (n - m + k) ≤ m)) →
          j_J G jm_Re_fill (d + 3) 0 0 56 [jr_ o, jr_ p, ji_ X, ji_ n, ji_ Y, ji_ m, ji_ dd, ji_ (j_bz b), ji_ k, ji_ ((n - m) + k), ji_ bk] [] (N, K, M2, g) (j_pV N K g fun M' => rTb l1 l2 X n Y m (M' c) (D + 1) ∧ j_fr [c] M M') := by
        intro bk hb0 hb99 hfin hval
        suffices ls : ∀ (q : Nat) (i : Int), i ≤ q → (bk = 99 → i = 99) → (bk ≠ 99 → 0 ≤ i ∧ i ≤ bk) → (bk ≠ 99 → i < bk → 0 ≤ i - (n - m + k)) → (bk ≠ 99 → ∀ t : Int, i ≤ t → t < bk → lg l1 (X + t) = lg l2 (Y + (t - (n - m + k)))) →
            j_J G jm_Re_fill (d + 3) 0 0 56 [jr_ o, jr_ p, ji_ X, ji_ n, ji_ Y, ji_ m, ji_ dd, ji_ (j_bz b), ji_ k, ji_ ((n - m) + k), ji_ i] [] (N, K, M2, g) (j_pV N K g fun M' => rTb l1 l2 X n Y m (M' c) (D + 1) ∧ j_fr [c] M M') from
          ls 99 bk (by omega) (fun h => h) (fun h => ⟨hb0, by omega⟩) (fun _ h => by omega) (fun _ t a b => by omega)
        intro q
        induction q with
        | zero =>
          intro i hi e1 e2 e3 e4
          have hbk : bk ≠ 99 := fun q => by have := e1 q; omega
          have hi0 : i = 0 := by have := e2 hbk; omega
          refine s_Re_fill_56 (k1 := fun h => by omega) (k2 := fun h => ?_)
          exact s_Re_fill_63 (k1 := fun h2 => st i (hfin i e1 e2 e3 e4 (fun _ => Or.inl (by omega)))) (k2 := fun h2 => by omega)
        | succ q ihq =>
          intro i hi e1 e2 e3 e4
          have hrange : 0 ≤ i ∧ i ≤ 99 := by
            by_cases hbk : bk = 99
            · have := e1 hbk; omega
            · have := e2 hbk; omega
          refine s_Re_fill_56 (k1 := fun h => st i (hfin i e1 e2 e3 e4 (fun hne => ?_))) (k2 := fun h => ?_)
          · have := e2 hne; omega
          · have hbk : bk ≠ 99 := fun q => h (e1 q)
            have e2' := e2 hbk
            refine s_Re_fill_63 (k1 := fun h2 => st i (hfin i e1 e2 e3 e4 (fun _ => Or.inl (by omega)))) (k2 := fun h2 => ?_)
            refine s_Re_fill_68 (k1 := fun h3 => st i (hfin i e1 e2 e3 e4 (fun _ => Or.inr (Or.inl (by omega))))) (k2 := fun h3 => ?_)
            have hv := hval hbk
            refine s_Re_fill_76 hP2.1 (ct_Pr_equal hP2 (by omega) (by omega) (by omega) (by omega)) (fun z M' hq => ?_)
            obtain ⟨hM, hz⟩ := hq
            subst hM
            refine s_Re_fill_96 (r1 := by omega) (k1 := fun h4 => ?_) (k2 := fun h4 => ?_)
            · refine st i (hfin i e1 e2 e3 e4 (fun _ => Or.inr (Or.inr ?_)))
              rw [show X + (i - 1) = X + i - 1 by omega, show Y + (i - (n - m + k) - 1) = Y + i - (n - m + k) - 1 by omega]
              omega
            · refine ihq (i + (-1)) (by omega) (fun q => absurd q hbk) (fun _ => by omega) (fun _ _ => by omega) (fun _ t a b => ?_)
              by_cases ht : t = i - 1
              · rw [ht, show X + (i - 1) = X + i - 1 by omega, show Y + (i - 1 - (n - m + k)) = Y + i - (n - m + k) - 1 by omega]
                omega
              · exact e4 hbk t (by omega) b
      refine s_Re_fill_23 (k1 := fun hd1 => ?_) (k2 := fun hd0 => ?_)
      · refine s_Re_fill_41 hO (ct_Re_back hO hg hc hn hm hT2 (D := dd) (by omega) (by omega) (by omega) (by omega) (by omega) (by omega) (by omega)) (fun bk M' hq => ?_)
        obtain ⟨hM, hB, hb0, hb9⟩ := hq
        subst hM
        rw [show dd - 1 + 1 = dd by omega] at hB
        refine s_Re_fill_54 ?_
        refine sld bk hb0 hb9 (fun r a1 a2 a3 a4 a5 => rGd_of hn hm (by omega) hB a1 a2 a3 a4 a5) (fun hne => ?_)
        obtain ⟨q1, q2, q3⟩ := hB
        by_cases c1 : k < -n
        · rcases q1 c1 with z | z <;> omega
        · by_cases c2 : m < k
          · rcases q2 c2 with z | z <;> omega
          · rcases (q3 (by omega) (by omega)).1 with z | ⟨⟨v1, v2, v3, v4⟩, -⟩
            · omega
            · right; right; omega
      · have hkk : k = 0 := by omega
        subst hkk
        subst hd0
        refine sld n hn.1 (by omega) (fun r a1 a2 a3 a4 a5 => ?_) (fun _ => by omega)
        have hne : n ≠ 99 := by omega
        have b3 := a3 hne; have b4 := a4 hne; have b5 := a5 hne
        rw [show n - m + 0 = n - m by omega] at b3 b5
        refine rGd_0 hn hm (a2 hne) b3 (fun t x y => ?_) b5
        have := b4 t x y
        rw [show n - m + 0 = n - m by omega] at this
        exact this
end

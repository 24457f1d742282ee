/-! ===== contracts: the walk of Reaching ===== -/
theorem j_up_s {α : Type} {M : Nat → Int → α} {a : Nat} {i : Int} {z : α} : j_up M a i z a = fun t => if t = i then z else M a t := by
  funext t
  by_cases h : t = i
  · rw [h, j_up_eq, if_pos rfl]
  · rw [j_up_ne (Or.inr h), if_neg h]
/-- the walk over a range, on what was matched before -/
def gu (l1 l2 : List Int) (a1 b1 : Int) (f : Nat) (i j : Int) (old : Int → Int) : Int → Int := fun t => if gw l1 l2 a1 b1 f i j t = -1 then old t else gw l1 l2 a1 b1 f i j t
section
variable {l1 l2 : List Int} {a1 b1 : Int}
theorem gw_out {f : Nat} {i j t : Int} (hj : 0 ≤ j) (h : t < i ∨ a1 ≤ t) : gw l1 l2 a1 b1 f i j t = -1 := by
  by_cases q : gw l1 l2 a1 b1 f i j t = -1
  · exact q
  · have := gw_in f i j t (Or.inr hj) q
    omega
theorem gu_end {f : Nat} {i j : Int} {old : Int → Int} (h : a1 ≤ i ∨ b1 ≤ j) : gu l1 l2 a1 b1 f i j old = old := by
  funext t
  unfold gu
  have : gw l1 l2 a1 b1 f i j t = -1 := by
    cases f with
    | zero => rfl
    | succ f => unfold gw; rw [if_neg (by omega)]
  rw [if_pos this]
theorem gu_eq {f : Nat} {i j : Int} {old : Int → Int} (h1 : i < a1) (h2 : j < b1) (hj : 0 ≤ j) (he : lg l1 i = lg l2 j) : gu l1 l2 a1 b1 (f + 1) i j old = gu l1 l2 a1 b1 f (i + 1) (j + 1) (fun t => if t = i then j else old t) := by
  have e : gw l1 l2 a1 b1 (f + 1) i j = fun t => if t = i then j else gw l1 l2 a1 b1 f (i + 1) (j + 1) t := by rw [gw, if_pos ⟨h1, h2⟩, if_pos he]
  funext t
  unfold gu
  rw [e]
  by_cases ht : t = i
  · subst ht
    have e' := gw_out (l1 := l1) (l2 := l2) (a1 := a1) (b1 := b1) (f := f) (i := t + 1) (j := j + 1) (t := t) (by omega) (Or.inl (by omega))
    simp only [if_true, e']
    rw [if_neg (by omega)]
  · simp only [if_neg ht]
theorem gu_l {f : Nat} {i j : Int} {old : Int → Int} (h1 : i < a1) (h2 : j < b1) (he : lg l1 i ≠ lg l2 j) (h : LA l1 l2 a1 b1 i (j + 1) ≤ LA l1 l2 a1 b1 (i + 1) j) : gu l1 l2 a1 b1 (f + 1) i j old = gu l1 l2 a1 b1 f (i + 1) j old := by
  have e : gw l1 l2 a1 b1 (f + 1) i j = gw l1 l2 a1 b1 f (i + 1) j := by rw [gw, if_pos ⟨h1, h2⟩, if_neg he, if_pos h]
  unfold gu
  rw [e]
theorem gu_r {f : Nat} {i j : Int} {old : Int → Int} (h1 : i < a1) (h2 : j < b1) (he : lg l1 i ≠ lg l2 j) (h : ¬ LA l1 l2 a1 b1 i (j + 1) ≤ LA l1 l2 a1 b1 (i + 1) j) : gu l1 l2 a1 b1 (f + 1) i j old = gu l1 l2 a1 b1 f i (j + 1) old := by
  have e : gw l1 l2 a1 b1 (f + 1) i j = gw l1 l2 a1 b1 f i (j + 1) := by rw [gw, if_pos ⟨h1, h2⟩, if_neg he, if_neg h]
  unfold gu
  rw [e]
end
/-- the way of Reaching on a range: what is matched -/
def gR (l1 l2 : List Int) (a0 a1 b0 b1 : Int) (old : Int → Int) : Int → Int := gu l1 l2 a1 b1 48 a0 b0 old
section
variable {G : j_G} {d N : Nat} {K : Nat → Option (Nat × Nat)} {M : Nat → Int → Int} {g : Nat → Int → Option Nat} {o c p : Nat} {l1 l2 : List Int} {X n Y m D : Int}
theorem ct_Re_reaches {dd i j : Int} (hO : K o = some (0, 3)) (hg : g o 0 = some c) (hc : K c = some (2, 1225)) (hn : 0 ≤ n ∧ n ≤ 24) (hm : 0 ≤ m ∧ m ≤ 24) (hT : rTb l1 l2 X n Y m (M c) D) (hd0 : 0 ≤ dd) (hdD : dd < D) (hd : dd ≤ 48) (hi : 0 ≤ i ∧ i ≤ n) (hj : 0 ≤ j ∧ j ≤ m) :
    j_Ct G jm_Re_reaches (d + 2) 0 0 [jr_ o, ji_ dd, ji_ i, ji_ j, ji_ n, ji_ m] (N, K, M, g) (j_pI N K g fun z M' => M' = M ∧ (z = 1 ∧ DD l1 l2 X n Y m i j ≤ dd ∨ z = 0 ∧ DD l1 l2 X n Y m i j ≠ dd)) := by
  refine j_Ct.ofJ (ls := [jr_ o, ji_ dd, ji_ i, ji_ j, ji_ n, ji_ m]) (by decide) rfl rfl ?_
  refine s_Re_reaches_0 hO (ct_Re_get hO hg hc (by omega) (by omega)) (fun z M' hq => ?_)
  obtain ⟨rfl, hz⟩ := hq
  have hpar := DD_par (l1 := l1) (l2 := l2) (X := X) (n := n) (Y := Y) (m := m) (i := i) (j := j)
  by_cases hp : (i - j - n + m + dd) % 2 = 0
  · have hr := rGet hT hdD hp hd0 hz
    have rr := rGd_rng hn hm (by omega) hr
    have h3 := hr.2.2 (by omega) (by omega)
    refine s_Re_reaches_14 (k1 := fun h => ⟨_, M', rfl, rfl, rfl, Or.inr ⟨rfl, fun q => ?_⟩⟩) (k2 := fun h => ⟨_, M', rfl, rfl, rfl, Or.inl ⟨rfl, ?_⟩⟩)
    · have := h3.2 i ⟨by omega, by omega, by omega, by omega⟩ (by rw [show i - (n - m + (i - j - n + m)) = j by omega]; exact q)
      omega
    · rcases h3.1 with q | ⟨⟨v1, v2, v3, v4⟩, q⟩
      · omega
      · have := DD_diag (l1 := l1) (l2 := l2) (X := X) (n := n) (Y := Y) (m := m) (i := z) (j := z - (n - m + (i - j - n + m))) (i' := i) (j' := j) h (by omega)
        omega
  · have hz99 : z = 99 := by omega
    subst hz99
    refine s_Re_reaches_14 (k1 := fun h => ⟨_, M', rfl, rfl, rfl, Or.inr ⟨rfl, fun q => by omega⟩⟩) (k2 := fun h => by omega)
theorem ct_Re_run {eX eY : Int} (hO : K o = some (0, 3)) (hg : g o 0 = some c) (hc : K c = some (2, 1225)) (hP : rPr K g M p l1 l2) (hX : 0 ≤ X) (hX1 : X ≤ eX) (hX2 : eX ≤ l1.length) (hY : 0 ≤ Y) (hY1 : Y ≤ eY) (hY2 : eY ≤ l2.length) (hcp : c < p) :
    j_Ct G jm_Re_run (d + 4) 0 0 [jr_ o, jr_ p, ji_ X, ji_ eX, ji_ Y, ji_ eY] (N, K, M, g) (j_pV N K g fun M' => M' (p + 5) = gR l1 l2 X eX Y eY (M (p + 5)) ∧ j_fr [c, p + 5] M M') := by
  have l1l := hP.2.2.2.2.2.1.2.2.2.2.1
  have l2l := hP.2.2.2.2.2.2.2.2.2.2.1
  obtain ⟨n, hn⟩ : ∃ n, n = eX - X := ⟨_, rfl⟩
  obtain ⟨m, hm⟩ : ∃ m, m = eY - Y := ⟨_, rfl⟩
  have hn' : 0 ≤ n ∧ n ≤ 24 := by omega
  have hm' : 0 ≤ m ∧ m ≤ 24 := by omega
  refine j_Ct.ofJ (ls := [jr_ o, jr_ p, ji_ X, ji_ eX, ji_ Y, ji_ eY, ju_, ju_, ju_, ju_, ju_, ju_]) (by decide) rfl rfl ?_
  refine s_Re_run_0 hO (by rw [← hn, ← hm]; exact ct_Re_fill hO hg hc hP hX (by omega) hY (by omega) hn' hm' hcp) (fun M1 hq => ?_)
  rw [← hn, ← hm]
  obtain ⟨hT, hf1⟩ := hq
  have hP1 : rPr K g M1 p l1 l2 := hP.kept (hf1 _ (by simp; omega)) (hf1 _ (by simp; omega)) (hf1 _ (by simp; omega)) (hf1 _ (by simp; omega))
  have hM5 : M1 (p + 5) = M (p + 5) := hf1 _ (by simp; omega)
  have hD0 := DD_abs (l1 := l1) (l2 := l2) (X := X) (n := n) (Y := Y) (m := m) (i := 0) (j := 0) hn'.1 hm'.1
  refine s_Re_run_24 ?_
  have key : ∀ (f : Nat) (i j : Int) (M2 : Nat → Int → Int) (u11 : j_V), (n - i) + (m - j) ≤ f → 0 ≤ i → i ≤ n → 0 ≤ j → j ≤ m → DD l1 l2 X n Y m i j ≤ DD l1 l2 X n Y m 0 0 → M2 c = M1 c → j_fr [p + 5] M1 M2 →
      j_J G jm_Re_run (d + 4) 0 0 54 [jr_ o, jr_ p, ji_ X, ji_ eX, ji_ Y, ji_ eY, ji_ n, ji_ m, ji_ (DD l1 l2 X n Y m i j), ji_ i, ji_ j, u11] [] (N, K, M2, g) (j_pV N K g fun M' => M' (p + 5) = gu l1 l2 eX eY f (X + i) (Y + j) (M2 (p + 5)) ∧ j_fr [c, p + 5] M M') := by
    intro f
    induction f with
    | zero =>
      intro i j M2 u11 hf hi0 hi hj0 hj hDle hM2 hfr
      have fr : j_fr [c, p + 5] M M2 := (hf1.mono (by simp)).trans (hfr.mono (by simp))
      refine s_Re_run_54 (k1 := fun h => ⟨M2, rfl, rfl, ?_, fr⟩) (k2 := fun h => by omega)
      rw [gu_end (by omega)]
    | succ f ih =>
      intro i j M2 u11 hf hi0 hi hj0 hj hDle hM2 hfr
      have fr : j_fr [c, p + 5] M M2 := (hf1.mono (by simp)).trans (hfr.mono (by simp))
      have hP2 : rPr K g M2 p l1 l2 := hP1.kept (hfr _ (by simp)) (hfr _ (by simp)) (hfr _ (by simp)) (hfr _ (by simp))
      have hDa := DD_abs (l1 := l1) (l2 := l2) (X := X) (n := n) (Y := Y) (m := m) (i := i) (j := j) hi hj
      refine s_Re_run_54 (k1 := fun h => ⟨M2, rfl, rfl, by rw [gu_end (by omega)], fr⟩) (k2 := fun h => ?_)
      refine s_Re_run_61 (k1 := fun h => ⟨M2, rfl, rfl, by rw [gu_end (by omega)], fr⟩) (k2 := fun h2 => ?_)
      refine s_Re_run_68 hP2.1 (ct_Pr_equal hP2 (by omega) (by omega) (by omega) (by omega)) (fun z M' hq => ?_)
      obtain ⟨hM, hz⟩ := hq
      subst hM
      refine s_Re_run_81 (r1 := by omega) (k1 := fun h3 => ?_) (k2 := fun h3 => ?_)
      · have he : lg l1 (X + i) ≠ lg l2 (Y + j) := by omega
        have hne := DD_ne (l1 := l1) (l2 := l2) h h2 he
        have hu := DD_u (l1 := l1) (l2 := l2) (X := X) (n := n) (Y := Y) (m := m) (i := i) (j := j)
        have hv := DD_v (l1 := l1) (l2 := l2) (X := X) (n := n) (Y := Y) (m := m) (i := i) (j := j)
        have hua := DD_abs (l1 := l1) (l2 := l2) (X := X) (n := n) (Y := Y) (m := m) (i := i + 1) (j := j) (by omega) hj
        have hva := DD_abs (l1 := l1) (l2 := l2) (X := X) (n := n) (Y := Y) (m := m) (i := i) (j := j + 1) hi (by omega)
        have e1 : DD l1 l2 X n Y m i j + (-1) = DD l1 l2 X n Y m i j - 1 := by omega
        refine s_Re_run_108 hO (by rw [e1]; exact ct_Re_reaches hO hg hc hn' hm' (by rw [hM2]; exact hT) (by omega) (by omega) (by omega) (by omega) (by omega)) (fun w M'' hq => ?_)
        obtain ⟨hM, hw⟩ := hq
        subst hM
        rw [e1]
        have hLA : (DD l1 l2 X n Y m (i + 1) j = DD l1 l2 X n Y m i j - 1) ↔ LA l1 l2 eX eY (X + i) (Y + j + 1) ≤ LA l1 l2 eX eY (X + i + 1) (Y + j) := by
          have q1 : DD l1 l2 X n Y m (i + 1) j = (n - (i + 1)) + (m - j) - 2 * LA l1 l2 eX eY (X + i + 1) (Y + j) := by
            unfold DD
            rw [show X + n = eX by omega, show Y + m = eY by omega, show X + (i + 1) = X + i + 1 by omega]
          have q2 : DD l1 l2 X n Y m i (j + 1) = (n - i) + (m - (j + 1)) - 2 * LA l1 l2 eX eY (X + i) (Y + j + 1) := by
            unfold DD
            rw [show X + n = eX by omega, show Y + m = eY by omega, show Y + (j + 1) = Y + j + 1 by omega]
          omega
        have st : ∀ (k : Int) (u : j_V), (k = 0 ∨ k = 1) → (k = 0 ↔ w = 0) → j_J G jm_Re_run (d + 4) 0 0 141 [jr_ o, jr_ p, ji_ X, ji_ eX, ji_ Y, ji_ eY, ji_ n, ji_ m, ji_ (DD l1 l2 X n Y m i j - 1), ji_ i, ji_ j, ji_ w] [ji_ k, ji_ i] (N, K, M'', g) (j_pV N K g fun M' => M' (p + 5) = gu l1 l2 eX eY (f + 1) (X + i) (Y + j) (M'' (p + 5)) ∧ j_fr [c, p + 5] M M') := by
          intro k u hk hkw
          refine s_Re_run_141 (r1 := by omega) (k1 := fun h4 => ?_) (k2 := fun h4 => ?_)
          · rw [gu_r (by omega) (by omega) he (by omega), show i + k = i by omega, show DD l1 l2 X n Y m i j - 1 = DD l1 l2 X n Y m i (j + 1) by omega, show Y + j + 1 = Y + (j + 1) by omega]
            exact ih i (j + 1) M'' _ (by omega) (by omega) (by omega) (by omega) (by omega) (by omega) hM2 hfr
          · rw [gu_l (by omega) (by omega) he (by omega), show i + k = i + 1 by omega, show j + 0 = j by omega, show DD l1 l2 X n Y m i j - 1 = DD l1 l2 X n Y m (i + 1) j by omega, show X + i + 1 = X + (i + 1) by omega]
            exact ih (i + 1) j M'' _ (by omega) (by omega) (by omega) (by omega) (by omega) (by omega) hM2 hfr
        refine s_Re_run_127 (r1 := by omega) (k1 := fun h4 => st 0 ju_ (by omega) (by omega)) (k2 := fun h4 => st 1 ju_ (by omega) (by omega))
      · have he : lg l1 (X + i) = lg l2 (Y + j) := by omega
        have eb : (Y + j).bmod 256 = Y + j := bmod_id (by omega)
        refine s_Re_run_84 hP2.1 hP2.2.2.2.1 hP2.2.2.2.2.1 (r4 := by rw [eb]; omega) (k1 := ?_)
        rw [eb, DD_eq h h2 he, gu_eq (by omega) (by omega) (by omega) he, show X + i + 1 = X + (i + 1) by omega, show Y + j + 1 = Y + (j + 1) by omega]
        have hde := DD_eq (l1 := l1) (l2 := l2) h h2 he
        have := ih (i + 1) (j + 1) (j_up M' (p + 5) (X + i) (Y + j)) u11 (by omega) (by omega) (by omega) (by omega) (by omega) (by omega) (by rw [j_up_a (by omega)]; exact hM2) (hfr.trans (j_fr.up (by simp)))
        rw [j_up_s] at this
        exact this
  suffices lp : ∀ (s : Nat) (dd : Int), dd + s = DD l1 l2 X n Y m 0 0 → 0 ≤ dd →
      j_J G jm_Re_run (d + 4) 0 0 27 [jr_ o, jr_ p, ji_ X, ji_ eX, ji_ Y, ji_ eY, ji_ n, ji_ m, ji_ dd, ju_, ju_, ju_] [] (N, K, M1, g) (j_pV N K g fun M' => M' (p + 5) = gR l1 l2 X eX Y eY (M (p + 5)) ∧ j_fr [c, p + 5] M M') from
    lp (DD l1 l2 X n Y m 0 0).toNat 0 (by omega) (by omega)
  intro s
  induction s with
  | zero =>
    intro dd hs h0
    refine s_Re_run_27 hO (ct_Re_reaches hO hg hc hn' hm' hT (by omega) (by omega) (by omega) (by omega) (by omega)) (fun w M'' hq => ?_)
    obtain ⟨hM, hw⟩ := hq
    subst hM
    refine s_Re_run_39 (r1 := by omega) (k1 := fun h => ?_) (k2 := fun h => by omega)
    have := key 48 0 0 M'' ju_ (by omega) (by omega) (by omega) (by omega) (by omega) (by omega) rfl j_fr.rfl
    rw [show dd = DD l1 l2 X n Y m 0 0 by omega]
    rw [hM5, show X + 0 = X by omega, show Y + 0 = Y by omega] at this
    exact this
  | succ s ih =>
    intro dd hs h0
    refine s_Re_run_27 hO (ct_Re_reaches hO hg hc hn' hm' hT (by omega) (by omega) (by omega) (by omega) (by omega)) (fun w M'' hq => ?_)
    obtain ⟨hM, hw⟩ := hq
    subst hM
    refine s_Re_run_39 (r1 := by omega) (k1 := fun h => by omega) (k2 := fun h => ih (dd + 1) (by omega) (by omega))
end

/-! ===== the model: pairs, ranks, ranges that wait ===== -/
/-- ranges that wait, the last one first -/
def mSk (M : Nat → Int → Int) (m : Nat) : List rg → Prop
  | [] => True
  | r :: R => M (m + 7) R.length = r.1 ∧ M (m + 8) R.length = r.2.1 ∧ M (m + 9) R.length = r.2.2.1 ∧ M (m + 10) R.length = r.2.2.2 ∧ mSk M m R
theorem mSk.kept {M M' : Nat → Int → Int} {m : Nat} (R : List rg) (h : mSk M m R) (h' : ∀ a, (a = m + 7 ∨ a = m + 8 ∨ a = m + 9 ∨ a = m + 10) → ∀ k : Int, 0 ≤ k → k < R.length → M' a k = M a k) : mSk M' m R := by
  induction R with
  | nil => trivial
  | cons r R ih =>
    obtain ⟨h1, h2, h3, h4, h5⟩ := h
    have hl : ((r :: R).length : Int) = R.length + 1 := by simp
    refine ⟨?_, ?_, ?_, ?_, ih h5 (fun a ha k k0 k1 => h' a ha k k0 (by omega))⟩
    · rw [h' _ (by simp) _ (by omega) (by omega)]; exact h1
    · rw [h' _ (by simp) _ (by omega) (by omega)]; exact h2
    · rw [h' _ (by simp) _ (by omega) (by omega)]; exact h3
    · rw [h' _ (by simp) _ (by omega) (by omega)]; exact h4
section
variable {G : j_G} {d N : Nat} {K : Nat → Option (Nat × Nat)} {M : Nat → Int → Int} {g : Nat → Int → Option Nat} {m : Nat} {l1 l2 : List Int}
theorem ct_Mo_await {x1 x2 x3 x4 : Int} {R : List rg} (h : rMo K g m) (hw : M m 8 = R.length) (hl : (R.length : Int) < 60) (hS : mSk M m R) :
    j_Ct G jm_Mo_await d 0 0 [jr_ m, ji_ x1, ji_ x2, ji_ x3, ji_ x4] (N, K, M, g) (j_pV N K g fun M' => M' m 8 = R.length + 1 ∧ mSk M' m ((x1, x2, x3, x4) :: R) ∧ j_fm m [8] [m + 7, m + 8, m + 9, m + 10] M M') := by
  have e7 : ∀ (X : Nat → Int → Int) (i z : Int), j_up X (m + 7) i z m = X m := fun X i z => j_up_a (by omega)
  have e8 : ∀ (X : Nat → Int → Int) (i z : Int), j_up X (m + 8) i z m = X m := fun X i z => j_up_a (by omega)
  have e9 : ∀ (X : Nat → Int → Int) (i z : Int), j_up X (m + 9) i z m = X m := fun X i z => j_up_a (by omega)
  have e10 : ∀ (X : Nat → Int → Int) (i z : Int), j_up X (m + 10) i z m = X m := fun X i z => j_up_a (by omega)
  refine j_Ct.ofJ (ls := [jr_ m, ji_ x1, ji_ x2, ji_ x3, ji_ x4]) (by decide) rfl rfl ?_
  refine s_Mo_await_0 h.o h.g9 h.k7 (hg5 := h.g10) (hk3 := h.k8) (r6 := by rw [e7, hw]; omega) (r6' := by rw [e7, hw]; omega) (hg8 := h.g11) (hk4 := h.k9) (r9 := by simp only [e7, e8, hw]; omega) (r9' := by simp only [e7, e8, hw]; omega) (hg11 := h.g12) (hk5 := h.k10) (r12 := by simp only [e7, e8, e9, hw]; omega) (r12' := by simp only [e7, e8, e9, hw]; omega) (k1 := ?_)
  simp only [e7, e8, e9, e10, hw]
  refine ⟨_, rfl, rfl, j_up_eq _ _ _ _, ⟨?_, ?_, ?_, ?_, ?_⟩, ?_⟩
  · rw [j_up_a (by omega), j_up_a (by omega), j_up_a (by omega), j_up_a (by omega), j_up_eq]
  · rw [j_up_a (by omega), j_up_a (by omega), j_up_a (by omega), j_up_eq]
  · rw [j_up_a (by omega), j_up_a (by omega), j_up_eq]
  · rw [j_up_a (by omega), j_up_eq]
  · refine mSk.kept R hS (fun a ha k k0 k1 => ?_)
    rw [j_up_a (by omega), j_up_ne (Or.inr (by omega)), j_up_ne (Or.inr (by omega)), j_up_ne (Or.inr (by omega)), j_up_ne (Or.inr (by omega))]
  · exact ((((j_fm.arr (by omega) (by simp)).trans (j_fm.arr (by omega) (by simp))).trans (j_fm.arr (by omega) (by simp))).trans (j_fm.arr (by omega) (by simp))).trans (j_fm.fld (by simp))
theorem ct_Mo_partner {i a0 a1 b0 b1 : Int} (h : rMo K g m) (hA : mAB M m l1 l2) (ha : 0 ≤ a0) (ha1 : a0 ≤ a1) (ha2 : a1 ≤ l1.length) (hb : 0 ≤ b0) (hb1 : b0 ≤ b1) (hb2 : b1 ≤ l2.length) (hi : a0 ≤ i) (hi1 : i < a1) :
    j_Ct G jm_Mo_partner d 0 0 [jr_ m, ji_ i, ji_ a0, ji_ a1, ji_ b0, ji_ b1] (N, K, M, g) (j_pI N K g fun z M' => M' = M ∧ z = tpF l1 l2 a0 a1 b0 b1 i) := by
  obtain ⟨q1, q2, q3, q4, q5, q6⟩ := hA
  have ei := q5 i (by omega) (by omega)
  have ri := q3 i (by omega) (by omega)
  refine j_Ct.ofJ (ls := [jr_ m, ji_ i, ji_ a0, ji_ a1, ji_ b0, ji_ b1, ju_, ju_, ju_, ju_]) (by decide) rfl rfl ?_
  refine s_Mo_partner_0 ?_
  suffices lp : ∀ (k n : Nat), (n : Int) + k = a1 - a0 → j_J G jm_Mo_partner d 0 0 6 [jr_ m, ji_ i, ji_ a0, ji_ a1, ji_ b0, ji_ b1, ji_ (cn l1 a0 n (lg l1 i)), ji_ (a0 + n), ju_, ju_] [] (N, K, M, g) (j_pI N K g fun z M' => M' = M ∧ z = tpF l1 l2 a0 a1 b0 b1 i) by
    have := lp (a1 - a0).toNat 0 (by omega)
    simp only [cn] at this
    rw [show a0 + ((0 : Nat) : Int) = a0 by omega] at this
    exact this
  intro k
  induction k with
  | zero =>
    intro n hn
    have hc := cn_0 (l := l1) (a := a0) (v := lg l1 i) n
    have en : (a1 - a0).toNat = n := by omega
    refine s_Mo_partner_6 (k1 := fun _ => ?_) (k2 := fun q => by omega)
    suffices lq : ∀ (k n' : Nat), (n' : Int) + k = b1 - b0 → j_J G jm_Mo_partner d 0 0 55 [jr_ m, ji_ i, ji_ a0, ji_ a1, ji_ b0, ji_ b1, ji_ (cn l1 a0 n (lg l1 i)), ji_ (cn l2 b0 n' (lg l1 i)), ji_ (ls l2 b0 n' (lg l1 i)), ji_ (b0 + n')] [] (N, K, M, g) (j_pI N K g fun z M' => M' = M ∧ z = tpF l1 l2 a0 a1 b0 b1 i) by
      have := lq (b1 - b0).toNat 0 (by omega)
      simp only [cn, ls] at this
      rw [show b0 + ((0 : Nat) : Int) = b0 by omega] at this
      exact this
    intro k
    induction k with
    | zero =>
      intro n' hn'
      have hc' := cn_0 (l := l2) (a := b0) (v := lg l1 i) n'
      have hl' := ls_r (l := l2) (a := b0) (v := lg l1 i) n'
      have en' : (b1 - b0).toNat = n' := by omega
      refine s_Mo_partner_55 (k1 := fun _ => ?_) (k2 := fun q => by omega)
      refine s_Mo_partner_120 (k1 := fun c => ⟨_, M, rfl, rfl, rfl, ?_⟩) (k2 := fun c => ?_)
      · unfold tpF; rw [en, en', if_neg (fun z => c z.1)]
      · refine s_Mo_partner_126 (k1 := fun c2 => ⟨_, M, rfl, rfl, rfl, ?_⟩) (k2 := fun c2 => ⟨_, M, rfl, rfl, rfl, ?_⟩)
        · unfold tpF; rw [en, en', if_neg (fun z => c2 z.2)]
        · unfold tpF; rw [en, en', if_pos ⟨c, c2⟩]
    | succ k ih =>
      intro n' hn'
      have hc' := cn_0 (l := l2) (a := b0) (v := lg l1 i) n'
      have hl' := ls_r (l := l2) (a := b0) (v := lg l1 i) n'
      have e := q6 (b0 + n') (by omega) (by omega)
      have r := q4 (b0 + n') (by omega) (by omega)
      have nx := ih (n' + 1) (by omega)
      rw [show b0 + ((n' + 1 : Nat) : Int) = b0 + n' + 1 by omega] at nx
      simp only [cn, ls] at nx
      refine s_Mo_partner_55 (k1 := fun q => by omega) (k2 := fun _ => ?_)
      refine s_Mo_partner_62 h.o h.g5 h.k4 (hg5 := h.g4) (hk3 := h.k3) (r7 := by rw [e]; omega) (r8 := by rw [ei]; omega) (k1 := fun c => ?_) (k2 := fun c => ?_)
      · refine s_Mo_partner_87 h.o h.g5 h.k4 (hg5 := h.g4) (hk3 := h.k3) (r7 := by rw [e]; omega) (r8 := by rw [ei]; omega) (k1 := fun c => ?_) (k2 := fun q => absurd q c)
        rw [e, ei] at c
        rw [if_neg c, if_neg c] at nx
        rw [Int.add_zero] at nx
        exact nx
      · refine s_Mo_partner_87 h.o h.g5 h.k4 (hg5 := h.g4) (hk3 := h.k3) (r7 := by rw [e]; omega) (r8 := by rw [ei]; omega) (k1 := fun q => absurd c q) (k2 := fun c => ?_)
        rw [e, ei] at c
        rw [if_pos c, if_pos c] at nx
        exact nx
  | succ k ih =>
    intro n hn
    have hc := cn_0 (l := l1) (a := a0) (v := lg l1 i) n
    have e := q5 (a0 + n) (by omega) (by omega)
    have r := q3 (a0 + n) (by omega) (by omega)
    have nx := ih (n + 1) (by omega)
    rw [show a0 + ((n + 1 : Nat) : Int) = a0 + n + 1 by omega] at nx
    simp only [cn] at nx
    refine s_Mo_partner_6 (k1 := fun q => by omega) (k2 := fun _ => ?_)
    refine s_Mo_partner_12 h.o h.g4 h.k3 (r5 := by rw [e]; omega) (r6 := by rw [ei]; omega) (k1 := fun c => ?_) (k2 := fun c => ?_)
    · rw [e, ei] at c
      rw [if_neg c, Int.add_zero] at nx
      exact nx
    · rw [e, ei] at c
      rw [if_pos c] at nx
      exact nx
theorem ct_Mo_findRanks {a0 a1 b0 b1 : Int} (h : rMo K g m) (hA : mAB M m l1 l2) (ha : 0 ≤ a0) (ha1 : a0 ≤ a1) (ha2 : a1 ≤ l1.length) (hb : 0 ≤ b0) (hb1 : b0 ≤ b1) (hb2 : b1 ≤ l2.length) :
    j_Ct G jm_Mo_findRanks (d + 1) 0 0 [jr_ m, ji_ a0, ji_ a1, ji_ b0, ji_ b1] (N, K, M, g) (j_pI N K g fun z M' => z = mxR l1 l2 (a0, a1, b0, b1) ∧ (∀ k, a0 ≤ k → k < a1 → M' (m + 11) k = tpR l1 l2 (a0, a1, b0, b1) k ∧ M' (m + 12) k = rk (tpR l1 l2 (a0, a1, b0, b1)) a0 k) ∧ j_fm m [] [m + 11, m + 12] M M') := by
  have hA0 := hA
  obtain ⟨q1, q2, q3, q4, q5, q6⟩ := hA
  obtain ⟨tp, htp⟩ : ∃ tp, tp = tpR l1 l2 (a0, a1, b0, b1) := ⟨_, rfl⟩
  have htp' : ∀ i, tp i = tpF l1 l2 a0 a1 b0 b1 i := fun i => by rw [htp]
  have tpr : ∀ i, tp i = -1 ∨ (b0 ≤ tp i ∧ tp i < b1) := fun i => by rw [htp']; exact tpF_r hb1
  have eM : mxR l1 l2 (a0, a1, b0, b1) = mxr (rk tp a0) a0 (a1 - a0).toNat := by rw [htp]
  rw [eM, ← htp]
  clear eM
  refine j_Ct.ofJ (ls := [jr_ m, ji_ a0, ji_ a1, ji_ b0, ji_ b1, ju_, ju_, ju_, ju_]) (by decide) rfl rfl ?_
  refine s_Mo_findRanks_0 ?_
  suffices lp : ∀ (k n : Nat) (M1 : Nat → Int → Int) (u7 u8 : j_V), (n : Int) + k = a1 - a0 → j_fm m [] [m + 11, m + 12] M M1 → (∀ t, a0 ≤ t → t < a0 + n → M1 (m + 11) t = tp t ∧ M1 (m + 12) t = rk tp a0 t ∧ rk tp a0 t ≤ 24) → mxr (rk tp a0) a0 n ≤ n →
      j_J G jm_Mo_findRanks (d + 1) 0 0 6 [jr_ m, ji_ a0, ji_ a1, ji_ b0, ji_ b1, ji_ (mxr (rk tp a0) a0 n), ji_ (a0 + n), u7, u8] [] (N, K, M1, g) (j_pI N K g fun z M' => z = mxr (rk tp a0) a0 (a1 - a0).toNat ∧ (∀ k, a0 ≤ k → k < a1 → M' (m + 11) k = tp k ∧ M' (m + 12) k = rk tp a0 k) ∧ j_fm m [] [m + 11, m + 12] M M') by
    have := lp (a1 - a0).toNat 0 M ju_ ju_ (by omega) j_fm.rfl (fun t a b => by omega) (by simp [mxr])
    simp only [mxr] at this
    rw [show a0 + ((0 : Nat) : Int) = a0 by omega] at this
    exact this
  intro k
  induction k with
  | zero =>
    intro n M1 u7 u8 hn hf hT hmn
    have hm0 := mxr_0 (f := rk tp a0) (a0 := a0) n
    have en : (a1 - a0).toNat = n := by omega
    exact s_Mo_findRanks_6 (k1 := fun _ => ⟨_, M1, rfl, rfl, by rw [en], fun t t1 t2 => ⟨(hT t t1 (by omega)).1, (hT t t1 (by omega)).2.1⟩, hf⟩) (k2 := fun q => by omega)
  | succ k ih =>
    intro n M1 u7 u8 hn hf hT hmn
    have hm0 := mxr_0 (f := rk tp a0) (a0 := a0) n
    have hA1 : mAB M1 m l1 l2 := hA0.kept (hf.1 _ (by omega) (by simp)) (hf.1 _ (by omega) (by simp))
    refine s_Mo_findRanks_6 (k1 := fun q => by omega) (k2 := fun _ => ?_)
    refine s_Mo_findRanks_12 h.o h.g13 (ct_Mo_partner h hA1 ha ha1 ha2 hb hb1 hb2 (by omega) (by omega)) (fun z M' hq => ?_)
    obtain ⟨hM, hz⟩ := hq
    subst hM
    rw [← htp'] at hz
    subst hz
    have tv := tpr (a0 + n)
    have hmx : mxr (rk tp a0) a0 (n + 1) = if mxr (rk tp a0) a0 n < rk tp a0 (a0 + n) then rk tp a0 (a0 + n) else mxr (rk tp a0) a0 n := rfl
    have hrec := rk_rec (tp := tp) (a0 := a0) n
    have e11 : j_up (j_up M' (m + 11) (a0 + n) (tp (a0 + n))) (m + 12) (a0 + n) 0 (m + 11) (a0 + n) = tp (a0 + n) := by rw [j_up_a (by omega), j_up_eq]
    have hf2 : j_fm m [] [m + 11, m + 12] M (j_up (j_up M' (m + 11) (a0 + n) (tp (a0 + n))) (m + 12) (a0 + n) 0) := hf.trans ((j_fm.arr (by omega) (by simp)).trans (j_fm.arr (by omega) (by simp)))
    have hT2 : ∀ t, a0 ≤ t → t < a0 + n → j_up (j_up M' (m + 11) (a0 + n) (tp (a0 + n))) (m + 12) (a0 + n) 0 (m + 11) t = tp t ∧ j_up (j_up M' (m + 11) (a0 + n) (tp (a0 + n))) (m + 12) (a0 + n) 0 (m + 12) t = rk tp a0 t ∧ rk tp a0 t ≤ 24 := by
      intro t t1 t2
      rw [j_up_a (by omega : m + 11 ≠ m + 12), j_up_ne (Or.inr (by omega : t ≠ a0 + n)), j_up_ne (Or.inr (by omega : t ≠ a0 + n)), j_up_a (by omega : m + 12 ≠ m + 11)]
      exact hT t t1 t2
    have e12 : j_up (j_up M' (m + 11) (a0 + n) (tp (a0 + n))) (m + 12) (a0 + n) 0 (m + 12) (a0 + n) = 0 := j_up_eq _ _ _ _
    refine s_Mo_findRanks_29 h.k11 (hk2 := h.o) (hg3 := h.g14) (hk3 := h.k12) (hg6 := h.g13) (hk4 := h.k11) (r8 := by rw [e11]; omega) (k1 := fun c => ?_) (k2 := fun c => ?_)
    · rw [e11] at c
      generalize j_up (j_up M' (m + 11) (a0 + n) (tp (a0 + n))) (m + 12) (a0 + n) 0 = M2 at e11 hf2 hT2 e12 ⊢
      rw [if_neg (by omega)] at hrec
      rw [if_neg (by omega)] at hmx
      have := ih (n + 1) M2 u7 u8 (by omega) hf2 (fun t t1 t2 => by
        by_cases ht : t = a0 + n
        · rw [ht, e11, e12, hrec]; exact ⟨rfl, rfl, by omega⟩
        · exact hT2 t t1 (by omega)) (by rw [hmx]; omega)
      rw [hmx, show a0 + ((n + 1 : Nat) : Int) = a0 + n + 1 by omega] at this
      exact this
    · rw [e11] at c
      generalize j_up (j_up M' (m + 11) (a0 + n) (tp (a0 + n))) (m + 12) (a0 + n) 0 = M2 at e11 hf2 hT2 e12 ⊢
      rw [if_pos c] at hrec
      suffices lb : ∀ (k' n' : Nat), n' + k' = n → 0 ≤ bst (rk tp a0) tp a0 n' (tp (a0 + n)) → bst (rk tp a0) tp a0 n' (tp (a0 + n)) ≤ mxr (rk tp a0) a0 n →
          j_J G jm_Mo_findRanks (d + 1) 0 0 54 [jr_ m, ji_ a0, ji_ a1, ji_ b0, ji_ b1, ji_ (mxr (rk tp a0) a0 n), ji_ (a0 + n), ji_ (bst (rk tp a0) tp a0 n' (tp (a0 + n))), ji_ (a0 + n')] [] (N, K, M2, g) (j_pI N K g fun z M' => z = mxr (rk tp a0) a0 (a1 - a0).toNat ∧ (∀ k, a0 ≤ k → k < a1 → M' (m + 11) k = tp k ∧ M' (m + 12) k = rk tp a0 k) ∧ j_fm m [] [m + 11, m + 12] M M') by
        have := lb n 0 (by omega) (by simp [bst]) (by simp only [bst]; exact hm0)
        simp only [bst] at this
        rw [show a0 + ((0 : Nat) : Int) = a0 by omega] at this
        exact this
      intro k'
      induction k' with
      | zero =>
        intro n' hn' hb0 hbm
        have hnn : n' = n := by omega
        subst hnn
        refine s_Mo_findRanks_54 (k1 := fun _ => ?_) (k2 := fun q => by omega)
        have nx : ∀ w : Int, w = mxr (rk tp a0) a0 (n' + 1) → j_J G jm_Mo_findRanks (d + 1) 0 0 6 [jr_ m, ji_ a0, ji_ a1, ji_ b0, ji_ b1, ji_ w, ji_ (a0 + n' + 1), ji_ (bst (rk tp a0) tp a0 n' (tp (a0 + n'))), ji_ (a0 + n')] [] (N, K, j_up M2 (m + 12) (a0 + n') (bst (rk tp a0) tp a0 n' (tp (a0 + n')) + 1), g) (j_pI N K g fun z M' => z = mxr (rk tp a0) a0 (a1 - a0).toNat ∧ (∀ k, a0 ≤ k → k < a1 → M' (m + 11) k = tp k ∧ M' (m + 12) k = rk tp a0 k) ∧ j_fm m [] [m + 11, m + 12] M M') := by
          intro w hw
          have := ih (n' + 1) (j_up M2 (m + 12) (a0 + n') (bst (rk tp a0) tp a0 n' (tp (a0 + n')) + 1)) (ji_ (bst (rk tp a0) tp a0 n' (tp (a0 + n')))) (ji_ (a0 + n')) (by omega) (hf2.trans (j_fm.arr (by omega) (by simp))) (fun t t1 t2 => by
            rw [j_up_a (by omega : m + 11 ≠ m + 12)]
            by_cases ht : t = a0 + n'
            · rw [ht, e11, j_up_eq, hrec]; exact ⟨rfl, rfl, by omega⟩
            · rw [j_up_ne (Or.inr ht)]; exact hT2 t t1 (by omega)) (by rw [hmx, hrec]; split <;> omega)
          rw [← hw, show a0 + ((n' + 1 : Nat) : Int) = a0 + n' + 1 by omega] at this
          exact this
        rw [hrec] at hmx
        exact s_Mo_findRanks_120 h.o h.g14 h.k12 (k1 := fun c2 => nx _ (by rw [hmx, if_neg (by omega)])) (k2 := fun c2 => nx _ (by rw [hmx, if_pos (by omega)]))
      | succ k' ih' =>
        intro n' hn' hb0 hbm
        obtain ⟨w1, w2, w3⟩ := hT2 (a0 + n') (by omega) (by omega)
        have tw := tpr (a0 + n')
        have rp := rk_pos (tp := tp) (a0 := a0) (t := a0 + n') (by omega)
        have hmg := mxr_ge (f := rk tp a0) (a0 := a0) n (a0 + n') (by omega) (by omega)
        have eb : bst (rk tp a0) tp a0 (n' + 1) (tp (a0 + n)) = if 0 ≤ tp (a0 + n') ∧ tp (a0 + n') < tp (a0 + n) ∧ bst (rk tp a0) tp a0 n' (tp (a0 + n)) < rk tp a0 (a0 + n') then rk tp a0 (a0 + n') else bst (rk tp a0) tp a0 n' (tp (a0 + n)) := rfl
        have nx : ∀ w : Int, w = bst (rk tp a0) tp a0 (n' + 1) (tp (a0 + n)) → 0 ≤ w → w ≤ mxr (rk tp a0) a0 n → j_J G jm_Mo_findRanks (d + 1) 0 0 54 [jr_ m, ji_ a0, ji_ a1, ji_ b0, ji_ b1, ji_ (mxr (rk tp a0) a0 n), ji_ (a0 + n), ji_ w, ji_ (a0 + n' + 1)] [] (N, K, M2, g) (j_pI N K g fun z M' => z = mxr (rk tp a0) a0 (a1 - a0).toNat ∧ (∀ k, a0 ≤ k → k < a1 → M' (m + 11) k = tp k ∧ M' (m + 12) k = rk tp a0 k) ∧ j_fm m [] [m + 11, m + 12] M M') := by
          intro w hw h0 h1
          have := ih' (n' + 1) (by omega) (by omega) (by omega)
          rw [← hw, show a0 + ((n' + 1 : Nat) : Int) = a0 + n' + 1 by omega] at this
          exact this
        refine s_Mo_findRanks_54 (k1 := fun q => by omega) (k2 := fun _ => ?_)
        refine s_Mo_findRanks_61 h.o h.g13 h.k11 (r4 := by rw [w1]; omega) (k1 := fun c2 => ?_) (k2 := fun c2 => ?_)
        · rw [w1] at c2
          exact nx _ (by rw [eb, if_neg (by omega)]) hb0 hbm
        · rw [w1] at c2
          refine s_Mo_findRanks_71 h.o h.g13 h.k11 (r5 := by rw [w1]; omega) (r6 := by rw [e11]; omega) (k1 := fun c3 => ?_) (k2 := fun c3 => ?_)
          · rw [w1, e11] at c3
            exact nx _ (by rw [eb, if_neg (by omega)]) hb0 hbm
          · rw [w1, e11] at c3
            refine s_Mo_findRanks_88 h.o h.g14 h.k12 (r4 := by rw [w2]; omega) (k1 := fun c4 => ?_) (k2 := fun c4 => ?_)
            · rw [w2] at c4
              exact nx _ (by rw [eb, if_neg (by omega)]) hb0 hbm
            · rw [w2] at c4
              refine s_Mo_findRanks_100 h.o h.g14 h.k12 (k1 := ?_)
              rw [w2]
              exact nx _ (by rw [eb, if_pos ⟨c2, c3, c4⟩]) (by omega) hmg
end

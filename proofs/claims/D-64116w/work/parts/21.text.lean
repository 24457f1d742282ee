/-! ===== contracts: Text.addAll, Text.same; Pairing ===== -/
section
variable {G : j_G} {d N : Nat} {K : Nat → Option (Nat × Nat)} {M : Nat → Int → Int} {g : Nat → Int → Option Nat} {t c : Nat} {l : List Int}
theorem ct_Tx_addAll {t2 c2 : Nat} {l2 : List Int} {fr to : Int} (h : rTx K g M t c l) (h' : rTx K g M t2 c2 l2) (htt : t ≠ t2) (hcc : c ≠ c2) (hf0 : 0 ≤ fr) (hft : fr ≤ to) (hto : to ≤ l2.length) :
    j_Ct G jm_Tx_addAll (d + 1) 0 0 [jr_ t, jr_ t2, ji_ fr, ji_ to] (N, K, M, g) (j_pI N K g fun z M' => j_fr [t, c] M M' ∧ ((z = 1 ∧ (l.length : Int) + (to - fr) ≤ 24 ∧ rTx K g M' t c (l ++ sl l2 fr to)) ∨ (z = 0 ∧ 24 < (l.length : Int) + (to - fr) ∧ ∃ l', rTx K g M' t c l'))) := by
  have hl24 := h'.2.2.2.2.1
  have hl0 := h.2.2.2.2.1
  have htc2 : t ≠ c2 := by
    intro e
    have h1 := h.1
    have h3 := h'.2.2.1
    rw [e, h3] at h1
    cases h1
  have hct2 : c ≠ t2 := by
    intro e
    have h1 := h'.1
    have h3 := h.2.2.1
    rw [← e, h3] at h1
    cases h1
  refine j_Ct.ofJ (ls := [jr_ t, jr_ t2, ji_ fr, ji_ to, ju_, ju_]) (by decide) rfl rfl ?_
  refine s_Tx_addAll_0 ?_
  suffices lp : ∀ (k : Nat) (i : Int) (b : Bool) (M1 : Nat → Int → Int), i + k = to → fr ≤ i → j_fr [t, c] M M1 → ((b = true ∧ rTx K g M1 t c (l ++ sl l2 fr i)) ∨ (b = false ∧ 24 < (l.length : Int) + (to - fr) ∧ ∃ l', rTx K g M1 t c l' ∧ (l'.length : Int) = 24)) →
      j_J G jm_Tx_addAll (d + 1) 0 0 6 [jr_ t, jr_ t2, ji_ fr, ji_ to, ji_ (j_bz b), ji_ i] [] (N, K, M1, g) (j_pI N K g fun z M' => j_fr [t, c] M M' ∧ ((z = 1 ∧ (l.length : Int) + (to - fr) ≤ 24 ∧ rTx K g M' t c (l ++ sl l2 fr to)) ∨ (z = 0 ∧ 24 < (l.length : Int) + (to - fr) ∧ ∃ l', rTx K g M' t c l'))) from
    lp (to - fr).toNat fr true M (by omega) (by omega) j_fr.rfl (Or.inl ⟨rfl, by rw [sl_nil (by omega), List.append_nil]; exact h⟩)
  intro k
  induction k with
  | zero =>
    intro i b M1 hi hfi hfr hb
    have hie : i = to := by omega
    subst hie
    refine s_Tx_addAll_6 (k1 := fun h => ?_) (k2 := fun h => by omega)
    refine s_Tx_addAll_34 (j_bz01 b) ⟨_, M1, rfl, rfl, hfr, ?_⟩
    rcases hb with ⟨rfl, hb⟩ | ⟨rfl, hb, l', hb2, hb3⟩
    · have := hb.2.2.2.2.1
      have e := sl_len hf0 hfi hto
      rw [List.length_append] at this
      exact Or.inl ⟨rfl, by omega, hb⟩
    · exact Or.inr ⟨rfl, hb, l', hb2⟩
  | succ k ih =>
    intro i b M1 hi hfi hfr hb
    refine s_Tx_addAll_6 (k1 := fun h => by omega) (k2 := fun h => ?_)
    have h2' : rTx K g M1 t2 c2 l2 := h'.kept (hfr t2 (by simp [htt.symm, hct2.symm])) (hfr c2 (by simp [htc2.symm, hcc.symm]))
    obtain ⟨q1, q2, q3, q4, q5, q6, q7⟩ := h2'
    have e := q6 i (by omega) (by omega)
    have eb := q7 i (by omega) (by omega)
    have hlen := sl_len (l := l2) (i := fr) (j := i) hf0 hfi (by omega)
    rcases hb with ⟨rfl, hb⟩ | ⟨rfl, hb, l', hb2, hb3⟩
    · refine s_Tx_addAll_12 q1 q2 q3 (hk3 := hb.1) (hC := ct_Tx_add hb eb) (k1 := fun z M' hq => ?_)
      rcases hq with ⟨rfl, hl, rfl⟩ | ⟨rfl, hl, hr, hfr2⟩
      · refine s_Tx_addAll_25 (c0 := true) (c1 := false) rfl rfl ?_
        rw [List.length_append] at hl
        exact ih (i + 1) false _ (by omega) (by omega) hfr (Or.inr ⟨rfl, by omega, _, hb, by rw [List.length_append]; omega⟩)
      · refine s_Tx_addAll_25 (c0 := true) (c1 := true) rfl rfl ?_
        refine ih (i + 1) true M' (by omega) (by omega) (hfr.trans hfr2) (Or.inl ⟨rfl, ?_⟩)
        rw [sl_succ hf0 hfi (by omega), ← List.append_assoc, ← e]
        exact hr
    · refine s_Tx_addAll_12 q1 q2 q3 (hk3 := hb2.1) (hC := ct_Tx_add hb2 eb) (k1 := fun z M' hq => ?_)
      rcases hq with ⟨rfl, hl, rfl⟩ | ⟨rfl, hl, hr, hfr2⟩
      · refine s_Tx_addAll_25 (c0 := false) (c1 := false) rfl rfl ?_
        exact ih (i + 1) false _ (by omega) (by omega) hfr (Or.inr ⟨rfl, hb, l', hb2, hb3⟩)
      · omega
/-- a part of one text is that of another -/
def sameP (l l2 : List Int) (a b a2 b2 : Int) : Prop := b - a = b2 - a2 ∧ ∀ k : Int, 0 ≤ k → k < b - a → lg l (a + k) = lg l2 (a2 + k)
theorem ct_Tx_same {t2 c2 : Nat} {l2 : List Int} {a b a2 b2 : Int} (h : rTx K g M t c l) (h' : rTx K g M t2 c2 l2) (ha : 0 ≤ a) (hab : a ≤ b) (hb : b ≤ l.length) (ha2 : 0 ≤ a2) (hab2 : a2 ≤ b2) (hb2 : b2 ≤ l2.length) :
    j_Ct G jm_Tx_same d 0 0 [jr_ t, ji_ a, ji_ b, jr_ t2, ji_ a2, ji_ b2] (N, K, M, g) (j_pI N K g fun z M' => M' = M ∧ (z = 1 ∧ sameP l l2 a b a2 b2 ∨ z = 0 ∧ ¬ sameP l l2 a b a2 b2)) := by
  obtain ⟨h1, h2, h3, h4, h5, h6, h7⟩ := h
  obtain ⟨g1, g2, g3, g4, g5, g6, g7⟩ := h'
  refine j_Ct.ofJ (ls := [jr_ t, ji_ a, ji_ b, jr_ t2, ji_ a2, ji_ b2, ju_, ju_]) (by decide) rfl rfl ?_
  suffices lp : ∀ (n : Nat) (k : Int) (f : Bool), k + n = b - a → 0 ≤ k → (f = true ↔ b - a = b2 - a2 ∧ ∀ j : Int, 0 ≤ j → j < k → lg l (a + j) = lg l2 (a2 + j)) →
      j_J G jm_Tx_same d 0 0 21 [jr_ t, ji_ a, ji_ b, jr_ t2, ji_ a2, ji_ b2, ji_ (j_bz f), ji_ k] [] (N, K, M, g) (j_pI N K g fun z M' => M' = M ∧ (z = 1 ∧ sameP l l2 a b a2 b2 ∨ z = 0 ∧ ¬ sameP l l2 a b a2 b2)) by
    refine s_Tx_same_0 (k1 := fun h => ?_) (k2 := fun h => ?_)
    · exact lp (b - a).toNat 0 false (by omega) (by omega) ⟨fun q => (by cases q), fun q => absurd q.1 h⟩
    · exact lp (b - a).toNat 0 true (by omega) (by omega) ⟨fun _ => ⟨h, fun j x y => by omega⟩, fun _ => rfl⟩
  intro n
  induction n with
  | zero =>
    intro k f hk h0 hf
    refine s_Tx_same_21 (k1 := fun h => ?_) (k2 := fun h => by omega)
    refine s_Tx_same_69 (j_bz01 f) ⟨_, M, rfl, rfl, rfl, ?_⟩
    have : k = b - a := by omega
    subst this
    cases f
    · exact Or.inr ⟨rfl, fun q => by have := hf.mpr q; cases this⟩
    · exact Or.inl ⟨rfl, hf.mp rfl⟩
  | succ n ih =>
    intro k f hk h0 hf
    refine s_Tx_same_21 (k1 := fun h => by omega) (k2 := fun h => ?_)
    refine s_Tx_same_29 (r1 := j_bz_rng f) (k1 := fun hz => ?_) (k2 := fun hz => ?_)
    · have hff := j_bz_0.mp hz
      subst hff
      refine s_Tx_same_69 (j_bz01 _) ⟨_, M, rfl, rfl, rfl, Or.inr ⟨rfl, fun q => ?_⟩⟩
      have := hf.mpr ⟨q.1, fun j x y => q.2 j x (by omega)⟩
      cases this
    · have hff := j_bz_1.mp hz
      subst hff
      obtain ⟨hlen, heq⟩ := hf.mp rfl
      have e1 := h6 (a + k) (by omega) (by omega)
      have e2 := g6 (a2 + k) (by omega) (by omega)
      have b1 := h7 (a + k) (by omega) (by omega)
      have b2' := g7 (a2 + k) (by omega) (by omega)
      refine s_Tx_same_34 h1 h2 h3 (hk3 := g1) (hg5 := g2) (hk4 := g3) (k1 := fun hne => ?_) (k2 := fun he => ?_)
      · refine ih (k + 1) false (by omega) (by omega) ⟨fun q => (by cases q), fun q => ?_⟩
        exact absurd (by rw [e1, e2]; exact q.2 k h0 (by omega)) hne
      · refine ih (k + 1) true (by omega) (by omega) ⟨fun _ => ⟨hlen, fun j x y => ?_⟩, fun _ => rfl⟩
        by_cases hj : j = k
        · rw [hj, ← e1, ← e2]; exact he
        · exact heq j x (by omega)
end
/-- a Pairing: object p, its texts at p + 1 and p + 3 (their cells behind them), its matches at p + 5 -/
def rPr (K : Nat → Option (Nat × Nat)) (g : Nat → Int → Option Nat) (M : Nat → Int → Int) (p : Nat) (l1 l2 : List Int) : Prop :=
  K p = some (0, 2) ∧ g p 0 = some (p + 1) ∧ g p 1 = some (p + 3) ∧ g p 2 = some (p + 5) ∧ K (p + 5) = some (2, 24) ∧ rTx K g M (p + 1) (p + 2) l1 ∧ rTx K g M (p + 3) (p + 4) l2
theorem rPr.kept {K : Nat → Option (Nat × Nat)} {g : Nat → Int → Option Nat} {M M' : Nat → Int → Int} {p : Nat} {l1 l2 : List Int} (h : rPr K g M p l1 l2) (h1 : M' (p + 1) = M (p + 1)) (h2 : M' (p + 2) = M (p + 2)) (h3 : M' (p + 3) = M (p + 3)) (h4 : M' (p + 4) = M (p + 4)) : rPr K g M' p l1 l2 :=
  ⟨h.1, h.2.1, h.2.2.1, h.2.2.2.1, h.2.2.2.2.1, h.2.2.2.2.2.1.kept h1 h2, h.2.2.2.2.2.2.kept h3 h4⟩
section
variable {G : j_G} {d N : Nat} {K : Nat → Option (Nat × Nat)} {M : Nat → Int → Int} {g : Nat → Int → Option Nat} {p : Nat} {l1 l2 : List Int}
theorem ct_Pr_begin {t1 t2 : Nat} {m1 m2 : List Int} (h : rPr K g M p l1 l2) (h1 : rTx K g M t1 (t1 + 1) m1) (h2 : rTx K g M t2 (t2 + 1) m2) (d1 : p + 5 < t1) (d2 : p + 5 < t2) :
    j_Ct G jm_Pr_begin (d + 2) 0 0 [jr_ p, jr_ t1, jr_ t2] (N, K, M, g) (j_pV N K g fun M' => rPr K g M' p m1 m2 ∧ (∀ i : Int, 0 ≤ i → i < 24 → M' (p + 5) i = -1) ∧ j_fr [p + 1, p + 2, p + 3, p + 4, p + 5] M M') := by
  obtain ⟨q1, q2, q3, q4, q5, q6, q7⟩ := h
  refine j_Ct.ofJ (ls := [jr_ p, jr_ t1, jr_ t2, ju_]) (by decide) rfl rfl ?_
  refine s_Pr_begin_0 q1 q2 q6.1 (ct_Tx_copy q6 h1 (by omega)) (fun M1 hM1 => ?_)
  obtain ⟨a1, a2⟩ := hM1
  have q7' : rTx K g M1 (p + 3) (p + 4) l2 := q7.kept (a2 _ (by simp)) (a2 _ (by simp))
  have h2' : rTx K g M1 t2 (t2 + 1) m2 := h2.kept (a2 _ (by simp; omega)) (a2 _ (by simp; omega))
  refine s_Pr_begin_8 q1 q3 q7.1 (ct_Tx_copy q7' h2' (by omega)) (fun M2 hM2 => ?_)
  obtain ⟨b1, b2⟩ := hM2
  refine s_Pr_begin_16 ?_
  suffices lp : ∀ (n : Nat) (i : Int) (M3 : Nat → Int → Int), i + n = 24 → 0 ≤ i → (∀ j : Int, 0 ≤ j → j < i → M3 (p + 5) j = -1) → j_fr [p + 5] M2 M3 →
      j_J G jm_Pr_begin (d + 2) 0 0 18 [jr_ p, jr_ t1, jr_ t2, ji_ i] [] (N, K, M3, g) (j_pV N K g fun M' => rPr K g M' p m1 m2 ∧ (∀ i : Int, 0 ≤ i → i < 24 → M' (p + 5) i = -1) ∧ j_fr [p + 1, p + 2, p + 3, p + 4, p + 5] M M') from
    lp 24 0 M2 (by omega) (by omega) (fun j a b => by omega) j_fr.rfl
  intro n
  induction n with
  | zero =>
    intro i M3 hi h0 hm hf
    refine s_Pr_begin_18 (k1 := fun h => ⟨M3, rfl, rfl, ⟨q1, q2, q3, q4, q5, ?_, ?_⟩, fun j a b => hm j a (by omega), ?_⟩) (k2 := fun h => by omega)
    · exact (a1.kept (b2 _ (by simp)) (b2 _ (by simp))).kept (hf _ (by simp)) (hf _ (by simp))
    · exact b1.kept (hf _ (by simp)) (hf _ (by simp))
    · exact ((a2.mono (by simp)).trans (b2.mono (by simp))).trans (hf.mono (by simp))
  | succ n ih =>
    intro i M3 hi h0 hm hf
    refine s_Pr_begin_18 (k1 := fun h => by omega) (k2 := fun h => ?_)
    refine s_Pr_begin_24 q1 q4 q5 (k1 := ?_)
    refine ih (i + 1) _ (by omega) (by omega) (fun j a b => ?_) (hf.trans (j_fr.up (by simp)))
    by_cases hj : j = i
    · rw [hj, j_up_eq]
    · rw [j_up_ne (Or.inr hj)]
      exact hm j a (by omega)
theorem ct_Pr_equal {i j : Int} (h : rPr K g M p l1 l2) (hi : 0 ≤ i) (hi2 : i < l1.length) (hj : 0 ≤ j) (hj2 : j < l2.length) :
    j_Ct G jm_Pr_equal d 0 0 [jr_ p, ji_ i, ji_ j] (N, K, M, g) (j_pI N K g fun z M' => M' = M ∧ (z = 1 ∧ lg l1 i = lg l2 j ∨ z = 0 ∧ lg l1 i ≠ lg l2 j)) := by
  obtain ⟨q1, q2, q3, q4, q5, ⟨a1, a2, a3, a4, a5, a6, a7⟩, ⟨b1, b2, b3, b4, b5, b6, b7⟩⟩ := h
  have e1 := a6 i hi hi2
  have e2 := b6 j hj hj2
  have r1 := a7 i hi (by omega)
  have r2 := b7 j hj (by omega)
  refine j_Ct.ofJ (ls := [jr_ p, ji_ i, ji_ j]) (by decide) rfl rfl ?_
  exact s_Pr_equal_0 q1 q2 a1 a2 a3 (hg7 := q3) (hk4 := b1) (hg9 := b2) (hk5 := b3) (k1 := fun h => ⟨0, M, rfl, rfl, rfl, Or.inr ⟨rfl, by rw [← e1, ← e2]; exact h⟩⟩) (k2 := fun h => ⟨1, M, rfl, rfl, rfl, Or.inl ⟨rfl, by rw [← e1, ← e2]; exact h⟩⟩)
/-- how many of the first n numbers are no less than 0 -/
def cntP (f : Int → Int) : Nat → Int
  | 0 => 0
  | n + 1 => cntP f n + (if 0 ≤ f n then 1 else 0)
theorem cntP_le (f : Int → Int) (n : Nat) : 0 ≤ cntP f n ∧ cntP f n ≤ n := by
  induction n with
  | zero => simp [cntP]
  | succ n ih =>
    unfold cntP
    split <;> omega
theorem ct_Pr_changes (h : rPr K g M p l1 l2) (hm : ∀ i : Int, 0 ≤ i → i < 24 → -128 ≤ M (p + 5) i ∧ M (p + 5) i ≤ 127) :
    j_Ct G jm_Pr_changes d 0 0 [jr_ p] (N, K, M, g) (j_pI N K g fun z M' => M' = M ∧ z = l1.length + l2.length - 2 * cntP (M (p + 5)) l1.length) := by
  obtain ⟨q1, q2, q3, q4, q5, ⟨a1, a2, a3, a4, a5, a6, a7⟩, ⟨b1, b2, b3, b4, b5, b6, b7⟩⟩ := h
  refine j_Ct.ofJ (ls := [jr_ p, ju_, ju_]) (by decide) rfl rfl ?_
  refine s_Pr_changes_0 q1 q2 a1 q3 b1 ?_
  suffices lp : ∀ (n : Nat) (i : Nat) (x : Int), (i : Int) + n = l1.length → x = l1.length + l2.length - 2 * cntP (M (p + 5)) i →
      j_J G jm_Pr_changes d 0 0 18 [jr_ p, ji_ x, ji_ (i : Int)] [] (N, K, M, g) (j_pI N K g fun z M' => M' = M ∧ z = l1.length + l2.length - 2 * cntP (M (p + 5)) l1.length) from
    lp l1.length 0 _ (by omega) (by rw [a4, b4]; simp [cntP])
  intro n
  induction n with
  | zero =>
    intro i x hi hx
    have : i = l1.length := by omega
    subst this
    exact s_Pr_changes_18 q1 q2 a1 (k1 := fun h => ⟨x, M, rfl, rfl, rfl, hx⟩) (k2 := fun h => by omega)
  | succ n ih =>
    intro i x hi hx
    have hb := hm i (by omega) (by omega)
    refine s_Pr_changes_18 q1 q2 a1 (k1 := fun h => by omega) (k2 := fun h => ?_)
    refine s_Pr_changes_29 q1 q4 q5 (k1 := fun h => ?_) (k2 := fun h => ?_)
    · exact ih (i + 1) _ (by omega) (by unfold cntP; rw [if_neg (by omega)]; omega)
    · exact ih (i + 1) _ (by omega) (by unfold cntP; rw [if_pos (by omega)]; omega)
end

/-! ===== contracts: the small static methods, and Text ===== -/
theorem j_Ct.ofF {G : j_G} {y : j_Mt} {d B S : Nat} {as ls : List j_V} {σ : j_S} {Q : j_O → j_S → Prop} (hy : plainFor y.1 = true) (hls : lv_has ((lg_sl (as.map (j_val (j_b G))) ++ List.replicate (y.2.2.1 - (lg_sl (as.map (j_val (j_b G)))).length) Slot.unset).toArray) y.2.2.1 (j_lv (j_b G) 0 ls)) (k : j_J G y d B S 0 ls [] σ Q) : j_Ct G y d B S as σ Q := by
  refine MetFree.of_bodySF (code := y.2.1) (maxLocals := y.2.2.1) (ret := y.2.2.2) hy ?_ ?_
  · intro A s m h hn
    obtain ⟨meth, c, h1, h2, h3, h4, h5, h6, -, -⟩ := j_cw_spec hn (atoms_spec (ws := [j_cw y]) h _ List.mem_cons_self)
    exact ⟨meth, c, h1, h2, h3, h4, h5, h6⟩
  · intro p e s m A below meth c s₁ Bd hml hP _
    obtain ⟨rfl, hG, hH, hb0⟩ := hP
    have hh0 : s₁.heap = s.heap := by rw [Bd.state]; rfl
    have hcw := atoms_spec (ws := [j_cw y]) Bd.pre _ List.mem_cons_self
    obtain ⟨meth', c', h1, h2, h3, h4, h5, h6, h7, h8⟩ := j_cw_spec Bd.named hcw
    cases Bd.method.symm.trans h1
    cases (Stand.of_body Bd).code.symm.trans h2
    have C : j_Cx G y p s m meth c := ⟨Bd.exec, Bd.bytes, hml, Bd.returns, findClass_of_methodNamed Bd.named, Bd.notSynchronized, (name_of_methodNamed Bd.named Bd.method).1, hG, h7⟩
    have w := k p e { frames := d, cells := B, slots := S, locals := 48 * d } s m (as.map (j_val (j_b G))).toArray below meth c s.heap [] 0 0 B S _ C (Nat.le_refl _) (Nat.le_refl _) (by omega) (Nat.le_refl _) (by omega) (Nat.le_refl _) hH (fun q h => by cases h) hls hb0
    rw [lg_entry_eq]
    obtain ⟨t, a1, o, b1, b2, b3⟩ := w s₁ hh0 (Stand.of_body Bd)
    exact ⟨t, o, a1, b1, b2, b3⟩
theorem j_Ct.ofJF {G : j_G} {y : j_Mt} {d B S : Nat} {as ls : List j_V} {σ : j_S} {Q : j_O → j_S → Prop} (hy : plainFor y.1 = true) (h1 : Nat.ble (j_ent as).length y.2.2.1 = true) (hls : j_ent as ++ List.replicate (y.2.2.1 - (j_ent as).length) ju_ = ls) (k : j_J G y d B S 0 ls [] σ Q) : j_Ct G y d B S as σ Q := by
  refine j_Ct.ofF hy ?_ k
  have he := lv_entry (as.map (j_val (j_b G))) (n := y.2.2.1) (Nat.le_trans (j_sl_len as) (Nat.le_of_ble_eq_true h1))
  refine ⟨he.1, he.2.1, fun q hq => he.2.2 q ?_⟩
  rw [← hls, j_lv_app, j_lv_unk, List.append_nil] at hq
  exact j_ent_lv as 0 q hq
section
variable {G : j_G} {d N : Nat} {K : Nat → Option (Nat × Nat)} {M : Nat → Int → Int} {g : Nat → Int → Option Nat}
theorem ct_LP_within {v lo hi : Int} (hv : -2147483648 ≤ v ∧ v ≤ 2147483647) (hl : -2147483648 ≤ lo ∧ lo ≤ 2147483647) (hh : -2147483648 ≤ hi ∧ hi ≤ 2147483647) : j_Ct G jm_LP_within d 0 0 [ji_ v, ji_ lo, ji_ hi] (N, K, M, g) (j_pI N K g fun z M' => M' = M ∧ (z = 1 ∧ lo ≤ v ∧ v ≤ hi ∨ z = 0 ∧ (v < lo ∨ hi < v))) := by
  refine j_Ct.ofJ (ls := [ji_ v, ji_ lo, ji_ hi]) (by decide) rfl rfl ?_
  refine s_LP_within_0 (k1 := fun h => ⟨0, M, rfl, rfl, rfl, by omega⟩) (k2 := fun h => ?_)
  exact s_LP_within_5 (k1 := fun h => ⟨0, M, rfl, rfl, rfl, by omega⟩) (k2 := fun h => ⟨1, M, rfl, rfl, rfl, by omega⟩)
theorem ct_LP_isLetter {v : Int} (hv : -2147483648 ≤ v ∧ v ≤ 2147483647) : j_Ct G jm_LP_isLetter (d + 1) 0 0 [ji_ v] (N, K, M, g) (j_pI N K g fun z M' => M' = M ∧ (z = 1 ∧ 97 ≤ v ∧ v ≤ 122 ∨ z = 0 ∧ (v < 97 ∨ 122 < v))) := by
  refine j_Ct.ofJ (ls := [ji_ v]) (by decide) rfl rfl ?_
  refine s_LP_isLetter_0 (hC := ct_LP_within hv (by omega) (by omega)) (k1 := fun z M' hq => ?_)
  obtain ⟨rfl, hq⟩ := hq
  exact s_LP_isLetter_8 (hz1 := by omega) (k1 := ⟨z, _, rfl, rfl, rfl, hq⟩)
theorem ct_LP_isText {v : Int} (hv : -2147483648 ≤ v ∧ v ≤ 2147483647) : j_Ct G jm_LP_isText (d + 1) 0 0 [ji_ v] (N, K, M, g) (j_pI N K g fun z M' => M' = M ∧ (z = 1 ∧ 0 ≤ v ∧ v ≤ 3 ∨ z = 0 ∧ (v < 0 ∨ 3 < v))) := by
  refine j_Ct.ofJ (ls := [ji_ v]) (by decide) rfl rfl ?_
  refine s_LP_isText_0 (hC := ct_LP_within hv (by omega) (by omega)) (k1 := fun z M' hq => ?_)
  obtain ⟨rfl, hq⟩ := hq
  exact s_LP_isText_6 (hz1 := by omega) (k1 := ⟨z, _, rfl, rfl, rfl, hq⟩)
theorem ct_Ma_max {v w : Int} (hv : -2147483648 ≤ v ∧ v ≤ 2147483647) (hw : -2147483648 ≤ w ∧ w ≤ 2147483647) : j_Ct G jm_Ma_max d 0 0 [ji_ v, ji_ w] (N, K, M, g) (j_pI N K g fun z M' => M' = M ∧ (z = v ∧ w ≤ v ∨ z = w ∧ v < w)) := by
  refine j_Ct.ofJF (ls := [ji_ v, ji_ w]) (by decide +kernel) rfl rfl ?_
  exact s_Ma_max_0 (k1 := fun h => ⟨w, M, rfl, rfl, rfl, by omega⟩) (k2 := fun h => ⟨v, M, rfl, rfl, rfl, by omega⟩)
theorem ct_Ma_min {v w : Int} (hv : -2147483648 ≤ v ∧ v ≤ 2147483647) (hw : -2147483648 ≤ w ∧ w ≤ 2147483647) : j_Ct G jm_Ma_min d 0 0 [ji_ v, ji_ w] (N, K, M, g) (j_pI N K g fun z M' => M' = M ∧ (z = v ∧ v ≤ w ∨ z = w ∧ w < v)) := by
  refine j_Ct.ofJF (ls := [ji_ v, ji_ w]) (by decide +kernel) rfl rfl ?_
  exact s_Ma_min_0 (k1 := fun h => ⟨w, M, rfl, rfl, rfl, by omega⟩) (k2 := fun h => ⟨v, M, rfl, rfl, rfl, by omega⟩)
theorem ct_Ma_abs {v : Int} (hv : -2147483647 ≤ v ∧ v ≤ 2147483647) : j_Ct G jm_Ma_abs d 0 0 [ji_ v] (N, K, M, g) (j_pI N K g fun z M' => M' = M ∧ (z = v ∧ 0 ≤ v ∨ z = -v ∧ v < 0)) := by
  refine j_Ct.ofJF (ls := [ji_ v]) (by decide +kernel) rfl rfl ?_
  refine s_Ma_abs_0 (k1 := fun h => ⟨v, M, rfl, rfl, rfl, by omega⟩) (k2 := fun h => ?_)
  exact s_Ma_abs_4 (k1 := ⟨-v, M, rfl, rfl, rfl, by omega⟩)
end
/-- element i of a list -/
def lg (l : List Int) (i : Int) : Int := l.getD i.toNat 0
theorem lg_app1 {l : List Int} {x i : Int} (h0 : 0 ≤ i) (h : i < l.length) : lg (l ++ [x]) i = lg l i := by
  unfold lg
  rw [List.getD_eq_getElem?_getD, List.getD_eq_getElem?_getD, List.getElem?_append_left (by omega)]
theorem lg_app2 {l : List Int} {x i : Int} (h : i = l.length) : lg (l ++ [x]) i = x := by
  subst h
  unfold lg
  rw [List.getD_eq_getElem?_getD, List.getElem?_append_right (by omega)]
  simp
theorem lg_appL {l r : List Int} {i : Int} (h0 : 0 ≤ i) (h : i < l.length) : lg (l ++ r) i = lg l i := by
  unfold lg
  rw [List.getD_eq_getElem?_getD, List.getD_eq_getElem?_getD, List.getElem?_append_left (by omega)]
theorem lg_appR {l r : List Int} {i : Int} (h : l.length ≤ i) : lg (l ++ r) i = lg r (i - l.length) := by
  unfold lg
  rw [List.getD_eq_getElem?_getD, List.getD_eq_getElem?_getD, List.getElem?_append_right (by omega)]
  congr 3
  omega
/-- the part of a list from one place to another -/
def sl (l : List Int) (i j : Int) : List Int := (l.drop i.toNat).take (j - i).toNat
theorem sl_nil {l : List Int} {i j : Int} (h : j ≤ i) : sl l i j = [] := by
  unfold sl
  rw [show (j - i).toNat = 0 by omega, List.take_zero]
theorem sl_len {l : List Int} {i j : Int} (h0 : 0 ≤ i) (h1 : i ≤ j) (h2 : j ≤ l.length) : ((sl l i j).length : Int) = j - i := by
  unfold sl
  rw [List.length_take, List.length_drop]
  omega
theorem sl_succ {l : List Int} {i j : Int} (h0 : 0 ≤ i) (h1 : i ≤ j) (h2 : j < l.length) : sl l i (j + 1) = sl l i j ++ [lg l j] := by
  unfold sl lg
  rw [show (j + 1 - i).toNat = (j - i).toNat + 1 by omega, List.take_add_one, List.getElem?_drop]
  congr 1
  rw [show i.toNat + (j - i).toNat = j.toNat by omega, List.getElem?_eq_getElem (by omega), List.getD_eq_getElem?_getD, List.getElem?_eq_getElem (by omega)]
  rfl
theorem sl_cons {l : List Int} {i j : Int} (h0 : 0 ≤ i) (h1 : i < j) (h2 : j ≤ l.length) : sl l i j = lg l i :: sl l (i + 1) j := by
  unfold sl lg
  rw [show (j - i).toNat = (j - (i + 1)).toNat + 1 by omega, show (i + 1).toNat = i.toNat + 1 by omega, List.drop_eq_getElem_cons (show i.toNat < l.length by omega), List.take_succ_cons]
  congr 1
  rw [List.getD_eq_getElem?_getD, List.getElem?_eq_getElem (show i.toNat < l.length by omega)]
  rfl
/-- rows that stay -/
def j_fr (L : List Nat) (M M' : Nat → Int → Int) : Prop := ∀ a : Nat, a ∉ L → M' a = M a
theorem j_fr.rfl {L : List Nat} {M : Nat → Int → Int} : j_fr L M M := fun _ _ => Eq.refl _
theorem j_fr.trans {L : List Nat} {M M1 M2 : Nat → Int → Int} (h1 : j_fr L M M1) (h2 : j_fr L M1 M2) : j_fr L M M2 := fun a ha => (h2 a ha).trans (h1 a ha)
theorem j_fr.mono {L L' : List Nat} {M M' : Nat → Int → Int} (h : j_fr L M M') (hs : ∀ a ∈ L, a ∈ L') : j_fr L' M M' := fun a ha => h a fun q => ha (hs a q)
theorem j_fr.up {L : List Nat} {M : Nat → Int → Int} {a : Nat} {i z : Int} (h : a ∈ L) : j_fr L M (j_up M a i z) := fun b hb => j_up_a (fun e => hb (e ▸ h))
/-- a Text: the object, its cells, what it holds -/
def rTx (K : Nat → Option (Nat × Nat)) (g : Nat → Int → Option Nat) (M : Nat → Int → Int) (t c : Nat) (l : List Int) : Prop :=
  K t = some (0, 1) ∧ g t 0 = some c ∧ K c = some (2, 24) ∧ M t 1 = l.length ∧ (l.length : Int) ≤ 24 ∧ (∀ i : Int, 0 ≤ i → i < l.length → M c i = lg l i) ∧ ∀ i : Int, 0 ≤ i → i < 24 → -128 ≤ M c i ∧ M c i ≤ 127
theorem rTx.ne {K : Nat → Option (Nat × Nat)} {g : Nat → Int → Option Nat} {M : Nat → Int → Int} {t c : Nat} {l : List Int} (h : rTx K g M t c l) : t ≠ c := by
  intro e
  have h1 := h.1
  have h3 := h.2.2.1
  rw [e, h3] at h1
  cases h1
theorem rTx.kept {K : Nat → Option (Nat × Nat)} {g : Nat → Int → Option Nat} {M M' : Nat → Int → Int} {t c : Nat} {l : List Int} (h : rTx K g M t c l) (h1 : M' t = M t) (h2 : M' c = M c) : rTx K g M' t c l := by
  unfold rTx
  rw [h1, h2]
  exact h
/-- letters all of them -/
def allL (l : List Int) : Prop := ∀ i : Int, 0 ≤ i → i < l.length → 97 ≤ lg l i ∧ lg l i ≤ 122
section
variable {G : j_G} {d N : Nat} {K : Nat → Option (Nat × Nat)} {M : Nat → Int → Int} {g : Nat → Int → Option Nat} {t c : Nat} {l : List Int}
theorem ct_Tx_isPlain (h : rTx K g M t c l) : j_Ct G jm_Tx_isPlain (d + 2) 0 0 [jr_ t] (N, K, M, g) (j_pI N K g fun z M' => M' = M ∧ (z = 1 ∧ allL l ∨ z = 0 ∧ ¬ allL l)) := by
  obtain ⟨h1, h2, h3, h4, h5, h6, h7⟩ := h
  refine j_Ct.ofJ (ls := [jr_ t, ju_, ju_]) (by decide) rfl rfl ?_
  refine s_Tx_isPlain_0 ?_
  suffices lp : ∀ (k : Nat) (i : Int) (b : Bool), i + k = l.length → 0 ≤ i → (b = true ↔ ∀ j : Int, 0 ≤ j → j < i → 97 ≤ lg l j ∧ lg l j ≤ 122) → j_J G jm_Tx_isPlain (d + 2) 0 0 4 [jr_ t, ji_ (j_bz b), ji_ i] [] (N, K, M, g) (j_pI N K g fun z M' => M' = M ∧ (z = 1 ∧ allL l ∨ z = 0 ∧ ¬ allL l)) from
    lp l.length 0 true (by omega) (by omega) (by simp; intro j a b; omega)
  intro k
  induction k with
  | zero =>
    intro i b hi h0 hb
    refine s_Tx_isPlain_4 h1 (k1 := fun h => ?_) (k2 := fun h => by omega)
    refine s_Tx_isPlain_30 (j_bz01 b).symm.symm ⟨_, M, rfl, rfl, rfl, ?_⟩
    have hi' : i = l.length := by omega
    rw [hi'] at hb
    cases b
    · exact Or.inr ⟨rfl, fun q => by have := hb.mpr q; cases this⟩
    · exact Or.inl ⟨rfl, hb.mp rfl⟩
  | succ k ih =>
    intro i b hi h0 hb
    refine s_Tx_isPlain_4 h1 (k1 := fun h => by omega) (k2 := fun h => ?_)
    have e := h6 i h0 (by omega)
    have e2 := h7 i h0 (by omega)
    refine s_Tx_isPlain_12 h1 h2 h3 (hC := ct_LP_isLetter (by omega)) (k1 := fun z M' hq => ?_)
    obtain ⟨rfl, hq⟩ := hq
    obtain ⟨b2, hb2⟩ := j_bz_of (z := z) (by omega)
    refine s_Tx_isPlain_22 (c0 := b) (c1 := b2) rfl hb2 ?_
    refine ih (i + 1) (b && b2) (by omega) (by omega) ?_
    subst hb2
    rw [e] at hq
    cases b2
    · simp only [Bool.and_false, Bool.false_eq_true, false_iff]
      intro q
      have := q i h0 (by omega)
      simp [j_bz] at hq
      omega
    · simp only [Bool.and_true]
      simp [j_bz] at hq
      rw [hb]
      constructor
      · intro q j hj0 hj
        by_cases hji : j = i
        · rw [hji]; exact hq
        · exact q j hj0 (by omega)
      · intro q j hj0 hj
        exact q j hj0 (by omega)
theorem ct_Tx_copy {t2 c2 : Nat} {l2 : List Int} (h : rTx K g M t c l) (h' : rTx K g M t2 c2 l2) (hcc : c ≠ c2) : j_Ct G jm_Tx_copy (d + 1) 0 0 [jr_ t, jr_ t2] (N, K, M, g) (j_pV N K g fun M' => rTx K g M' t c l2 ∧ j_fr [t, c] M M') := by
  have htc := h.ne
  have htc2 : t2 ≠ c := by
    intro e
    have h1 := h'.1
    have h3 := h.2.2.1
    rw [e, h3] at h1
    cases h1
  obtain ⟨h1, h2, h3, h4, h5, h6, h7⟩ := h
  obtain ⟨g1, g2, g3, g4, g5, g6, g7⟩ := h'
  refine j_Ct.ofJ (ls := [jr_ t, jr_ t2]) (by decide) rfl rfl ?_
  refine s_Tx_copy_0 g1 g2 h1 h2 g3 h3 (hv6 := fun i a b => g7 i a (by omega)) (k1 := ?_)
  refine s_Tx_copy_15 g1 h1 ⟨_, rfl, rfl, ⟨h1, h2, h3, ?_, g5, ?_, ?_⟩, ?_⟩
  · rw [j_up_eq]
    simp [j_cpy, htc2, g4]
  · intro i a b
    rw [j_up_ne (Or.inl htc.symm)]
    simp only [j_cpy, true_and]
    rw [if_pos (by omega), show 0 + (i - 0) = i by omega]
    exact g6 i a b
  · intro i a b
    rw [j_up_ne (Or.inl htc.symm)]
    simp only [j_cpy, true_and]
    rw [if_pos (by omega), show 0 + (i - 0) = i by omega]
    exact g7 i a b
  · intro a ha
    simp only [List.mem_cons, List.not_mem_nil, or_false, not_or] at ha
    rw [j_up_a ha.1]
    funext i
    simp [j_cpy, ha.2]
theorem bmod_id {x : Int} (h : -128 ≤ x ∧ x ≤ 127) : x.bmod 256 = x := Int.bmod_eq_of_le (by omega) (by omega)
theorem ct_Tx_add {x : Int} (h : rTx K g M t c l) (hx : -128 ≤ x ∧ x ≤ 127) : j_Ct G jm_Tx_add d 0 0 [jr_ t, ji_ x] (N, K, M, g) (j_pI N K g fun z M' => (z = 0 ∧ (l.length : Int) = 24 ∧ M' = M) ∨ (z = 1 ∧ (l.length : Int) < 24 ∧ rTx K g M' t c (l ++ [x]) ∧ j_fr [t, c] M M')) := by
  have htc := h.ne
  obtain ⟨h1, h2, h3, h4, h5, h6, h7⟩ := h
  refine j_Ct.ofJ (ls := [jr_ t, ji_ x]) (by decide) rfl rfl ?_
  refine s_Tx_add_0 h1 (k1 := fun h => ?_) (k2 := fun h => ⟨0, M, rfl, rfl, Or.inl ⟨rfl, by omega, rfl⟩⟩)
  refine s_Tx_add_11 h1 h2 h3 (r4 := by rw [bmod_id hx]; exact hx) (k1 := ⟨1, _, rfl, rfl, Or.inr ⟨rfl, by omega, ⟨h1, h2, h3, ?_, ?_, ?_, ?_⟩, ?_⟩⟩)
  · rw [j_up_ne (Or.inl htc), j_up_eq, h4]
    simp
  · simp; omega
  · intro i a b
    rw [bmod_id hx]
    by_cases hi : i = M t 1
    · rw [hi, j_up_eq, lg_app2 (by omega)]
    · rw [j_up_ne (Or.inr hi), j_up_ne (Or.inl htc.symm), lg_app1 a (by simp at b; omega)]
      exact h6 i a (by simp at b; omega)
  · intro i a b
    rw [bmod_id hx]
    by_cases hi : i = M t 1
    · rw [hi, j_up_eq]; exact hx
    · rw [j_up_ne (Or.inr hi), j_up_ne (Or.inl htc.symm)]
      exact h7 i a b
  · exact (j_fr.up (by simp)).trans (j_fr.up (by simp))
end

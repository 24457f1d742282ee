/-! ===== merging: plain, and the component's parts ===== -/
theorem lgsl {l : List Int} {a b k : Int} (h0 : 0 ≤ a) (hk : 0 ≤ k) (h1 : k < b - a) : lg (sl l a b) k = lg l (a + k) := by
  unfold lg sl
  rw [List.getD_eq_getElem?_getD, List.getD_eq_getElem?_getD, List.getElem?_take, if_pos (by omega), List.getElem?_drop]
  congr 2
  omega
theorem sl_eq {l l2 : List Int} {a b a2 b2 : Int} (ha : 0 ≤ a) (hab : a ≤ b) (hb : b ≤ l.length) (ha2 : 0 ≤ a2) (hab2 : a2 ≤ b2) (hb2 : b2 ≤ l2.length) : sl l a b = sl l2 a2 b2 ↔ sameP l l2 a b a2 b2 := by
  constructor
  · intro h
    have e1 := sl_len ha hab hb
    have e2 := sl_len ha2 hab2 hb2
    refine ⟨by rw [h] at e1; omega, fun k k0 k1 => ?_⟩
    have e1' := e1
    rw [h] at e1'
    rw [← lgsl ha k0 k1, ← lgsl (b := b2) ha2 k0 (by omega), h]
  · rintro ⟨h1, h2⟩
    have gen : ∀ (n : Nat) (a a2 : Int), 0 ≤ a → 0 ≤ a2 → a + n = b → a2 + n = b2 → (∀ k : Int, 0 ≤ k → k < n → lg l (a + k) = lg l2 (a2 + k)) → sl l a b = sl l2 a2 b2 := by
      intro n
      induction n with
      | zero => intro a a2 _ _ e1 e2 _; rw [sl_nil (by omega), sl_nil (by omega)]
      | succ n ih =>
        intro a a2 p1 p2 e1 e2 hk
        rw [sl_cons p1 (by omega) hb, sl_cons p2 (by omega) hb2, ih (a + 1) (a2 + 1) (by omega) (by omega) (by omega) (by omega) (fun k k0 k1 => by
          have := hk (k + 1) (by omega) (by omega)
          rw [show a + 1 + k = a + (k + 1) by omega, show a2 + 1 + k = a2 + (k + 1) by omega]; exact this)]
        have := hk 0 (by omega) (by omega)
        rw [Int.add_zero, Int.add_zero] at this
        rw [this]
    exact gen (b - a).toNat a a2 ha ha2 (by omega) (by omega) (fun k k0 k1 => h2 k k0 (by omega))
/-- one part: what comes of it, and whether it clashes -/
def clB (l0 l1 l2 : List Int) (o0 o1 p0 p1 q0 q1 : Int) : Bool := !decide (sl l0 o0 o1 = sl l1 p0 p1) && (!decide (sl l0 o0 o1 = sl l2 q0 q1) && !decide (sl l1 p0 p1 = sl l2 q0 q1))
def prT (l0 l1 l2 : List Int) (o0 o1 p0 p1 q0 q1 : Int) : List Int :=
  if clB l0 l1 l2 o0 o1 p0 p1 q0 q1 = true then [60] ++ sl l1 p0 p1 ++ [61] ++ sl l2 q0 q1 ++ [62] else if sl l0 o0 o1 = sl l1 p0 p1 then sl l2 q0 q1 else sl l1 p0 p1
def mgF (l0 l1 l2 : List Int) (m1 m2 : Int → Int) : Nat → Int → Int → Int → List Int → Int → Option (Int × List Int)
  | 0, _, _, _, out, cf => some (cf, out)
  | 1, base, one, two, out, cf => if ((out ++ prT l0 l1 l2 base l0.length one l1.length two l2.length).length : Int) ≤ 24 then some (cf + (if clB l0 l1 l2 base l0.length one l1.length two l2.length = true then 1 else 0), out ++ prT l0 l1 l2 base l0.length one l1.length two l2.length) else none
  | s + 2, base, one, two, out, cf => if 0 ≤ m1 (l0.length - ((s : Int) + 1)) ∧ 0 ≤ m2 (l0.length - ((s : Int) + 1)) then
      (if ((out ++ prT l0 l1 l2 base (l0.length - ((s : Int) + 1)) one (m1 (l0.length - ((s : Int) + 1))) two (m2 (l0.length - ((s : Int) + 1))) ++ [lg l0 (l0.length - ((s : Int) + 1))]).length : Int) ≤ 24 then
        mgF l0 l1 l2 m1 m2 (s + 1) (l0.length - ((s : Int) + 1) + 1) (m1 (l0.length - ((s : Int) + 1)) + 1) (m2 (l0.length - ((s : Int) + 1)) + 1) (out ++ prT l0 l1 l2 base (l0.length - ((s : Int) + 1)) one (m1 (l0.length - ((s : Int) + 1))) two (m2 (l0.length - ((s : Int) + 1))) ++ [lg l0 (l0.length - ((s : Int) + 1))]) (cf + (if clB l0 l1 l2 base (l0.length - ((s : Int) + 1)) one (m1 (l0.length - ((s : Int) + 1))) two (m2 (l0.length - ((s : Int) + 1))) = true then 1 else 0))
      else none)
    else mgF l0 l1 l2 m1 m2 (s + 1) base one two out cf
def mgR (A : AS) : Option (Int × List Int) → Int × AS
  | none => (-2, A)
  | some r => (r.1, (upT A.1 3 r.2, A.2))
def fMerge (A : AS) : Int × AS := if letB (A.1 0) = true ∧ letB (A.1 1) = true ∧ letB (A.1 2) = true then
    mgR A (mgF (A.1 0) (A.1 1) (A.1 2) (mtF (A.1 0) (A.1 1) 0) (mtF (A.1 0) (A.1 2) 0) ((A.1 0).length + 1) 0 0 0 [] 0)
  else (-3, A)
theorem chL_sl {l : List Int} {a b : Int} (h : chL l) : chL (sl l a b) := by
  intro i i0 i1
  have hb := h.b
  exact hb _ (sl_mem (lg_mem i0 i1))
theorem chL_1 {c : Int} (h : 0 ≤ c ∧ c ≤ 127) : chL [c] := by
  intro i i0 i1
  simp at i1
  have : i = 0 := by omega
  subst this
  exact h
theorem prT_ch {l0 l1 l2 : List Int} {o0 o1 p0 p1 q0 q1 : Int} (h1 : chL l1) (h2 : chL l2) : chL (prT l0 l1 l2 o0 o1 p0 p1 q0 q1) := by
  unfold prT
  split
  · exact chL_app (chL_app (chL_app (chL_app (chL_1 (by omega)) (chL_sl h1)) (chL_1 (by omega))) (chL_sl h2)) (chL_1 (by omega))
  · split
    · exact chL_sl h2
    · exact chL_sl h1
section
variable {G : j_G} {d N : Nat} {K : Nat → Option (Nat × Nat)} {M : Nat → Int → Int} {g : Nat → Int → Option Nat} {l0 l1 l2 out : List Int}
/-- three texts -/
def c3 (M : Nat → Int → Int) (l0 l1 l2 : List Int) : Prop := cTx M 34 l0 ∧ cTx M 36 l1 ∧ cTx M 38 l2
theorem c3.kept {M' : Nat → Int → Int} (h : c3 M l0 l1 l2) (hf : ∀ a, 34 ≤ a → a ≤ 39 → M' a = M a) : c3 M' l0 l1 l2 := ⟨h.1.kept (hf _ (by omega) (by omega)) (hf _ (by omega) (by omega)), h.2.1.kept (hf _ (by omega) (by omega)) (hf _ (by omega) (by omega)), h.2.2.kept (hf _ (by omega) (by omega)) (hf _ (by omega) (by omega))⟩
/-- ranges of the three -/
def r3 (l0 l1 l2 : List Int) (o0 o1 p0 p1 q0 q1 : Int) : Prop := (0 ≤ o0 ∧ o0 ≤ o1 ∧ o1 ≤ l0.length) ∧ (0 ≤ p0 ∧ p0 ≤ p1 ∧ p1 ≤ l1.length) ∧ (0 ≤ q0 ∧ q0 ≤ q1 ∧ q1 ≤ l2.length)
theorem ct_LP_clash {o0 o1 p0 p1 q0 q1 : Int} (hs : rSh K g) (h3 : c3 M l0 l1 l2) (hr : r3 l0 l1 l2 o0 o1 p0 p1 q0 q1) :
    j_Ct G jm_LP_clash (d + 1) 0 0 [jr_ 0, ji_ o0, ji_ o1, ji_ p0, ji_ p1, ji_ q0, ji_ q1] (N, K, M, g) (j_pI N K g fun z M' => M' = M ∧ z = if clB l0 l1 l2 o0 o1 p0 p1 q0 q1 = true then 1 else 0) := by
  obtain ⟨t0, t1, t2⟩ := h3
  obtain ⟨⟨a1, a2, a3⟩, ⟨b1, b2, b3⟩, c1, c2, c3'⟩ := hr
  have R0 := t0.r hs rfl rfl rfl
  have R1 := t1.r hs rfl rfl rfl
  have R2 := t2.r hs rfl rfl rfl
  have s01 := sl_eq a1 a2 a3 b1 b2 b3
  have s02 := sl_eq a1 a2 a3 c1 c2 c3'
  have s12 := sl_eq b1 b2 b3 c1 c2 c3'
  refine j_Ct.ofJ (ls := [jr_ 0, ji_ o0, ji_ o1, ji_ p0, ji_ p1, ji_ q0, ji_ q1, ju_, ju_, ju_]) (by decide) rfl rfl ?_
  refine s_LP_clash_0 hs.K0 hs.G0_0 (tg2 := 0) hs.K1 (r3 := by omega) (r3' := by omega) (hg5 := hs.G1_0) (tg3 := 0) (hk3 := hs.K1) (r6 := by omega) (r6' := by omega) (hg8 := hs.G1_1) (hk4 := hs.K34) (hC := ct_Tx_same R0 R1 a1 a2 a3 b1 b2 b3) (k1 := fun z M1 hq => ?_)
  obtain ⟨hM, hz⟩ := hq
  subst hM
  refine s_LP_clash_24 hs.K0 hs.G0_0 (tg2 := 0) hs.K1 (r3 := by omega) (r3' := by omega) (hg5 := hs.G1_2) (hk3 := hs.K34) (hC := ct_Tx_same R0 R2 a1 a2 a3 c1 c2 c3') (k1 := fun z2 M1 hq => ?_)
  obtain ⟨hM, hz2⟩ := hq
  subst hM
  have no : sameP l0 l1 o0 o1 p0 p1 ∨ sameP l0 l2 o0 o1 q0 q1 ∨ sameP l1 l2 p0 p1 q0 q1 → (0 : Int) = if clB l0 l1 l2 o0 o1 p0 p1 q0 q1 = true then 1 else 0 := by
    intro q
    rw [← s01, ← s02, ← s12] at q
    rw [if_neg]
    unfold clB
    rcases q with q | q | q <;> simp [q]
  refine s_LP_clash_43 (r1 := by omega) (k1 := fun c => ⟨_, M1, rfl, rfl, rfl, no (Or.inl ?_)⟩) (k2 := fun c => ?_)
  · rcases hz with ⟨-, q⟩ | ⟨q, -⟩
    · exact q
    · omega
  refine s_LP_clash_50 (r1 := by omega) (k1 := fun cc => ⟨_, M1, rfl, rfl, rfl, no (Or.inr (Or.inl ?_))⟩) (k2 := fun cc => ?_)
  · rcases hz2 with ⟨-, q⟩ | ⟨q, -⟩
    · exact q
    · omega
  refine s_LP_clash_55 hs.K0 hs.G0_0 (tg2 := 0) hs.K1 (r3 := by omega) (r3' := by omega) (hg5 := hs.G1_1) (tg3 := 0) (hk3 := hs.K1) (r6 := by omega) (r6' := by omega) (hg8 := hs.G1_2) (hk4 := hs.K36) (hC := ct_Tx_same R1 R2 b1 b2 b3 c1 c2 c3') (k1 := fun z3 M1 hq => ?_)
  obtain ⟨hM, hz3⟩ := hq
  subst hM
  refine s_LP_clash_77 (r1 := by omega) (k1 := fun cd => ⟨_, M1, rfl, rfl, rfl, no (Or.inr (Or.inr ?_))⟩) (k2 := fun cd => ⟨_, M1, rfl, rfl, rfl, ?_⟩)
  · rcases hz3 with ⟨-, q⟩ | ⟨q, -⟩
    · exact q
    · omega
  · have n1 : ¬ sameP l0 l1 o0 o1 p0 p1 := by rcases hz with ⟨q, -⟩ | ⟨-, q⟩; · omega
                                              · exact q
    have n2 : ¬ sameP l0 l2 o0 o1 q0 q1 := by rcases hz2 with ⟨q, -⟩ | ⟨-, q⟩; · omega
                                              · exact q
    have n3 : ¬ sameP l1 l2 p0 p1 q0 q1 := by rcases hz3 with ⟨q, -⟩ | ⟨-, q⟩; · omega
                                              · exact q
    rw [← s01] at n1
    rw [← s02] at n2
    rw [← s12] at n3
    rw [if_pos]
    unfold clB
    simp [n1, n2, n3]
/-- what putting out answers -/
def oP (K : Nat → Option (Nat × Nat)) (g : Nat → Int → Option Nat) (M : Nat → Int → Int) (out : List Int) (z : Int) (M' : Nat → Int → Int) : Prop := j_fr [27, 28] M M' ∧ ((z = 1 ∧ (out.length : Int) ≤ 24 ∧ rTx K g M' 27 28 out) ∨ (z = 0 ∧ 24 < (out.length : Int) ∧ ∃ l', rTx K g M' 27 28 l'))
theorem ct_oadd {x : Int} (h : rTx K g M 27 28 out) (hx : -128 ≤ x ∧ x ≤ 127) : j_Ct G jm_Tx_add d 0 0 [jr_ 27, ji_ x] (N, K, M, g) (j_pI N K g (oP K g M (out ++ [x]))) := by
  refine j_Ct.mono (ct_Tx_add h hx) (fun o σ hq => ?_)
  obtain ⟨z, M', e1, e2, e3⟩ := hq
  refine ⟨z, M', e1, e2, ?_⟩
  rcases e3 with ⟨q1, q2, q3⟩ | ⟨q1, q2, q3, q4⟩
  · subst q3
    exact ⟨j_fr.rfl, Or.inr ⟨q1, by rw [List.length_append, List.length_singleton]; omega, out, h⟩⟩
  · exact ⟨q4, Or.inl ⟨q1, by rw [List.length_append, List.length_singleton]; omega, q3⟩⟩
theorem ct_oall {t : Nat} {l : List Int} {fr to : Int} (h : rTx K g M 27 28 out) (h' : rTx K g M t (t + 1) l) (ht : t = 36 ∨ t = 38) (hf0 : 0 ≤ fr) (hft : fr ≤ to) (hto : to ≤ l.length) : j_Ct G jm_Tx_addAll (d + 1) 0 0 [jr_ 27, jr_ t, ji_ fr, ji_ to] (N, K, M, g) (j_pI N K g (oP K g M (out ++ sl l fr to))) := by
  refine j_Ct.mono (ct_Tx_addAll h h' (by omega) (by omega) hf0 hft hto) (fun o σ hq => ?_)
  obtain ⟨z, M', e1, e2, e3, e4⟩ := hq
  have hl := sl_len hf0 hft hto
  refine ⟨z, M', e1, e2, e3, ?_⟩
  rcases e4 with ⟨q1, q2, q3⟩ | ⟨q1, q2, q3⟩
  · exact Or.inl ⟨q1, by rw [List.length_append]; omega, q3⟩
  · exact Or.inr ⟨q1, by rw [List.length_append]; omega, q3⟩
theorem ct_LP_putClash {p0 p1 q0 q1 : Int} (hs : rSh K g) (h3 : c3 M l0 l1 l2) (hp : 0 ≤ p0 ∧ p0 ≤ p1 ∧ p1 ≤ l1.length) (hq : 0 ≤ q0 ∧ q0 ≤ q1 ∧ q1 ≤ l2.length) (ho : rTx K g M 27 28 out) :
    j_Ct G jm_LP_putClash (d + 2) 0 0 [jr_ 0, ji_ p0, ji_ p1, ji_ q0, ji_ q1] (N, K, M, g) (j_pI N K g (oP K g M (out ++ ([60] ++ sl l1 p0 p1 ++ [61] ++ sl l2 q0 q1 ++ [62])))) := by
  have lp1 := sl_len hp.1 hp.2.1 hp.2.2
  have lq1 := sl_len hq.1 hq.2.1 hq.2.2
  have hlen : ((out ++ ([60] ++ sl l1 p0 p1 ++ [61] ++ sl l2 q0 q1 ++ [62])).length : Int) = out.length + 3 + (p1 - p0) + (q1 - q0) := by
    simp only [List.length_append, List.length_singleton]; omega
  refine j_Ct.ofJ (ls := [jr_ 0, ji_ p0, ji_ p1, ji_ q0, ji_ q1, ju_]) (by decide) rfl rfl ?_
  -- no room
  have no : ∀ (M' : Nat → Int → Int) (u5 : j_V), j_fr [27, 28] M M' → 24 < ((out ++ ([60] ++ sl l1 p0 p1 ++ [61] ++ sl l2 q0 q1 ++ [62])).length : Int) → (∃ l', rTx K g M' 27 28 l') → j_pI N K g (oP K g M (out ++ ([60] ++ sl l1 p0 p1 ++ [61] ++ sl l2 q0 q1 ++ [62]))) (.inl (some (ji_ 0))) (N, K, M', g) := fun M' u5 hf hl hl' => ⟨_, M', rfl, rfl, hf, Or.inr ⟨rfl, hl, hl'⟩⟩
  have k47 : ∀ M' : Nat → Int → Int, j_fr [27, 28] M M' → 24 < ((out ++ ([60] ++ sl l1 p0 p1 ++ [61] ++ sl l2 q0 q1 ++ [62])).length : Int) → (∃ l', rTx K g M' 27 28 l') → j_J G jm_LP_putClash (d + 2) 0 0 47 [jr_ 0, ji_ p0, ji_ p1, ji_ q0, ji_ q1, ju_] [ji_ 0] (N, K, M', g) (j_pI N K g (oP K g M (out ++ ([60] ++ sl l1 p0 p1 ++ [61] ++ sl l2 q0 q1 ++ [62])))) := fun M' hf hl hl' => s_LP_putClash_47 (k1 := fun _ => no M' ju_ hf hl hl') (k2 := fun q => absurd rfl q)
  refine s_LP_putClash_0 hs.K0 hs.G0_6 hs.K27 (ct_oadd ho (by omega)) (fun z M1 hq1 => ?_)
  obtain ⟨f1, h1⟩ := hq1
  refine s_LP_putClash_9 (r1 := by omega) (k1 := fun c => ?_) (k2 := fun c => ?_)
  · rcases h1 with ⟨q, -⟩ | ⟨-, q, q'⟩
    · omega
    · exact k47 M1 f1 (by rw [List.length_append, List.length_singleton] at q; omega) q'
  obtain ⟨l1', r1'⟩ : (((out ++ [60]).length : Int) ≤ 24) ∧ rTx K g M1 27 28 (out ++ [60]) := by
    rcases h1 with ⟨-, q, q'⟩ | ⟨q, -⟩
    · exact ⟨q, q'⟩
    · omega
  have t3 := h3.kept (M' := M1) (fun a a1 a2 => f1 a (by simp; omega))
  refine s_LP_putClash_12 hs.K0 hs.G0_6 hs.G0_0 (tg2 := 0) hs.K1 (r5 := by omega) (r5' := by omega) (hg7 := hs.G1_1) (hk3 := hs.K27) (hC := ct_oall (d := d) r1' (t3.2.1.r hs rfl rfl rfl) (Or.inl rfl) hp.1 hp.2.1 hp.2.2) (k1 := fun z2 M2 hq2 => ?_)
  obtain ⟨f2, h2⟩ := hq2
  have f2' := f1.trans f2
  refine s_LP_putClash_27 (r1 := by omega) (k1 := fun c => ?_) (k2 := fun c => ?_)
  · rcases h2 with ⟨q, -⟩ | ⟨-, q, q'⟩
    · omega
    · exact k47 M2 f2' (by simp only [List.length_append, List.length_singleton] at q; omega) q'
  have r2' : rTx K g M2 27 28 (out ++ [60] ++ sl l1 p0 p1) := by
    rcases h2 with ⟨-, q, q'⟩ | ⟨q, -⟩
    · exact q'
    · omega
  refine s_LP_putClash_30 hs.K0 hs.G0_6 hs.K27 (ct_oadd r2' (by omega)) (fun z3 M3 hq3 => ?_)
  obtain ⟨f3, h3'⟩ := hq3
  have f3' := f2'.trans f3
  refine s_LP_putClash_39 (r1 := by omega) (k1 := fun c => ?_) (k2 := fun c => ?_)
  · rcases h3' with ⟨q, -⟩ | ⟨-, q, q'⟩
    · omega
    · exact k47 M3 f3' (by simp only [List.length_append, List.length_singleton] at q; omega) q'
  have r3' : rTx K g M3 27 28 (out ++ [60] ++ sl l1 p0 p1 ++ [61]) := by
    rcases h3' with ⟨-, q, q'⟩ | ⟨q, -⟩
    · exact q'
    · omega
  refine s_LP_putClash_47 (k1 := fun q => by omega) (k2 := fun _ => ?_)
  have t4 := h3.kept (M' := M3) (fun a a1 a2 => f3' a (by simp; omega))
  refine s_LP_putClash_54 hs.K0 hs.G0_6 hs.G0_0 (tg2 := 0) hs.K1 (r5 := by omega) (r5' := by omega) (hg7 := hs.G1_2) (hk3 := hs.K27) (hC := ct_oall (d := d) r3' (t4.2.2.r hs rfl rfl rfl) (Or.inr rfl) hq.1 hq.2.1 hq.2.2) (k1 := fun z4 M4 hq4 => ?_)
  obtain ⟨f4, h4⟩ := hq4
  have f4' := f3'.trans f4
  refine s_LP_putClash_70 (r1 := by omega) (k1 := fun c => ?_) (k2 := fun c => ?_)
  · rcases h4 with ⟨q, -⟩ | ⟨-, q, q'⟩
    · omega
    · exact no M4 ju_ f4' (by simp only [List.length_append, List.length_singleton] at q; omega) q'
  have r4' : rTx K g M4 27 28 (out ++ [60] ++ sl l1 p0 p1 ++ [61] ++ sl l2 q0 q1) := by
    rcases h4 with ⟨-, q, q'⟩ | ⟨q, -⟩
    · exact q'
    · omega
  refine s_LP_putClash_73 hs.K0 hs.G0_6 hs.K27 (ct_oadd r4' (by omega)) (fun z5 M5 hq5 => ?_)
  obtain ⟨f5, h5⟩ := hq5
  have f5' := f4'.trans f5
  refine s_LP_putClash_82 (r1 := by omega) (k1 := fun c => ?_) (k2 := fun c => ?_)
  · rcases h5 with ⟨q, -⟩ | ⟨-, q, q'⟩
    · omega
    · exact no M5 ju_ f5' (by simp only [List.length_append, List.length_singleton] at q; omega) q'
  · rcases h5 with ⟨-, q, q'⟩ | ⟨q, -⟩
    · refine ⟨_, M5, rfl, rfl, f5', Or.inl ⟨rfl, by simp only [List.length_append, List.length_singleton] at q; omega, ?_⟩⟩
      have e : out ++ ([60] ++ sl l1 p0 p1 ++ [61] ++ sl l2 q0 q1 ++ [62]) = out ++ [60] ++ sl l1 p0 p1 ++ [61] ++ sl l2 q0 q1 ++ [62] := by simp only [List.append_assoc]
      rw [e]; exact q'
    · omega
theorem ct_LP_putPart {o0 o1 p0 p1 q0 q1 : Int} (hs : rSh K g) (h3 : c3 M l0 l1 l2) (hr : r3 l0 l1 l2 o0 o1 p0 p1 q0 q1) (ho : rTx K g M 27 28 out) :
    j_Ct G jm_LP_putPart (d + 2) 0 0 [jr_ 0, ji_ o0, ji_ o1, ji_ p0, ji_ p1, ji_ q0, ji_ q1] (N, K, M, g) (j_pI N K g (oP K g M (out ++ (if sl l0 o0 o1 = sl l1 p0 p1 then sl l2 q0 q1 else sl l1 p0 p1)))) := by
  obtain ⟨t0, t1, t2⟩ := h3
  obtain ⟨⟨a1, a2, a3⟩, ⟨b1, b2, b3⟩, c1, c2, c3'⟩ := hr
  have R0 := t0.r hs rfl rfl rfl
  have R1 := t1.r hs rfl rfl rfl
  have R2 := t2.r hs rfl rfl rfl
  have s01 := sl_eq a1 a2 a3 b1 b2 b3
  refine j_Ct.ofJ (ls := [jr_ 0, ji_ o0, ji_ o1, ji_ p0, ji_ p1, ji_ q0, ji_ q1]) (by decide) rfl rfl ?_
  refine s_LP_putPart_0 hs.K0 hs.G0_0 (tg2 := 0) hs.K1 (r3 := by omega) (r3' := by omega) (hg5 := hs.G1_0) (tg3 := 0) (hk3 := hs.K1) (r6 := by omega) (r6' := by omega) (hg8 := hs.G1_1) (hk4 := hs.K34) (hC := ct_Tx_same R0 R1 a1 a2 a3 b1 b2 b3) (k1 := fun z M1 hq => ?_)
  obtain ⟨hM, hz⟩ := hq
  subst hM
  refine s_LP_putPart_20 (r1 := by omega) (k1 := fun c => ?_) (k2 := fun c => ?_)
  · have n1 : ¬ sl l0 o0 o1 = sl l1 p0 p1 := by
      rw [s01]
      rcases hz with ⟨q, -⟩ | ⟨-, q⟩
      · omega
      · exact q
    rw [if_neg n1]
    refine s_LP_putPart_43 hs.K0 hs.G0_6 hs.G0_0 (tg2 := 0) hs.K1 (r5 := by omega) (r5' := by omega) (hg7 := hs.G1_1) (hk3 := hs.K27) (hC := ct_oall (d := d) ho R1 (Or.inl rfl) b1 b2 b3) (k1 := fun z2 M2 hq2 => ?_)
    exact s_LP_putPart_59 (hz1 := by have := hq2.2; omega) (k1 := ⟨z2, M2, rfl, rfl, hq2⟩)
  · have n1 : sl l0 o0 o1 = sl l1 p0 p1 := by
      rw [s01]
      rcases hz with ⟨-, q⟩ | ⟨q, -⟩
      · exact q
      · omega
    rw [if_pos n1]
    refine s_LP_putPart_23 hs.K0 hs.G0_6 hs.G0_0 (tg2 := 0) hs.K1 (r5 := by omega) (r5' := by omega) (hg7 := hs.G1_2) (hk3 := hs.K27) (hC := ct_oall (d := d) ho R2 (Or.inr rfl) c1 c2 c3') (k1 := fun z2 M2 hq2 => ?_)
    refine s_LP_putPart_40 ?_
    exact s_LP_putPart_59 (hz1 := by have := hq2.2; omega) (k1 := ⟨z2, M2, rfl, rfl, hq2⟩)
end

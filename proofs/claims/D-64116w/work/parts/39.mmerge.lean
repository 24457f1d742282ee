/-! ===== contracts: merging, the model's parts ===== -/
section
variable {G : j_G} {d N : Nat} {K : Nat → Option (Nat × Nat)} {M : Nat → Int → Int} {g : Nat → Int → Option Nat} {m : Nat} {l0 l1 l2 l l' out : List Int}
theorem ct_Mo_sameParts {s t a b a2 b2 : Int} (h : rMo K g m) (hs : 0 ≤ s ∧ s ≤ 3) (ht : 0 ≤ t ∧ t ≤ 3) (h1 : mTx M m s l) (h2 : mTx M m t l') (ha : 0 ≤ a) (hab : a ≤ b) (hb : b ≤ l.length) (ha2 : 0 ≤ a2) (hab2 : a2 ≤ b2) (hb2 : b2 ≤ l'.length) :
    j_Ct G jm_Mo_sameParts d 0 0 [jr_ m, ji_ s, ji_ a, ji_ b, ji_ t, ji_ a2, ji_ b2] (N, K, M, g) (j_pI N K g fun z M' => M' = M ∧ (z = 1 ∧ sl l a b = sl l' a2 b2 ∨ z = 0 ∧ ¬ sl l a b = sl l' a2 b2)) := by
  obtain ⟨p1, p2, p3, p4⟩ := h1
  obtain ⟨q1, q2, q3, q4⟩ := h2
  rw [sl_eq ha hab hb ha2 hab2 hb2]
  refine j_Ct.ofJ (ls := [jr_ m, ji_ s, ji_ a, ji_ b, ji_ t, ji_ a2, ji_ b2, ju_, ju_]) (by decide) rfl rfl ?_
  suffices lp : ∀ (n : Nat) (k : Int) (f : Bool), k + n = b - a → 0 ≤ k → (f = true ↔ b - a = b2 - a2 ∧ ∀ j : Int, 0 ≤ j → j < k → lg l (a + j) = lg l' (a2 + j)) →
      j_J G jm_Mo_sameParts d 0 0 21 [jr_ m, ji_ s, ji_ a, ji_ b, ji_ t, ji_ a2, ji_ b2, ji_ (j_bz f), ji_ k] [] (N, K, M, g) (j_pI N K g fun z M' => M' = M ∧ (z = 1 ∧ sameP l l' a b a2 b2 ∨ z = 0 ∧ ¬ sameP l l' a b a2 b2)) by
    refine s_Mo_sameParts_0 (k1 := fun h => ?_) (k2 := fun h => ?_)
    · exact lp (b - a).toNat 0 false (by omega) (by omega) ⟨fun q => (by cases q), fun q => absurd q.1 h⟩
    · exact lp (b - a).toNat 0 true (by omega) (by omega) ⟨fun _ => ⟨h, fun j x y => by omega⟩, fun _ => rfl⟩
  have fin : ∀ (k : Int) (f : Bool), (f = true → k = b - a) → (f = true ↔ b - a = b2 - a2 ∧ ∀ j : Int, 0 ≤ j → j < k → lg l (a + j) = lg l' (a2 + j)) → k ≤ b - a →
      j_J G jm_Mo_sameParts d 0 0 80 [jr_ m, ji_ s, ji_ a, ji_ b, ji_ t, ji_ a2, ji_ b2, ji_ (j_bz f), ji_ k] [] (N, K, M, g) (j_pI N K g fun z M' => M' = M ∧ (z = 1 ∧ sameP l l' a b a2 b2 ∨ z = 0 ∧ ¬ sameP l l' a b a2 b2)) := by
    intro k f hk hf hkl
    refine s_Mo_sameParts_80 (hz1 := j_bz01 f) (k1 := ⟨_, M, rfl, rfl, rfl, ?_⟩)
    cases f with
    | true =>
      left
      have := hf.mp rfl
      have e := hk rfl
      exact ⟨rfl, this.1, fun j j0 j1 => this.2 j j0 (by omega)⟩
    | false =>
      right
      refine ⟨rfl, fun q => ?_⟩
      have := hf.mpr ⟨q.1, fun j j0 j1 => q.2 j j0 (by omega)⟩
      cases this
  intro n
  induction n with
  | zero =>
    intro k f hk k0 hf
    exact s_Mo_sameParts_21 (k1 := fun _ => fin k f (fun _ => by omega) hf (by omega)) (k2 := fun q => by omega)
  | succ n ih =>
    intro k f hk k0 hf
    refine s_Mo_sameParts_21 (k1 := fun q => by omega) (k2 := fun _ => ?_)
    refine s_Mo_sameParts_29 (r1 := j_bz_rng f) (k1 := fun q => ?_) (k2 := fun q => ?_)
    · have := j_bz_0.mp q
      subst this
      exact fin k false (fun q => by cases q) hf (by omega)
    · have := j_bz_1.mp q
      subst this
      have hf1 := hf.mp rfl
      have e1 : M (m + 1) (24 * s + a + k) = lg l (a + k) := by rw [show 24 * s + a + k = 24 * s + (a + k) by omega]; exact p4 (a + k) (by omega) (by omega)
      have e2 : M (m + 1) (24 * t + a2 + k) = lg l' (a2 + k) := by rw [show 24 * t + a2 + k = 24 * t + (a2 + k) by omega]; exact q4 (a2 + k) (by omega) (by omega)
      have r1 := p3 (a + k) (by omega) (by omega)
      have r2 := q3 (a2 + k) (by omega) (by omega)
      refine s_Mo_sameParts_34 h.o h.g0 h.k1 (r3 := by omega) (r3' := by omega) (r4 := by omega) (r4' := by omega) (r5 := by rw [e1]; omega) (r6 := by rw [e2]; omega) (k1 := fun c => ?_) (k2 := fun c => ?_)
      · rw [e1, e2] at c
        exact ih (k + 1) false (by omega) (by omega) ⟨fun q => (by cases q), fun q => absurd (q.2 k k0 (by omega)) c⟩
      · rw [e1, e2] at c
        refine ih (k + 1) true (by omega) (by omega) ⟨fun _ => ⟨hf1.1, fun j j0 j1 => ?_⟩, fun _ => rfl⟩
        by_cases hj : j = k
        · rw [hj]; exact c
        · exact hf1.2 j j0 (by omega)
/-- what the model puts out -/
def mOu (M : Nat → Int → Int) (m : Nat) (out : List Int) : Prop := M m 35 = out.length ∧ (out.length : Int) ≤ 24 ∧ ∀ i : Int, 0 ≤ i → i < out.length → M (m + 25) i = lg out i
theorem ct_Mo_emit {x : Int} (h : rMo K g m) (ho : mOu M m out) (hl : (out.length : Int) < 24) : j_Ct G jm_Mo_emit d 0 0 [jr_ m, ji_ x] (N, K, M, g) (j_pV N K g fun M' => mOu M' m (out ++ [x]) ∧ j_fm m [35] [m + 25] M M') := by
  obtain ⟨o1, o2, o3⟩ := ho
  refine j_Ct.ofJ (ls := [jr_ m, ji_ x]) (by decide) rfl rfl ?_
  refine s_Mo_emit_0 h.o h.g36 h.k25 (k1 := ⟨_, rfl, rfl, ⟨?_, ?_, fun i i0 i1 => ?_⟩, (j_fm.arr (by omega) (by simp)).trans (j_fm.fld (by simp))⟩)
  · rw [j_up_eq, j_up_a (by omega), o1, List.length_append]; rfl
  · rw [List.length_append, List.length_singleton]; omega
  · rw [List.length_append, List.length_singleton] at i1
    rw [j_up_a (by omega), o1]
    by_cases hi : i = out.length
    · subst hi; rw [j_up_eq, lg_app2 rfl]
    · rw [j_up_ne (Or.inr hi), lg_app1 i0 (by omega)]; exact o3 i i0 (by omega)
def moP (M : Nat → Int → Int) (m : Nat) (out : List Int) (z : Int) (M' : Nat → Int → Int) : Prop := j_fm m [35] [m + 25] M M' ∧ ((z = 1 ∧ (out.length : Int) ≤ 24 ∧ mOu M' m out) ∨ (z = 0 ∧ 24 < (out.length : Int)))
theorem ct_Mo_tryEmit {x : Int} (h : rMo K g m) (ho : mOu M m out) : j_Ct G jm_Mo_tryEmit (d + 1) 0 0 [jr_ m, ji_ x] (N, K, M, g) (j_pI N K g (moP M m (out ++ [x]))) := by
  refine j_Ct.ofJ (ls := [jr_ m, ji_ x]) (by decide) rfl rfl ?_
  have hl := ho.2.1
  refine s_Mo_tryEmit_0 h.o (r1 := by rw [ho.1]; omega) (k1 := fun c => ?_) (k2 := fun c => ⟨_, M, rfl, rfl, j_fm.rfl, Or.inr ⟨rfl, by rw [ho.1] at c; rw [List.length_append, List.length_singleton]; omega⟩⟩)
  rw [ho.1] at c
  refine s_Mo_tryEmit_11 h.o (ct_Mo_emit h ho (by omega)) (fun M1 hq => ?_)
  exact s_Mo_tryEmit_16 ⟨_, M1, rfl, rfl, hq.2, Or.inl ⟨rfl, hq.1.2.1, hq.1⟩⟩
theorem ct_Mo_emitPart {t fr to : Int} (h : rMo K g m) (ht : 0 ≤ t ∧ t ≤ 3) (h1 : mTx M m t l) (ho : mOu M m out) (hf : 0 ≤ fr) (hft : fr ≤ to) (hto : to ≤ l.length) :
    j_Ct G jm_Mo_emitPart (d + 2) 0 0 [jr_ m, ji_ t, ji_ fr, ji_ to] (N, K, M, g) (j_pI N K g (moP M m (out ++ sl l fr to))) := by
  obtain ⟨p1, p2, p3, p4⟩ := h1
  have hsl := sl_len hf hft hto
  refine j_Ct.ofJ (ls := [jr_ m, ji_ t, ji_ fr, ji_ to, ju_, ju_]) (by decide) rfl rfl ?_
  refine s_Mo_emitPart_0 ?_
  have bad : ∀ (i : Int) (M1 : Nat → Int → Int), j_fm m [35] [m + 25] M M1 → 24 < (out.length : Int) + (to - fr) → -2147483648 ≤ i ∧ i ≤ 2147483647 → j_J G jm_Mo_emitPart (d + 2) 0 0 6 [jr_ m, ji_ t, ji_ fr, ji_ to, ji_ 0, ji_ i] [] (N, K, M1, g) (j_pI N K g (moP M m (out ++ sl l fr to))) := by
    intro i M1 hf1 hl hi
    have k41 : j_J G jm_Mo_emitPart (d + 2) 0 0 41 [jr_ m, ji_ t, ji_ fr, ji_ to, ji_ 0, ji_ i] [] (N, K, M1, g) (j_pI N K g (moP M m (out ++ sl l fr to))) := s_Mo_emitPart_41 (hz1 := Or.inl rfl) (k1 := ⟨_, M1, rfl, rfl, hf1, Or.inr ⟨rfl, by rw [List.length_append]; omega⟩⟩)
    exact s_Mo_emitPart_6 (k1 := fun _ => k41) (k2 := fun _ => s_Mo_emitPart_12 (k1 := fun _ => k41) (k2 := fun q => absurd rfl q))
  suffices lp : ∀ (k : Nat) (i : Int) (M1 : Nat → Int → Int), i + k = to → fr ≤ i → mOu M1 m (out ++ sl l fr i) → j_fm m [35] [m + 25] M M1 →
      j_J G jm_Mo_emitPart (d + 2) 0 0 6 [jr_ m, ji_ t, ji_ fr, ji_ to, ji_ 1, ji_ i] [] (N, K, M1, g) (j_pI N K g (moP M m (out ++ sl l fr to))) from
    lp (to - fr).toNat fr M (by omega) (by omega) (by rw [sl_nil (Int.le_refl _), List.append_nil]; exact ho) j_fm.rfl
  intro k
  induction k with
  | zero =>
    intro i M1 hi hfi hou hf1
    have e : i = to := by omega
    subst e
    refine s_Mo_emitPart_6 (k1 := fun _ => ?_) (k2 := fun q => by omega)
    exact s_Mo_emitPart_41 (hz1 := Or.inr rfl) (k1 := ⟨_, M1, rfl, rfl, hf1, Or.inl ⟨rfl, hou.2.1, hou⟩⟩)
  | succ k ih =>
    intro i M1 hi hfi hou hf1
    have e := p4 i (by omega) (by omega)
    have e' : M1 (m + 1) (24 * t + i) = lg l i := by rw [hf1.1 _ (by omega) (by simp)]; exact e
    have hsi := sl_len hf hfi (by omega : i ≤ l.length)
    refine s_Mo_emitPart_6 (k1 := fun q => by omega) (k2 := fun _ => ?_)
    refine s_Mo_emitPart_12 (k1 := fun q => by omega) (k2 := fun _ => ?_)
    refine s_Mo_emitPart_17 h.o h.g0 h.k1 (r3 := by omega) (r3' := by omega) (hC := ct_Mo_tryEmit (d := d) h hou) (k1 := fun z M2 hq => ?_)
    rw [e'] at hq
    obtain ⟨f2, h2⟩ := hq
    refine s_Mo_emitPart_33 ?_
    rcases h2 with ⟨z1, z2, z3⟩ | ⟨z1, z2⟩
    · rw [z1]
      refine ih (i + 1) M2 (by omega) (by omega) ?_ (hf1.trans f2)
      rw [sl_succ hf hfi (by omega), ← List.append_assoc]
      exact z3
    · rw [z1]
      refine bad (i + 1) M2 (hf1.trans f2) ?_ (by omega)
      rw [List.length_append, List.length_append, List.length_singleton] at z2
      omega
/-- three texts of the model -/
def m3 (M : Nat → Int → Int) (m : Nat) (l0 l1 l2 : List Int) : Prop := mTx M m 0 l0 ∧ mTx M m 1 l1 ∧ mTx M m 2 l2
theorem m3.kept {M' : Nat → Int → Int} {F : List Int} {L : List Nat} (h : m3 M m l0 l1 l2) (hf : j_fm m F L M M') (h1 : m + 1 ∉ L) (h2 : m + 2 ∉ L) : m3 M' m l0 l1 l2 := ⟨h.1.kept (hf.1 _ (by omega) h1) (hf.1 _ (by omega) h2), h.2.1.kept (hf.1 _ (by omega) h1) (hf.1 _ (by omega) h2), h.2.2.kept (hf.1 _ (by omega) h1) (hf.1 _ (by omega) h2)⟩
theorem ct_Mo_mergeParts {o0 o1 p0 p1 q0 q1 : Int} (h : rMo K g m) (h3 : m3 M m l0 l1 l2) (hr : r3 l0 l1 l2 o0 o1 p0 p1 q0 q1) (ho : mOu M m out) :
    j_Ct G jm_Mo_mergeParts (d + 3) 0 0 [jr_ m, ji_ o0, ji_ o1, ji_ p0, ji_ p1, ji_ q0, ji_ q1] (N, K, M, g) (j_pI N K g fun z M' => j_fm m [35] [m + 25] M M' ∧ ((z = (if clB l0 l1 l2 o0 o1 p0 p1 q0 q1 = true then 1 else 0) ∧ ((out ++ prT l0 l1 l2 o0 o1 p0 p1 q0 q1).length : Int) ≤ 24 ∧ mOu M' m (out ++ prT l0 l1 l2 o0 o1 p0 p1 q0 q1)) ∨ (z = -1 ∧ 24 < ((out ++ prT l0 l1 l2 o0 o1 p0 p1 q0 q1).length : Int)))) := by
  obtain ⟨T0, T1, T2⟩ := h3
  obtain ⟨⟨a1, a2, a3⟩, ⟨b1, b2, b3⟩, c1, c2, c3'⟩ := hr
  have lp1 := sl_len b1 b2 b3
  have lq1 := sl_len c1 c2 c3'
  refine j_Ct.ofJ (ls := [jr_ m, ji_ o0, ji_ o1, ji_ p0, ji_ p1, ji_ q0, ji_ q1, ju_]) (by decide) rfl rfl ?_
  refine s_Mo_mergeParts_0 h.o (ct_Mo_sameParts h (by omega) (by omega) T1 T0 b1 b2 b3 a1 a2 a3) (fun z M1 hq => ?_)
  obtain ⟨hM, hz⟩ := hq
  subst hM
  refine s_Mo_mergeParts_11 (r1 := by omega) (k1 := fun c => ?_) (k2 := fun c => ?_)
  · have n1 : ¬ sl l0 o0 o1 = sl l1 p0 p1 := by
      rcases hz with ⟨q, -⟩ | ⟨-, q⟩
      · omega
      · exact fun e => q e.symm
    -- the first part
    have k63 : clB l0 l1 l2 o0 o1 p0 p1 q0 q1 = false → j_J G jm_Mo_mergeParts (d + 3) 0 0 63 [jr_ m, ji_ o0, ji_ o1, ji_ p0, ji_ p1, ji_ q0, ji_ q1, ju_] [] (N, K, M1, g) (j_pI N K g fun z M' => j_fm m [35] [m + 25] M1 M' ∧ ((z = (if clB l0 l1 l2 o0 o1 p0 p1 q0 q1 = true then 1 else 0) ∧ ((out ++ prT l0 l1 l2 o0 o1 p0 p1 q0 q1).length : Int) ≤ 24 ∧ mOu M' m (out ++ prT l0 l1 l2 o0 o1 p0 p1 q0 q1)) ∨ (z = -1 ∧ 24 < ((out ++ prT l0 l1 l2 o0 o1 p0 p1 q0 q1).length : Int)))) := by
      intro hcl
      have e : prT l0 l1 l2 o0 o1 p0 p1 q0 q1 = sl l1 p0 p1 := by unfold prT; rw [if_neg (by rw [hcl]; simp), if_neg n1]
      rw [e, if_neg (by rw [hcl]; simp)]
      refine s_Mo_mergeParts_63 h.o (ct_Mo_emitPart (d := d) h (by omega) T1 ho b1 b2 b3) (fun w M2 hw => ?_)
      obtain ⟨f2, h2⟩ := hw
      refine s_Mo_mergeParts_71 (r1 := by omega) (k1 := fun c => ⟨_, M2, rfl, rfl, f2, Or.inr ⟨rfl, by omega⟩⟩) (k2 := fun c => ⟨_, M2, rfl, rfl, f2, Or.inl ⟨rfl, ?_⟩⟩)
      rcases h2 with ⟨-, y⟩ | ⟨y, -⟩
      · exact y
      · omega
    refine s_Mo_mergeParts_32 h.o (ct_Mo_sameParts h (by omega) (by omega) T2 T0 c1 c2 c3' a1 a2 a3) (fun z2 M2 hq => ?_)
    obtain ⟨hM, hz2⟩ := hq
    subst hM
    refine s_Mo_mergeParts_44 (r1 := by omega) (k1 := fun c => k63 ?_) (k2 := fun c => ?_)
    · rcases hz2 with ⟨-, q⟩ | ⟨q, -⟩
      · unfold clB; simp [q.symm]
      · omega
    have n2 : ¬ sl l0 o0 o1 = sl l2 q0 q1 := by
      rcases hz2 with ⟨q, -⟩ | ⟨-, q⟩
      · omega
      · exact fun e => q e.symm
    refine s_Mo_mergeParts_47 h.o (ct_Mo_sameParts h (by omega) (by omega) T2 T1 c1 c2 c3' b1 b2 b3) (fun z3 M3 hq => ?_)
    obtain ⟨hM, hz3⟩ := hq
    subst hM
    refine s_Mo_mergeParts_60 (r1 := by omega) (k1 := fun c => ?_) (k2 := fun c => k63 ?_)
    · have n3 : ¬ sl l1 p0 p1 = sl l2 q0 q1 := by
        rcases hz3 with ⟨q, -⟩ | ⟨-, q⟩
        · omega
        · exact fun e => q e.symm
      have hcl : clB l0 l1 l2 o0 o1 p0 p1 q0 q1 = true := by unfold clB; simp [n1, n2, n3]
      have e : prT l0 l1 l2 o0 o1 p0 p1 q0 q1 = [60] ++ sl l1 p0 p1 ++ [61] ++ sl l2 q0 q1 ++ [62] := by unfold prT; rw [if_pos hcl]
      rw [e, if_pos hcl]
      have hlen : ((out ++ ([60] ++ sl l1 p0 p1 ++ [61] ++ sl l2 q0 q1 ++ [62])).length : Int) = out.length + 3 + (p1 - p0) + (q1 - q0) := by
        simp only [List.length_append, List.length_singleton]; omega
      have no : ∀ M' : Nat → Int → Int, j_fm m [35] [m + 25] M3 M' → 24 < (out.length : Int) + 3 + (p1 - p0) + (q1 - q0) → j_J G jm_Mo_mergeParts (d + 3) 0 0 135 [jr_ m, ji_ o0, ji_ o1, ji_ p0, ji_ p1, ji_ q0, ji_ q1, ju_] [ji_ 0] (N, K, M', g) (j_pI N K g fun z M' => j_fm m [35] [m + 25] M3 M' ∧ ((z = 1 ∧ ((out ++ ([60] ++ sl l1 p0 p1 ++ [61] ++ sl l2 q0 q1 ++ [62])).length : Int) ≤ 24 ∧ mOu M' m (out ++ ([60] ++ sl l1 p0 p1 ++ [61] ++ sl l2 q0 q1 ++ [62]))) ∨ (z = -1 ∧ 24 < ((out ++ ([60] ++ sl l1 p0 p1 ++ [61] ++ sl l2 q0 q1 ++ [62])).length : Int)))) := fun M' hf hl => s_Mo_mergeParts_135 (k1 := fun _ => ⟨_, M', rfl, rfl, hf, Or.inr ⟨rfl, by omega⟩⟩) (k2 := fun q => absurd rfl q)
      refine s_Mo_mergeParts_80 h.o (ct_Mo_tryEmit (d := d + 1) h ho) (fun w1 Ma hw => ?_)
      obtain ⟨fa, ha⟩ := hw
      refine s_Mo_mergeParts_86 (r1 := by omega) (k1 := fun c => no Ma fa ?_) (k2 := fun c => ?_)
      · rcases ha with ⟨y, -⟩ | ⟨-, y⟩
        · omega
        · rw [List.length_append, List.length_singleton] at y; omega
      have oa : mOu Ma m (out ++ [60]) := by
        rcases ha with ⟨-, -, y⟩ | ⟨y, -⟩
        · exact y
        · omega
      have T1a := T1.kept (fa.1 (m + 1) (by omega) (by simp)) (fa.1 (m + 2) (by omega) (by simp))
      refine s_Mo_mergeParts_89 h.o (ct_Mo_emitPart (d := d) h (by omega) T1a oa b1 b2 b3) (fun w2 Mb hw => ?_)
      obtain ⟨fb0, hb⟩ := hw
      have fb := fa.trans fb0
      refine s_Mo_mergeParts_97 (r1 := by omega) (k1 := fun c => no Mb fb ?_) (k2 := fun c => ?_)
      · rcases hb with ⟨y, -⟩ | ⟨-, y⟩
        · omega
        · simp only [List.length_append, List.length_singleton] at y; omega
      have ob : mOu Mb m (out ++ [60] ++ sl l1 p0 p1) := by
        rcases hb with ⟨-, -, y⟩ | ⟨y, -⟩
        · exact y
        · omega
      refine s_Mo_mergeParts_100 h.o (ct_Mo_tryEmit (d := d + 1) h ob) (fun w3 Mc hw => ?_)
      obtain ⟨fc0, hc⟩ := hw
      have fc := fb.trans fc0
      refine s_Mo_mergeParts_106 (r1 := by omega) (k1 := fun c => no Mc fc ?_) (k2 := fun c => ?_)
      · rcases hc with ⟨y, -⟩ | ⟨-, y⟩
        · omega
        · simp only [List.length_append, List.length_singleton] at y; omega
      have oc : mOu Mc m (out ++ [60] ++ sl l1 p0 p1 ++ [61]) := by
        rcases hc with ⟨-, -, y⟩ | ⟨y, -⟩
        · exact y
        · omega
      have T2c := T2.kept (fc.1 (m + 1) (by omega) (by simp)) (fc.1 (m + 2) (by omega) (by simp))
      refine s_Mo_mergeParts_109 h.o (ct_Mo_emitPart (d := d) h (by omega) T2c oc c1 c2 c3') (fun w4 Md hw => ?_)
      obtain ⟨fd0, hd⟩ := hw
      have fd := fc.trans fd0
      refine s_Mo_mergeParts_118 (r1 := by omega) (k1 := fun c => no Md fd ?_) (k2 := fun c => ?_)
      · rcases hd with ⟨y, -⟩ | ⟨-, y⟩
        · omega
        · simp only [List.length_append, List.length_singleton] at y; omega
      have od : mOu Md m (out ++ [60] ++ sl l1 p0 p1 ++ [61] ++ sl l2 q0 q1) := by
        rcases hd with ⟨-, -, y⟩ | ⟨y, -⟩
        · exact y
        · omega
      refine s_Mo_mergeParts_121 h.o (ct_Mo_tryEmit (d := d + 1) h od) (fun w5 Me hw => ?_)
      obtain ⟨fe0, he⟩ := hw
      have fe := fd.trans fe0
      refine s_Mo_mergeParts_127 (r1 := by omega) (k1 := fun c => no Me fe ?_) (k2 := fun c => ?_)
      · rcases he with ⟨y, -⟩ | ⟨-, y⟩
        · omega
        · simp only [List.length_append, List.length_singleton] at y; omega
      · refine s_Mo_mergeParts_135 (k1 := fun q => by omega) (k2 := fun _ => ⟨_, Me, rfl, rfl, fe, Or.inl ⟨rfl, ?_⟩⟩)
        rcases he with ⟨-, y, y'⟩ | ⟨y, -⟩
        · have e2 : out ++ ([60] ++ sl l1 p0 p1 ++ [61] ++ sl l2 q0 q1 ++ [62]) = out ++ [60] ++ sl l1 p0 p1 ++ [61] ++ sl l2 q0 q1 ++ [62] := by simp only [List.append_assoc]
          rw [e2]
          exact ⟨y, y'⟩
        · omega
    · rcases hz3 with ⟨-, q⟩ | ⟨q, -⟩
      · unfold clB; simp [q.symm]
      · omega
  · have n1 : sl l0 o0 o1 = sl l1 p0 p1 := by
      rcases hz with ⟨-, q⟩ | ⟨q, -⟩
      · exact q.symm
      · omega
    have hcl : clB l0 l1 l2 o0 o1 p0 p1 q0 q1 = false := by unfold clB; simp [n1]
    have e : prT l0 l1 l2 o0 o1 p0 p1 q0 q1 = sl l2 q0 q1 := by unfold prT; rw [if_neg (by rw [hcl]; simp), if_pos n1]
    rw [e, if_neg (by rw [hcl]; simp)]
    refine s_Mo_mergeParts_14 h.o (ct_Mo_emitPart (d := d) h (by omega) T2 ho c1 c2 c3') (fun w M2 hw => ?_)
    obtain ⟨f2, h2⟩ := hw
    refine s_Mo_mergeParts_23 (r1 := by omega) (k1 := fun c => ⟨_, M2, rfl, rfl, f2, Or.inr ⟨rfl, by omega⟩⟩) (k2 := fun c => ⟨_, M2, rfl, rfl, f2, Or.inl ⟨rfl, ?_⟩⟩)
    rcases h2 with ⟨-, y⟩ | ⟨y, -⟩
    · exact y
    · omega
/-- what was put out becomes text t -/
theorem ct_Mo_keep {t : Int} (h : rMo K g m) (ht : 0 ≤ t ∧ t ≤ 3) (ho : mOu M m out) (hch : chL out) : j_Ct G jm_Mo_keep d 0 0 [jr_ m, ji_ t] (N, K, M, g) (j_pV N K g fun M' => mTx M' m t out ∧ (∀ a, a ≠ m + 1 → a ≠ m + 2 → M' a = M a) ∧ (∀ s i : Int, 0 ≤ s → s ≤ 3 → s ≠ t → 0 ≤ i → i < 24 → M' (m + 1) (24 * s + i) = M (m + 1) (24 * s + i)) ∧ ∀ s : Int, s ≠ t → M' (m + 2) s = M (m + 2) s) := by
  obtain ⟨o1, o2, o3⟩ := ho
  refine j_Ct.ofJ (ls := [jr_ m, ji_ t, ju_]) (by decide) rfl rfl ?_
  refine s_Mo_keep_0 h.o h.g1 h.k2 (r3 := by omega) (r3' := by omega) (k1 := ?_)
  suffices lp : ∀ (k : Nat) (i : Int) (M1 : Nat → Int → Int), i + k = out.length → 0 ≤ i → M1 (m + 2) t = out.length → (∀ j : Int, 0 ≤ j → j < i → M1 (m + 1) (24 * t + j) = lg out j) → (∀ a, a ≠ m + 1 → a ≠ m + 2 → M1 a = M a) → (∀ s i : Int, 0 ≤ s → s ≤ 3 → s ≠ t → 0 ≤ i → i < 24 → M1 (m + 1) (24 * s + i) = M (m + 1) (24 * s + i)) → (∀ s : Int, s ≠ t → M1 (m + 2) s = M (m + 2) s) →
      j_J G jm_Mo_keep d 0 0 12 [jr_ m, ji_ t, ji_ i] [] (N, K, M1, g) (j_pV N K g fun M' => mTx M' m t out ∧ (∀ a, a ≠ m + 1 → a ≠ m + 2 → M' a = M a) ∧ (∀ s i : Int, 0 ≤ s → s ≤ 3 → s ≠ t → 0 ≤ i → i < 24 → M' (m + 1) (24 * s + i) = M (m + 1) (24 * s + i)) ∧ ∀ s : Int, s ≠ t → M' (m + 2) s = M (m + 2) s) from
    lp out.length 0 _ (by omega) (by omega) (by rw [j_up_eq, o1]) (fun j a b => by omega) (fun a _ a2 => j_up_a a2) (fun s i _ _ _ _ _ => by rw [j_up_a (by omega)]) (fun s hs => j_up_ne (Or.inr hs))
  intro k
  induction k with
  | zero =>
    intro i M1 hi i0 h2 h1 hf hf1 hf2
    have e35 : M1 m 35 = out.length := by rw [hf m (by omega) (by omega)]; exact o1
    exact s_Mo_keep_12 h.o (r2 := by rw [e35]; omega) (k1 := fun _ => ⟨M1, rfl, rfl, ⟨h2, o2, hch, fun j j0 j1 => h1 j j0 (by omega)⟩, hf, hf1, hf2⟩) (k2 := fun q => by omega)
  | succ k ih =>
    intro i M1 hi i0 h2 h1 hf hf1 hf2
    have e35 : M1 m 35 = out.length := by rw [hf m (by omega) (by omega)]; exact o1
    have e25 : M1 (m + 25) i = lg out i := by rw [hf _ (by omega) (by omega)]; exact o3 i i0 (by omega)
    refine s_Mo_keep_12 h.o (r2 := by rw [e35]; omega) (k1 := fun q => by omega) (k2 := fun _ => ?_)
    refine s_Mo_keep_20 h.o h.g0 h.g36 h.k25 (r5 := by omega) (r5' := by omega) (hk3 := h.k1) (r6 := by omega) (r6' := by omega) (k1 := ?_)
    rw [e25]
    refine ih (i + 1) _ (by omega) (by omega) (by rw [j_up_a (by omega)]; exact h2) (fun j j0 j1 => ?_) (fun a a1 a2 => by rw [j_up_a a1]; exact hf a a1 a2) (fun s' i' s0 s1 s2 i0' i1' => by rw [j_up_ne (Or.inr (by omega))]; exact hf1 s' i' s0 s1 s2 i0' i1') (fun s hs => by rw [j_up_a (by omega)]; exact hf2 s hs)
    by_cases hj : j = i
    · subst hj; rw [j_up_eq]
    · rw [j_up_ne (Or.inr (by omega))]; exact h1 j j0 (by omega)
end

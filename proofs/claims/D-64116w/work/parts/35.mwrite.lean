/-! ===== contracts: the model writes ===== -/
/-- the end of the last change of a hunk -/
def loF (ctx : Int) : Int → Int → List (Int × Int) → Int
  | e, _, [] => e
  | e, k, p :: S => if k - e ≤ 2 * ctx then (if p.1 ≠ 32 then loF ctx (k + 1) (k + 1) S else loF ctx e (k + 1) S) else e
section
variable {ctx : Int}
theorem lo_ch (hc : 0 ≤ ctx) (X S : List (Int × Int)) : ∀ e, (∀ p ∈ X, p.1 ≠ 32) → loF ctx e e (X ++ S) = loF ctx (e + X.length) (e + X.length) S := by
  induction X with
  | nil => intro e _; simp
  | cons p X ih =>
    intro e h
    rw [List.cons_append, loF, if_pos (by omega), if_pos (h p (by simp)), ih (e + 1) (fun q hq => h q (by simp [hq])), List.length_cons, show e + 1 + (X.length : Int) = e + ((X.length + 1 : Nat) : Int) by omega]
theorem lo_kp1 (X S : List (Int × Int)) : ∀ e k, (∀ p ∈ X, p.1 = 32) → k - e + X.length ≤ 2 * ctx + 1 → loF ctx e k (X ++ S) = loF ctx e (k + X.length) S := by
  induction X with
  | nil => intro e k _ _; simp
  | cons p X ih =>
    intro e k h hl
    rw [List.length_cons] at hl
    rw [List.cons_append, loF, if_pos (by omega), if_neg (by rw [h p (by simp)]; simp), ih e (k + 1) (fun q hq => h q (by simp [hq])) (by omega), List.length_cons, show k + 1 + (X.length : Int) = k + ((X.length + 1 : Nat) : Int) by omega]
theorem lo_kp2 (X S : List (Int × Int)) : ∀ e k, (∀ p ∈ X, p.1 = 32) → (2 * ctx + 1 < k - e + X.length ∨ (2 * ctx + 1 = k - e + X.length) ∨ S = []) → loF ctx e k (X ++ S) = e := by
  induction X with
  | nil =>
    intro e k _ h
    rw [List.nil_append]
    cases S with
    | nil => rfl
    | cons p S => simp at h; rw [loF, if_neg (by omega)]
  | cons p X ih =>
    intro e k h hl
    rw [List.cons_append, loF]
    by_cases q : k - e ≤ 2 * ctx
    · rw [if_pos q, if_neg (by rw [h p (by simp)]; simp)]
      refine ih e (k + 1) (fun q hq => h q (by simp [hq])) ?_
      rw [List.length_cons] at hl
      rcases hl with a | a | a
      · left; omega
      · right; left; omega
      · right; right; exact a
    · rw [if_neg q]
theorem kpL_32 {k : Int} {l : List Int} {a b : Int} : ∀ p ∈ kpL k l a b, p.1 = k := by
  intro p hp
  unfold kpL at hp
  obtain ⟨x, -, rfl⟩ := List.mem_map.mp hp
  rfl
theorem lo_mid {l1 l2 : List Int} {n m : Int} (hn : n = l1.length) (hm : m = l2.length) (hc : 0 ≤ ctx) (R : List c4) : ∀ (c : c4) (i j e : Int), 0 ≤ i → 0 ≤ j → vl n m i j (c :: R) →
    loF ctx e e (midOf l1 l2 c.1 (c :: R) n) = e + (midOf l1 l2 c.1 (c :: R.take (tkN ctx c R)) (lsC c (R.take (tkN ctx c R))).2.1).length := by
  induction R with
  | nil =>
    intro c i j e hi hj ⟨h1, h2, h3, h4, h5, h6, h7, h8⟩
    simp only [tkN, List.take_nil, lsC, midOf]
    rw [kpL_nil (Int.le_refl c.1), kpL_nil (Int.le_refl c.2.1), List.nil_append, List.nil_append, List.append_nil, ← List.append_assoc]
    rw [lo_ch hc (kpL 45 l1 c.1 c.2.1 ++ kpL 43 l2 c.2.2.1 c.2.2.2) _ e (fun p hp => by
      rcases List.mem_append.mp hp with q | q
      · rw [kpL_32 p q]; simp
      · rw [kpL_32 p q]; simp)]
    have := lo_kp2 (ctx := ctx) (kpL 32 l1 c.2.1 n) [] (e + (kpL 45 l1 c.1 c.2.1 ++ kpL 43 l2 c.2.2.1 c.2.2.2).length) (e + (kpL 45 l1 c.1 c.2.1 ++ kpL 43 l2 c.2.2.1 c.2.2.2).length) kpL_32 (Or.inr (Or.inr rfl))
    rw [List.append_nil] at this
    exact this
  | cons c' R ih =>
    intro c i j e hi hj ⟨h1, h2, h3, h4, h5, h6, h7, h8⟩
    have h8' := h8
    obtain ⟨k1, k2, k3, k4, k5, k6, k7, k8⟩ := h8
    have ihc := fun e => ih c' c.2.1 c.2.2.2 e (by omega) (by omega) h8'
    have hkl := kpL_len (k := 32) (l := l1) (a := c.2.1) (b := c'.1) (by omega) k1 (by omega)
    have hsplit : midOf l1 l2 c.1 (c :: c' :: R) n = (kpL 45 l1 c.1 c.2.1 ++ kpL 43 l2 c.2.2.1 c.2.2.2) ++ (kpL 32 l1 c.2.1 c'.1 ++ midOf l1 l2 c'.1 (c' :: R) n) := by
      rw [midOf, kpL_nil (Int.le_refl c.1), List.nil_append, mid_kp (c' :: R) (s := c.2.1) (t := c'.1) (by omega) k1 (Int.le_refl _), List.append_assoc]
    rw [hsplit, lo_ch hc (kpL 45 l1 c.1 c.2.1 ++ kpL 43 l2 c.2.2.1 c.2.2.2) _ e (fun p hp => by
      rcases List.mem_append.mp hp with q | q
      · rw [kpL_32 p q]; simp
      · rw [kpL_32 p q]; simp)]
    by_cases hgap : c'.1 - c.2.1 ≤ 2 * ctx
    · rw [lo_kp1 (kpL 32 l1 c.2.1 c'.1) _ _ _ kpL_32 (by omega)]
      -- the next change begins
      have hnext : ∀ E : Int, loF ctx E (E + (kpL 32 l1 c.2.1 c'.1).length) (midOf l1 l2 c'.1 (c' :: R) n) = loF ctx (E + (kpL 32 l1 c.2.1 c'.1).length) (E + (kpL 32 l1 c.2.1 c'.1).length) (midOf l1 l2 c'.1 (c' :: R) n) := by
        intro E
        obtain ⟨p, S, hp, hpS⟩ : ∃ p S, p.1 ≠ (32 : Int) ∧ midOf l1 l2 c'.1 (c' :: R) n = p :: S := by
          rw [midOf, kpL_nil (Int.le_refl c'.1), List.nil_append]
          by_cases q : c'.1 < c'.2.1
          · rw [kpL_cons (by omega) q (by omega)]
            exact ⟨_, _, by simp, rfl⟩
          · rw [kpL_nil (by omega : c'.2.1 ≤ c'.1), List.nil_append, kpL_cons (l := l2) (by omega) (by omega) (by omega)]
            exact ⟨_, _, by simp, rfl⟩
        rw [hpS, loF, loF, if_pos (by omega), if_pos hp, if_pos (by omega), if_pos hp]
      rw [hnext, ihc]
      have ht : tkN ctx c (c' :: R) = tkN ctx c' R + 1 := by rw [tkN, if_pos hgap]
      rw [ht, List.take_succ_cons]
      simp only [lsC]
      have e2 : ∀ (T : List c4) (z : Int), midOf l1 l2 c.1 (c :: T) z = kpL 45 l1 c.1 c.2.1 ++ (kpL 43 l2 c.2.2.1 c.2.2.2 ++ midOf l1 l2 c.2.1 T z) := fun T z => by rw [midOf, kpL_nil (Int.le_refl c.1), List.nil_append]
      rw [e2]
      have := mid_kp (l1 := l1) (l2 := l2) (z := (lsC c' (R.take (tkN ctx c' R))).2.1) (c' :: R.take (tkN ctx c' R)) (s := c.2.1) (t := c'.1) (by omega) k1 (Int.le_refl _)
      rw [this]
      simp only [List.length_append]
      omega
    · have ht : tkN ctx c (c' :: R) = 0 := by rw [tkN, if_neg hgap]
      rw [ht, lo_kp2 (kpL 32 l1 c.2.1 c'.1) _ _ _ kpL_32 (by omega)]
      simp only [List.take_zero, lsC, midOf]
      rw [kpL_nil (Int.le_refl c.1), kpL_nil (Int.le_refl c.2.1), List.nil_append, List.append_nil]
end
section
variable {G : j_G} {d N : Nat} {K : Nat → Option (Nat × Nat)} {M : Nat → Int → Int} {g : Nat → Int → Option Nat} {m : Nat} {l1 l2 : List Int}
/-- small signs -/
def smO (O : List (Int × Int)) : Prop := ∀ p ∈ O, 0 ≤ p.1 ∧ p.1 ≤ 255 ∧ 0 ≤ p.2 ∧ p.2 ≤ 255
theorem oth_r (k : Int) (X : List (Int × Int)) : 0 ≤ oth k X ∧ oth k X ≤ X.length := by
  induction X with
  | nil => simp [oth]
  | cons p X ih => rw [oth, List.length_cons]; split <;> omega
theorem ct_Mo_others {A X B : List (Int × Int)} {k : Int} (h : rMo K g m) (h2 : mOp M m 0 (A ++ (X ++ B))) (hO : ((A ++ (X ++ B)).length : Int) ≤ 48) (hsm : smO (A ++ (X ++ B))) (hk : 0 ≤ k ∧ k ≤ 255) :
    j_Ct G jm_Mo_others d 0 0 [jr_ m, ji_ A.length, ji_ ((A.length + X.length : Nat) : Int), ji_ k] (N, K, M, g) (j_pI N K g fun z M' => M' = M ∧ z = oth k X) := by
  refine j_Ct.ofJ (ls := [jr_ m, ji_ A.length, ji_ ((A.length + X.length : Nat) : Int), ji_ k, ju_, ju_]) (by decide) rfl rfl ?_
  refine s_Mo_others_0 ?_
  have hAX := (mOp.app A (X ++ B) 0).mp h2
  have hX := ((mOp.app X B _).mp hAX.2).1
  rw [Int.zero_add] at hX
  rw [List.length_append, List.length_append] at hO
  suffices lp : ∀ (Y : List (Int × Int)) (x : Int) (a : Int), mOp M m x Y → 0 ≤ x → x + Y.length = ((A.length + X.length : Nat) : Int) → (∀ p ∈ Y, 0 ≤ p.1 ∧ p.1 ≤ 255) → 0 ≤ a → a ≤ x → a + oth k Y = oth k X →
      j_J G jm_Mo_others d 0 0 6 [jr_ m, ji_ A.length, ji_ ((A.length + X.length : Nat) : Int), ji_ k, ji_ a, ji_ x] [] (N, K, M, g) (j_pI N K g fun z M' => M' = M ∧ z = oth k X) from
    lp X A.length 0 hX (by omega) (by omega) (fun p hp => by have := hsm p (by simp [hp]); omega) (by omega) (by omega) (by omega)
  intro Y
  induction Y with
  | nil =>
    intro x a hY x0 hx hr a0 a1 ha
    rw [List.length_nil] at hx
    exact s_Mo_others_6 (k1 := fun _ => ⟨_, M, rfl, rfl, rfl, by rw [← ha]; simp [oth]⟩) (k2 := fun q => by omega)
  | cons p Y ih =>
    intro x a hY x0 hx hr a0 a1 ha
    rw [List.length_cons] at hx
    obtain ⟨y1, y2, y3⟩ := hY
    have hpr := hr p (by simp)
    rw [oth] at ha
    refine s_Mo_others_6 (k1 := fun q => by omega) (k2 := fun _ => ?_)
    refine s_Mo_others_12 h.o h.g22 h.k16 (r3 := by omega) (r3' := by omega) (r4 := by rw [y1]; omega) (k1 := fun q => ?_) (k2 := fun q => ?_)
    · rw [y1] at q
      rw [if_neg (by omega)] at ha
      exact ih (x + 1) a y3 (by omega) (by omega) (fun p hp => hr p (by simp [hp])) a0 (by omega) (by omega)
    · rw [y1] at q
      rw [if_pos q] at ha
      exact ih (x + 1) (a + 1) y3 (by omega) (by omega) (fun p hp => hr p (by simp [hp])) (by omega) (by omega) (by omega)
/-- the paper of the model -/
def mPp (M : Nat → Int → Int) (m : Nat) (P : List Int) : Prop := M m 24 = P.length ∧ ∀ i : Int, 0 ≤ i → i < P.length → M (m + 18) i = lg P i
theorem ct_mput {P : List Int} {x : Int} (h : rMo K g m) (hp : mPp M m P) (hP : (P.length : Int) < 900) : j_Ct G jm_Mo_put d 0 0 [jr_ m, ji_ x] (N, K, M, g) (j_pV N K g fun M' => mPp M' m (P ++ [x]) ∧ j_fm m [24] [m + 18] M M') :=
  j_Ct.mono (ct_Mo_put h hp.1 hp.2 hP) (fun o σ ⟨M', e1, e2, e3, e4, e5⟩ => ⟨M', e1, e2, ⟨e3, e4⟩, e5⟩)
theorem ct_Mo_putNumber {P : List Int} {v : Int} (h : rMo K g m) (hp : mPp M m P) (hv : 0 ≤ v ∧ v ≤ 99) (hP : (P.length : Int) + 2 ≤ 900) : j_Ct G jm_Mo_putNumber (d + 1) 0 0 [jr_ m, ji_ v] (N, K, M, g) (j_pV N K g fun M' => mPp M' m (P ++ numT v) ∧ j_fm m [24] [m + 18] M M') := by
  refine j_Ct.ofJ (ls := [jr_ m, ji_ v]) (by decide) rfl rfl ?_
  have ed : v.tdiv 10 = v / 10 := Int.tdiv_eq_ediv_of_nonneg hv.1
  have em : v.tmod 10 = v % 10 := Int.tmod_eq_emod_of_nonneg hv.1
  refine s_Mo_putNumber_0 (k1 := fun q => ?_) (k2 := fun q => ?_)
  · refine s_Mo_putNumber_17 (hk1 := h.o) (hC := ct_mput h hp (by omega)) (k1 := fun M1 hq => ?_)
    refine s_Mo_putNumber_28 ⟨M1, rfl, rfl, ?_, hq.2⟩
    unfold numT
    rw [if_neg (by omega), ← em]
    exact hq.1
  · refine s_Mo_putNumber_6 (hk1 := h.o) (hC := ct_mput h hp (by omega)) (k1 := fun M1 hq => ?_)
    refine s_Mo_putNumber_17 (hk1 := h.o) (hC := ct_mput h hq.1 (by rw [List.length_append, List.length_singleton]; omega)) (k1 := fun M2 hq2 => ?_)
    refine s_Mo_putNumber_28 ⟨M2, rfl, rfl, ?_, hq.2.trans hq2.2⟩
    have := hq2.1
    unfold numT
    rw [if_pos (by omega), ← em, ← ed]
    rw [List.append_assoc] at this
    exact this
theorem ct_Mo_putHunk {A X B : List (Int × Int)} {P : List Int} (h : rMo K g m) (h2 : mOp M m 0 (A ++ (X ++ B))) (hO : ((A ++ (X ++ B)).length : Int) ≤ 48) (hsm : smO (A ++ (X ++ B))) (hp : mPp M m P) (hP : (P.length : Int) + 13 + 3 * X.length ≤ 900) :
    j_Ct G jm_Mo_putHunk (d + 2) 0 0 [jr_ m, ji_ A.length, ji_ ((A.length + X.length : Nat) : Int)] (N, K, M, g) (j_pV N K g fun M' => mPp M' m (P ++ (hdT (oth 43 A) (oth 43 X) (oth 45 A) (oth 45 X) ++ rowsT X)) ∧ j_fm m [24] [m + 18] M M') := by
  have hOl := hO
  rw [List.length_append, List.length_append] at hOl
  have a1 := oth_r 43 A; have a2 := oth_r 43 X; have a3 := oth_r 45 A; have a4 := oth_r 45 X
  -- counting in front
  have cntA : ∀ (M' : Nat → Int → Int) (k : Int), mOp M' m 0 (A ++ (X ++ B)) → 0 ≤ k ∧ k ≤ 255 → j_Ct G jm_Mo_others (d + 1) 0 0 [jr_ m, ji_ 0, ji_ A.length, ji_ k] (N, K, M', g) (j_pI N K g fun z M'' => M'' = M' ∧ z = oth k A) := by
    intro M' k hop hk
    have := ct_Mo_others (G := G) (d := d + 1) (N := N) (A := []) (X := A) (B := X ++ B) (k := k) h hop hO hsm hk
    simp only [List.length_nil, Nat.zero_add] at this
    exact this
  have cntX : ∀ (M' : Nat → Int → Int) (k : Int), mOp M' m 0 (A ++ (X ++ B)) → 0 ≤ k ∧ k ≤ 255 → j_Ct G jm_Mo_others (d + 1) 0 0 [jr_ m, ji_ A.length, ji_ ((A.length + X.length : Nat) : Int), ji_ k] (N, K, M', g) (j_pI N K g fun z M'' => M'' = M' ∧ z = oth k X) := fun M' k hop hk => ct_Mo_others h hop hO hsm hk
  have kep : ∀ M', j_fm m [24] [m + 18] M M' → mOp M' m 0 (A ++ (X ++ B)) := fun M' hf => h2.kept _ 0 (fun i i0 i1 => by rw [hf.1 _ (by omega) (by simp), hf.1 _ (by omega) (by simp)]; exact ⟨rfl, rfl⟩)
  refine j_Ct.ofJ (ls := [jr_ m, ji_ A.length, ji_ ((A.length + X.length : Nat) : Int), ju_]) (by decide) rfl rfl ?_
  refine s_Mo_putHunk_0 h.o (ct_mput h hp (by omega)) (fun M1 q1 => ?_)
  have e1 : ((P ++ [64]).length : Int) = P.length + 1 := by rw [List.length_append, List.length_singleton]; omega
  refine s_Mo_putHunk_6 h.o (cntA M1 43 (kep _ q1.2) (by omega)) (fun z M' hq => ?_)
  obtain ⟨hM, hz⟩ := hq
  subst hM
  subst hz
  have n1 := numT_len (oth 43 A)
  refine s_Mo_putHunk_15 h.o (ct_Mo_putNumber (d := d) h q1.1 (by omega) (by omega)) (fun M2 q2 => ?_)
  have f2 := q1.2.trans q2.2
  have e2 : ((P ++ [64] ++ numT (oth 43 A)).length : Int) = (P ++ [64]).length + (numT (oth 43 A)).length := by rw [List.length_append]; omega
  refine s_Mo_putHunk_18 h.o (ct_mput h q2.1 (by omega)) (fun M3 q3 => ?_)
  have f3 := f2.trans q3.2
  have e3 : ((P ++ [64] ++ numT (oth 43 A) ++ [44]).length : Int) = (P ++ [64] ++ numT (oth 43 A)).length + 1 := by rw [List.length_append, List.length_singleton]; omega
  refine s_Mo_putHunk_24 h.o (cntX M3 43 (kep _ f3) (by omega)) (fun z M' hq => ?_)
  obtain ⟨hM, hz⟩ := hq
  subst hM
  subst hz
  have n4 := numT_len (oth 43 X)
  refine s_Mo_putHunk_33 h.o (ct_Mo_putNumber (d := d) h q3.1 (by omega) (by omega)) (fun M4 q4 => ?_)
  have f4 := f3.trans q4.2
  have q4' := q4.1
  generalize hQ4 : P ++ [64] ++ numT (oth 43 A) ++ [44] ++ numT (oth 43 X) = Q4 at q4'
  have e4 : (Q4.length : Int) = (P ++ [64] ++ numT (oth 43 A) ++ [44]).length + (numT (oth 43 X)).length := by rw [← hQ4, List.length_append]; omega
  refine s_Mo_putHunk_36 h.o (ct_mput h q4' (by omega)) (fun M5 q5 => ?_)
  have f5 := f4.trans q5.2
  have e5 : ((Q4 ++ [32]).length : Int) = Q4.length + 1 := by rw [List.length_append, List.length_singleton]; omega
  refine s_Mo_putHunk_42 h.o (cntA M5 45 (kep _ f5) (by omega)) (fun z M' hq => ?_)
  obtain ⟨hM, hz⟩ := hq
  subst hM
  subst hz
  have n6 := numT_len (oth 45 A)
  refine s_Mo_putHunk_51 h.o (ct_Mo_putNumber (d := d) h q5.1 (by omega) (by omega)) (fun M6 q6 => ?_)
  have f6 := f5.trans q6.2
  have e6 : ((Q4 ++ [32] ++ numT (oth 45 A)).length : Int) = (Q4 ++ [32]).length + (numT (oth 45 A)).length := by rw [List.length_append]; omega
  refine s_Mo_putHunk_54 h.o (ct_mput h q6.1 (by omega)) (fun M7 q7 => ?_)
  have f7 := f6.trans q7.2
  have e7 : ((Q4 ++ [32] ++ numT (oth 45 A) ++ [44]).length : Int) = (Q4 ++ [32] ++ numT (oth 45 A)).length + 1 := by rw [List.length_append, List.length_singleton]; omega
  refine s_Mo_putHunk_60 h.o (cntX M7 45 (kep _ f7) (by omega)) (fun z M' hq => ?_)
  obtain ⟨hM, hz⟩ := hq
  subst hM
  subst hz
  have n8 := numT_len (oth 45 X)
  refine s_Mo_putHunk_69 h.o (ct_Mo_putNumber (d := d) h q7.1 (by omega) (by omega)) (fun M8 q8 => ?_)
  have f8 := f7.trans q8.2
  have q8' := q8.1
  generalize hQ8 : Q4 ++ [32] ++ numT (oth 45 A) ++ [44] ++ numT (oth 45 X) = Q8 at q8'
  have e8 : (Q8.length : Int) = (Q4 ++ [32] ++ numT (oth 45 A) ++ [44]).length + (numT (oth 45 X)).length := by rw [← hQ8, List.length_append]; omega
  refine s_Mo_putHunk_72 h.o (ct_mput h q8' (by omega)) (fun M9 q9 => ?_)
  have f9 := f8.trans q9.2
  have q9' := q9.1
  have hH : Q8 ++ [10] = P ++ hdT (oth 43 A) (oth 43 X) (oth 45 A) (oth 45 X) := by
    rw [← hQ8, ← hQ4]
    unfold hdT
    simp only [List.append_assoc]
  have e9 : ((Q8 ++ [10]).length : Int) ≤ P.length + 13 := by rw [List.length_append, List.length_singleton]; omega
  rw [← List.append_assoc, ← hH]
  generalize Q8 ++ [10] = Q at q9' e9 ⊢
  clear q1 q2 q3 q4 q5 q6 q7 q8 q9 f2 f3 f4 f5 f6 f7 f8 q4' q8' hQ4 hQ8 hH e1 e2 e3 e4 e5 e6 e7 e8 n1 n4 n6 n8
  refine s_Mo_putHunk_78 ?_
  suffices lp : ∀ (Y : List (Int × Int)) (x : Int) (Pc : List Int) (M' : Nat → Int → Int), mOp M m x Y → 0 ≤ x → x + Y.length = ((A.length + X.length : Nat) : Int) → Pc ++ rowsT Y = Q ++ rowsT X → (Pc.length : Int) + 3 * Y.length ≤ 900 → mPp M' m Pc → j_fm m [24] [m + 18] M M' →
      j_J G jm_Mo_putHunk (d + 2) 0 0 80 [jr_ m, ji_ A.length, ji_ ((A.length + X.length : Nat) : Int), ji_ x] [] (N, K, M', g) (j_pV N K g fun M' => mPp M' m (Q ++ rowsT X) ∧ j_fm m [24] [m + 18] M M') by
    have hAX := (mOp.app A (X ++ B) 0).mp h2
    have hX := ((mOp.app X B _).mp hAX.2).1
    rw [Int.zero_add] at hX
    exact lp X A.length Q M9 hX (by omega) (by omega) rfl (by omega) q9' f9
  intro Y
  induction Y with
  | nil =>
    intro x Pc M' hY x0 hx htot hl hp' hf'
    rw [List.length_nil] at hx
    refine s_Mo_putHunk_80 (k1 := fun _ => ⟨M', rfl, rfl, ?_, hf'⟩) (k2 := fun q => by omega)
    rw [← htot, rowsT, List.append_nil]
    exact hp'
  | cons p Y ih =>
    intro x Pc M' hY x0 hx htot hl hp' hf'
    rw [List.length_cons] at hx hl
    obtain ⟨y1, y2, y3⟩ := hY
    have z1 : M' (m + 16) x = p.1 := by rw [hf'.1 _ (by omega) (by simp)]; exact y1
    refine s_Mo_putHunk_80 (k1 := fun q => by omega) (k2 := fun _ => ?_)
    refine s_Mo_putHunk_85 h.o h.g22 h.k16 (r3 := by omega) (r3' := by omega) (hC := ct_mput h hp' (by omega)) (k1 := fun Ma qa => ?_)
    rw [z1] at qa
    have la : ((Pc ++ [p.1]).length : Int) = Pc.length + 1 := by rw [List.length_append, List.length_singleton]; omega
    have z2 : Ma (m + 17) x = p.2 := by rw [qa.2.1 _ (by omega) (by simp), hf'.1 _ (by omega) (by simp)]; exact y2
    refine s_Mo_putHunk_95 h.o h.g23 h.k17 (r3 := by omega) (r3' := by omega) (hC := ct_mput h qa.1 (by omega)) (k1 := fun Mb qb => ?_)
    rw [z2] at qb
    have lb : ((Pc ++ [p.1] ++ [p.2]).length : Int) = Pc.length + 2 := by rw [List.length_append, List.length_singleton]; omega
    refine s_Mo_putHunk_105 h.o (ct_mput h qb.1 (by omega)) (fun Mc qc => ?_)
    refine s_Mo_putHunk_111 ?_
    refine ih (x + 1) (Pc ++ [p.1] ++ [p.2] ++ [10]) Mc y3 (by omega) (by omega) ?_ (by rw [List.length_append, List.length_singleton]; omega) qc.1 (((hf'.trans qa.2).trans qb.2).trans qc.2)
    rw [← htot, rowsT]
    simp only [List.append_assoc]
    rfl
theorem ct_Mo_lastOf {A S : List (Int × Int)} {ctx : Int} (h : rMo K g m) (h21 : M m 21 = (A ++ S).length) (h2 : mOp M m 0 (A ++ S)) (hO : ((A ++ S).length : Int) ≤ 48) (hsm : smO (A ++ S)) (hctx : 0 ≤ ctx ∧ ctx ≤ 3) :
    j_Ct G jm_Mo_lastOf d 0 0 [jr_ m, ji_ A.length, ji_ ctx] (N, K, M, g) (j_pI N K g fun z M' => M' = M ∧ z = loF ctx A.length A.length S) := by
  refine j_Ct.ofJ (ls := [jr_ m, ji_ A.length, ji_ ctx, ju_, ju_]) (by decide) rfl rfl ?_
  refine s_Mo_lastOf_0 ?_
  have hS := ((mOp.app A S 0).mp h2).2
  rw [Int.zero_add] at hS
  rw [List.length_append] at hO
  have hO' : ((A ++ S).length : Int) = A.length + S.length := by rw [List.length_append]; omega
  suffices lp : ∀ (Y : List (Int × Int)) (e k : Int), mOp M m k Y → 0 ≤ e → e ≤ k → k + Y.length = A.length + S.length → (∀ p ∈ Y, 0 ≤ p.1 ∧ p.1 ≤ 255) → loF ctx e k Y = loF ctx A.length A.length S →
      j_J G jm_Mo_lastOf d 0 0 5 [jr_ m, ji_ A.length, ji_ ctx, ji_ e, ji_ k] [] (N, K, M, g) (j_pI N K g fun z M' => M' = M ∧ z = loF ctx A.length A.length S) from
    lp S A.length A.length hS (by omega) (by omega) (by omega) (fun p hp => by have := hsm p (by simp [hp]); omega) rfl
  intro Y
  induction Y with
  | nil =>
    intro e k hY e0 ek hk hr hl
    rw [List.length_nil] at hk
    exact s_Mo_lastOf_5 h.o (r2 := by rw [h21]; omega) (k1 := fun _ => ⟨_, M, rfl, rfl, rfl, hl⟩) (k2 := fun q => by omega)
  | cons p Y ih =>
    intro e k hY e0 ek hk hr hl
    rw [List.length_cons] at hk
    obtain ⟨y1, y2, y3⟩ := hY
    have hpr := hr p (by simp)
    rw [loF] at hl
    refine s_Mo_lastOf_5 h.o (r2 := by rw [h21]; omega) (k1 := fun q => by omega) (k2 := fun _ => ?_)
    refine s_Mo_lastOf_14 (k1 := fun q => ⟨_, M, rfl, rfl, rfl, by rw [if_neg (by omega)] at hl; exact hl⟩) (k2 := fun q => ?_)
    rw [if_pos q] at hl
    refine s_Mo_lastOf_24 h.o h.g22 h.k16 (r3 := by omega) (r3' := by omega) (r4 := by rw [y1]; omega) (k1 := fun q2 => ?_) (k2 := fun q2 => ?_)
    · rw [y1] at q2
      rw [if_neg (by omega)] at hl
      exact ih e (k + 1) y3 e0 (by omega) (by omega) (fun p hp => hr p (by simp [hp])) hl
    · rw [y1] at q2
      rw [if_pos q2] at hl
      exact ih (k + 1) (k + 1) y3 (by omega) (by omega) (by omega) (fun p hp => hr p (by simp [hp])) hl
end

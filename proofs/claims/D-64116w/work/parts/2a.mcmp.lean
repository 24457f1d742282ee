/-! ===== the model: its object; letters, taking two texts, the table of greatest numbers and its walk ===== -/
def moT : List (Int × Nat × Nat) := [(0, 1, 96), (1, 2, 4), (4, 3, 24), (5, 4, 24), (6, 5, 24), (7, 6, 625), (9, 7, 60), (10, 8, 60), (11, 9, 60), (12, 10, 60), (13, 11, 24), (14, 12, 24), (18, 13, 24), (19, 14, 24), (20, 15, 24), (22, 16, 48), (23, 17, 48), (25, 18, 900), (27, 19, 80), (28, 20, 80), (29, 21, 80), (30, 22, 80), (31, 23, 80), (32, 24, 80), (36, 25, 24), (37, 26, 24)]
/-- the object m of the model: its arrays lie behind it -/
def rMo (K : Nat → Option (Nat × Nat)) (g : Nat → Int → Option Nat) (m : Nat) : Prop := K m = some (0, 8) ∧ ∀ q ∈ moT, g m q.1 = some (m + q.2.1) ∧ K (m + q.2.1) = some (1, q.2.2)
section
variable {K : Nat → Option (Nat × Nat)} {g : Nat → Int → Option Nat} {m : Nat}
theorem rMo.o (h : rMo K g m) : K m = some (0, 8) := h.1
theorem rMo.g0 (h : rMo K g m) : g m 0 = some (m + 1) := (h.2 (0, 1, 96) (by decide)).1
theorem rMo.k1 (h : rMo K g m) : K (m + 1) = some (1, 96) := (h.2 (0, 1, 96) (by decide)).2
theorem rMo.g1 (h : rMo K g m) : g m 1 = some (m + 2) := (h.2 (1, 2, 4) (by decide)).1
theorem rMo.k2 (h : rMo K g m) : K (m + 2) = some (1, 4) := (h.2 (1, 2, 4) (by decide)).2
theorem rMo.g4 (h : rMo K g m) : g m 4 = some (m + 3) := (h.2 (4, 3, 24) (by decide)).1
theorem rMo.k3 (h : rMo K g m) : K (m + 3) = some (1, 24) := (h.2 (4, 3, 24) (by decide)).2
theorem rMo.g5 (h : rMo K g m) : g m 5 = some (m + 4) := (h.2 (5, 4, 24) (by decide)).1
theorem rMo.k4 (h : rMo K g m) : K (m + 4) = some (1, 24) := (h.2 (5, 4, 24) (by decide)).2
theorem rMo.g6 (h : rMo K g m) : g m 6 = some (m + 5) := (h.2 (6, 5, 24) (by decide)).1
theorem rMo.k5 (h : rMo K g m) : K (m + 5) = some (1, 24) := (h.2 (6, 5, 24) (by decide)).2
theorem rMo.g7 (h : rMo K g m) : g m 7 = some (m + 6) := (h.2 (7, 6, 625) (by decide)).1
theorem rMo.k6 (h : rMo K g m) : K (m + 6) = some (1, 625) := (h.2 (7, 6, 625) (by decide)).2
theorem rMo.g9 (h : rMo K g m) : g m 9 = some (m + 7) := (h.2 (9, 7, 60) (by decide)).1
theorem rMo.k7 (h : rMo K g m) : K (m + 7) = some (1, 60) := (h.2 (9, 7, 60) (by decide)).2
theorem rMo.g10 (h : rMo K g m) : g m 10 = some (m + 8) := (h.2 (10, 8, 60) (by decide)).1
theorem rMo.k8 (h : rMo K g m) : K (m + 8) = some (1, 60) := (h.2 (10, 8, 60) (by decide)).2
theorem rMo.g11 (h : rMo K g m) : g m 11 = some (m + 9) := (h.2 (11, 9, 60) (by decide)).1
theorem rMo.k9 (h : rMo K g m) : K (m + 9) = some (1, 60) := (h.2 (11, 9, 60) (by decide)).2
theorem rMo.g12 (h : rMo K g m) : g m 12 = some (m + 10) := (h.2 (12, 10, 60) (by decide)).1
theorem rMo.k10 (h : rMo K g m) : K (m + 10) = some (1, 60) := (h.2 (12, 10, 60) (by decide)).2
theorem rMo.g13 (h : rMo K g m) : g m 13 = some (m + 11) := (h.2 (13, 11, 24) (by decide)).1
theorem rMo.k11 (h : rMo K g m) : K (m + 11) = some (1, 24) := (h.2 (13, 11, 24) (by decide)).2
theorem rMo.g14 (h : rMo K g m) : g m 14 = some (m + 12) := (h.2 (14, 12, 24) (by decide)).1
theorem rMo.k12 (h : rMo K g m) : K (m + 12) = some (1, 24) := (h.2 (14, 12, 24) (by decide)).2
theorem rMo.g18 (h : rMo K g m) : g m 18 = some (m + 13) := (h.2 (18, 13, 24) (by decide)).1
theorem rMo.k13 (h : rMo K g m) : K (m + 13) = some (1, 24) := (h.2 (18, 13, 24) (by decide)).2
theorem rMo.g19 (h : rMo K g m) : g m 19 = some (m + 14) := (h.2 (19, 14, 24) (by decide)).1
theorem rMo.k14 (h : rMo K g m) : K (m + 14) = some (1, 24) := (h.2 (19, 14, 24) (by decide)).2
theorem rMo.g20 (h : rMo K g m) : g m 20 = some (m + 15) := (h.2 (20, 15, 24) (by decide)).1
theorem rMo.k15 (h : rMo K g m) : K (m + 15) = some (1, 24) := (h.2 (20, 15, 24) (by decide)).2
theorem rMo.g22 (h : rMo K g m) : g m 22 = some (m + 16) := (h.2 (22, 16, 48) (by decide)).1
theorem rMo.k16 (h : rMo K g m) : K (m + 16) = some (1, 48) := (h.2 (22, 16, 48) (by decide)).2
theorem rMo.g23 (h : rMo K g m) : g m 23 = some (m + 17) := (h.2 (23, 17, 48) (by decide)).1
theorem rMo.k17 (h : rMo K g m) : K (m + 17) = some (1, 48) := (h.2 (23, 17, 48) (by decide)).2
theorem rMo.g25 (h : rMo K g m) : g m 25 = some (m + 18) := (h.2 (25, 18, 900) (by decide)).1
theorem rMo.k18 (h : rMo K g m) : K (m + 18) = some (1, 900) := (h.2 (25, 18, 900) (by decide)).2
theorem rMo.g27 (h : rMo K g m) : g m 27 = some (m + 19) := (h.2 (27, 19, 80) (by decide)).1
theorem rMo.k19 (h : rMo K g m) : K (m + 19) = some (1, 80) := (h.2 (27, 19, 80) (by decide)).2
theorem rMo.g28 (h : rMo K g m) : g m 28 = some (m + 20) := (h.2 (28, 20, 80) (by decide)).1
theorem rMo.k20 (h : rMo K g m) : K (m + 20) = some (1, 80) := (h.2 (28, 20, 80) (by decide)).2
theorem rMo.g29 (h : rMo K g m) : g m 29 = some (m + 21) := (h.2 (29, 21, 80) (by decide)).1
theorem rMo.k21 (h : rMo K g m) : K (m + 21) = some (1, 80) := (h.2 (29, 21, 80) (by decide)).2
theorem rMo.g30 (h : rMo K g m) : g m 30 = some (m + 22) := (h.2 (30, 22, 80) (by decide)).1
theorem rMo.k22 (h : rMo K g m) : K (m + 22) = some (1, 80) := (h.2 (30, 22, 80) (by decide)).2
theorem rMo.g31 (h : rMo K g m) : g m 31 = some (m + 23) := (h.2 (31, 23, 80) (by decide)).1
theorem rMo.k23 (h : rMo K g m) : K (m + 23) = some (1, 80) := (h.2 (31, 23, 80) (by decide)).2
theorem rMo.g32 (h : rMo K g m) : g m 32 = some (m + 24) := (h.2 (32, 24, 80) (by decide)).1
theorem rMo.k24 (h : rMo K g m) : K (m + 24) = some (1, 80) := (h.2 (32, 24, 80) (by decide)).2
theorem rMo.g36 (h : rMo K g m) : g m 36 = some (m + 25) := (h.2 (36, 25, 24) (by decide)).1
theorem rMo.k25 (h : rMo K g m) : K (m + 25) = some (1, 24) := (h.2 (36, 25, 24) (by decide)).2
theorem rMo.g37 (h : rMo K g m) : g m 37 = some (m + 26) := (h.2 (37, 26, 24) (by decide)).1
theorem rMo.k26 (h : rMo K g m) : K (m + 26) = some (1, 24) := (h.2 (37, 26, 24) (by decide)).2
end
/-- only these fields of m and these arrays have changed -/
def j_fm (m : Nat) (F : List Int) (A : List Nat) (M M' : Nat → Int → Int) : Prop := (∀ a : Nat, a ≠ m → a ∉ A → M' a = M a) ∧ ∀ k : Int, k ∉ F → M' m k = M m k
section
variable {m : Nat} {F F' : List Int} {A A' : List Nat} {M M1 M2 : Nat → Int → Int}
theorem j_fm.rfl : j_fm m F A M M := ⟨fun _ _ _ => Eq.refl _, fun _ _ => Eq.refl _⟩
theorem j_fm.trans (h1 : j_fm m F A M M1) (h2 : j_fm m F A M1 M2) : j_fm m F A M M2 := ⟨fun a h h' => (h2.1 a h h').trans (h1.1 a h h'), fun k h => (h2.2 k h).trans (h1.2 k h)⟩
theorem j_fm.mono (h : j_fm m F A M M1) (hF : ∀ k ∈ F, k ∈ F') (hA : ∀ a ∈ A, a ∈ A') : j_fm m F' A' M M1 := ⟨fun a q q' => h.1 a q (fun z => q' (hA a z)), fun k q => h.2 k (fun z => q (hF k z))⟩
theorem j_fm.arr {a : Nat} {i z : Int} (hm : m ≠ a) (h : a ∈ A) : j_fm m F A M (j_up M a i z) := ⟨fun b _ hb => j_up_a (fun e => hb (e ▸ h)), fun k _ => by rw [j_up_a hm]⟩
theorem j_fm.fld {i z : Int} (h : i ∈ F) : j_fm m F A M (j_up M m i z) := ⟨fun b hb _ => j_up_a hb, fun k hk => j_up_ne (Or.inr (fun e => hk (e ▸ h)))⟩
end
/-- characters -/
def chL (l : List Int) : Prop := ∀ i : Int, 0 ≤ i → i < l.length → 0 ≤ lg l i ∧ lg l i ≤ 127
/-- text t of the model -/
def mTx (M : Nat → Int → Int) (m : Nat) (t : Int) (l : List Int) : Prop := M (m + 2) t = l.length ∧ (l.length : Int) ≤ 24 ∧ chL l ∧ ∀ i : Int, 0 ≤ i → i < l.length → M (m + 1) (24 * t + i) = lg l i
/-- the two rows that the model compares -/
def mAB (M : Nat → Int → Int) (m : Nat) (l1 l2 : List Int) : Prop := (l1.length : Int) ≤ 24 ∧ (l2.length : Int) ≤ 24 ∧ chL l1 ∧ chL l2 ∧ (∀ i : Int, 0 ≤ i → i < l1.length → M (m + 3) i = lg l1 i) ∧ ∀ i : Int, 0 ≤ i → i < l2.length → M (m + 4) i = lg l2 i
theorem mAB.kept {M M' : Nat → Int → Int} {m : Nat} {l1 l2 : List Int} (h : mAB M m l1 l2) (h1 : M' (m + 3) = M (m + 3)) (h2 : M' (m + 4) = M (m + 4)) : mAB M' m l1 l2 := by
  unfold mAB
  rw [h1, h2]
  exact h
theorem mTx.kept {M M' : Nat → Int → Int} {m : Nat} {t : Int} {l : List Int} (h : mTx M m t l) (h1 : M' (m + 1) = M (m + 1)) (h2 : M' (m + 2) = M (m + 2)) : mTx M' m t l := by
  unfold mTx
  rw [h1, h2]
  exact h
section
variable {G : j_G} {d N : Nat} {K : Nat → Option (Nat × Nat)} {M : Nat → Int → Int} {g : Nat → Int → Option Nat} {m : Nat} {l1 l2 l : List Int}
theorem ct_Mo_within {v lo hi : Int} (hv : -2147483648 ≤ v ∧ v ≤ 2147483647) (hl : -2147483648 ≤ lo ∧ lo ≤ 2147483647) (hh : -2147483648 ≤ hi ∧ hi ≤ 2147483647) : j_Ct G jm_Mo_within d 0 0 [ji_ v, ji_ lo, ji_ hi] (N, K, M, g) (j_pI N K g fun z M' => M' = M ∧ (z = 1 ∧ lo ≤ v ∧ v ≤ hi ∨ z = 0 ∧ (v < lo ∨ hi < v))) := by
  refine j_Ct.ofJ (ls := [ji_ v, ji_ lo, ji_ hi]) (by decide) rfl rfl ?_
  refine s_Mo_within_0 (k1 := fun h => ⟨_, M, rfl, rfl, rfl, by omega⟩) (k2 := fun h => ?_)
  exact s_Mo_within_5 (k1 := fun h => ⟨_, M, rfl, rfl, rfl, by omega⟩) (k2 := fun h => ⟨_, M, rfl, rfl, rfl, by omega⟩)
theorem ct_Mo_isLetter {v : Int} (hv : -2147483648 ≤ v ∧ v ≤ 2147483647) : j_Ct G jm_Mo_isLetter (d + 1) 0 0 [ji_ v] (N, K, M, g) (j_pI N K g fun z M' => M' = M ∧ (z = 1 ∧ 97 ≤ v ∧ v ≤ 122 ∨ z = 0 ∧ (v < 97 ∨ 122 < v))) := by
  refine j_Ct.ofJ (ls := [ji_ v]) (by decide) rfl rfl ?_
  refine s_Mo_isLetter_0 (ct_Mo_within hv (by omega) (by omega)) (fun z M' h => ?_)
  exact s_Mo_isLetter_8 (hz1 := by omega) (k1 := ⟨z, M', rfl, rfl, h⟩)
theorem ct_Mo_allLetters {t : Int} (h : rMo K g m) (ht : 0 ≤ t ∧ t ≤ 3) (hT : mTx M m t l) : j_Ct G jm_Mo_allLetters (d + 2) 0 0 [jr_ m, ji_ t] (N, K, M, g) (j_pI N K g fun z M' => M' = M ∧ (z = 1 ∧ allL l ∨ z = 0 ∧ ¬ allL l)) := by
  obtain ⟨t1, t2, t3, t4⟩ := hT
  refine j_Ct.ofJ (ls := [jr_ m, ji_ t, ju_, ju_]) (by decide) rfl rfl ?_
  refine s_Mo_allLetters_0 ?_
  suffices lp : ∀ (k : Nat) (i : Int) (b : Bool), i + k = l.length → 0 ≤ i → (b = true ↔ ∀ j : Int, 0 ≤ j → j < i → 97 ≤ lg l j ∧ lg l j ≤ 122) →
      j_J G jm_Mo_allLetters (d + 2) 0 0 4 [jr_ m, ji_ t, ji_ (j_bz b), ji_ i] [] (N, K, M, g) (j_pI N K g fun z M' => M' = M ∧ (z = 1 ∧ allL l ∨ z = 0 ∧ ¬ allL l)) from
    lp l.length 0 true (by omega) (by omega) ⟨fun _ j a b => by omega, fun _ => rfl⟩
  intro k
  induction k with
  | zero =>
    intro i b hi h0 hb
    refine s_Mo_allLetters_4 h.o h.g1 h.k2 (r5 := by rw [t1]; omega) (k1 := fun _ => ?_) (k2 := fun q => by omega)
    have hil : i = l.length := by omega
    subst hil
    refine s_Mo_allLetters_47 (hz1 := j_bz01 b) (k1 := ⟨_, M, rfl, rfl, rfl, ?_⟩)
    cases b with
    | true => left; exact ⟨rfl, fun j a c => hb.mp rfl j a c⟩
    | false => right; exact ⟨rfl, fun q => by have := hb.mpr (fun j a c => q j a c); cases this⟩
  | succ k ih =>
    intro i b hi h0 hb
    have r1 := t3 i h0 (by omega)
    refine s_Mo_allLetters_4 h.o h.g1 h.k2 (r5 := by rw [t1]; omega) (k1 := fun q => by omega) (k2 := fun _ => ?_)
    have stepF : ∀ c : Bool, (c = true ↔ (b = true ∧ 97 ≤ lg l i ∧ lg l i ≤ 122)) → j_J G jm_Mo_allLetters (d + 2) 0 0 4 [jr_ m, ji_ t, ji_ (j_bz c), ji_ (i + 1)] [] (N, K, M, g) (j_pI N K g fun z M' => M' = M ∧ (z = 1 ∧ allL l ∨ z = 0 ∧ ¬ allL l)) := by
      intro c hc
      refine ih (i + 1) c (by omega) (by omega) ?_
      rw [hc, hb]
      constructor
      · rintro ⟨q1, q2⟩ j a b
        by_cases hj : j = i
        · rw [hj]; exact q2
        · exact q1 j a (by omega)
      · intro q
        exact ⟨fun j a b => q j a (by omega), q i h0 (by omega)⟩
    refine s_Mo_allLetters_14 (r1 := j_bz_rng b) (k1 := fun q => stepF false ?_) (k2 := fun q => ?_)
    · have := j_bz_0.mp q
      subst this
      simp
    · have := j_bz_1.mp q
      subst this
      refine s_Mo_allLetters_18 h.o h.g0 h.k1 (hC := ct_Mo_isLetter (by rw [t4 i h0 (by omega)]; omega)) (k1 := fun z M' hq => ?_)
      obtain ⟨hM, hz⟩ := hq
      subst hM
      rw [t4 i h0 (by omega)] at hz
      refine s_Mo_allLetters_32 (r1 := by omega) (k1 := fun q => stepF false ?_) (k2 := fun q => stepF true ?_)
      · constructor
        · intro q; cases q
        · rintro ⟨-, q⟩; omega
      · exact ⟨fun _ => ⟨rfl, by omega⟩, fun _ => rfl⟩
theorem ct_Mo_take {x y : Int} (h : rMo K g m) (hx : 0 ≤ x ∧ x ≤ 3) (hy : 0 ≤ y ∧ y ≤ 3) (h1 : mTx M m x l1) (h2 : mTx M m y l2) : j_Ct G jm_Mo_take d 0 0 [jr_ m, ji_ x, ji_ y] (N, K, M, g) (j_pV N K g fun M' => mAB M' m l1 l2 ∧ M' m 2 = l1.length ∧ M' m 3 = l2.length ∧ (∀ i : Int, 0 ≤ i → i < l1.length → M' (m + 5) i = -1) ∧ j_fm m [2, 3] [m + 3, m + 4, m + 5] M M') := by
  obtain ⟨t1, t2, t3, t4⟩ := h1
  obtain ⟨s1, s2, s3, s4⟩ := h2
  refine j_Ct.ofJ (ls := [jr_ m, ji_ x, ji_ y, ju_]) (by decide) rfl rfl ?_
  refine s_Mo_take_0 h.o h.g1 h.k2 (k1 := ?_)
  rw [j_up_a (by omega : m + 2 ≠ m), t1, s1]
  have f0 : j_fm m [2, 3] [m + 3, m + 4, m + 5] M (j_up (j_up M m 2 l1.length) m 3 l2.length) := (j_fm.fld (by simp)).trans (j_fm.fld (by simp))
  have e2 : j_up (j_up M m 2 l1.length) m 3 (l2.length : Int) m 2 = l1.length := by rw [j_up_ne (Or.inr (by omega)), j_up_eq]
  have e3 : j_up (j_up M m 2 l1.length) m 3 (l2.length : Int) m 3 = l2.length := j_up_eq _ _ _ _
  generalize j_up (j_up M m 2 l1.length) m 3 (l2.length : Int) = M0 at f0 e2 e3 ⊢
  suffices lp1 : ∀ (k : Nat) (i : Int) (M1 : Nat → Int → Int), i + k = l1.length → 0 ≤ i → j_fm m [] [m + 3, m + 5] M0 M1 → (∀ j : Int, 0 ≤ j → j < i → M1 (m + 3) j = lg l1 j ∧ M1 (m + 5) j = -1) →
      j_J G jm_Mo_take d 0 0 22 [jr_ m, ji_ x, ji_ y, ji_ i] [] (N, K, M1, g) (j_pV N K g fun M' => mAB M' m l1 l2 ∧ M' m 2 = l1.length ∧ M' m 3 = l2.length ∧ (∀ i : Int, 0 ≤ i → i < l1.length → M' (m + 5) i = -1) ∧ j_fm m [2, 3] [m + 3, m + 4, m + 5] M M') from
    lp1 l1.length 0 M0 (by omega) (by omega) j_fm.rfl (fun j a b => by omega)
  intro k
  induction k with
  | zero =>
    intro i M1 hi h0 hf hA
    have a2 : M1 m 2 = l1.length := by rw [hf.2 _ (by simp), e2]
    refine s_Mo_take_22 h.o (r2 := by rw [a2]; omega) (k1 := fun _ => ?_) (k2 := fun q => by omega)
    suffices lp2 : ∀ (k : Nat) (j : Int) (M2 : Nat → Int → Int), j + k = l2.length → 0 ≤ j → j_fm m [] [m + 4] M1 M2 → (∀ j' : Int, 0 ≤ j' → j' < j → M2 (m + 4) j' = lg l2 j') →
        j_J G jm_Mo_take d 0 0 62 [jr_ m, ji_ x, ji_ y, ji_ j] [] (N, K, M2, g) (j_pV N K g fun M' => mAB M' m l1 l2 ∧ M' m 2 = l1.length ∧ M' m 3 = l2.length ∧ (∀ i : Int, 0 ≤ i → i < l1.length → M' (m + 5) i = -1) ∧ j_fm m [2, 3] [m + 3, m + 4, m + 5] M M') from
      lp2 l2.length 0 M1 (by omega) (by omega) j_fm.rfl (fun j a b => by omega)
    intro k
    induction k with
    | zero =>
      intro j M2 hj hj0 hf2 hB
      have b3 : M2 m 3 = l2.length := by rw [hf2.2 _ (by simp), hf.2 _ (by simp), e3]
      refine s_Mo_take_62 h.o (r2 := by rw [b3]; omega) (k1 := fun _ => ⟨M2, rfl, rfl, ⟨t2, s2, t3, s3, fun i' q1 q2 => ?_, fun i' q1 q2 => hB i' q1 (by omega)⟩, ?_, b3, fun i' q1 q2 => ?_, ?_⟩) (k2 := fun q => by omega)
      · rw [hf2.1 _ (by omega) (by simp)]; exact (hA i' q1 (by omega)).1
      · rw [hf2.2 _ (by simp), a2]
      · rw [hf2.1 _ (by omega) (by simp)]; exact (hA i' q1 (by omega)).2
      · exact (f0.trans (hf.mono (by simp) (by simp))).trans (hf2.mono (by simp) (by simp))
    | succ k ih2 =>
      intro j M2 hj hj0 hf2 hB
      have b3 : M2 m 3 = l2.length := by rw [hf2.2 _ (by simp), hf.2 _ (by simp), e3]
      refine s_Mo_take_62 h.o (r2 := by rw [b3]; omega) (k1 := fun q => by omega) (k2 := fun q => ?_)
      refine s_Mo_take_70 h.o h.g5 h.g0 h.k1 (hk3 := h.k4) (k1 := ?_)
      refine ih2 (j + 1) _ (by omega) (by omega) (hf2.trans (j_fm.arr (by omega) (by simp))) (fun j' q1 q2 => ?_)
      by_cases hj' : j' = j
      · subst hj'
        rw [j_up_eq, hf2.1 _ (by omega) (by simp), hf.1 _ (by omega) (by simp), f0.1 _ (by omega) (by simp)]
        exact s4 j' q1 (by omega)
      · rw [j_up_ne (Or.inr hj')]; exact hB j' q1 (by omega)
  | succ k ih =>
    intro i M1 hi h0 hf hA
    have a2 : M1 m 2 = l1.length := by rw [hf.2 _ (by simp), e2]
    refine s_Mo_take_22 h.o (r2 := by rw [a2]; omega) (k1 := fun q => by omega) (k2 := fun _ => ?_)
    refine s_Mo_take_30 h.o h.g4 h.g0 h.k1 (hk3 := h.k3) (hg8 := h.g6) (hk4 := h.k5) (k1 := ?_)
    refine ih (i + 1) _ (by omega) (by omega) (hf.trans ((j_fm.arr (by omega) (by simp)).trans (j_fm.arr (by omega) (by simp)))) (fun j q1 q2 => ?_)
    rw [j_up_a (by omega : m + 3 ≠ m + 5)]
    by_cases hj : j = i
    · subst hj
      rw [j_up_eq, j_up_eq, hf.1 _ (by omega) (by simp), f0.1 _ (by omega) (by simp)]
      exact ⟨t4 j q1 (by omega), rfl⟩
    · rw [j_up_ne (Or.inr hj), j_up_ne (Or.inr hj), j_up_a (by omega)]
      exact hA j q1 (by omega)
theorem ct_Mo_compareShort {a0 a1 b0 b1 : Int} (h : rMo K g m) (hA : mAB M m l1 l2) (ha : 0 ≤ a0) (ha1 : a0 ≤ a1) (ha2 : a1 ≤ l1.length) (hb : 0 ≤ b0) (hb1 : b0 ≤ b1) (hb2 : b1 ≤ l2.length) :
    j_Ct G jm_Mo_compareShort d 0 0 [jr_ m, ji_ a0, ji_ a1, ji_ b0, ji_ b1] (N, K, M, g) (j_pV N K g fun M' => M' (m + 5) = gR l1 l2 a0 a1 b0 b1 (M (m + 5)) ∧ j_fm m [] [m + 5, m + 6] M M') := by
  have hA0 := hA
  obtain ⟨q1, q2, q3, q4, q5, q6⟩ := hA
  have LAr : ∀ i j, 0 ≤ LA l1 l2 a1 b1 i j ∧ (i ≤ a1 → LA l1 l2 a1 b1 i j ≤ a1 - i) := fun i j => ⟨LA_0, fun h => LA_lu h⟩
  refine j_Ct.ofJ (ls := [jr_ m, ji_ a0, ji_ a1, ji_ b0, ji_ b1, ju_, ju_, ju_, ju_, ju_, ju_]) (by decide) rfl rfl ?_
  refine s_Mo_compareShort_0 ?_
  -- the walk
  have walk : ∀ (f : Nat) (i j : Int) (M2 : Nat → Int → Int) (u7 u8 u9 u10 : j_V), (a1 - i) + (b1 - j) ≤ f → a0 ≤ i → i ≤ a1 → b0 ≤ j → j ≤ b1 → j_fm m [] [m + 5, m + 6] M M2 → (∀ i' j', a0 ≤ i' → i' ≤ a1 → b0 ≤ j' → j' ≤ b1 → M2 (m + 6) (25 * i' + j') = LA l1 l2 a1 b1 i' j') →
      j_J G jm_Mo_compareShort d 0 0 176 [jr_ m, ji_ a0, ji_ a1, ji_ b0, ji_ b1, ji_ i, ji_ j, u7, u8, u9, u10] [] (N, K, M2, g) (j_pV N K g fun M' => M' (m + 5) = gu l1 l2 a1 b1 f i j (M2 (m + 5)) ∧ j_fm m [] [m + 5, m + 6] M M') := by
    intro f
    induction f with
    | zero =>
      intro i j M2 u7 u8 u9 u10 hf hi hi1 hj hj1 hfr hT
      exact s_Mo_compareShort_176 (k1 := fun _ => ⟨M2, rfl, rfl, by rw [gu_end (by omega)], hfr⟩) (k2 := fun q => by omega)
    | succ f ih =>
      intro i j M2 u7 u8 u9 u10 hf hi hi1 hj hj1 hfr hT
      refine s_Mo_compareShort_176 (k1 := fun _ => ⟨M2, rfl, rfl, by rw [gu_end (by omega)], hfr⟩) (k2 := fun c1 => ?_)
      refine s_Mo_compareShort_182 (k1 := fun _ => ⟨M2, rfl, rfl, by rw [gu_end (by omega)], hfr⟩) (k2 := fun c2 => ?_)
      have e3 : M2 (m + 3) i = lg l1 i := by rw [hfr.1 _ (by omega) (by simp)]; exact q5 i (by omega) (by omega)
      have e4 : M2 (m + 4) j = lg l2 j := by rw [hfr.1 _ (by omega) (by simp)]; exact q6 j (by omega) (by omega)
      have r3 := q3 i (by omega) (by omega)
      have r4 := q4 j (by omega) (by omega)
      refine s_Mo_compareShort_189 h.o h.g4 h.k3 (hg5 := h.g5) (hk3 := h.k4) (r7 := by rw [e3]; omega) (r8 := by rw [e4]; omega) (k1 := fun c3 => ?_) (k2 := fun c3 => ?_)
      · rw [e3, e4] at c3
        have w1 := hT (i + 1) j (by omega) (by omega) (by omega) (by omega)
        have w2 := hT i (j + 1) (by omega) (by omega) (by omega) (by omega)
        rw [show 25 * (i + 1) + j = 25 * i + 25 + j by omega] at w1
        rw [show 25 * i + (j + 1) = 25 * i + j + 1 by omega] at w2
        have p1 := LAr (i + 1) j
        have p2 := LAr i (j + 1)
        refine s_Mo_compareShort_224 h.o h.g7 h.k6 (r5 := by rw [w1]; omega) (r6 := by rw [w2]; omega) (k1 := fun c4 => ?_) (k2 := fun c4 => ?_)
        · rw [gu_r c1 c2 c3 (by omega)]
          exact ih i (j + 1) M2 _ _ _ _ (by omega) hi hi1 (by omega) (by omega) hfr hT
        · rw [gu_l c1 c2 c3 (by omega)]
          exact ih (i + 1) j M2 _ _ _ _ (by omega) (by omega) (by omega) hj hj1 hfr hT
      · rw [e3, e4] at c3
        refine s_Mo_compareShort_206 h.o h.g6 h.k5 (k1 := ?_)
        rw [gu_eq c1 c2 (by omega) c3]
        have := ih (i + 1) (j + 1) (j_up M2 (m + 5) i j) u7 u8 u9 u10 (by omega) (by omega) (by omega) (by omega) (by omega) (hfr.trans (j_fm.arr (by omega) (by simp))) (fun i' j' z1 z2 z3 z4 => by rw [j_up_a (by omega)]; exact hT i' j' z1 z2 z3 z4)
        rw [j_up_s] at this
        exact this
  -- the table
  suffices lp : ∀ (k : Nat) (i : Int) (M1 : Nat → Int → Int) (u6 u7 u8 u9 u10 : j_V), i + 1 = a0 + k → i ≤ a1 → j_fm m [] [m + 6] M M1 → (∀ i' j', i < i' → i' ≤ a1 → b0 ≤ j' → j' ≤ b1 → M1 (m + 6) (25 * i' + j') = LA l1 l2 a1 b1 i' j') →
      j_J G jm_Mo_compareShort d 0 0 3 [jr_ m, ji_ a0, ji_ a1, ji_ b0, ji_ b1, ji_ i, u6, u7, u8, u9, u10] [] (N, K, M1, g) (j_pV N K g fun M' => M' (m + 5) = gR l1 l2 a0 a1 b0 b1 (M (m + 5)) ∧ j_fm m [] [m + 5, m + 6] M M') from
    lp (a1 - a0 + 1).toNat a1 M _ _ _ _ _ (by omega) (by omega) j_fm.rfl (fun i' j' a b => by omega)
  intro k
  induction k with
  | zero =>
    intro i M1 u6 u7 u8 u9 u10 hi hi1 hf hT
    refine s_Mo_compareShort_3 (k1 := fun _ => ?_) (k2 := fun q => by omega)
    have := walk 48 a0 b0 M1 u7 u8 u9 u10 (by omega) (by omega) ha1 (by omega) hb1 (hf.mono (by simp) (by simp)) (fun i' j' z1 z2 z3 z4 => hT i' j' (by omega) z2 z3 z4)
    rw [hf.1 (m + 5) (by omega) (by simp)] at this
    exact this
  | succ k ih =>
    intro i M1 u6 u7 u8 u9 u10 hi hi1 hf hT
    refine s_Mo_compareShort_3 (k1 := fun q => by omega) (k2 := fun _ => ?_)
    suffices lq : ∀ (k : Nat) (j : Int) (M2 : Nat → Int → Int) (u7 u8 u9 u10 : j_V), j + 1 = b0 + k → j ≤ b1 → j_fm m [] [m + 6] M M2 → (∀ i' j', i < i' → i' ≤ a1 → b0 ≤ j' → j' ≤ b1 → M2 (m + 6) (25 * i' + j') = LA l1 l2 a1 b1 i' j') → (∀ j', j < j' → j' ≤ b1 → M2 (m + 6) (25 * i + j') = LA l1 l2 a1 b1 i j') →
        j_J G jm_Mo_compareShort d 0 0 13 [jr_ m, ji_ a0, ji_ a1, ji_ b0, ji_ b1, ji_ i, ji_ j, u7, u8, u9, u10] [] (N, K, M2, g) (j_pV N K g fun M' => M' (m + 5) = gR l1 l2 a0 a1 b0 b1 (M (m + 5)) ∧ j_fm m [] [m + 5, m + 6] M M') from
      lq (b1 - b0 + 1).toNat b1 M1 _ _ _ _ (by omega) (by omega) hf hT (fun j' a b => by omega)
    intro k'
    induction k' with
    | zero =>
      intro j M2 u7 u8 u9 u10 hj hj1 hf2 hT2 hR
      refine s_Mo_compareShort_13 (k1 := fun _ => ?_) (k2 := fun q => by omega)
      refine ih (i + (-1)) M2 _ _ _ _ _ (by omega) (by omega) hf2 (fun i' j' z1 z2 z3 z4 => ?_)
      by_cases hi' : i' = i
      · subst hi'; exact hR j' (by omega) z4
      · exact hT2 i' j' (by omega) z2 z3 z4
    | succ k' ih' =>
      intro j M2 u7 u8 u9 u10 hj hj1 hf2 hT2 hR
      have st : ∀ (v : Int) (u8 u9 u10 : j_V), v = LA l1 l2 a1 b1 i j → j_J G jm_Mo_compareShort d 0 0 143 [jr_ m, ji_ a0, ji_ a1, ji_ b0, ji_ b1, ji_ i, ji_ j, ji_ v, u8, u9, u10] [] (N, K, M2, g) (j_pV N K g fun M' => M' (m + 5) = gR l1 l2 a0 a1 b0 b1 (M (m + 5)) ∧ j_fm m [] [m + 5, m + 6] M M') := by
        intro v u8 u9 u10 hv
        refine s_Mo_compareShort_143 h.o h.g7 h.k6 (k1 := ?_)
        refine ih' (j + (-1)) _ _ _ _ _ (by omega) (by omega) (hf2.trans (j_fm.arr (by omega) (by simp))) (fun i' j' z1 z2 z3 z4 => ?_) (fun j' z1 z2 => ?_)
        · rw [j_up_ne (Or.inr (by omega))]; exact hT2 i' j' z1 z2 z3 z4
        · by_cases hjj : j' = j
          · subst hjj; rw [j_up_eq, hv]
          · rw [j_up_ne (Or.inr (by omega))]; exact hR j' (by omega) z2
      refine s_Mo_compareShort_13 (k1 := fun q => by omega) (k2 := fun _ => ?_)
      refine s_Mo_compareShort_19 (k1 := fun c1 => st 0 _ _ _ (by rw [LA_e1 c1])) (k2 := fun c1 => ?_)
      refine s_Mo_compareShort_28 (k1 := fun c2 => st 0 _ _ _ (by rw [LA_e2 c2])) (k2 := fun c2 => ?_)
      have w1 := hT2 (i + 1) j (by omega) (by omega) (by omega) (by omega)
      have w2 := hR (j + 1) (by omega) (by omega)
      have w3 := hT2 (i + 1) (j + 1) (by omega) (by omega) (by omega) (by omega)
      rw [show 25 * (i + 1) + j = 25 * i + 25 + j by omega] at w1
      rw [show 25 * i + (j + 1) = 25 * i + j + 1 by omega] at w2
      rw [show 25 * (i + 1) + (j + 1) = 25 * i + 26 + j by omega] at w3
      have p1 := LAr (i + 1) j
      have p2 := LAr i (j + 1)
      have p3 := LAr (i + 1) (j + 1)
      have e3 : M2 (m + 3) i = lg l1 i := by rw [hf2.1 _ (by omega) (by simp)]; exact q5 i (by omega) (by omega)
      have e4 : M2 (m + 4) j = lg l2 j := by rw [hf2.1 _ (by omega) (by simp)]; exact q6 j (by omega) (by omega)
      have r3 := q3 i (by omega) (by omega)
      have r4 := q4 j (by omega) (by omega)
      have hrec := LA_rec (l1 := l1) (l2 := l2) c1 c2
      have k109 : ∀ v : Int, v = (if lg l1 i = lg l2 j then LA l1 l2 a1 b1 (i + 1) (j + 1) + 1 else 0) → 0 ≤ v → v ≤ 100 →
          j_J G jm_Mo_compareShort d 0 0 109 [jr_ m, ji_ a0, ji_ a1, ji_ b0, ji_ b1, ji_ i, ji_ j, ji_ 0, ji_ (LA l1 l2 a1 b1 (i + 1) j), ji_ (LA l1 l2 a1 b1 i (j + 1)), u10] [ji_ v] (N, K, M2, g) (j_pV N K g fun M' => M' (m + 5) = gR l1 l2 a0 a1 b0 b1 (M (m + 5)) ∧ j_fm m [] [m + 5, m + 6] M M') := by
        intro v hv v0 v1
        rw [← hv] at hrec
        refine s_Mo_compareShort_109 (k1 := fun c4 => ?_) (k2 := fun c4 => ?_)
        · exact s_Mo_compareShort_125 (k1 := fun c5 => st _ _ _ _ (by omega)) (k2 := fun c5 => st _ _ _ _ (by omega))
        · exact s_Mo_compareShort_125 (k1 := fun c5 => st _ _ _ _ (by omega)) (k2 := fun c5 => st _ _ _ _ (by omega))
      refine s_Mo_compareShort_35 h.o h.g7 h.k6 (hg6 := h.g4) (hk3 := h.k3) (hg9 := h.g5) (hk4 := h.k4) (r11 := by rw [e3]; omega) (r12 := by rw [e4]; omega) (k1 := fun c3 => ?_) (k2 := fun c3 => ?_)
      · rw [e3, e4] at c3
        rw [w1, w2]
        exact k109 0 (by rw [if_neg c3]) (by omega) (by omega)
      · rw [e3, e4] at c3
        rw [w1, w2]
        refine s_Mo_compareShort_87 h.o h.g7 h.k6 (k1 := ?_)
        rw [w3]
        exact k109 _ (by rw [if_pos c3]) (by omega) (by omega)
end

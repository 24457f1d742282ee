/-! ===== reading a patch: plain, and the model's small steps ===== -/
def lkF (P : List Int) (a : Int) : Int := if a < P.length then lg P a else -1
/-- a place, and whether reading has failed there -/
abbrev pS : Type := Int × Bool
def wantS (P : List Int) (c : Int) (s : pS) : pS := if s.2 = true then s else if lkF P s.1 = c then (s.1 + 1, false) else (s.1, true)
def numS (P : List Int) (s : pS) : pS × Int :=
  if s.2 = true ∨ lkF P s.1 < 48 ∨ 57 < lkF P s.1 then ((s.1, true), 0)
  else if 0 < lkF P s.1 - 48 ∧ 48 ≤ lkF P (s.1 + 1) ∧ lkF P (s.1 + 1) ≤ 57 then ((s.1 + 2, false), 10 * (lkF P s.1 - 48) + lkF P (s.1 + 1) - 48)
  else ((s.1 + 1, false), lkF P s.1 - 48)
def mayS (c old fresh : Int) : Bool := (decide (c = 32) && (decide (0 < old) && decide (0 < fresh))) || ((decide (c = 45) && decide (0 < old)) || (decide (c = 43) && decide (0 < fresh)))
/-- one line of a hunk: where, and how many old and new ones are still lacking -/
def lineS (P : List Int) (a old fresh : Int) : pS × Int × Int :=
  if mayS (lkF P a) old fresh = true then
    ((if 97 ≤ lkF P (a + 1) ∧ lkF P (a + 1) ≤ 122 then wantS P 10 (a + 2, false) else (a + 1, true)), (if lkF P a = 43 then old else old - 1), (if lkF P a = 45 then fresh else fresh - 1))
  else ((a, true), old, fresh)
def linesS (P : List Int) : Nat → pS → Int → Int → Int → pS × Int
  | 0, s, _, _, n => (s, n)
  | f + 1, s, old, fresh, n => if s.2 = false ∧ (0 < old ∨ 0 < fresh) then linesS P f (lineS P s.1 old fresh).1 (lineS P s.1 old fresh).2.1 (lineS P s.1 old fresh).2.2 (n + 1) else (s, n)
/-- a hunk: the number named, old lines, new lines, where its lines begin, how many -/
abbrev hkR : Type := Int × Int × Int × Int × Int
def hunkS (P : List Int) (a : Int) : pS × hkR :=
  let r2 := numS P (wantS P 64 (a, false))
  let r4 := numS P (wantS P 44 r2.1)
  let r6 := numS P (wantS P 32 r4.1)
  let r8 := numS P (wantS P 44 r6.1)
  let s9 : pS := if r8.1.2 = false ∧ r4.2 = 0 ∧ r8.2 = 0 then (r8.1.1, true) else r8.1
  let s10 := wantS P 10 s9
  let r11 := linesS P 200 s10 r4.2 r8.2 0
  (r11.1, (r2.2, r4.2, r8.2, s10.1, r11.2))
def readS (P : List Int) : Nat → Int → List hkR → pS × List hkR
  | 0, a, acc => ((a, false), acc)
  | f + 1, a, acc => if a < P.length then (if (hunkS P a).1.2 = true then ((hunkS P a).1, acc) else readS P f (hunkS P a).1.1 (acc ++ [(hunkS P a).2])) else ((a, false), acc)
def fRead (A : AS) : Int × AS := (if (readS A.2.2 76 0 []).1.2 = true then (readS A.2.2 76 0 []).1.1 else -1, A)
section
variable {P : List Int}
theorem lkF_r {a : Int} (hb : ∀ i : Int, 0 ≤ i → i < P.length → 0 ≤ lg P i ∧ lg P i ≤ 255) (ha : 0 ≤ a) : -1 ≤ lkF P a ∧ lkF P a ≤ 255 ∧ (0 ≤ lkF P a ↔ a < P.length) := by
  unfold lkF
  split
  · rename_i h; have := hb a ha h; omega
  · omega
/-- it goes on by at most so much, and stays inside -/
theorem wantS_r {c : Int} {s : pS} (hc : 0 ≤ c) (h1 : s.1 ≤ P.length) : s.1 ≤ (wantS P c s).1 ∧ (wantS P c s).1 ≤ P.length ∧ ((wantS P c s).2 = false → s.2 = false ∧ lkF P s.1 = c ∧ (wantS P c s).1 = s.1 + 1) ∧ (s.2 = true → wantS P c s = s) := by
  unfold wantS
  by_cases q : s.2 = true
  · rw [if_pos q]
    exact ⟨Int.le_refl _, h1, fun z => (by rw [q] at z; cases z), fun _ => rfl⟩
  · rw [if_neg q]
    by_cases q2 : lkF P s.1 = c
    · rw [if_pos q2]
      have : s.1 < P.length := by
        unfold lkF at q2
        split at q2
        · assumption
        · omega
      exact ⟨by dsimp only; omega, by dsimp only; omega, fun _ => ⟨by simpa using q, q2, rfl⟩, fun z => absurd z q⟩
    · rw [if_neg q2]
      exact ⟨Int.le_refl _, h1, fun z => (by cases z), fun z => absurd z q⟩
theorem numS_r {s : pS} (h1 : s.1 ≤ P.length) : s.1 ≤ (numS P s).1.1 ∧ (numS P s).1.1 ≤ P.length ∧ 0 ≤ (numS P s).2 ∧ (numS P s).2 ≤ 99 ∧ ((numS P s).1.2 = false → s.2 = false ∧ s.1 + 1 ≤ (numS P s).1.1) ∧ (s.2 = true → numS P s = (s, 0)) := by
  have hin : ∀ a : Int, 48 ≤ lkF P a → a < P.length := fun a ha => by
    unfold lkF at ha
    split at ha
    · assumption
    · omega
  unfold numS
  by_cases q : s.2 = true ∨ lkF P s.1 < 48 ∨ 57 < lkF P s.1
  · rw [if_pos q]
    exact ⟨Int.le_refl _, h1, by omega, by omega, fun z => (by cases z), fun z => by rw [← z]⟩
  · rw [if_neg q]
    have q1 : s.2 = false := by
      cases hs : s.2 with
      | false => rfl
      | true => exact absurd (Or.inl hs) q
    have i1 := hin s.1 (by omega)
    by_cases q2 : 0 < lkF P s.1 - 48 ∧ 48 ≤ lkF P (s.1 + 1) ∧ lkF P (s.1 + 1) ≤ 57
    · rw [if_pos q2]
      have i2 := hin (s.1 + 1) q2.2.1
      exact ⟨by dsimp only; omega, by dsimp only; omega, by dsimp only; omega, by dsimp only; omega, fun _ => ⟨q1, by dsimp only; omega⟩, fun z => by rw [q1] at z; cases z⟩
    · rw [if_neg q2]
      exact ⟨by dsimp only; omega, by dsimp only; omega, by dsimp only; omega, by dsimp only; omega, fun _ => ⟨q1, by dsimp only; omega⟩, fun z => by rw [q1] at z; cases z⟩
end
section
variable {G : j_G} {d N : Nat} {K : Nat → Option (Nat × Nat)} {M : Nat → Int → Int} {g : Nat → Int → Option Nat} {m : Nat} {P : List Int}
/-- where the model reads -/
def mRd (M : Nat → Int → Int) (m : Nat) (s : pS) : Prop := M m 33 = s.1 ∧ M m 34 = j_bz s.2
theorem ct_Mo_look {s : pS} (h : rMo K g m) (hp : mPp M m P) (hP : (P.length : Int) ≤ 900) (hr : M m 33 = s.1) (h0 : 0 ≤ s.1 ∧ s.1 ≤ P.length) : j_Ct G jm_Mo_look d 0 0 [jr_ m] (N, K, M, g) (j_pI N K g fun z M' => M' = M ∧ z = lkF P s.1) := by
  refine j_Ct.ofJ (ls := [jr_ m]) (by decide) rfl rfl ?_
  refine s_Mo_look_0 h.o (r1 := by rw [hr]; omega) (r2 := by rw [hp.1]; omega) (k1 := fun q => ⟨_, M, rfl, rfl, rfl, ?_⟩) (k2 := fun q => ?_)
  · rw [hr, hp.1] at q
    unfold lkF; rw [if_neg (by omega)]
  · rw [hr, hp.1] at q
    refine s_Mo_look_11 h.o h.g25 h.k18 (r3 := by rw [hr]; omega) (r3' := by rw [hr]; omega) (k1 := ⟨_, M, rfl, rfl, rfl, ?_⟩)
    unfold lkF; rw [if_pos q, hr]
    exact hp.2 _ h0.1 q
theorem ct_Mo_want {s : pS} {c : Int} (h : rMo K g m) (hp : mPp M m P) (hP : (P.length : Int) ≤ 900) (hb : ∀ i : Int, 0 ≤ i → i < P.length → 0 ≤ lg P i ∧ lg P i ≤ 255) (hr : mRd M m s) (h0 : 0 ≤ s.1 ∧ s.1 ≤ P.length) (hc : 0 ≤ c ∧ c ≤ 255) :
    j_Ct G jm_Mo_want (d + 1) 0 0 [jr_ m, ji_ c] (N, K, M, g) (j_pV N K g fun M' => mRd M' m (wantS P c s) ∧ j_fm m [33, 34] [] M M') := by
  refine j_Ct.ofJ (ls := [jr_ m, ji_ c]) (by decide) rfl rfl ?_
  have k21 : ∀ (b : Bool), wantS P c s = (if b = true then (s.1, true) else (s.1 + 1, false)) → j_J G jm_Mo_want (d + 1) 0 0 21 [jr_ m, ji_ c] [ji_ (j_bz b), jr_ m] (N, K, M, g) (j_pV N K g fun M' => mRd M' m (wantS P c s) ∧ j_fm m [33, 34] [] M M') := by
    intro b hw
    have e33 : j_up M m 34 (j_bz b) m 33 = s.1 := by rw [j_up_ne (Or.inr (by omega))]; exact hr.1
    have e34 : j_up M m 34 (j_bz b) m 34 = j_bz b := j_up_eq _ _ _ _
    refine s_Mo_want_21 h.o (j_bz01 b) (hk2 := h.o) (r2 := by rw [e34]; exact j_bz_rng b) (k1 := fun q => ?_) (k2 := fun q => ?_)
    · rw [e34] at q
      have := j_bz_0.mp q
      subst this
      refine s_Mo_want_39 h.o (k1 := ?_)
      refine s_Mo_want_45 h.o ⟨_, rfl, rfl, ?_, (j_fm.fld (by simp)).trans (j_fm.fld (by simp))⟩
      rw [hw, if_neg (by simp)]
      exact ⟨by rw [j_up_eq, e33], by rw [j_up_ne (Or.inr (by omega))]; exact e34⟩
    · rw [e34] at q
      have := j_bz_1.mp q
      subst this
      refine s_Mo_want_32 h.o (k1 := ?_)
      refine s_Mo_want_45 h.o ⟨_, rfl, rfl, ?_, (j_fm.fld (by simp)).trans (j_fm.fld (by simp))⟩
      rw [hw, if_pos rfl]
      exact ⟨by rw [j_up_eq, e33], by rw [j_up_ne (Or.inr (by omega))]; exact e34⟩
  refine s_Mo_want_0 h.o (r1 := by rw [hr.2]; exact j_bz_rng _) (k1 := fun q => ?_) (k2 := fun q => ?_)
  · rw [hr.2] at q
    have hs := j_bz_1.mp q
    refine k21 true ?_
    rw [if_pos rfl]
    unfold wantS
    rw [if_pos hs, ← hs]
  · rw [hr.2] at q
    have hs := j_bz_0.mp q
    have hl := lkF_r hb h0.1
    refine s_Mo_want_8 h.o (ct_Mo_look h hp hP hr.1 h0) (fun z M' hq => ?_)
    obtain ⟨hM, hz⟩ := hq
    subst hM
    subst hz
    refine s_Mo_want_12 (r1 := by omega) (k1 := fun q2 => k21 false ?_) (k2 := fun q2 => k21 true ?_)
    · rw [if_neg (by simp)]
      unfold wantS
      rw [if_neg (by rw [hs]; simp), if_pos q2]
    · rw [if_pos rfl]
      unfold wantS
      rw [if_neg (by rw [hs]; simp), if_neg q2]
theorem ct_Mo_number {s : pS} (h : rMo K g m) (hp : mPp M m P) (hP : (P.length : Int) ≤ 900) (hb : ∀ i : Int, 0 ≤ i → i < P.length → 0 ≤ lg P i ∧ lg P i ≤ 255) (hr : mRd M m s) (h0 : 0 ≤ s.1 ∧ s.1 ≤ P.length) :
    j_Ct G jm_Mo_number (d + 1) 0 0 [jr_ m] (N, K, M, g) (j_pI N K g fun z M' => z = (numS P s).2 ∧ mRd M' m (numS P s).1 ∧ j_fm m [33, 34] [] M M') := by
  refine j_Ct.ofJ (ls := [jr_ m, ju_]) (by decide) rfl rfl ?_
  have hl := lkF_r hb h0.1
  have bad : (s.2 = true ∨ lkF P s.1 < 48 ∨ 57 < lkF P s.1) → j_J G jm_Mo_number (d + 1) 0 0 21 [jr_ m, ju_] [] (N, K, M, g) (j_pI N K g fun z M' => z = (numS P s).2 ∧ mRd M' m (numS P s).1 ∧ j_fm m [33, 34] [] M M') := by
    intro hbad
    refine s_Mo_number_21 h.o ⟨_, _, rfl, rfl, ?_⟩
    unfold numS
    rw [if_pos hbad]
    exact ⟨rfl, ⟨by rw [j_up_ne (Or.inr (by omega))]; exact hr.1, by rw [j_up_eq]; rfl⟩, j_fm.fld (by simp)⟩
  refine s_Mo_number_0 h.o (r1 := by rw [hr.2]; exact j_bz_rng _) (k1 := fun q => ?_) (k2 := fun q => ?_)
  · rw [hr.2] at q
    exact bad (Or.inl (j_bz_1.mp q))
  rw [hr.2] at q
  have hs := j_bz_0.mp q
  refine s_Mo_number_7 h.o (ct_Mo_look h hp hP hr.1 h0) (fun z M' hq => ?_)
  obtain ⟨hM, hz⟩ := hq
  subst hM
  subst hz
  refine s_Mo_number_11 (ct_Mo_within (by omega) (by omega) (by omega)) (fun z M' hq => ?_)
  obtain ⟨hM, hz⟩ := hq
  subst hM
  refine s_Mo_number_18 (r1 := by omega) (k1 := fun q1 => ?_) (k2 := fun q1 => bad (by omega))
  have hin : s.1 < P.length := hl.2.2.mp (by omega)
  have hnb : ¬ (s.2 = true ∨ lkF P s.1 < 48 ∨ 57 < lkF P s.1) := by rw [hs]; simp; omega
  refine s_Mo_number_28 h.o (ct_Mo_look h hp hP hr.1 h0) (fun z2 M' hq => ?_)
  obtain ⟨hM, hz2⟩ := hq
  subst hM
  subst hz2
  have e33 : M' m 33 = s.1 := hr.1
  have f1 : j_fm m [33, 34] [] M' (j_up M' m 33 (s.1 + 1)) := j_fm.fld (by simp)
  have g33 : j_up M' m 33 (s.1 + 1) m 33 = s.1 + 1 := j_up_eq _ _ _ _
  have g34 : j_up M' m 33 (s.1 + 1) m 34 = j_bz false := by rw [j_up_ne (Or.inr (by omega)), hr.2, hs]
  have p1 : mPp (j_up M' m 33 (s.1 + 1)) m P := ⟨by rw [f1.2 _ (by simp)]; exact hp.1, by rw [f1.1 _ (by omega) (by simp)]; exact hp.2⟩
  have hl1 := lkF_r (a := s.1 + 1) hb (by omega)
  have one : ¬ (0 < lkF P s.1 - 48 ∧ 48 ≤ lkF P (s.1 + 1) ∧ lkF P (s.1 + 1) ≤ 57) → (lkF P s.1 - 48 = (numS P s).2 ∧ mRd (j_up M' m 33 (s.1 + 1)) m (numS P s).1 ∧ j_fm m [33, 34] [] M' (j_up M' m 33 (s.1 + 1))) := by
    intro hno
    unfold numS
    rw [if_neg hnb, if_neg hno]
    exact ⟨rfl, ⟨g33, g34⟩, f1⟩
  refine s_Mo_number_32 h.o (r1 := by omega) (k1 := fun q2 => ⟨_, _, rfl, rfl, ?_⟩) (k2 := fun q2 => ?_)
  · rw [e33]; exact one (by omega)
  rw [e33]
  refine s_Mo_number_50 h.o (ct_Mo_look (s := (s.1 + 1, false)) h p1 hP g33 (by dsimp only; omega)) (fun z3 M2 hq => ?_)
  obtain ⟨hM, hz3⟩ := hq
  subst hM
  subst hz3
  refine s_Mo_number_54 (ct_Mo_within (by dsimp only; omega) (by omega) (by omega)) (fun z4 M2 hq => ?_)
  obtain ⟨hM, hz4⟩ := hq
  subst hM
  dsimp only at hz4
  refine s_Mo_number_61 (r1 := by omega) (k1 := fun q3 => ⟨_, _, rfl, rfl, one (by omega)⟩) (k2 := fun q3 => ?_)
  refine s_Mo_number_64 h.o (ct_Mo_look (s := (s.1 + 1, false)) h p1 hP g33 (by dsimp only; omega)) (fun z5 M2 hq => ?_)
  obtain ⟨hM, hz5⟩ := hq
  subst hM
  subst hz5
  refine s_Mo_number_72 h.o ⟨_, _, rfl, rfl, ?_⟩
  rw [g33]
  unfold numS
  rw [if_neg hnb, if_pos ⟨by omega, by omega, by omega⟩]
  refine ⟨rfl, ⟨by rw [j_up_eq]; show s.1 + 1 + 1 = s.1 + 2; omega, by rw [j_up_ne (Or.inr (by omega))]; exact g34⟩, f1.trans (j_fm.fld (by simp))⟩
end

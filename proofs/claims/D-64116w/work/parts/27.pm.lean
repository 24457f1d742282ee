/-! ===== plain: comparing by lines that stand out ===== -/
def pfx (l1 l2 : List Int) (a1 b1 : Int) : Nat → Int → Int → Int
  | 0, _, _ => 0
  | f + 1, i, j => if i < a1 ∧ j < b1 ∧ lg l1 i = lg l2 j then pfx l1 l2 a1 b1 f (i + 1) (j + 1) + 1 else 0
def sfx (l1 l2 : List Int) (i j : Int) : Nat → Int → Int → Int
  | 0, _, _ => 0
  | f + 1, p, q => if i < p ∧ j < q ∧ lg l1 (p - 1) = lg l2 (q - 1) then sfx l1 l2 i j f (p - 1) (q - 1) + 1 else 0
theorem pfx_r {l1 l2 : List Int} {a1 b1 : Int} (f : Nat) : ∀ i j, 0 ≤ pfx l1 l2 a1 b1 f i j ∧ (i ≤ a1 → i + pfx l1 l2 a1 b1 f i j ≤ a1) ∧ (j ≤ b1 → j + pfx l1 l2 a1 b1 f i j ≤ b1) := by
  induction f with
  | zero => intro i j; unfold pfx; omega
  | succ f ih =>
    intro i j
    unfold pfx
    have := ih (i + 1) (j + 1)
    split <;> omega
theorem sfx_r {l1 l2 : List Int} {i j : Int} (f : Nat) : ∀ p q, 0 ≤ sfx l1 l2 i j f p q ∧ (i ≤ p → i ≤ p - sfx l1 l2 i j f p q) ∧ (j ≤ q → j ≤ q - sfx l1 l2 i j f p q) := by
  induction f with
  | zero => intro p q; unfold sfx; omega
  | succ f ih =>
    intro p q
    unfold sfx
    have := ih (p - 1) (q - 1)
    split <;> omega
/-- c lines from i on matched with those from j on -/
def mk1 (i j c : Int) (old : Int → Int) : Int → Int := fun t => if i ≤ t ∧ t < i + c then t - i + j else old t
def mkA (tp : Int → Int) (L : List Int) (old : Int → Int) : Int → Int := fun t => if t ∈ L then tp t else old t
abbrev rg : Type := Int × Int × Int × Int
/-- the ranges between anchors -/
def rngs (tp : Int → Int) (p q : Int) : Int → Int → List Int → List rg
  | i, j, [] => [(i, p, j, q)]
  | i, j, x :: r => (i, x, j, tp x) :: rngs tp p q (x + 1) (tp x + 1) r
/-- what is left of a range behind equal lines at its ends -/
def core (l1 l2 : List Int) (r : rg) : rg :=
  let c := pfx l1 l2 r.2.1 r.2.2.2 24 r.1 r.2.2.1
  let s := sfx l1 l2 (r.1 + c) (r.2.2.1 + c) 24 r.2.1 r.2.2.2
  (r.1 + c, r.2.1 - s, r.2.2.1 + c, r.2.2.2 - s)
def endsM (l1 l2 : List Int) (r : rg) (old : Int → Int) : Int → Int :=
  let k := core l1 l2 r
  mk1 k.2.1 k.2.2.2 (r.2.1 - k.2.1) (mk1 r.1 r.2.2.1 (k.1 - r.1) old)
abbrev tpR (l1 l2 : List Int) (k : rg) : Int → Int := tpF l1 l2 k.1 k.2.1 k.2.2.1 k.2.2.2
abbrev mxR (l1 l2 : List Int) (k : rg) : Int := mxr (rk (tpR l1 l2 k) k.1) k.1 (k.2.1 - k.1).toNat
abbrev anR (l1 l2 : List Int) (k : rg) : List Int := chs (rk (tpR l1 l2 k) k.1) k.1 (k.2.1 - k.1).toNat (mxR l1 l2 k)
def pm (l1 l2 : List Int) : Nat → rg → (Int → Int) → Int → Int
  | 0, _, old => old
  | f + 1, r, old =>
    if mxR l1 l2 (core l1 l2 r) ≤ 0 then gR l1 l2 (core l1 l2 r).1 (core l1 l2 r).2.1 (core l1 l2 r).2.2.1 (core l1 l2 r).2.2.2 (endsM l1 l2 r old)
    else (rngs (tpR l1 l2 (core l1 l2 r)) (core l1 l2 r).2.1 (core l1 l2 r).2.2.2 (core l1 l2 r).1 (core l1 l2 r).2.2.1 (anR l1 l2 (core l1 l2 r))).foldl (fun o r' => pm l1 l2 f r' o) (mkA (tpR l1 l2 (core l1 l2 r)) (anR l1 l2 (core l1 l2 r)) (endsM l1 l2 r old))
/-- a range -/
def okR (r : rg) : Prop := 0 ≤ r.1 ∧ r.1 ≤ r.2.1 ∧ 0 ≤ r.2.2.1 ∧ r.2.2.1 ≤ r.2.2.2
section
variable {l1 l2 : List Int}
theorem core_ok {r : rg} (h : okR r) : okR (core l1 l2 r) ∧ r.1 ≤ (core l1 l2 r).1 ∧ (core l1 l2 r).2.1 ≤ r.2.1 ∧ r.2.2.1 ≤ (core l1 l2 r).2.2.1 ∧ (core l1 l2 r).2.2.2 ≤ r.2.2.2 ∧ r.2.1 - (core l1 l2 r).2.1 = r.2.2.2 - (core l1 l2 r).2.2.2 ∧ (core l1 l2 r).1 - r.1 = (core l1 l2 r).2.2.1 - r.2.2.1 := by
  obtain ⟨h1, h2, h3, h4⟩ := h
  unfold okR core
  dsimp only
  have a := pfx_r (l1 := l1) (l2 := l2) (a1 := r.2.1) (b1 := r.2.2.2) 24 r.1 r.2.2.1
  generalize pfx l1 l2 r.2.1 r.2.2.2 24 r.1 r.2.2.1 = c at a ⊢
  have b := sfx_r (l1 := l1) (l2 := l2) (i := r.1 + c) (j := r.2.2.1 + c) 24 r.2.1 r.2.2.2
  omega
theorem tpR_b {k : rg} (h : okR k) : ∀ t, 0 ≤ tpR l1 l2 k t → k.2.2.1 ≤ tpR l1 l2 k t ∧ tpR l1 l2 k t < k.2.2.2 := by
  intro t ht
  rcases tpF_r (l1 := l1) (l2 := l2) (a0 := k.1) (a1 := k.2.1) (i := t) h.2.2.2 with q | q
  · have q' : tpR l1 l2 k t = -1 := q
    omega
  · exact q
theorem an_upw {k : rg} (h : okR k) : upw (tpR l1 l2 k) k.1 k.2.1 k.2.2.1 k.2.2.2 (anR l1 l2 k) := by
  have := anch_upw (tp := tpR l1 l2 k) (a0 := k.1) (b0 := k.2.2.1) (q := k.2.2.2) (k.2.1 - k.1).toNat (tpR_b h) h.2.2.2 h.2.2.1
  have e : k.1 + ((k.2.1 - k.1).toNat : Int) = k.2.1 := by have := h.2.1; omega
  rw [e] at this
  exact this
theorem an_ne {k : rg} (h : 0 < mxR l1 l2 k) : anR l1 l2 k ≠ [] := anch_ne _ h
/-- the sum of the sizes -/
def szs : List rg → Int
  | [] => 0
  | r :: l => (r.2.1 - r.1 + 1) + szs l
theorem szs_app (A B : List rg) : szs (A ++ B) = szs A + szs B := by
  induction A with
  | nil => simp [szs]
  | cons r A ih => simp only [List.cons_append, szs, ih]; omega
theorem szs_ge (A : List rg) (h : ∀ r ∈ A, okR r) : (A.length : Int) ≤ szs A := by
  induction A with
  | nil => simp [szs]
  | cons r A ih =>
    have h1 := h r (by simp)
    have h2 := ih (fun r hr => h r (by simp [hr]))
    have := h1.2.1
    simp only [List.length_cons, szs]
    omega
theorem rngs_sz {tp : Int → Int} {p q : Int} (L : List Int) : ∀ i j, szs (rngs tp p q i j L) = p - i + 1 := by
  induction L with
  | nil => intro i j; simp [rngs, szs]
  | cons x r ih => intro i j; simp only [rngs, szs, ih]; omega
theorem rngs_len {tp : Int → Int} {p q : Int} (L : List Int) : ∀ i j, (rngs tp p q i j L).length = L.length + 1 := by
  induction L with
  | nil => intro i j; rfl
  | cons x r ih => intro i j; simp only [rngs, List.length_cons, ih]
theorem rngs_ok {tp : Int → Int} {p q : Int} (L : List Int) : ∀ i j, 0 ≤ i → 0 ≤ j → upw tp i p j q L → ∀ r ∈ rngs tp p q i j L, okR r ∧ i ≤ r.1 ∧ r.2.1 ≤ p ∧ j ≤ r.2.2.1 ∧ r.2.2.2 ≤ q ∧ (L ≠ [] → r.2.1 - r.1 < p - i) := by
  induction L with
  | nil =>
    intro i j hi hj h r hr
    simp only [rngs, List.mem_singleton] at hr
    subst hr
    obtain ⟨h1, h2⟩ := h
    exact ⟨⟨hi, h1, hj, h2⟩, Int.le_refl _, Int.le_refl _, Int.le_refl _, Int.le_refl _, fun q => absurd rfl q⟩
  | cons x L ih =>
    intro i j hi hj h r hr
    obtain ⟨h1, h2, h3, h4, h5⟩ := h
    simp only [rngs, List.mem_cons] at hr
    rcases hr with hr | hr
    · subst hr
      exact ⟨⟨hi, h1, hj, h3⟩, Int.le_refl _, by show x ≤ p; omega, Int.le_refl _, by show tp x ≤ q; omega, fun _ => by show x - i < p - i; omega⟩
    · obtain ⟨k1, k2, k3, k4, k5, k6⟩ := ih (x + 1) (tp x + 1) (by omega) (by omega) h5 r hr
      have := k1.2.1
      exact ⟨k1, by omega, k3, by omega, k5, fun _ => by omega⟩
theorem foldl_cg {α β : Type} {f g : α → β → α} (L : List β) : (∀ a, ∀ b ∈ L, f a b = g a b) → ∀ a, L.foldl f a = L.foldl g a := by
  induction L with
  | nil => intro _ a; rfl
  | cons b L ih =>
    intro h a
    rw [List.foldl_cons, List.foldl_cons, h a b (by simp)]
    exact ih (fun a b hb => h a b (by simp [hb])) _
/-- more fuel changes nothing -/
theorem pm_st (f : Nat) : ∀ (r : rg) (old : Int → Int), okR r → r.2.1 - r.1 < f → pm l1 l2 f r old = pm l1 l2 (f + 1) r old := by
  induction f with
  | zero => intro r old h hs; have := h.2.1; omega
  | succ f ih =>
    intro r old h hs
    obtain ⟨k1, k2, k3, k4, k5, k6⟩ := core_ok (l1 := l1) (l2 := l2) h
    rw [pm, pm]
    by_cases hm : mxR l1 l2 (core l1 l2 r) ≤ 0
    · rw [if_pos hm, if_pos hm]
    · rw [if_neg hm, if_neg hm]
      refine foldl_cg _ (fun o r' hr' => ih r' o ?_ ?_) _
      · exact (rngs_ok _ _ _ k1.1 k1.2.2.1 (an_upw k1) r' hr').1
      · have := (rngs_ok _ _ _ k1.1 k1.2.2.1 (an_upw k1) r' hr').2.2.2.2.2 (an_ne (by omega))
        omega
theorem pm_ge {f f' : Nat} {r : rg} {old : Int → Int} (h : okR r) (hs : r.2.1 - r.1 < f) (hf : f ≤ f') : pm l1 l2 f r old = pm l1 l2 f' r old := by
  obtain ⟨k, rfl⟩ := Nat.exists_eq_add_of_le hf
  induction k with
  | zero => rfl
  | succ k ih => rw [ih (by omega), pm_st (f + k) r old h (by omega)]; rfl
/-- nothing outside -/
theorem mk1_out {i j c t : Int} {old : Int → Int} (h : t < i ∨ i + c ≤ t) : mk1 i j c old t = old t := by unfold mk1; rw [if_neg (by omega)]
theorem mk1_in {i j c t : Int} {old : Int → Int} (h1 : i ≤ t) (h2 : t < i + c) : mk1 i j c old t = t - i + j := by unfold mk1; rw [if_pos ⟨h1, h2⟩]
theorem endsM_out {r : rg} {old : Int → Int} {t : Int} (h : okR r) (ht : t < r.1 ∨ r.2.1 ≤ t ∨ ((core l1 l2 r).1 ≤ t ∧ t < (core l1 l2 r).2.1)) : endsM l1 l2 r old t = old t := by
  obtain ⟨k1, k2, k3, k4, k5, k6⟩ := core_ok (l1 := l1) (l2 := l2) h
  have := k1.2.1
  unfold endsM
  rw [mk1_out (by omega), mk1_out (by omega)]
theorem gR_out {a0 a1 b0 b1 t : Int} {old : Int → Int} (hb : 0 ≤ b0) (h : t < a0 ∨ a1 ≤ t) : gR l1 l2 a0 a1 b0 b1 old t = old t := by
  unfold gR gu
  rw [if_pos (gw_out hb h)]
theorem mkA_out {tp : Int → Int} {L : List Int} {old : Int → Int} {t : Int} (h : t ∉ L) : mkA tp L old t = old t := by unfold mkA; rw [if_neg h]
theorem foldl_out {f : Nat} {t : Int} (L : List rg) (ih : ∀ r ∈ L, ∀ o, pm l1 l2 f r o t = o t) : ∀ old, L.foldl (fun o r => pm l1 l2 f r o) old t = old t := by
  induction L with
  | nil => intro old; rfl
  | cons r L ihL =>
    intro old
    rw [List.foldl_cons, ihL (fun r hr => ih r (by simp [hr])), ih r (by simp)]
theorem pm_out (f : Nat) : ∀ (r : rg) (old : Int → Int) (t : Int), okR r → (t < r.1 ∨ r.2.1 ≤ t) → pm l1 l2 f r old t = old t := by
  induction f with
  | zero => intro r old t _ _; rfl
  | succ f ih =>
    intro r old t h ht
    obtain ⟨k1, k2, k3, k4, k5, k6⟩ := core_ok (l1 := l1) (l2 := l2) h
    rw [pm]
    by_cases hm : mxR l1 l2 (core l1 l2 r) ≤ 0
    · rw [if_pos hm, gR_out k1.2.2.1 (by omega), endsM_out h (by omega)]
    · rw [if_neg hm, foldl_out _ (fun r' hr' o => ?_), mkA_out (fun q => ?_), endsM_out h (by omega)]
      · have := upw_in _ _ _ (an_upw (l1 := l1) (l2 := l2) k1) t q
        omega
      · obtain ⟨q1, q2, q3, q4⟩ := rngs_ok _ _ _ k1.1 k1.2.2.1 (an_upw k1) r' hr'
        exact ih r' o t q1 (by omega)
/-- matched in a range, and growing -/
def gm (o : Int → Int) (a0 a1 b0 b1 : Int) : Prop := (∀ t, a0 ≤ t → t < a1 → o t = -1 ∨ (b0 ≤ o t ∧ o t < b1)) ∧ ∀ s t, a0 ≤ s → s < t → t < a1 → o s ≠ -1 → o t ≠ -1 → o s < o t
theorem gm_cg {o o' : Int → Int} {a0 a1 b0 b1 : Int} (h : ∀ t, a0 ≤ t → t < a1 → o' t = o t) (hg : gm o a0 a1 b0 b1) : gm o' a0 a1 b0 b1 := by
  obtain ⟨g1, g2⟩ := hg
  constructor
  · intro t h1 h2; rw [h t h1 h2]; exact g1 t h1 h2
  · intro s t h1 h2 h3; rw [h s h1 (by omega), h t (by omega) h3]; exact g2 s t h1 h2 h3
theorem gm_glue {o : Int → Int} {a0 x a1 b0 v w b1 : Int} (h1 : gm o a0 x b0 v) (h2 : gm o x a1 w b1) (hvw : v ≤ w) (hb : b0 ≤ v) (hb1 : w ≤ b1) : gm o a0 a1 b0 b1 := by
  obtain ⟨p1, p2⟩ := h1
  obtain ⟨q1, q2⟩ := h2
  constructor
  · intro t t1 t2
    by_cases ht : t < x
    · rcases p1 t t1 ht with h | h
      · left; exact h
      · right; omega
    · rcases q1 t (by omega) t2 with h | h
      · left; exact h
      · right; omega
  · intro s t s1 st t2 hs ht
    by_cases hx : t < x
    · exact p2 s t s1 st hx hs ht
    · by_cases hx2 : x ≤ s
      · exact q2 s t hx2 st t2 hs ht
      · rcases p1 s s1 (by omega) with h | h
        · exact absurd h hs
        · rcases q1 t (by omega) t2 with h' | h'
          · exact absurd h' ht
          · omega
theorem gm_one {o : Int → Int} {x v : Int} (h : o x = v) : gm o x (x + 1) v (v + 1) := by
  constructor
  · intro t h1 h2
    have : t = x := by omega
    subst this
    right; omega
  · intro s t h1 h2 h3; omega
theorem gm_mk {i j c : Int} {old : Int → Int} : gm (mk1 i j c old) i (i + c) j (j + c) := by
  constructor
  · intro t h1 h2; rw [mk1_in h1 h2]; right; omega
  · intro s t h1 h2 h3; rw [mk1_in h1 (by omega), mk1_in (by omega) h3]; omega
theorem gm_none {o : Int → Int} {a0 a1 b0 b1 : Int} (h : ∀ t, a0 ≤ t → t < a1 → o t = -1) : gm o a0 a1 b0 b1 := by
  constructor
  · intro t h1 h2; left; exact h t h1 h2
  · intro s t h1 h2 h3 hs; exact absurd (h s h1 (by omega)) hs
theorem gm_gR {a0 a1 b0 b1 : Int} {old : Int → Int} (hb : 0 ≤ b0) (h : ∀ t, a0 ≤ t → t < a1 → old t = -1) : gm (gR l1 l2 a0 a1 b0 b1 old) a0 a1 b0 b1 := by
  have e : ∀ t, a0 ≤ t → t < a1 → gR l1 l2 a0 a1 b0 b1 old t = gw l1 l2 a1 b1 48 a0 b0 t := by
    intro t h1 h2
    unfold gR gu
    split
    · rename_i q; rw [q]; exact h t h1 h2
    · rfl
  constructor
  · intro t h1 h2
    rw [e t h1 h2]
    by_cases q : gw l1 l2 a1 b1 48 a0 b0 t = -1
    · left; exact q
    · right
      have := gw_in 48 a0 b0 t (Or.inr hb) q
      omega
  · intro s t h1 h2 h3 hs ht
    rw [e s h1 (by omega)] at hs ⊢
    rw [e t (by omega) h3] at ht ⊢
    exact gw_mono 48 a0 b0 s t hb h2 hs ht
theorem pm_gm (f : Nat) : ∀ (r : rg) (old : Int → Int), okR r → (∀ t, r.1 ≤ t → t < r.2.1 → old t = -1) → gm (pm l1 l2 f r old) r.1 r.2.1 r.2.2.1 r.2.2.2 := by
  induction f with
  | zero => intro r old _ h; exact gm_none h
  | succ f ih =>
    intro r old h hold
    obtain ⟨k1, k2, k3, k4, k5, k6, k7⟩ := core_ok (l1 := l1) (l2 := l2) h
    have hk1 := k1.2.1
    have hk2 := k1.2.2.2
    -- the core suffices
    have key : gm (pm l1 l2 (f + 1) r old) (core l1 l2 r).1 (core l1 l2 r).2.1 (core l1 l2 r).2.2.1 (core l1 l2 r).2.2.2 ∧ ∀ t, (t < (core l1 l2 r).1 ∨ (core l1 l2 r).2.1 ≤ t) → pm l1 l2 (f + 1) r old t = endsM l1 l2 r old t := by
      have hin : ∀ t, (core l1 l2 r).1 ≤ t → t < (core l1 l2 r).2.1 → endsM l1 l2 r old t = -1 := fun t t1 t2 => by rw [endsM_out h (by omega)]; exact hold t (by omega) (by omega)
      rw [pm]
      by_cases hm : mxR l1 l2 (core l1 l2 r) ≤ 0
      · rw [if_pos hm]
        exact ⟨gm_gR k1.2.2.1 hin, fun t ht => gR_out k1.2.2.1 ht⟩
      · rw [if_neg hm]
        have hu := an_upw (l1 := l1) (l2 := l2) k1
        constructor
        · -- over the anchors
          have gen : ∀ (L : List Int) (i j : Int) (o : Int → Int), 0 ≤ i → 0 ≤ j → upw (tpR l1 l2 (core l1 l2 r)) i (core l1 l2 r).2.1 j (core l1 l2 r).2.2.2 L → (∀ t, i ≤ t → t < (core l1 l2 r).2.1 → t ∉ L → o t = -1) → (∀ t ∈ L, o t = tpR l1 l2 (core l1 l2 r) t) → gm ((rngs (tpR l1 l2 (core l1 l2 r)) (core l1 l2 r).2.1 (core l1 l2 r).2.2.2 i j L).foldl (fun o r' => pm l1 l2 f r' o) o) i (core l1 l2 r).2.1 j (core l1 l2 r).2.2.2 := by
            intro L
            induction L with
            | nil =>
              intro i j o hi hj hu h1 h2
              exact ih (i, (core l1 l2 r).2.1, j, (core l1 l2 r).2.2.2) o ⟨hi, hu.1, hj, hu.2⟩ (fun t t1 t2 => h1 t t1 t2 (by simp))
            | cons x L ihL =>
              intro i j o hi hj hu h1 h2
              obtain ⟨u1, u2, u3, u4, u5⟩ := hu
              simp only [rngs, List.foldl_cons]
              have hxL : ∀ t ∈ L, x + 1 ≤ t := fun t ht => (upw_in _ _ _ u5 t ht).1
              have ok1 : okR (i, x, j, tpR l1 l2 (core l1 l2 r) x) := ⟨hi, u1, hj, u3⟩
              have a1 : gm (pm l1 l2 f (i, x, j, tpR l1 l2 (core l1 l2 r) x) o) i x j (tpR l1 l2 (core l1 l2 r) x) := ih _ o ok1 (fun t (t1 : i ≤ t) (t2 : t < x) => h1 t t1 (by omega) (fun q => by
                rcases List.mem_cons.mp q with q | q
                · omega
                · have := hxL t q; omega))
              have out1 : ∀ t, x ≤ t → pm l1 l2 f (i, x, j, tpR l1 l2 (core l1 l2 r) x) o t = o t := fun t ht => pm_out f _ o t ok1 (Or.inr ht)
              have a2 := ihL (x + 1) (tpR l1 l2 (core l1 l2 r) x + 1) (pm l1 l2 f (i, x, j, tpR l1 l2 (core l1 l2 r) x) o) (by omega) (by omega) u5 (fun t t1 t2 t3 => by rw [out1 t (by omega)]; exact h1 t (by omega) t2 (fun q => by
                rcases List.mem_cons.mp q with q | q
                · omega
                · exact t3 q)) (fun t ht => by rw [out1 t (by have := hxL t ht; omega)]; exact h2 t (by simp [ht]))
              have out2 : ∀ t, t ≤ x → (rngs (tpR l1 l2 (core l1 l2 r)) (core l1 l2 r).2.1 (core l1 l2 r).2.2.2 (x + 1) (tpR l1 l2 (core l1 l2 r) x + 1) L).foldl (fun o r' => pm l1 l2 f r' o) (pm l1 l2 f (i, x, j, tpR l1 l2 (core l1 l2 r) x) o) t = pm l1 l2 f (i, x, j, tpR l1 l2 (core l1 l2 r) x) o t := by
                intro t ht
                refine foldl_out _ (fun r' hr' o => ?_) _
                obtain ⟨q1, q2, q3, q4⟩ := rngs_ok _ _ _ (by omega) (by omega) u5 r' hr'
                exact pm_out f r' o t q1 (by omega)
              have hx : (rngs (tpR l1 l2 (core l1 l2 r)) (core l1 l2 r).2.1 (core l1 l2 r).2.2.2 (x + 1) (tpR l1 l2 (core l1 l2 r) x + 1) L).foldl (fun o r' => pm l1 l2 f r' o) (pm l1 l2 f (i, x, j, tpR l1 l2 (core l1 l2 r) x) o) x = tpR l1 l2 (core l1 l2 r) x := by
                rw [out2 x (Int.le_refl _), out1 x (Int.le_refl _)]; exact h2 x (by simp)
              have b1 := gm_cg (fun t t1 t2 => out2 t (by omega)) a1
              exact gm_glue (gm_glue b1 (gm_one hx) (Int.le_refl _) u3 (by omega)) a2 (Int.le_refl _) (by omega) (by omega)
          refine gen _ _ _ _ k1.1 k1.2.2.1 hu (fun t t1 t2 t3 => ?_) (fun t ht => ?_)
          · rw [mkA_out t3]; exact hin t t1 t2
          · unfold mkA; rw [if_pos ht]
        · intro t ht
          rw [foldl_out _ (fun r' hr' o => ?_), mkA_out (fun q => ?_)]
          · have := upw_in _ _ _ hu t q
            omega
          · obtain ⟨q1, q2, q3, q4⟩ := rngs_ok _ _ _ k1.1 k1.2.2.1 hu r' hr'
            exact pm_out f r' o t q1 (by omega)
    obtain ⟨g1, g2⟩ := key
    have e1 : gm (pm l1 l2 (f + 1) r old) r.1 (core l1 l2 r).1 r.2.2.1 (core l1 l2 r).2.2.1 := by
      refine gm_cg (o := mk1 r.1 r.2.2.1 ((core l1 l2 r).1 - r.1) old) (fun t t1 t2 => ?_) ?_
      · rw [g2 t (by omega)]
        unfold endsM
        rw [mk1_out (by omega)]
      · have := gm_mk (i := r.1) (j := r.2.2.1) (c := (core l1 l2 r).1 - r.1) (old := old)
        rw [show r.1 + ((core l1 l2 r).1 - r.1) = (core l1 l2 r).1 by omega, show r.2.2.1 + ((core l1 l2 r).1 - r.1) = (core l1 l2 r).2.2.1 by omega] at this
        exact this
    have e2 : gm (pm l1 l2 (f + 1) r old) (core l1 l2 r).2.1 r.2.1 (core l1 l2 r).2.2.2 r.2.2.2 := by
      refine gm_cg (o := mk1 (core l1 l2 r).2.1 (core l1 l2 r).2.2.2 (r.2.1 - (core l1 l2 r).2.1) (mk1 r.1 r.2.2.1 ((core l1 l2 r).1 - r.1) old)) (fun t t1 t2 => ?_) ?_
      · rw [g2 t (by omega)]
        unfold endsM
        rfl
      · have := gm_mk (i := (core l1 l2 r).2.1) (j := (core l1 l2 r).2.2.2) (c := r.2.1 - (core l1 l2 r).2.1) (old := mk1 r.1 r.2.2.1 ((core l1 l2 r).1 - r.1) old)
        rw [show (core l1 l2 r).2.1 + (r.2.1 - (core l1 l2 r).2.1) = r.2.1 by omega, show (core l1 l2 r).2.2.2 + (r.2.1 - (core l1 l2 r).2.1) = r.2.2.2 by omega] at this
        exact this
    exact gm_glue (gm_glue e1 g1 (Int.le_refl _) (by omega) (by omega)) e2 (Int.le_refl _) (by omega) (by omega)
end

/-! ===== plain: lines that stand out, ranks, anchors ===== -/
def cn (l : List Int) (a : Int) : Nat → Int → Int
  | 0, _ => 0
  | n + 1, v => cn l a n v + (if lg l (a + n) = v then 1 else 0)
def ls (l : List Int) (a : Int) : Nat → Int → Int
  | 0, _ => -1
  | n + 1, v => if lg l (a + n) = v then a + n else ls l a n v
section
variable {l : List Int} {a v : Int}
theorem cn_0 (n : Nat) : 0 ≤ cn l a n v ∧ cn l a n v ≤ n := by
  induction n with
  | zero => simp [cn]
  | succ n ih => unfold cn; split <;> omega
theorem cn_z (n : Nat) : cn l a n v = 0 → ∀ i, a ≤ i → i < a + n → lg l i ≠ v := by
  induction n with
  | zero => intro _ i h1 h2; omega
  | succ n ih =>
    intro h i h1 h2
    have := cn_0 (l := l) (a := a) (v := v) n
    unfold cn at h
    by_cases hi : i = a + n
    · subst hi
      intro q
      rw [if_pos q] at h
      omega
    · exact ih (by split at h <;> omega) i h1 (by omega)
theorem ls_r (n : Nat) : ls l a n v = -1 ∨ (a ≤ ls l a n v ∧ ls l a n v < a + n) := by
  induction n with
  | zero => left; rfl
  | succ n ih =>
    unfold ls
    split
    · right; omega
    · rcases ih with h | h
      · left; exact h
      · right; omega
theorem ls_1 (n : Nat) : cn l a n v = 1 → ∀ i, a ≤ i → i < a + n → lg l i = v → ls l a n v = i := by
  induction n with
  | zero => intro _ i h1 h2; omega
  | succ n ih =>
    intro h i h1 h2 h3
    unfold cn at h
    unfold ls
    by_cases hv : lg l (a + n) = v
    · rw [if_pos hv] at h ⊢
      have hz := cn_z n (l := l) (a := a) (v := v) (by omega)
      by_cases hi : i = a + n
      · exact hi.symm
      · exact absurd h3 (hz i h1 (by omega))
    · rw [if_neg hv] at h ⊢
      refine ih (by omega) i h1 ?_ h3
      by_cases hi : i = a + n
      · subst hi; exact absurd h3 hv
      · omega
theorem ls_c (n : Nat) : cn l a n v ≠ 0 → ls l a n v ≠ -1 ∨ a < 0 := by
  induction n with
  | zero => intro h; exact absurd rfl h
  | succ n ih =>
    intro h
    unfold cn at h
    unfold ls
    by_cases hv : lg l (a + n) = v
    · rw [if_pos hv]; omega
    · rw [if_neg hv] at h ⊢
      exact ih (by omega)
end
/-- the partner of line i of the first range -/
def tpF (l1 l2 : List Int) (a0 a1 b0 b1 i : Int) : Int := if cn l1 a0 (a1 - a0).toNat (lg l1 i) = 1 ∧ cn l2 b0 (b1 - b0).toNat (lg l1 i) = 1 then ls l2 b0 (b1 - b0).toNat (lg l1 i) else -1
theorem tpF_r {l1 l2 : List Int} {a0 a1 b0 b1 i : Int} (hb : b0 ≤ b1) : tpF l1 l2 a0 a1 b0 b1 i = -1 ∨ (b0 ≤ tpF l1 l2 a0 a1 b0 b1 i ∧ tpF l1 l2 a0 a1 b0 b1 i < b1) := by
  unfold tpF
  split
  · rcases ls_r (l := l2) (a := b0) (v := lg l1 i) (b1 - b0).toNat with h | h
    · left; exact h
    · right; omega
  · left; rfl
/-- the greatest rank in front that leads less far -/
def bst (f tp : Int → Int) (a0 : Int) : Nat → Int → Int
  | 0, _ => 0
  | n + 1, v => if 0 ≤ tp (a0 + n) ∧ tp (a0 + n) < v ∧ bst f tp a0 n v < f (a0 + n) then f (a0 + n) else bst f tp a0 n v
theorem bst_cg {f f' tp : Int → Int} {a0 v : Int} (n : Nat) : (∀ k, a0 ≤ k → k < a0 + n → f k = f' k) → bst f tp a0 n v = bst f' tp a0 n v := by
  induction n with
  | zero => intro _; rfl
  | succ n ih =>
    intro h
    unfold bst
    rw [ih (fun k h1 h2 => h k h1 (by omega)), h (a0 + n) (by omega) (by omega)]
theorem bst_0 {f tp : Int → Int} {a0 v : Int} (n : Nat) : 0 ≤ bst f tp a0 n v := by
  induction n with
  | zero => exact Int.le_refl _
  | succ n ih => unfold bst; split <;> omega
theorem bst_ge {f tp : Int → Int} {a0 v : Int} (n : Nat) : ∀ k, a0 ≤ k → k < a0 + n → 0 ≤ tp k → tp k < v → f k ≤ bst f tp a0 n v := by
  induction n with
  | zero => intro k h1 h2; omega
  | succ n ih =>
    intro k h1 h2 h3 h4
    unfold bst
    by_cases hk : k = a0 + n
    · subst hk
      split
      · omega
      · rename_i q
        by_cases hq : bst f tp a0 n v < f (a0 + n)
        · exact absurd ⟨h3, h4, hq⟩ q
        · omega
    · have := ih k h1 (by omega) h3 h4
      split <;> omega
theorem bst_at {f tp : Int → Int} {a0 v : Int} (n : Nat) : bst f tp a0 n v = 0 ∨ ∃ k, a0 ≤ k ∧ k < a0 + n ∧ 0 ≤ tp k ∧ tp k < v ∧ f k = bst f tp a0 n v := by
  induction n with
  | zero => left; rfl
  | succ n ih =>
    unfold bst
    split
    · rename_i q
      right; exact ⟨a0 + n, by omega, by omega, q.1, q.2.1, rfl⟩
    · rcases ih with h | ⟨k, h1, h2, h3⟩
      · left; exact h
      · right; exact ⟨k, h1, by omega, h3⟩
def rkF (tp : Int → Int) (a0 : Int) : Nat → Int → Int
  | 0 => fun _ => 0
  | n + 1 => fun t => if t = a0 + n then (if 0 ≤ tp (a0 + n) then bst (rkF tp a0 n) tp a0 n (tp (a0 + n)) + 1 else 0) else rkF tp a0 n t
/-- the rank of a line -/
def rk (tp : Int → Int) (a0 t : Int) : Int := rkF tp a0 (t - a0 + 1).toNat t
section
variable {tp : Int → Int} {a0 : Int}
theorem rkF_st (n k : Nat) {t : Int} (h : t < a0 + n) : rkF tp a0 (n + k) t = rkF tp a0 n t := by
  induction k with
  | zero => rfl
  | succ k ih =>
    rw [show n + (k + 1) = (n + k) + 1 by omega, rkF]
    show (if t = a0 + (n + k : Nat) then _ else _) = _
    rw [if_neg (by omega), ih]
theorem rkF_eq {n : Nat} {t : Int} (h0 : a0 ≤ t) (h : t < a0 + n) : rkF tp a0 n t = rk tp a0 t := by
  unfold rk
  have := rkF_st (tp := tp) (a0 := a0) (t - a0 + 1).toNat (n - (t - a0 + 1).toNat) (t := t) (by omega)
  rw [← this, show (t - a0 + 1).toNat + (n - (t - a0 + 1).toNat) = n by omega]
theorem rk_rec (n : Nat) : rk tp a0 (a0 + n) = if 0 ≤ tp (a0 + n) then bst (rk tp a0) tp a0 n (tp (a0 + n)) + 1 else 0 := by
  rw [← rkF_eq (n := n + 1) (by omega) (by omega), rkF]
  show (if a0 + (n : Int) = a0 + n then _ else _) = _
  rw [if_pos rfl, bst_cg (f' := rk tp a0) n (fun k h1 h2 => rkF_eq h1 h2)]
theorem rk_pos {t : Int} (h0 : a0 ≤ t) : (0 ≤ tp t → 1 ≤ rk tp a0 t) ∧ (tp t < 0 → rk tp a0 t = 0) := by
  have := rk_rec (tp := tp) (a0 := a0) (t - a0).toNat
  rw [show a0 + ((t - a0).toNat : Int) = t by omega] at this
  have hb := bst_0 (f := rk tp a0) (tp := tp) (a0 := a0) (v := tp t) (t - a0).toNat
  rw [this]
  constructor
  · intro h; rw [if_pos h]; omega
  · intro h; rw [if_neg (by omega)]
theorem rk_lt {s t : Int} (h0 : a0 ≤ s) (h : s < t) (hs : 0 ≤ tp s) (ht : tp s < tp t) : rk tp a0 s < rk tp a0 t := by
  have := rk_rec (tp := tp) (a0 := a0) (t - a0).toNat
  rw [show a0 + ((t - a0).toNat : Int) = t by omega, if_pos (by omega)] at this
  have hb := bst_ge (f := rk tp a0) (tp := tp) (a0 := a0) (v := tp t) (t - a0).toNat s h0 (by omega) hs ht
  omega
theorem rk_ex {t : Int} (h0 : a0 ≤ t) (h : 2 ≤ rk tp a0 t) : ∃ k, a0 ≤ k ∧ k < t ∧ 0 ≤ tp k ∧ tp k < tp t ∧ rk tp a0 k = rk tp a0 t - 1 := by
  have := rk_rec (tp := tp) (a0 := a0) (t - a0).toNat
  rw [show a0 + ((t - a0).toNat : Int) = t by omega] at this
  split at this
  · rcases bst_at (f := rk tp a0) (tp := tp) (a0 := a0) (v := tp t) (t - a0).toNat with q | ⟨k, h1, h2, h3, h4, h5⟩
    · omega
    · exact ⟨k, h1, by omega, h3, h4, by omega⟩
  · omega
end
/-- the greatest rank -/
def mxr (f : Int → Int) (a0 : Int) : Nat → Int
  | 0 => 0
  | n + 1 => if mxr f a0 n < f (a0 + n) then f (a0 + n) else mxr f a0 n
theorem mxr_0 {f : Int → Int} {a0 : Int} (n : Nat) : 0 ≤ mxr f a0 n := by
  induction n with
  | zero => exact Int.le_refl _
  | succ n ih => unfold mxr; split <;> omega
theorem mxr_ge {f : Int → Int} {a0 : Int} (n : Nat) : ∀ k, a0 ≤ k → k < a0 + n → f k ≤ mxr f a0 n := by
  induction n with
  | zero => intro k h1 h2; omega
  | succ n ih =>
    intro k h1 h2
    unfold mxr
    by_cases hk : k = a0 + n
    · subst hk; split <;> omega
    · have := ih k h1 (by omega)
      split <;> omega
theorem mxr_cg {f f' : Int → Int} {a0 : Int} (n : Nat) : (∀ k, a0 ≤ k → k < a0 + n → f k = f' k) → mxr f a0 n = mxr f' a0 n := by
  induction n with
  | zero => intro _; rfl
  | succ n ih =>
    intro h
    unfold mxr
    rw [ih (fun k h1 h2 => h k h1 (by omega)), h (a0 + n) (by omega) (by omega)]
/-- the last place with a rank -/
def lat (f : Int → Int) (a0 : Int) (n : Nat) (r at' : Int) : Prop := a0 ≤ at' ∧ at' < a0 + n ∧ f at' = r ∧ ∀ k, at' < k → k < a0 + n → f k ≠ r
theorem lat_ex {f : Int → Int} {a0 r : Int} (n : Nat) : (∃ k, a0 ≤ k ∧ k < a0 + n ∧ f k = r) → ∃ x, lat f a0 n r x := by
  induction n with
  | zero => rintro ⟨k, h1, h2, -⟩; omega
  | succ n ih =>
    rintro ⟨k, h1, h2, h3⟩
    by_cases hv : f (a0 + n) = r
    · exact ⟨a0 + n, by omega, by omega, hv, fun k a b => by omega⟩
    · obtain ⟨x, x1, x2, x3, x4⟩ := ih ⟨k, h1, by
        by_cases hk : k = a0 + n
        · subst hk; exact absurd h3 hv
        · omega, h3⟩
      refine ⟨x, x1, by omega, x3, fun k a b => ?_⟩
      by_cases hk : k = a0 + n
      · subst hk; exact hv
      · exact x4 k a (by omega)
/-- the anchors: for each rank, from the greatest on, the last line in front -/
def chs (f : Int → Int) (a0 : Int) : Nat → Int → List Int
  | 0, _ => []
  | n + 1, r => if f (a0 + n) = r ∧ 0 < r then chs f a0 n (r - 1) ++ [a0 + n] else chs f a0 n r
theorem chs_0 {f : Int → Int} {a0 r : Int} (n : Nat) (h : r ≤ 0) : chs f a0 n r = [] := by
  induction n with
  | zero => rfl
  | succ n ih => unfold chs; rw [if_neg (by omega), ih]
theorem chs_lat {f : Int → Int} {a0 r x : Int} (n : Nat) (hr : 0 < r) (h : lat f a0 n r x) : chs f a0 n r = chs f a0 (x - a0).toNat (r - 1) ++ [x] := by
  induction n with
  | zero => obtain ⟨h1, h2, -⟩ := h; omega
  | succ n ih =>
    obtain ⟨h1, h2, h3, h4⟩ := h
    show (if f (a0 + n) = r ∧ 0 < r then chs f a0 n (r - 1) ++ [a0 + (n : Int)] else chs f a0 n r) = _
    by_cases hx : x = a0 + n
    · subst hx
      rw [if_pos ⟨h3, hr⟩, show (a0 + (n : Int) - a0).toNat = n by omega]
    · rw [if_neg (fun q => h4 (a0 + n) (by omega) (by omega) q.1)]
      exact ih ⟨h1, by omega, h3, fun k a b => h4 k a (by omega)⟩
theorem chs_cg {f f' : Int → Int} {a0 : Int} (n : Nat) : ∀ r, (∀ k, a0 ≤ k → k < a0 + n → f k = f' k) → chs f a0 n r = chs f' a0 n r := by
  induction n with
  | zero => intro r _; rfl
  | succ n ih =>
    intro r h
    unfold chs
    rw [ih r (fun k h1 h2 => h k h1 (by omega)), ih (r - 1) (fun k h1 h2 => h k h1 (by omega)), h (a0 + n) (by omega) (by omega)]
/-- anchors in order: they and what they lead to grow -/
def upw (tp : Int → Int) (i p j q : Int) : List Int → Prop
  | [] => i ≤ p ∧ j ≤ q
  | x :: r => i ≤ x ∧ x < p ∧ j ≤ tp x ∧ tp x < q ∧ upw tp (x + 1) p (tp x + 1) q r
theorem upw_app {tp : Int → Int} {p q x : Int} (hx : x < p) (hq : tp x < q) (L : List Int) : ∀ i j, 0 ≤ tp x → upw tp i x j (tp x) L → upw tp i p j q (L ++ [x]) := by
  induction L with
  | nil =>
    intro i j h0 h
    obtain ⟨h1, h2⟩ := h
    exact ⟨h1, hx, h2, hq, by omega, by omega⟩
  | cons y r ih =>
    intro i j h0 h
    obtain ⟨h1, h2, h3, h4, h5⟩ := h
    exact ⟨h1, by omega, h3, by omega, ih _ _ h0 h5⟩
theorem upw_le {tp : Int → Int} {p q : Int} (L : List Int) : ∀ i j, upw tp i p j q L → i ≤ p ∧ j ≤ q := by
  induction L with
  | nil => intro i j h; exact h
  | cons x r ih => intro i j ⟨h1, h2, h3, h4, h5⟩; omega
theorem upw_in {tp : Int → Int} {p q : Int} (L : List Int) : ∀ i j, upw tp i p j q L → ∀ x ∈ L, i ≤ x ∧ x < p ∧ j ≤ tp x ∧ tp x < q := by
  induction L with
  | nil => intro i j _ x hx; cases hx
  | cons y r ih =>
    intro i j ⟨h1, h2, h3, h4, h5⟩ x hx
    rcases List.mem_cons.mp hx with rfl | hx
    · exact ⟨h1, h2, h3, h4⟩
    · have := ih _ _ h5 x hx
      omega
section
variable {tp : Int → Int} {a0 b0 q : Int}
/-- of lines with the same rank the later leads no farther -/
theorem rk_dn {s t : Int} (h0 : a0 ≤ s) (h : s ≤ t) (hs : 0 ≤ tp s) (he : rk tp a0 s = rk tp a0 t) : tp t ≤ tp s := by
  by_cases hst : s = t
  · subst hst; omega
  · by_cases q : tp s < tp t
    · have := rk_lt h0 (by omega) hs q; omega
    · omega
theorem chs_upw (hb : ∀ t, 0 ≤ tp t → b0 ≤ tp t ∧ tp t < q) (hb0 : b0 ≤ q) (h00 : 0 ≤ b0) : ∀ (r : Nat) (n : Nat) (v : Int), b0 ≤ v → v ≤ q → (∀ k, a0 ≤ k → k < a0 + n → 0 ≤ tp k → rk tp a0 k = r → (∃ k', k ≤ k' ∧ k' < a0 + n ∧ rk tp a0 k' = r ∧ tp k' < v) ) → ((∃ k, a0 ≤ k ∧ k < a0 + n ∧ rk tp a0 k = r) ∨ r = 0) → upw tp a0 (a0 + n) b0 v (chs (rk tp a0) a0 n r) := by
  intro r
  induction r with
  | zero => intro n v h1 h2 _ _; rw [chs_0 n (by omega)]; exact ⟨by omega, h1⟩
  | succ r ih =>
    intro n v h1 h2 h3 h4
    obtain ⟨x, hx⟩ := lat_ex (f := rk tp a0) n (by
      rcases h4 with h | h
      · exact h
      · omega)
    have hx' := hx
    obtain ⟨x1, x2, x3, x4⟩ := hx
    have xp : 0 ≤ tp x := by
      by_cases h : 0 ≤ tp x
      · exact h
      · have := (rk_pos (tp := tp) x1).2 (by omega); omega
    have hxv : tp x < v := by
      obtain ⟨k', a, b, c, e⟩ := h3 x x1 x2 xp x3
      by_cases hk : k' = x
      · subst hk; exact e
      · exact absurd c (x4 k' (by omega) b)
    rw [chs_lat n (by omega) hx']
    have hxb := hb x xp
    refine upw_app (by omega) hxv _ _ _ xp ?_
    have := ih (x - a0).toNat (tp x) hxb.1 (by omega) ?_ ?_
    · rw [show a0 + ((x - a0).toNat : Int) = x by omega] at this
      rw [show ((r + 1 : Nat) : Int) - 1 = (r : Int) by omega]
      exact this
    · intro k k1 k2 k3 k4
      obtain ⟨w, w1, w2, w3, w4, w5⟩ := rk_ex (tp := tp) x1 (by have := (rk_pos (tp := tp) k1).1 k3; omega)
      by_cases hkw : k ≤ w
      · exact ⟨w, hkw, by omega, by omega, w4⟩
      · refine ⟨k, by omega, k2, k4, ?_⟩
        have := rk_dn (tp := tp) w1 (by omega : w ≤ k) w3 (by omega)
        omega
    · by_cases hr : r = 0
      · right; exact hr
      · left
        obtain ⟨w, w1, w2, w3, w4, w5⟩ := rk_ex (tp := tp) x1 (by omega)
        exact ⟨w, w1, by omega, by omega⟩
/-- every rank below the greatest is there -/
theorem mxr_at (f : Int → Int) (n : Nat) : mxr f a0 n = 0 ∨ ∃ k, a0 ≤ k ∧ k < a0 + n ∧ f k = mxr f a0 n := by
  induction n with
  | zero => left; rfl
  | succ n ih =>
    unfold mxr
    split
    · right; exact ⟨a0 + n, by omega, by omega, rfl⟩
    · rcases ih with h | ⟨k, h1, h2, h3⟩
      · left; exact h
      · right; exact ⟨k, h1, by omega, h3⟩
theorem anch_upw (n : Nat) (hb : ∀ t, 0 ≤ tp t → b0 ≤ tp t ∧ tp t < q) (hb0 : b0 ≤ q) (h00 : 0 ≤ b0) : upw tp a0 (a0 + n) b0 q (chs (rk tp a0) a0 n (mxr (rk tp a0) a0 n)) := by
  have h0 := mxr_0 (f := rk tp a0) (a0 := a0) n
  have := chs_upw (tp := tp) (a0 := a0) (b0 := b0) (q := q) hb hb0 h00 (mxr (rk tp a0) a0 n).toNat n q hb0 (Int.le_refl _) (fun k k1 k2 k3 k4 => ⟨k, by omega, k2, k4, (hb k k3).2⟩) (by
    rcases mxr_at (a0 := a0) (rk tp a0) n with h | ⟨k, h1, h2, h3⟩
    · right; omega
    · left; exact ⟨k, h1, h2, by omega⟩)
  rw [show (((mxr (rk tp a0) a0 n).toNat : Nat) : Int) = mxr (rk tp a0) a0 n by omega] at this
  exact this
theorem anch_ne (n : Nat) (h : 0 < mxr (rk tp a0) a0 n) : chs (rk tp a0) a0 n (mxr (rk tp a0) a0 n) ≠ [] := by
  rcases mxr_at (a0 := a0) (rk tp a0) n with q | q
  · omega
  · obtain ⟨x, hx⟩ := lat_ex n q
    rw [chs_lat n h hx]
    simp
end

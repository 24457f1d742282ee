/-! ===== how far back one comes by d changes: the numbers of Reaching ===== -/
/-- changes from a place (counted from the ranges' beginnings X, Y; n and m lines) to the ends -/
def DD (l1 l2 : List Int) (X n Y m i j : Int) : Int := (n - i) + (m - j) - 2 * LA l1 l2 (X + n) (Y + m) (X + i) (Y + j)
section
variable {l1 l2 : List Int} {X n Y m i j : Int}
theorem DD_e1 : DD l1 l2 X n Y m n j = m - j := by
  unfold DD
  rw [LA_e1 (by omega)]; omega
theorem DD_e2 : DD l1 l2 X n Y m i m = n - i := by
  unfold DD
  rw [LA_e2 (by omega)]; omega
theorem DD_eq (h1 : i < n) (h2 : j < m) (he : lg l1 (X + i) = lg l2 (Y + j)) : DD l1 l2 X n Y m i j = DD l1 l2 X n Y m (i + 1) (j + 1) := by
  unfold DD
  rw [LA_eq (by omega) (by omega) he, show X + (i + 1) = X + i + 1 by omega, show Y + (j + 1) = Y + j + 1 by omega]
  omega
theorem DD_ne (h1 : i < n) (h2 : j < m) (he : lg l1 (X + i) ≠ lg l2 (Y + j)) : DD l1 l2 X n Y m i j = 1 + min (DD l1 l2 X n Y m (i + 1) j) (DD l1 l2 X n Y m i (j + 1)) := by
  unfold DD
  rw [LA_ne (by omega) (by omega) he, show X + (i + 1) = X + i + 1 by omega, show Y + (j + 1) = Y + j + 1 by omega]
  omega
theorem DD_u : DD l1 l2 X n Y m (i + 1) j = DD l1 l2 X n Y m i j + 1 ∨ DD l1 l2 X n Y m (i + 1) j = DD l1 l2 X n Y m i j - 1 := by
  have h1 := LA_mu (l1 := l1) (l2 := l2) (a1 := X + n) (b1 := Y + m) (i := X + i) (j := Y + j)
  have h2 := LA_au (l1 := l1) (l2 := l2) (a1 := X + n) (b1 := Y + m) (i := X + i) (j := Y + j)
  unfold DD
  rw [show X + (i + 1) = X + i + 1 by omega]
  omega
theorem DD_v : DD l1 l2 X n Y m i (j + 1) = DD l1 l2 X n Y m i j + 1 ∨ DD l1 l2 X n Y m i (j + 1) = DD l1 l2 X n Y m i j - 1 := by
  have h1 := LA_mv (l1 := l1) (l2 := l2) (a1 := X + n) (b1 := Y + m) (i := X + i) (j := Y + j)
  have h2 := LA_av (l1 := l1) (l2 := l2) (a1 := X + n) (b1 := Y + m) (i := X + i) (j := Y + j)
  unfold DD
  rw [show Y + (j + 1) = Y + j + 1 by omega]
  omega
theorem DD_di : DD l1 l2 X n Y m (i + 1) (j + 1) ≤ DD l1 l2 X n Y m i j := by
  have h1 := LA_di (l1 := l1) (l2 := l2) (a1 := X + n) (b1 := Y + m) (i := X + i) (j := Y + j)
  unfold DD
  rw [show X + (i + 1) = X + i + 1 by omega, show Y + (j + 1) = Y + j + 1 by omega]
  omega
theorem DD_dia (t : Nat) : DD l1 l2 X n Y m (i + t) (j + t) ≤ DD l1 l2 X n Y m i j := by
  induction t with
  | zero => simp
  | succ t ih =>
    have := DD_di (l1 := l1) (l2 := l2) (X := X) (n := n) (Y := Y) (m := m) (i := i + t) (j := j + t)
    rw [show i + ((t + 1 : Nat) : Int) = i + t + 1 by omega, show j + ((t + 1 : Nat) : Int) = j + t + 1 by omega]
    omega
theorem DD_diag {i' j' : Int} (h : i ≤ i') (hj : j' - j = i' - i) : DD l1 l2 X n Y m i' j' ≤ DD l1 l2 X n Y m i j := by
  have := DD_dia (l1 := l1) (l2 := l2) (X := X) (n := n) (Y := Y) (m := m) (i := i) (j := j) (i' - i).toNat
  rw [show i + ((i' - i).toNat : Int) = i' by omega, show j + ((i' - i).toNat : Int) = j' by omega] at this
  exact this
theorem DD_abs (h1 : i ≤ n) (h2 : j ≤ m) : (n - i) - (m - j) ≤ DD l1 l2 X n Y m i j ∧ (m - j) - (n - i) ≤ DD l1 l2 X n Y m i j ∧ DD l1 l2 X n Y m i j ≤ (n - i) + (m - j) := by
  have h3 := LA_lu (l1 := l1) (l2 := l2) (a1 := X + n) (b1 := Y + m) (i := X + i) (j := Y + j) (by omega)
  have h4 := LA_lv (l1 := l1) (l2 := l2) (a1 := X + n) (b1 := Y + m) (i := X + i) (j := Y + j) (by omega)
  have h5 := LA_0 (l1 := l1) (l2 := l2) (a1 := X + n) (b1 := Y + m) (i := X + i) (j := Y + j)
  unfold DD
  omega
theorem DD_par : (DD l1 l2 X n Y m i j + (i - j - n + m)) % 2 = 0 := by
  unfold DD
  omega
end
/-- a place of a diagonal -/
def vld (n m dg i : Int) : Prop := 0 ≤ i ∧ i ≤ n ∧ 0 ≤ i - dg ∧ i - dg ≤ m
/-- what stands in the table for d changes on diagonal k -/
def rGd (l1 l2 : List Int) (X n Y m d k r : Int) : Prop :=
  (k < -n → r = 0 ∨ r = 99) ∧ (m < k → r = n - m + k ∨ r = 99) ∧ (-n ≤ k → k ≤ m → (r = 99 ∨ (vld n m (n - m + k) r ∧ DD l1 l2 X n Y m r (r - (n - m + k)) ≤ d)) ∧ ∀ i : Int, vld n m (n - m + k) i → DD l1 l2 X n Y m i (i - (n - m + k)) = d → r ≤ i)
/-- the least place that back gives -/
def rBk (l1 l2 : List Int) (X n Y m d k b : Int) : Prop :=
  (k < -n → b = 0 ∨ b = 99) ∧ (m < k → b = n - m + k ∨ b = 99) ∧ (-n ≤ k → k ≤ m → (b = 99 ∨ (vld n m (n - m + k) b ∧ DD l1 l2 X n Y m b (b - (n - m + k)) ≤ d)) ∧ ∀ i : Int, vld n m (n - m + k) i → (i < n ∧ DD l1 l2 X n Y m (i + 1) (i - (n - m + k)) = d - 1 ∨ i - (n - m + k) < m ∧ DD l1 l2 X n Y m i (i - (n - m + k) + 1) = d - 1) → b ≤ i)
def bkF (o w dg n m : Int) : Int :=
  min (if (if o = 99 then 99 else max (o - 1) 0) = 99 ∨ n < (if o = 99 then 99 else max (o - 1) 0) + 1 then 99 else (if o = 99 then 99 else max (o - 1) 0))
    (if (if w = 99 then 99 else max w (max dg 0)) = 99 ∨ m < (if w = 99 then 99 else max w (max dg 0)) - dg + 1 then 99 else (if w = 99 then 99 else max w (max dg 0)))
section
variable {l1 l2 : List Int} {X n Y m d k : Int}
theorem rGd_99 (hk : k < -d ∨ d < k) : rGd l1 l2 X n Y m d k 99 := by
  refine ⟨fun _ => Or.inr rfl, fun _ => Or.inr rfl, fun h1 h2 => ⟨Or.inl rfl, fun i hv hd => ?_⟩⟩
  obtain ⟨v1, v2, v3, v4⟩ := hv
  have := DD_abs (l1 := l1) (l2 := l2) (X := X) (n := n) (Y := Y) (m := m) (i := i) (j := i - (n - m + k)) v2 v4
  omega
theorem rBk_of {o w : Int} (hn : 0 ≤ n ∧ n ≤ 24) (hm : 0 ≤ m ∧ m ≤ 24) (hk : -48 ≤ k ∧ k ≤ 48) (ho : rGd l1 l2 X n Y m (d - 1) (k + 1) o) (hw : rGd l1 l2 X n Y m (d - 1) (k - 1) w) (hd : d ≤ 48) (hkd : k ≤ n + m) : rBk l1 l2 X n Y m d k (bkF o w (n - m + k) n m) := by
  obtain ⟨o1, o2, o3⟩ := ho
  obtain ⟨w1, w2, w3⟩ := hw
  refine ⟨fun h => ?_, fun h => ?_, fun h1 h2 => ⟨?_, fun i hv hd1 => ?_⟩⟩
  · have hw' := w1 (by omega)
    have ho' : o = 0 ∨ o = 99 := by
      by_cases hc : k + 1 < -n
      · exact o1 hc
      · rcases (o3 (by omega) (by omega)).1 with q | ⟨⟨v1, v2, v3, v4⟩, -⟩
        · exact Or.inr q
        · left; omega
    unfold bkF
    rcases hw' with rfl | rfl <;> rcases ho' with rfl | rfl <;> simp <;> omega
  · have ho' := o2 (by omega)
    have hw' : w = n - m + (k - 1) ∨ w = 99 := by
      by_cases hc : m < k - 1
      · exact w2 hc
      · rcases (w3 (by omega) (by omega)).1 with q | ⟨⟨v1, v2, v3, v4⟩, -⟩
        · exact Or.inr q
        · left; omega
    have e1 : (if o = 99 then 99 else max (o - 1) 0) = 99 ∨ n < (if o = 99 then 99 else max (o - 1) 0) + 1 := by
      split <;> omega
    unfold bkF
    rw [if_pos e1]
    have e2 : (if w = 99 then 99 else max w (max (n - m + k) 0)) = 99 ∨ (if w = 99 then 99 else max w (max (n - m + k) 0)) = n - m + k := by
      split <;> omega
    split <;> omega
  · by_cases hb : bkF o w (n - m + k) n m = 99
    · exact Or.inl hb
    · right
      -- which of the two it is
      have key : (o ≠ 99 ∧ max (o - 1) 0 + 1 ≤ n ∧ bkF o w (n - m + k) n m = max (o - 1) 0) ∨ (w ≠ 99 ∧ max w (max (n - m + k) 0) - (n - m + k) + 1 ≤ m ∧ bkF o w (n - m + k) n m = max w (max (n - m + k) 0)) := by
        unfold bkF at hb ⊢
        by_cases a1 : o = 99 <;> by_cases a2 : w = 99 <;> simp only [a1, a2, if_true, if_false] at hb ⊢ <;> (repeat' split at hb) <;> (repeat' split) <;> omega
      rcases key with ⟨k1, k2, k3⟩ | ⟨k1, k2, k3⟩
      · by_cases hc : k + 1 ≤ m
        · rcases (o3 (by omega) hc).1 with q | ⟨⟨v1, v2, v3, v4⟩, hD⟩
          · exact absurd q k1
          · rw [k3]
            have q1 := DD_diag (l1 := l1) (l2 := l2) (X := X) (n := n) (Y := Y) (m := m) (i := o) (j := o - (n - m + (k + 1))) (i' := max (o - 1) 0 + 1) (j' := max (o - 1) 0 - (n - m + k)) (by omega) (by omega)
            have q2 := DD_u (l1 := l1) (l2 := l2) (X := X) (n := n) (Y := Y) (m := m) (i := max (o - 1) 0) (j := max (o - 1) 0 - (n - m + k))
            exact ⟨⟨by omega, by omega, by omega, by omega⟩, by omega⟩
        · have := o2 (by omega)
          omega
      · by_cases hc : -n ≤ k - 1
        · rcases (w3 hc (by omega)).1 with q | ⟨⟨v1, v2, v3, v4⟩, hD⟩
          · exact absurd q k1
          · rw [k3]
            have q1 := DD_diag (l1 := l1) (l2 := l2) (X := X) (n := n) (Y := Y) (m := m) (i := w) (j := w - (n - m + (k - 1))) (i' := max w (max (n - m + k) 0)) (j' := max w (max (n - m + k) 0) - (n - m + k) + 1) (by omega) (by omega)
            have q2 := DD_v (l1 := l1) (l2 := l2) (X := X) (n := n) (Y := Y) (m := m) (i := max w (max (n - m + k) 0)) (j := max w (max (n - m + k) 0) - (n - m + k))
            exact ⟨⟨by omega, by omega, by omega, by omega⟩, by omega⟩
        · have := w1 (by omega)
          omega
  · obtain ⟨v1, v2, v3, v4⟩ := hv
    rcases hd1 with ⟨a1, a2⟩ | ⟨a1, a2⟩
    · have := (o3 (by omega) (by omega)).2 (i + 1) ⟨by omega, by omega, by omega, by omega⟩ (by rw [show i + 1 - (n - m + (k + 1)) = i - (n - m + k) by omega]; exact a2)
      have e1 : ¬ o = 99 := by omega
      refine Int.le_trans (Int.min_le_left _ _) ?_
      rw [if_neg e1, if_neg (by omega)]
      omega
    · have := (w3 (by omega) (by omega)).2 i ⟨by omega, by omega, by omega, by omega⟩ (by rw [show i - (n - m + (k - 1)) = i - (n - m + k) + 1 by omega]; exact a2)
      have e1 : ¬ w = 99 := by omega
      refine Int.le_trans (Int.min_le_right _ _) ?_
      rw [if_neg e1, if_neg (by omega)]
      omega
/-- sliding back over equal lines: from b to r -/
theorem rGd_of {b r : Int} (hn : 0 ≤ n ∧ n ≤ 24) (hm : 0 ≤ m ∧ m ≤ 24) (h1d : 1 ≤ d) (hB : rBk l1 l2 X n Y m d k b) (hr0 : b = 99 → r = 99) (hr1 : b ≠ 99 → 0 ≤ r ∧ r ≤ b) (hr2 : b ≠ 99 → r < b → 0 ≤ r - (n - m + k)) (hr3 : b ≠ 99 → ∀ t : Int, r ≤ t → t < b → lg l1 (X + t) = lg l2 (Y + (t - (n - m + k)))) (hr4 : b ≠ 99 → r ≤ 0 ∨ r - (n - m + k) ≤ 0 ∨ lg l1 (X + (r - 1)) ≠ lg l2 (Y + (r - (n - m + k) - 1))) : rGd l1 l2 X n Y m d k r := by
  obtain ⟨b1, b2, b3⟩ := hB
  refine ⟨fun h => ?_, fun h => ?_, fun h1 h2 => ?_⟩
  · rcases b1 h with q | q
    · left; have := hr1 (by omega); omega
    · exact Or.inr (hr0 q)
  · rcases b2 h with q | q
    · by_cases hb : b = 99
      · exact Or.inr (hr0 hb)
      · left
        have h5 := hr1 hb
        have h6 := hr2 hb
        omega
    · exact Or.inr (hr0 q)
  · obtain ⟨c1, c2⟩ := b3 h1 h2
    refine ⟨?_, ?_⟩
    · rcases c1 with q | ⟨⟨v1, v2, v3, v4⟩, hD⟩
      · exact Or.inl (hr0 q)
      · right
        have hb : b ≠ 99 := by omega
        have h5 := hr1 hb
        have h6 := hr2 hb
        have key : ∀ s : Nat, r + s ≤ b → DD l1 l2 X n Y m (b - s) (b - s - (n - m + k)) = DD l1 l2 X n Y m b (b - (n - m + k)) := by
          intro s
          induction s with
          | zero => intro _; simp
          | succ s ih =>
            intro hs
            have e := hr3 hb (b - ((s + 1 : Nat) : Int)) (by omega) (by omega)
            have := DD_eq (l1 := l1) (l2 := l2) (X := X) (n := n) (Y := Y) (m := m) (i := b - ((s + 1 : Nat) : Int)) (j := b - ((s + 1 : Nat) : Int) - (n - m + k)) (by omega) (by omega) e
            rw [this, show b - ((s + 1 : Nat) : Int) + 1 = b - s by omega, show b - ((s + 1 : Nat) : Int) - (n - m + k) + 1 = b - s - (n - m + k) by omega]
            exact ih (by omega)
        have e := key (b - r).toNat (by omega)
        rw [show b - ((b - r).toNat : Int) = r by omega] at e
        exact ⟨⟨by omega, by omega, by omega, by omega⟩, by omega⟩
    · have key : ∀ (s : Nat) (i : Int), n - i ≤ s → vld n m (n - m + k) i → DD l1 l2 X n Y m i (i - (n - m + k)) = d → r ≤ i := by
        intro s
        induction s with
        | zero =>
          intro i hi hv hD
          obtain ⟨v1, v2, v3, v4⟩ := hv
          have hin : i = n := by omega
          subst hin
          have e1 := DD_e1 (l1 := l1) (l2 := l2) (X := X) (n := i) (Y := Y) (m := m) (j := i - (i - m + k))
          have e2 := DD_e1 (l1 := l1) (l2 := l2) (X := X) (n := i) (Y := Y) (m := m) (j := i - (i - m + k) + 1)
          have := c2 i ⟨v1, v2, v3, v4⟩ (Or.inr ⟨by omega, by omega⟩)
          by_cases hb : b = 99
          · omega
          · have := hr1 hb; omega
        | succ s ih =>
          intro i hi hv hD
          obtain ⟨v1, v2, v3, v4⟩ := hv
          have fin : b ≤ i → r ≤ i := fun h => by
            by_cases hb : b = 99
            · omega
            · have := hr1 hb; omega
          by_cases hin : i = n
          · subst hin
            have e1 := DD_e1 (l1 := l1) (l2 := l2) (X := X) (n := i) (Y := Y) (m := m) (j := i - (i - m + k))
            have e2 := DD_e1 (l1 := l1) (l2 := l2) (X := X) (n := i) (Y := Y) (m := m) (j := i - (i - m + k) + 1)
            exact fin (c2 i ⟨v1, v2, v3, v4⟩ (Or.inr ⟨by omega, by omega⟩))
          · by_cases hjm : i - (n - m + k) = m
            · have e1 := DD_e2 (l1 := l1) (l2 := l2) (X := X) (n := n) (Y := Y) (m := m) (i := i)
              have e2 := DD_e2 (l1 := l1) (l2 := l2) (X := X) (n := n) (Y := Y) (m := m) (i := i + 1)
              rw [hjm] at hD
              exact fin (c2 i ⟨v1, v2, v3, v4⟩ (Or.inl ⟨by omega, by rw [hjm]; omega⟩))
            · by_cases he : lg l1 (X + i) = lg l2 (Y + (i - (n - m + k)))
              · have e1 := DD_eq (l1 := l1) (l2 := l2) (X := X) (n := n) (Y := Y) (m := m) (i := i) (j := i - (n - m + k)) (by omega) (by omega) he
                have h7 := ih (i + 1) (by omega) ⟨by omega, by omega, by omega, by omega⟩ (by rw [show i + 1 - (n - m + k) = i - (n - m + k) + 1 by omega, ← e1]; exact hD)
                by_cases hri : r = i + 1
                · exfalso
                  have hb : b ≠ 99 := fun q => by have := hr0 q; omega
                  rcases hr4 hb with q | q | q
                  · omega
                  · omega
                  · apply q
                    rw [hri, show i + 1 - 1 = i by omega, show i + 1 - (n - m + k) - 1 = i - (n - m + k) by omega]
                    exact he
                · omega
              · have e1 := DD_ne (l1 := l1) (l2 := l2) (X := X) (n := n) (Y := Y) (m := m) (i := i) (j := i - (n - m + k)) (by omega) (by omega) he
                exact fin (c2 i ⟨v1, v2, v3, v4⟩ (by omega))
      exact fun i hv hD => key (n - i).toNat i (by omega) hv hD
/-- with no change at all -/
theorem rGd_0 {r : Int} (hn : 0 ≤ n ∧ n ≤ 24) (hm : 0 ≤ m ∧ m ≤ 24) (hr1 : 0 ≤ r ∧ r ≤ n) (hr2 : r < n → 0 ≤ r - (n - m)) (hr3 : ∀ t : Int, r ≤ t → t < n → lg l1 (X + t) = lg l2 (Y + (t - (n - m)))) (hr4 : r ≤ 0 ∨ r - (n - m) ≤ 0 ∨ lg l1 (X + (r - 1)) ≠ lg l2 (Y + (r - (n - m) - 1))) : rGd l1 l2 X n Y m 0 0 r := by
  refine ⟨fun h => by omega, fun h => by omega, fun h1 h2 => ?_⟩
  rw [show n - m + 0 = n - m by omega]
  refine ⟨Or.inr ?_, ?_⟩
  · have key : ∀ s : Nat, r + s ≤ n → DD l1 l2 X n Y m (n - s) (n - s - (n - m)) = 0 := by
      intro s
      induction s with
      | zero =>
        intro _
        rw [show n - ((0 : Nat) : Int) = n by omega, show n - (n - m) = m by omega, DD_e2]; omega
      | succ s ih =>
        intro hs
        have e := hr3 (n - ((s + 1 : Nat) : Int)) (by omega) (by omega)
        have := DD_eq (l1 := l1) (l2 := l2) (X := X) (n := n) (Y := Y) (m := m) (i := n - ((s + 1 : Nat) : Int)) (j := n - ((s + 1 : Nat) : Int) - (n - m)) (by omega) (by omega) e
        rw [this, show n - ((s + 1 : Nat) : Int) + 1 = n - s by omega, show n - ((s + 1 : Nat) : Int) - (n - m) + 1 = n - s - (n - m) by omega]
        exact ih (by omega)
    have e := key (n - r).toNat (by omega)
    rw [show n - ((n - r).toNat : Int) = r by omega] at e
    exact ⟨⟨by omega, by omega, by omega, by omega⟩, by omega⟩
  · have key : ∀ (s : Nat) (i : Int), n - i ≤ s → vld n m (n - m) i → DD l1 l2 X n Y m i (i - (n - m)) = 0 → r ≤ i := by
      intro s
      induction s with
      | zero => intro i hi hv hD; omega
      | succ s ih =>
        intro i hi hv hD
        obtain ⟨v1, v2, v3, v4⟩ := hv
        by_cases hin : i = n
        · omega
        · by_cases he : lg l1 (X + i) = lg l2 (Y + (i - (n - m)))
          · have e1 := DD_eq (l1 := l1) (l2 := l2) (X := X) (n := n) (Y := Y) (m := m) (i := i) (j := i - (n - m)) (by omega) (by omega) he
            have h7 := ih (i + 1) (by omega) ⟨by omega, by omega, by omega, by omega⟩ (by rw [show i + 1 - (n - m) = i - (n - m) + 1 by omega, ← e1]; exact hD)
            by_cases hri : r = i + 1
            · exfalso
              rcases hr4 with q | q | q
              · omega
              · omega
              · apply q
                rw [hri, show i + 1 - 1 = i by omega, show i + 1 - (n - m) - 1 = i - (n - m) by omega]
                exact he
            · omega
          · have e1 := DD_ne (l1 := l1) (l2 := l2) (X := X) (n := n) (Y := Y) (m := m) (i := i) (j := i - (n - m)) (by omega) (by omega) he
            have a1 := DD_abs (l1 := l1) (l2 := l2) (X := X) (n := n) (Y := Y) (m := m) (i := i + 1) (j := i - (n - m)) (by omega) (by omega)
            have a2 := DD_abs (l1 := l1) (l2 := l2) (X := X) (n := n) (Y := Y) (m := m) (i := i) (j := i - (n - m) + 1) (by omega) (by omega)
            omega
    exact fun i hv hD => key (n - i).toNat i (by omega) hv hD
end

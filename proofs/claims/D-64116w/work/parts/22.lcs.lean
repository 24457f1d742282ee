/-! ===== the longest common subsequence of two ranges, and the matching that both sides walk ===== -/
/-- of what is left, u lines of the one and v of the other; e: which are equal, counted from the ends -/
def LC (e : Nat → Nat → Bool) : Nat → Nat → Nat
  | 0, _ => 0
  | _ + 1, 0 => 0
  | u + 1, v + 1 => max (max (LC e u (v + 1)) (LC e (u + 1) v)) (if e (u + 1) (v + 1) = true then LC e u v + 1 else 0)
termination_by u v => u + v
theorem LC_0l (e : Nat → Nat → Bool) (v : Nat) : LC e 0 v = 0 := by rw [LC]
theorem LC_0r (e : Nat → Nat → Bool) (u : Nat) : LC e u 0 = 0 := by cases u <;> rw [LC]
theorem LC_s (e : Nat → Nat → Bool) (u v : Nat) : LC e (u + 1) (v + 1) = max (max (LC e u (v + 1)) (LC e (u + 1) v)) (if e (u + 1) (v + 1) = true then LC e u v + 1 else 0) := by rw [LC]
theorem LC_mu (e : Nat → Nat → Bool) (u v : Nat) : LC e u v ≤ LC e (u + 1) v := by
  cases v with
  | zero => rw [LC_0r, LC_0r]; exact Nat.le_refl _
  | succ v => rw [LC_s]; omega
theorem LC_mv (e : Nat → Nat → Bool) (u v : Nat) : LC e u v ≤ LC e u (v + 1) := by
  cases u with
  | zero => rw [LC_0l, LC_0l]; exact Nat.le_refl _
  | succ u => rw [LC_s]; omega
theorem LC_au (e : Nat → Nat → Bool) (u v : Nat) : LC e (u + 1) v ≤ LC e u v + 1 := by
  induction v with
  | zero => rw [LC_0r, LC_0r]; omega
  | succ v ih =>
    have h1 := LC_mv e u v
    rw [LC_s]
    split <;> omega
theorem LC_av (e : Nat → Nat → Bool) (u v : Nat) : LC e u (v + 1) ≤ LC e u v + 1 := by
  induction u with
  | zero => rw [LC_0l, LC_0l]; omega
  | succ u ih =>
    have h1 := LC_mu e u v
    rw [LC_s]
    split <;> omega
theorem LC_lu (e : Nat → Nat → Bool) (u v : Nat) : LC e u v ≤ u := by
  induction u with
  | zero => rw [LC_0l]; omega
  | succ u ih =>
    have := LC_au e u v
    omega
theorem LC_lv (e : Nat → Nat → Bool) (u v : Nat) : LC e u v ≤ v := by
  induction v with
  | zero => rw [LC_0r]; omega
  | succ v ih =>
    have := LC_av e u v
    omega
/-- over ranges that end at a1 and b1 -/
def LA (l1 l2 : List Int) (a1 b1 i j : Int) : Int := LC (fun u v => decide (lg l1 (a1 - u) = lg l2 (b1 - v))) (a1 - i).toNat (b1 - j).toNat
section
variable {l1 l2 : List Int} {a1 b1 i j : Int}
theorem LA_e1 (h : a1 ≤ i) : LA l1 l2 a1 b1 i j = 0 := by
  unfold LA
  rw [show (a1 - i).toNat = 0 by omega, LC_0l]; rfl
theorem LA_e2 (h : b1 ≤ j) : LA l1 l2 a1 b1 i j = 0 := by
  unfold LA
  rw [show (b1 - j).toNat = 0 by omega, LC_0r]; rfl
theorem LA_rec (h1 : i < a1) (h2 : j < b1) : LA l1 l2 a1 b1 i j = max (max (LA l1 l2 a1 b1 (i + 1) j) (LA l1 l2 a1 b1 i (j + 1))) (if lg l1 i = lg l2 j then LA l1 l2 a1 b1 (i + 1) (j + 1) + 1 else 0) := by
  unfold LA
  obtain ⟨u, hu⟩ : ∃ u : Nat, (a1 - i).toNat = u + 1 := ⟨(a1 - i).toNat - 1, by omega⟩
  obtain ⟨v, hv⟩ : ∃ v : Nat, (b1 - j).toNat = v + 1 := ⟨(b1 - j).toNat - 1, by omega⟩
  rw [hu, hv, show (a1 - (i + 1)).toNat = u by omega, show (b1 - (j + 1)).toNat = v by omega, LC_s]
  rw [show a1 - ((u + 1 : Nat) : Int) = i by omega, show b1 - ((v + 1 : Nat) : Int) = j by omega]
  by_cases he : lg l1 i = lg l2 j
  · simp [he]; omega
  · simp [he]; omega
theorem LA_0 : 0 ≤ LA l1 l2 a1 b1 i j := by unfold LA; omega
theorem LA_mu : LA l1 l2 a1 b1 (i + 1) j ≤ LA l1 l2 a1 b1 i j := by
  unfold LA
  by_cases h : i < a1
  · obtain ⟨u, hu⟩ : ∃ u : Nat, (a1 - i).toNat = u + 1 := ⟨(a1 - i).toNat - 1, by omega⟩
    rw [hu, show (a1 - (i + 1)).toNat = u by omega]
    have := LC_mu (fun u v => decide (lg l1 (a1 - u) = lg l2 (b1 - v))) u (b1 - j).toNat
    omega
  · rw [show (a1 - (i + 1)).toNat = 0 by omega, show (a1 - i).toNat = 0 by omega]
    omega
theorem LA_au : LA l1 l2 a1 b1 i j ≤ LA l1 l2 a1 b1 (i + 1) j + 1 := by
  unfold LA
  by_cases h : i < a1
  · obtain ⟨u, hu⟩ : ∃ u : Nat, (a1 - i).toNat = u + 1 := ⟨(a1 - i).toNat - 1, by omega⟩
    rw [hu, show (a1 - (i + 1)).toNat = u by omega]
    have := LC_au (fun u v => decide (lg l1 (a1 - u) = lg l2 (b1 - v))) u (b1 - j).toNat
    omega
  · rw [show (a1 - (i + 1)).toNat = 0 by omega, show (a1 - i).toNat = 0 by omega]
    omega
theorem LA_mv : LA l1 l2 a1 b1 i (j + 1) ≤ LA l1 l2 a1 b1 i j := by
  unfold LA
  by_cases h : j < b1
  · obtain ⟨v, hv⟩ : ∃ v : Nat, (b1 - j).toNat = v + 1 := ⟨(b1 - j).toNat - 1, by omega⟩
    rw [hv, show (b1 - (j + 1)).toNat = v by omega]
    have := LC_mv (fun u v => decide (lg l1 (a1 - u) = lg l2 (b1 - v))) (a1 - i).toNat v
    omega
  · rw [show (b1 - (j + 1)).toNat = 0 by omega, show (b1 - j).toNat = 0 by omega]
    omega
theorem LA_av : LA l1 l2 a1 b1 i j ≤ LA l1 l2 a1 b1 i (j + 1) + 1 := by
  unfold LA
  by_cases h : j < b1
  · obtain ⟨v, hv⟩ : ∃ v : Nat, (b1 - j).toNat = v + 1 := ⟨(b1 - j).toNat - 1, by omega⟩
    rw [hv, show (b1 - (j + 1)).toNat = v by omega]
    have := LC_av (fun u v => decide (lg l1 (a1 - u) = lg l2 (b1 - v))) (a1 - i).toNat v
    omega
  · rw [show (b1 - (j + 1)).toNat = 0 by omega, show (b1 - j).toNat = 0 by omega]
    omega
theorem LA_lu (h : i ≤ a1) : LA l1 l2 a1 b1 i j ≤ a1 - i := by
  unfold LA
  have := LC_lu (fun u v => decide (lg l1 (a1 - u) = lg l2 (b1 - v))) (a1 - i).toNat (b1 - j).toNat
  omega
theorem LA_lv (h : j ≤ b1) : LA l1 l2 a1 b1 i j ≤ b1 - j := by
  unfold LA
  have := LC_lv (fun u v => decide (lg l1 (a1 - u) = lg l2 (b1 - v))) (a1 - i).toNat (b1 - j).toNat
  omega
theorem LA_eq (h1 : i < a1) (h2 : j < b1) (he : lg l1 i = lg l2 j) : LA l1 l2 a1 b1 i j = LA l1 l2 a1 b1 (i + 1) (j + 1) + 1 := by
  have h := LA_rec (l1 := l1) (l2 := l2) h1 h2
  rw [if_pos he] at h
  have q1 := LA_av (l1 := l1) (l2 := l2) (a1 := a1) (b1 := b1) (i := i + 1) (j := j)
  have q2 := LA_au (l1 := l1) (l2 := l2) (a1 := a1) (b1 := b1) (i := i) (j := j + 1)
  omega
theorem LA_ne (h1 : i < a1) (h2 : j < b1) (he : lg l1 i ≠ lg l2 j) : LA l1 l2 a1 b1 i j = max (LA l1 l2 a1 b1 (i + 1) j) (LA l1 l2 a1 b1 i (j + 1)) := by
  have h := LA_rec (l1 := l1) (l2 := l2) h1 h2
  rw [if_neg he] at h
  have q1 := LA_0 (l1 := l1) (l2 := l2) (a1 := a1) (b1 := b1) (i := i + 1) (j := j)
  omega
/-- along a diagonal -/
theorem LA_di : LA l1 l2 a1 b1 i j ≤ LA l1 l2 a1 b1 (i + 1) (j + 1) + 1 := by
  by_cases h1 : i < a1
  · by_cases h2 : j < b1
    · by_cases he : lg l1 i = lg l2 j
      · have := LA_eq (l1 := l1) (l2 := l2) h1 h2 he
        omega
      · have h := LA_ne (l1 := l1) (l2 := l2) h1 h2 he
        have q1 := LA_av (l1 := l1) (l2 := l2) (a1 := a1) (b1 := b1) (i := i + 1) (j := j)
        have q2 := LA_au (l1 := l1) (l2 := l2) (a1 := a1) (b1 := b1) (i := i) (j := j + 1)
        omega
    · have := LA_e2 (l1 := l1) (l2 := l2) (a1 := a1) (i := i) (show b1 ≤ j by omega)
      have := LA_0 (l1 := l1) (l2 := l2) (a1 := a1) (b1 := b1) (i := i + 1) (j := j + 1)
      omega
  · have := LA_e1 (l1 := l1) (l2 := l2) (b1 := b1) (j := j) (show a1 ≤ i by omega)
    have := LA_0 (l1 := l1) (l2 := l2) (a1 := a1) (b1 := b1) (i := i + 1) (j := j + 1)
    omega
end
/-- the walk: which line of the second range each line of the first is matched with; -1 for none -/
def gw (l1 l2 : List Int) (a1 b1 : Int) : Nat → Int → Int → Int → Int
  | 0, _, _ => fun _ => -1
  | f + 1, i, j => if i < a1 ∧ j < b1 then
      (if lg l1 i = lg l2 j then fun t => if t = i then j else gw l1 l2 a1 b1 f (i + 1) (j + 1) t
       else if LA l1 l2 a1 b1 i (j + 1) ≤ LA l1 l2 a1 b1 (i + 1) j then gw l1 l2 a1 b1 f (i + 1) j else gw l1 l2 a1 b1 f i (j + 1))
    else fun _ => -1
section
variable {l1 l2 : List Int} {a1 b1 : Int}
/-- what is matched lies in the ranges, grows, and is equal -/
theorem gw_in : ∀ (f : Nat) (i j t : Int), 0 ≤ gw l1 l2 a1 b1 f i j t ∨ 0 ≤ j → gw l1 l2 a1 b1 f i j t ≠ -1 → i ≤ t ∧ t < a1 ∧ j ≤ gw l1 l2 a1 b1 f i j t ∧ gw l1 l2 a1 b1 f i j t < b1 ∧ lg l1 t = lg l2 (gw l1 l2 a1 b1 f i j t) := by
  intro f
  induction f with
  | zero => intro i j t _ h; exact absurd rfl h
  | succ f ih =>
    intro i j t hj h
    unfold gw at h hj ⊢
    by_cases h1 : i < a1 ∧ j < b1
    · rw [if_pos h1] at h hj ⊢
      by_cases h2 : lg l1 i = lg l2 j
      · rw [if_pos h2] at h hj ⊢
        by_cases h3 : t = i
        · simp only [h3, if_true] at h hj ⊢
          exact ⟨by omega, by omega, by omega, by omega, h2⟩
        · simp only [if_neg h3] at h hj ⊢
          have := ih (i + 1) (j + 1) t (by omega) h
          exact ⟨by omega, by omega, by omega, by omega, this.2.2.2.2⟩
      · rw [if_neg h2] at h hj ⊢
        by_cases h3 : LA l1 l2 a1 b1 i (j + 1) ≤ LA l1 l2 a1 b1 (i + 1) j
        · rw [if_pos h3] at h hj ⊢
          have := ih (i + 1) j t hj h
          exact ⟨by omega, by omega, by omega, by omega, this.2.2.2.2⟩
        · rw [if_neg h3] at h hj ⊢
          have := ih i (j + 1) t (by omega) h
          exact ⟨by omega, by omega, by omega, by omega, this.2.2.2.2⟩
    · rw [if_neg h1] at h
      exact absurd rfl h
theorem gw_mono : ∀ (f : Nat) (i j s t : Int), 0 ≤ j → s < t → gw l1 l2 a1 b1 f i j s ≠ -1 → gw l1 l2 a1 b1 f i j t ≠ -1 → gw l1 l2 a1 b1 f i j s < gw l1 l2 a1 b1 f i j t := by
  intro f
  induction f with
  | zero => intro i j s t _ _ h; exact absurd rfl h
  | succ f ih =>
    intro i j s t hj hst hs ht
    have is := gw_in (l1 := l1) (l2 := l2) (a1 := a1) (b1 := b1) (f + 1) i j s (Or.inr hj) hs
    have it := gw_in (l1 := l1) (l2 := l2) (a1 := a1) (b1 := b1) (f + 1) i j t (Or.inr hj) ht
    unfold gw at hs ht ⊢
    by_cases h1 : i < a1 ∧ j < b1
    · rw [if_pos h1] at hs ht ⊢
      by_cases h2 : lg l1 i = lg l2 j
      · rw [if_pos h2] at hs ht ⊢
        have h4 : ¬ t = i := by omega
        simp only [if_neg h4] at ht ⊢
        have it2 := gw_in (l1 := l1) (l2 := l2) (a1 := a1) (b1 := b1) f (i + 1) (j + 1) t (Or.inr (by omega)) ht
        by_cases h3 : s = i
        · simp only [h3, if_true]
          omega
        · simp only [if_neg h3] at hs ⊢
          exact ih (i + 1) (j + 1) s t (by omega) hst hs ht
      · rw [if_neg h2] at hs ht ⊢
        by_cases h3 : LA l1 l2 a1 b1 i (j + 1) ≤ LA l1 l2 a1 b1 (i + 1) j
        · rw [if_pos h3] at hs ht ⊢
          exact ih (i + 1) j s t hj hst hs ht
        · rw [if_neg h3] at hs ht ⊢
          exact ih i (j + 1) s t (by omega) hst hs ht
    · rw [if_neg h1] at hs
      exact absurd rfl hs
end

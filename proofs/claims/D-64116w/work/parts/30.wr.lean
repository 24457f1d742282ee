/-! ===== plain: changes, hunks, the text of a patch ===== -/
abbrev c4 : Type := Int × Int × Int × Int
/-- the changes from (i, j) on: straight matches, then lines taken out and put in -/
def CLp (mt : Int → Int) (n m : Int) : Int → Int → List c4 → Prop
  | i, j, [] => i ≤ n ∧ n - i = m - j ∧ ∀ t, i ≤ t → t < n → mt t = t - i + j
  | i, j, c :: R => i ≤ c.1 ∧ c.1 - i = c.2.2.1 - j ∧ (∀ t, i ≤ t → t < c.1 → mt t = t - i + j) ∧ c.1 ≤ c.2.1 ∧ c.2.1 ≤ n ∧ c.2.2.1 ≤ c.2.2.2 ∧ c.2.2.2 ≤ m ∧ (c.1 < c.2.1 ∨ c.2.2.1 < c.2.2.2) ∧ (∀ t, c.1 ≤ t → t < c.2.1 → mt t = -1) ∧ (c.2.1 < n → mt c.2.1 = c.2.2.2) ∧ (c.2.1 = n → c.2.2.2 = m) ∧ CLp mt n m c.2.1 c.2.2.2 R
def nxF (mt : Int → Int) (n : Int) : Nat → Int → Int
  | 0, i => i
  | f + 1, i => if i < n ∧ mt i < 0 then nxF mt n f (i + 1) else i
def clF (mt : Int → Int) (n m : Int) : Nat → Int → Int → List c4
  | 0, _, _ => []
  | f + 1, i, j => if i < n ∨ j < m then (if i < n ∧ mt i = j then clF mt n m f (i + 1) (j + 1) else
      (i, nxF mt n 24 i, j, if nxF mt n 24 i < n then mt (nxF mt n 24 i) else m) :: clF mt n m f (nxF mt n 24 i) (if nxF mt n 24 i < n then mt (nxF mt n 24 i) else m)) else []
theorem nxF_ok {mt : Int → Int} {n : Int} (f : Nat) : ∀ i, i ≤ n → n - i ≤ f → i ≤ nxF mt n f i ∧ nxF mt n f i ≤ n ∧ (∀ t, i ≤ t → t < nxF mt n f i → mt t < 0) ∧ (nxF mt n f i < n → 0 ≤ mt (nxF mt n f i)) := by
  induction f with
  | zero => intro i h1 h2; unfold nxF; exact ⟨by omega, by omega, fun t _ _ => by omega, fun _ => by omega⟩
  | succ f ih =>
    intro i h1 h2
    unfold nxF
    by_cases h : i < n ∧ mt i < 0
    · rw [if_pos h]
      obtain ⟨a, b, c, e⟩ := ih (i + 1) (by omega) (by omega)
      refine ⟨by omega, b, fun t t1 t2 => ?_, e⟩
      by_cases ht : t = i
      · rw [ht]; exact h.2
      · exact c t (by omega) t2
    · rw [if_neg h]
      exact ⟨by omega, by omega, fun t _ _ => by omega, fun _ => by omega⟩
theorem CLp_s {mt : Int → Int} {n m : Int} (R : List c4) {i j : Int} (hi : i < n) (he : mt i = j) (h : CLp mt n m (i + 1) (j + 1) R) : CLp mt n m i j R := by
  cases R with
  | nil =>
    obtain ⟨h1, h2, h3⟩ := h
    refine ⟨by omega, by omega, fun t t1 t2 => ?_⟩
    by_cases ht : t = i
    · rw [ht, he]; omega
    · rw [h3 t (by omega) t2]; omega
  | cons c R =>
    obtain ⟨h1, h2, h3, h4⟩ := h
    refine ⟨by omega, by omega, fun t t1 t2 => ?_, h4⟩
    by_cases ht : t = i
    · rw [ht, he]; omega
    · rw [h3 t (by omega) t2]; omega
theorem clF_ok {mt : Int → Int} {n m : Int} (hn : n ≤ 24) (hg : ∀ t, 0 ≤ t → t < n → mt t = -1 ∨ 0 ≤ mt t ∧ mt t < m) (hm : ∀ s t, 0 ≤ s → s < t → t < n → mt s ≠ -1 → mt t ≠ -1 → mt s < mt t) (f : Nat) : ∀ i j, 0 ≤ i → i ≤ n → 0 ≤ j → j ≤ m → (n - i) + (m - j) < f → (∀ t, i ≤ t → t < n → mt t ≠ -1 → j ≤ mt t) → CLp mt n m i j (clF mt n m f i j) := by
  induction f with
  | zero => intro i j h1 h2 h3 h4 h5; omega
  | succ f ih =>
    intro i j h1 h2 h3 h4 h5 h6
    unfold clF
    by_cases c : i < n ∨ j < m
    · rw [if_pos c]
      by_cases c2 : i < n ∧ mt i = j
      · rw [if_pos c2]
        have hj : j < m := by have := hg i h1 c2.1; omega
        exact CLp_s _ c2.1 c2.2 (ih (i + 1) (j + 1) (by omega) (by omega) (by omega) (by omega) (by omega) (fun t t1 t2 t3 => by have := hm i t h1 (by omega) t2 (by omega) t3; omega))
      · rw [if_neg c2]
        obtain ⟨a1, a2, a3, a4⟩ := nxF_ok (mt := mt) (n := n) 24 i h2 (by omega)
        generalize nxF mt n 24 i = x at a1 a2 a3 a4 ⊢
        have a3' : ∀ t, i ≤ t → t < x → mt t = -1 := fun t t1 t2 => by have := hg t (by omega) (by omega); have := a3 t t1 t2; omega
        by_cases hx : x < n
        · rw [if_pos hx]
          have b1 := hg x (by omega) hx
          have b2 := a4 hx
          have b3 := h6 x a1 hx (by omega)
          have b4 : i < x ∨ j < mt x := by
            by_cases q : i = x
            · right
              have : mt x ≠ j := fun z => c2 ⟨by omega, by rw [q]; exact z⟩
              omega
            · left; omega
          exact ⟨Int.le_refl _, by show i - i = j - j; omega, fun t t1 t2 => by dsimp only at t2; omega, a1, a2, b3, by show mt x ≤ m; omega, b4, a3', fun _ => rfl, fun z => by dsimp only at z; omega, ih x (mt x) (by omega) a2 (by omega) (by omega) (by omega) (fun t t1 t2 t3 => by
            by_cases q : t = x
            · rw [q]; exact Int.le_refl _
            · have := hm x t (by omega) (by omega) t2 (by omega) t3; omega)⟩
        · rw [if_neg hx]
          have hxn : x = n := by omega
          exact ⟨Int.le_refl _, by show i - i = j - j; omega, fun t t1 t2 => by dsimp only at t2; omega, a1, a2, h4, Int.le_refl _, by show i < x ∨ j < m; omega, a3', fun z => by dsimp only at z; omega, fun _ => rfl, ih x m (by omega) a2 (by omega) (Int.le_refl _) (by omega) (fun t t1 t2 t3 => by omega)⟩
    · rw [if_neg c]
      exact ⟨h2, by omega, fun t t1 t2 => by omega⟩
/-- changes in order -/
def vl (n m : Int) : Int → Int → List c4 → Prop
  | i, j, [] => i ≤ n ∧ n - i = m - j
  | i, j, c :: R => i ≤ c.1 ∧ c.1 - i = c.2.2.1 - j ∧ c.1 ≤ c.2.1 ∧ c.2.1 ≤ n ∧ c.2.2.1 ≤ c.2.2.2 ∧ c.2.2.2 ≤ m ∧ (c.1 < c.2.1 ∨ c.2.2.1 < c.2.2.2) ∧ vl n m c.2.1 c.2.2.2 R
theorem CLp.vl {mt : Int → Int} {n m : Int} (R : List c4) : ∀ i j, CLp mt n m i j R → vl n m i j R := by
  induction R with
  | nil => intro i j h; exact ⟨h.1, h.2.1⟩
  | cons c R ih =>
    intro i j ⟨h1, h2, h3, h4, h5, h6, h7, h8, h9, h10, h11, h12⟩
    exact ⟨h1, h2, h4, h5, h6, h7, h8, ih _ _ h12⟩
theorem CLp_end {mt : Int → Int} {n m : Int} (R : List c4) (h : CLp mt n m n m R) : R = [] := by
  cases R with
  | nil => rfl
  | cons c R =>
    obtain ⟨h1, h2, h3, h4, h5, h6, h7, h8, h9, h10, h11, h12⟩ := h
    omega
theorem CLp_len {mt : Int → Int} {n m : Int} (R : List c4) : ∀ i j, 0 ≤ j → CLp mt n m i j R → (R.length : Int) ≤ n - i + 1 ∧ (i < n → mt i = j → (R.length : Int) ≤ n - i) := by
  induction R with
  | nil => intro i j _ h; have := h.1; simp; omega
  | cons c R ih =>
    intro i j hj ⟨h1, h2, h3, h4, h5, h6, h7, h8, h9, h10, h11, h12⟩
    have a := ih _ _ (by omega) h12
    rw [List.length_cons]
    have key : (R.length : Int) ≤ n - c.2.1 := by
      by_cases q : c.2.1 < n
      · exact a.2 q (h10 q)
      · have e : c.2.1 = n := by omega
        have e2 := h11 e
        rw [e, e2] at h12
        rw [CLp_end R h12, e]
        simp
    refine ⟨by omega, fun hi hm => ?_⟩
    by_cases hx : c.1 = i
    · by_cases q : c.1 < c.2.1
      · have := h9 i (by omega) (by omega)
        omega
      · have e : c.2.1 = i := by omega
        have := h10 (by omega)
        rw [e] at this
        omega
    · omega
/-- lines with their signs -/
def kpL (k : Int) (l : List Int) (a b : Int) : List (Int × Int) := (sl l a b).map fun c => (k, c)
def midOf (l1 l2 : List Int) : Int → List c4 → Int → List (Int × Int)
  | s, [], z => kpL 32 l1 s z
  | s, c :: R, z => kpL 32 l1 s c.1 ++ (kpL 45 l1 c.1 c.2.1 ++ (kpL 43 l2 c.2.2.1 c.2.2.2 ++ midOf l1 l2 c.2.1 R z))
def rowsT : List (Int × Int) → List Int
  | [] => []
  | p :: r => p.1 :: p.2 :: 10 :: rowsT r
theorem rowsT_app (A B : List (Int × Int)) : rowsT (A ++ B) = rowsT A ++ rowsT B := by
  induction A with
  | nil => rfl
  | cons p A ih => simp only [List.cons_append, rowsT, ih]
theorem rowsT_len (A : List (Int × Int)) : (rowsT A).length = 3 * A.length := by
  induction A with
  | nil => rfl
  | cons p A ih => simp only [rowsT, List.length_cons, ih]; omega
def numT (v : Int) : List Int := if 10 ≤ v then [48 + v / 10, 48 + v % 10] else [48 + v % 10]
theorem numT_len (v : Int) : (numT v).length = 1 ∨ (numT v).length = 2 := by unfold numT; split <;> simp
theorem kpL_len {k : Int} {l : List Int} {a b : Int} (h0 : 0 ≤ a) (h1 : a ≤ b) (h2 : b ≤ l.length) : ((kpL k l a b).length : Int) = b - a := by
  unfold kpL
  rw [List.length_map]
  exact sl_len h0 h1 h2
theorem sl_app {l : List Int} {a b c : Int} (h0 : 0 ≤ a) (h1 : a ≤ b) (h2 : b ≤ c) : sl l a c = sl l a b ++ sl l b c := by
  unfold sl
  rw [show l.drop b.toNat = (l.drop a.toNat).drop (b - a).toNat by rw [List.drop_drop]; congr 1; omega, show (c - a).toNat = (b - a).toNat + (c - b).toNat by omega, List.take_add]
theorem kpL_app {k : Int} {l : List Int} {a b c : Int} (h0 : 0 ≤ a) (h1 : a ≤ b) (h2 : b ≤ c) : kpL k l a c = kpL k l a b ++ kpL k l b c := by
  unfold kpL
  rw [sl_app h0 h1 h2, List.map_append]
theorem kpL_nil {k : Int} {l : List Int} {a b : Int} (h : b ≤ a) : kpL k l a b = [] := by unfold kpL; rw [sl_nil h]; rfl
theorem kpL_cons {k : Int} {l : List Int} {a b : Int} (h0 : 0 ≤ a) (h1 : a < b) (h2 : b ≤ l.length) : kpL k l a b = (k, lg l a) :: kpL k l (a + 1) b := by
  unfold kpL
  rw [sl_cons h0 h1 h2]
  rfl
theorem kpL_snoc {k : Int} {l : List Int} {a b : Int} (h0 : 0 ≤ a) (h1 : a ≤ b) (h2 : b < l.length) : kpL k l a (b + 1) = kpL k l a b ++ [(k, lg l b)] := by
  unfold kpL
  rw [sl_succ h0 h1 h2, List.map_append]
  rfl
/-- kept lines in front -/
theorem mid_kp {l1 l2 : List Int} {z : Int} (R : List c4) {s t : Int} (h0 : 0 ≤ s) (h1 : s ≤ t) (h2 : match R with
    | [] => t ≤ z
    | c :: _ => t ≤ c.1) : midOf l1 l2 s R z = kpL 32 l1 s t ++ midOf l1 l2 t R z := by
  cases R with
  | nil => unfold midOf; exact kpL_app h0 h1 h2
  | cons c R =>
    unfold midOf
    rw [kpL_app h0 h1 h2, List.append_assoc]
/-- the last of a group -/
def lsC : c4 → List c4 → c4
  | c, [] => c
  | _, c' :: R => lsC c' R
/-- how many more belong to a hunk -/
def tkN (ctx : Int) : c4 → List c4 → Nat
  | _, [] => 0
  | c, c' :: R => if c'.1 - c.2.1 ≤ 2 * ctx then tkN ctx c' R + 1 else 0
theorem tkN_le {ctx : Int} (R : List c4) : ∀ c, tkN ctx c R ≤ R.length := by
  induction R with
  | nil => intro c; simp [tkN]
  | cons c' R ih => intro c; have := ih c'; unfold tkN; split <;> simp <;> omega
/-- the next one is far off -/
def farC (ctx e : Int) : List c4 → Prop
  | [] => True
  | c' :: _ => 2 * ctx < c'.1 - e
/-- there is room in front -/
def stC (ctx i : Int) : List c4 → Prop
  | [] => True
  | c :: _ => min ctx c.1 ≤ c.1 - i
/-- what follows a hunk is far off -/
theorem tkN_gap {ctx : Int} (R : List c4) : ∀ c, farC ctx (lsC c (R.take (tkN ctx c R))).2.1 (R.drop (tkN ctx c R)) := by
  induction R with
  | nil => intro c; simp [tkN, farC]
  | cons c' R ih =>
    intro c
    unfold tkN
    by_cases h : c'.1 - c.2.1 ≤ 2 * ctx
    · rw [if_pos h]
      have := ih c'
      simp only [List.drop_succ_cons, List.take_succ_cons, lsC]
      exact this
    · rw [if_neg h]
      simp only [List.drop_zero, List.take_zero, lsC, farC]
      omega
theorem vl_app {n m : Int} (gs R : List c4) : ∀ c i j, vl n m i j (c :: gs ++ R) → vl n m (lsC c gs).2.1 (lsC c gs).2.2.2 R ∧ c.1 ≤ (lsC c gs).2.1 ∧ (lsC c gs).2.1 ≤ n ∧ c.2.2.1 ≤ (lsC c gs).2.2.2 ∧ (lsC c gs).2.2.2 ≤ m ∧ (c.1 < (lsC c gs).2.1 ∨ c.2.2.1 < (lsC c gs).2.2.2) := by
  induction gs with
  | nil =>
    intro c i j ⟨h1, h2, h3, h4, h5, h6, h7, h8⟩
    exact ⟨h8, h3, h4, h5, h6, h7⟩
  | cons c' gs ih =>
    intro c i j ⟨h1, h2, h3, h4, h5, h6, h7, h8⟩
    have h8' := h8
    obtain ⟨k1, k2, k3⟩ := h8'
    obtain ⟨a1, a2, a3, a4, a5, a6⟩ := ih c' _ _ h8
    simp only [lsC]
    exact ⟨a1, by omega, a3, by omega, a5, by omega⟩
theorem mid_app {l1 l2 : List Int} {z : Int} (gs R : List c4) : ∀ c s, midOf l1 l2 s (c :: gs ++ R) z = midOf l1 l2 s (c :: gs) (lsC c gs).2.1 ++ midOf l1 l2 (lsC c gs).2.1 R z := by
  induction gs with
  | nil =>
    intro c s
    simp only [List.cons_append, List.nil_append, midOf, lsC]
    rw [kpL_nil (Int.le_refl _)]
    simp only [List.append_assoc, List.nil_append, List.append_nil]
  | cons c' gs ih =>
    intro c s
    have := ih c' c.2.1
    simp only [List.cons_append] at this ⊢
    rw [midOf, this]
    conv => rhs; rw [midOf]
    simp only [lsC, List.append_assoc]
theorem mid_end {l1 l2 : List Int} {z : Int} (gs : List c4) : ∀ c s, 0 ≤ (lsC c gs).2.1 → (lsC c gs).2.1 ≤ z → midOf l1 l2 s (c :: gs) z = midOf l1 l2 s (c :: gs) (lsC c gs).2.1 ++ kpL 32 l1 (lsC c gs).2.1 z := by
  intro c s h0 h
  have := mid_app (l1 := l1) (l2 := l2) (z := z) gs [] c s
  rw [List.append_nil] at this
  rw [this]
  rfl
def hdT (x dx y dy : Int) : List Int := [64] ++ numT x ++ [44] ++ numT dx ++ [32] ++ numT y ++ [44] ++ numT dy ++ [10]
theorem hdT_len (x dx y dy : Int) : (hdT x dx y dy).length ≤ 13 := by
  unfold hdT
  simp only [List.length_append, List.length_singleton]
  have := numT_len x; have := numT_len dx; have := numT_len y; have := numT_len dy
  omega
/-- the text of a hunk -/
def hkT (l1 l2 : List Int) (ctx : Int) (c : c4) (gs : List c4) : List Int :=
  hdT (c.1 - min ctx c.1) ((lsC c gs).2.1 + min ctx (l1.length - (lsC c gs).2.1) - (c.1 - min ctx c.1)) (c.2.2.1 - min ctx c.1) ((lsC c gs).2.2.2 + min ctx (l1.length - (lsC c gs).2.1) - (c.2.2.1 - min ctx c.1)) ++ rowsT (midOf l1 l2 (c.1 - min ctx c.1) (c :: gs) ((lsC c gs).2.1 + min ctx (l1.length - (lsC c gs).2.1)))
def wrT (l1 l2 : List Int) (ctx : Int) : Nat → List c4 → List Int
  | 0, _ => []
  | _, [] => []
  | f + 1, c :: R => hkT l1 l2 ctx c (R.take (tkN ctx c R)) ++ wrT l1 l2 ctx f (R.drop (tkN ctx c R))
def wrN (ctx : Int) : Nat → List c4 → Int
  | 0, _ => 0
  | _, [] => 0
  | f + 1, c :: R => 1 + wrN ctx f (R.drop (tkN ctx c R))
/-- how many have another sign -/
def oth (k : Int) : List (Int × Int) → Int
  | [] => 0
  | p :: r => (if p.1 ≠ k then 1 else 0) + oth k r
theorem oth_app (k : Int) (A B : List (Int × Int)) : oth k (A ++ B) = oth k A + oth k B := by
  induction A with
  | nil => simp [oth]
  | cons p A ih => simp only [List.cons_append, oth, ih]; omega
theorem oth_map {k k' : Int} (l : List Int) : oth k (l.map fun c => (k', c)) = if k' = k then 0 else (l.length : Int) := by
  induction l with
  | nil => simp [oth]
  | cons x l ih =>
    simp only [List.map_cons, oth, ih, List.length_cons]
    by_cases h : k' = k
    · simp [h]
    · simp [h]; omega
theorem oth_kp {k k' : Int} {l : List Int} {a b : Int} (h0 : 0 ≤ a) (h1 : a ≤ b) (h2 : b ≤ l.length) : oth k (kpL k' l a b) = if k' = k then 0 else b - a := by
  unfold kpL
  rw [oth_map]
  have := sl_len h0 h1 h2
  split
  · rfl
  · exact this
section
variable {l1 l2 : List Int} {n m : Int}
theorem mid_cnt (hn : n = l1.length) (hm : m = l2.length) (gs R : List c4) : ∀ c s y, 0 ≤ s → 0 ≤ y → vl n m s y (c :: gs ++ R) →
    ((midOf l1 l2 s (c :: gs) (lsC c gs).2.1).length : Int) ≤ ((lsC c gs).2.1 - s) + ((lsC c gs).2.2.2 - y) ∧ oth 43 (midOf l1 l2 s (c :: gs) (lsC c gs).2.1) = (lsC c gs).2.1 - s ∧ oth 45 (midOf l1 l2 s (c :: gs) (lsC c gs).2.1) = (lsC c gs).2.2.2 - y := by
  induction gs with
  | nil =>
    intro c s y hs hy ⟨h1, h2, h3, h4, h5, h6, h7, h8⟩
    simp only [midOf, lsC]
    rw [kpL_nil (Int.le_refl c.2.1), List.append_nil]
    simp only [List.length_append, oth_app]
    have a1 := kpL_len (k := 32) (l := l1) hs h1 (by omega)
    have a2 := kpL_len (k := 45) (l := l1) (by omega) h3 (by omega)
    have a3 := kpL_len (k := 43) (l := l2) (by omega) h5 (by omega)
    rw [oth_kp hs h1 (by omega), oth_kp (by omega) h3 (by omega), oth_kp (by omega) h5 (by omega), oth_kp hs h1 (by omega), oth_kp (by omega) h3 (by omega), oth_kp (by omega) h5 (by omega)]
    simp only [reduceIte, show ¬ ((32 : Int) = 43) by omega, show ¬ ((45 : Int) = 43) by omega, show ¬ ((32 : Int) = 45) by omega, show ¬ ((43 : Int) = 45) by omega]
    omega
  | cons c' gs ih =>
    intro c s y hs hy ⟨h1, h2, h3, h4, h5, h6, h7, h8⟩
    obtain ⟨b1, b2, b3⟩ := ih c' c.2.1 c.2.2.2 (by omega) (by omega) h8
    rw [midOf]
    simp only [lsC]
    simp only [List.length_append, oth_app]
    have a1 := kpL_len (k := 32) (l := l1) hs h1 (by omega)
    have a2 := kpL_len (k := 45) (l := l1) (by omega) h3 (by omega)
    have a3 := kpL_len (k := 43) (l := l2) (by omega) h5 (by omega)
    rw [oth_kp hs h1 (by omega), oth_kp (by omega) h3 (by omega), oth_kp (by omega) h5 (by omega), oth_kp hs h1 (by omega), oth_kp (by omega) h3 (by omega), oth_kp (by omega) h5 (by omega)]
    simp only [reduceIte, show ¬ ((32 : Int) = 43) by omega, show ¬ ((45 : Int) = 43) by omega, show ¬ ((32 : Int) = 45) by omega, show ¬ ((43 : Int) = 45) by omega]
    omega
/-- the point behind a hunk and its context -/
theorem vl_ahead {ex ey a : Int} (R : List c4) (ha : 0 ≤ a) (han : a ≤ n - ex) (h : vl n m ex ey R) (hg : match R with
    | [] => True
    | c' :: _ => a ≤ c'.1 - ex) : vl n m (ex + a) (ey + a) R ∧ ey + a ≤ m := by
  cases R with
  | nil => obtain ⟨h1, h2⟩ := h; exact ⟨⟨by omega, by omega⟩, by omega⟩
  | cons c' R => obtain ⟨h1, h2, h3, h4, h5, h6, h7, h8⟩ := h; exact ⟨⟨by omega, by omega, h3, h4, h5, h6, h7, h8⟩, by omega⟩
theorem hk_len (hn : n = l1.length) (hm : m = l2.length) {ctx : Int} (hc : 0 ≤ ctx) (gs R : List c4) {c : c4} {i j : Int} (hi : 0 ≤ i) (hj : 0 ≤ j) (h : vl n m i j (c :: gs ++ R)) (hb : min ctx c.1 ≤ c.1 - i) (hg : farC ctx (lsC c gs).2.1 R) :
    ((hkT l1 l2 ctx c gs).length : Int) ≤ 16 * (((lsC c gs).2.1 + min ctx (n - (lsC c gs).2.1) - i) + ((lsC c gs).2.2.2 + min ctx (n - (lsC c gs).2.1) - j)) ∧ ((midOf l1 l2 (c.1 - min ctx c.1) (c :: gs) ((lsC c gs).2.1 + min ctx (n - (lsC c gs).2.1))).length : Int) ≤ ((lsC c gs).2.1 + min ctx (n - (lsC c gs).2.1) - i) + ((lsC c gs).2.2.2 + min ctx (n - (lsC c gs).2.1) - j) ∧
    (lsC c gs).2.2.2 + min ctx (n - (lsC c gs).2.1) ≤ m ∧ vl n m ((lsC c gs).2.1 + min ctx (n - (lsC c gs).2.1)) ((lsC c gs).2.2.2 + min ctx (n - (lsC c gs).2.1)) R := by
  obtain ⟨a1, a2, a3, a4, a5, a6⟩ := vl_app gs R c i j h
  obtain ⟨h1, h2, h3, h4, h5, h6, h7, h8⟩ := h
  have hv' : vl n m (c.1 - min ctx c.1) (c.2.2.1 - min ctx c.1) (c :: gs ++ R) := ⟨by omega, by omega, h3, h4, h5, h6, h7, h8⟩
  obtain ⟨b1, b2, b3⟩ := mid_cnt hn hm gs R c _ _ (by omega) (by omega) hv'
  have hah := vl_ahead (a := min ctx (n - (lsC c gs).2.1)) R (by omega) (by omega) a1 (by
    cases R with
    | nil => trivial
    | cons c' R => have : 2 * ctx < c'.1 - (lsC c gs).2.1 := hg; show min ctx (n - (lsC c gs).2.1) ≤ c'.1 - (lsC c gs).2.1; omega)
  have hml : ((midOf l1 l2 (c.1 - min ctx c.1) (c :: gs) ((lsC c gs).2.1 + min ctx (n - (lsC c gs).2.1))).length : Int) ≤ ((lsC c gs).2.1 + min ctx (n - (lsC c gs).2.1) - (c.1 - min ctx c.1)) + ((lsC c gs).2.2.2 - (c.2.2.1 - min ctx c.1)) := by
    rw [mid_end gs c _ (by omega) (by omega), List.length_append]
    have := kpL_len (k := 32) (l := l1) (a := (lsC c gs).2.1) (b := (lsC c gs).2.1 + min ctx (n - (lsC c gs).2.1)) (by omega) (by omega) (by omega)
    omega
  refine ⟨?_, by omega, hah.2, hah.1⟩
  unfold hkT
  rw [List.length_append, rowsT_len, ← hn]
  have := hdT_len (c.1 - min ctx c.1) ((lsC c gs).2.1 + min ctx (n - (lsC c gs).2.1) - (c.1 - min ctx c.1)) (c.2.2.1 - min ctx c.1) ((lsC c gs).2.2.2 + min ctx (n - (lsC c gs).2.1) - (c.2.2.1 - min ctx c.1))
  omega
end

/-! ===== J: numbers, locals, stack, branches, ends ===== -/
theorem j_toInt {z : Int} (h : -2147483648 ≤ z ∧ z ≤ 2147483647) : (Int32.ofInt z).toInt = z := Int32.toInt_ofInt_of_le (by omega) (by omega)
theorem j_ltI {x y : Int} (hx : -2147483648 ≤ x ∧ x ≤ 2147483647) (hy : -2147483648 ≤ y ∧ y ≤ 2147483647) : Int32.ofInt x < Int32.ofInt y ↔ x < y := by
  rw [Int32.lt_iff_toInt_lt, j_toInt hx, j_toInt hy]
theorem j_leI {x y : Int} (hx : -2147483648 ≤ x ∧ x ≤ 2147483647) (hy : -2147483648 ≤ y ∧ y ≤ 2147483647) : Int32.ofInt x ≤ Int32.ofInt y ↔ x ≤ y := by
  rw [Int32.le_iff_toInt_le, j_toInt hx, j_toInt hy]
theorem j_eqI {x y : Int} (hx : -2147483648 ≤ x ∧ x ≤ 2147483647) (hy : -2147483648 ≤ y ∧ y ≤ 2147483647) : Int32.ofInt x = Int32.ofInt y ↔ x = y := by
  rw [← Int32.toInt_inj, j_toInt hx, j_toInt hy]
theorem j_clamp {z : Int} (h0 : 0 ≤ z) (h : z ≤ 2147483647) : (Int32.ofInt z).toNatClampNeg = z.toNat := Int32.toNatClampNeg_ofInt_of_le (by omega) (by omega)
theorem j_in {z : Int} {n : Nat} (h0 : 0 ≤ z) (h : z < n) (hn : n ≤ 65536) : vp_in (Int32.ofInt z) n := by
  unfold vp_in
  rw [j_clamp h0 (by omega)]
  intro q
  rcases q with q | q
  · rw [show (0 : Int32) = Int32.ofInt 0 from rfl, j_ltI (by omega) (by omega)] at q
    omega
  · omega
/-- a decoded instruction, and where the next one stands -/
def j_D (y : j_Mt) (pc : Nat) (i : Instr) (n pc' : Nat) : Prop := decode y.2.1 pc = .ok (i, n) ∧ pc + n = pc'
/-- a decoded branch: where it goes on, where it leads -/
def j_E (y : j_Mt) (pc : Nat) (f : Int → Instr) (off : Int) (pc' tgt : Nat) : Prop := decode y.2.1 pc = .ok (f off, 3) ∧ pc + 3 = pc' ∧ (pc : Int) + off = (tgt : Int)
section
variable {G : j_G} {y : j_Mt} {d B S pc pc' tgt : Nat} {ls st : List j_V} {σ : j_S} {Q : j_O → j_S → Prop}
/-- a step that leaves heap and locals alone -/
theorem j_pure {st' : List j_V} (h : ∀ (p : Program) (e : Env) (R : Room) (s : State) (m : MethodId) (args : Array Value) (below : List Frame) (meth : Method) (c : Code) (H : Heap) (locs : List Loc) (cells slots : Nat) (Qf : State → Prop) (la : Array Slot), j_Cx G y p s m meth c → j_Hp G σ H → lv_has la y.2.2.1 (j_lv (j_b G) 0 ls) →
      W p (j_l G) e R s m args below meth c H locs cells slots Qf (F0 m pc' la (st'.map (j_val (j_b G)))) → W p (j_l G) e R s m args below meth c H locs cells slots Qf (F0 m pc la (st.map (j_val (j_b G)))))
    (k : j_J G y d B S pc' ls st' σ Q) : j_J G y d B S pc ls st σ Q := fun p e R s m args below meth c H locs cells slots mc ms la C h1 h2 h3 h4 h5 h6 hH hL hl hb =>
  h p e R s m args below meth c H locs cells slots _ la C hH hl (k p e R s m args below meth c H locs cells slots mc ms la C h1 h2 h3 h4 h5 h6 hH hL hl hb)
theorem j_J.mono {Q' : j_O → j_S → Prop} (k : j_J G y d B S pc ls st σ Q) (h : ∀ o σ', Q o σ' → Q' o σ') : j_J G y d B S pc ls st σ Q' := by
  intro p e R s m args below meth c H locs cells slots mc ms la C h1 h2 h3 h4 h5 h6 hH hL hl hb T hT X
  obtain ⟨t, a1, o, b1, b2, ⟨o', σ', e1, e2, e3⟩, b3⟩ := k p e R s m args below meth c H locs cells slots mc ms la C h1 h2 h3 h4 h5 h6 hH hL hl hb T hT X
  exact ⟨t, a1, o, b1, b2, ⟨o', σ', e1, h o' σ' e2, e3⟩, b3⟩
theorem j_J.less {d' B' S' : Nat} (k : j_J G y d B S pc ls st σ Q) (hd : d ≤ d') (hB : B ≤ B') (hS : S ≤ S') : j_J G y d' B' S' pc ls st σ Q :=
  fun p e R s m args below meth c H locs cells slots mc ms la C h1 h2 h3 h4 h5 h6 hH hL hl hb =>
    k p e R s m args below meth c H locs cells slots mc ms la C (by omega) (by omega) (by omega) h4 (by omega) h6 hH hL hl hb
-- constants
theorem j_iconst {z : Int} (hd : j_D y pc (.iconst z) 1 pc') (k : j_J G y d B S pc' ls (ji_ z :: st) σ Q) : j_J G y d B S pc ls st σ Q :=
  j_pure (fun p e R s m args below meth c H locs cells slots Qf la C hH hl w => by obtain ⟨hd, rfl⟩ := hd; exact lv_iconst C.1 C.2.1 hd rfl w) k
theorem j_bipush {z : Int} (hd : j_D y pc (.bipush z) 2 pc') (hz : (Int8.ofInt z).toInt32 = Int32.ofInt z) (k : j_J G y d B S pc' ls (ji_ z :: st) σ Q) : j_J G y d B S pc ls st σ Q :=
  j_pure (fun p e R s m args below meth c H locs cells slots Qf la C hH hl w => by obtain ⟨hd, rfl⟩ := hd; exact lv_bipush C.1 C.2.1 hd hz w) k
theorem j_sipush {z : Int} (hd : j_D y pc (.sipush z) 3 pc') (hz : (Int16.ofInt z).toInt32 = Int32.ofInt z) (k : j_J G y d B S pc' ls (ji_ z :: st) σ Q) : j_J G y d B S pc ls st σ Q :=
  j_pure (fun p e R s m args below meth c H locs cells slots Qf la C hH hl w => by obtain ⟨hd, rfl⟩ := hd; exact lv_sipush C.1 C.2.1 hd hz w) k
theorem j_null (hd : j_D y pc .aconst_null 1 pc') (k : j_J G y d B S pc' ls (jn_ :: st) σ Q) : j_J G y d B S pc ls st σ Q :=
  j_pure (fun p e R s m args below meth c H locs cells slots Qf la C hH hl w => by obtain ⟨hd, rfl⟩ := hd; exact lv_null C.1 C.2.1 hd w) k
-- locals
theorem j_lv_mem {b : Nat} : ∀ (ls : List j_V) (n i : Nat) (v : j_V), ls[i]? = some v → v ≠ ju_ → (n + i, j_val b v) ∈ j_lv b n ls := by
  intro ls
  induction ls with
  | nil => intro n i v h; simp at h
  | cons w r ih =>
    intro n i v h hv
    cases i with
    | zero =>
      simp at h
      subst h
      refine List.mem_append_left _ ?_
      match w, hv with
      | .inl z, _ => exact List.mem_singleton.mpr rfl
      | .inr (.inl z), _ => exact List.mem_singleton.mpr rfl
      | .inr (.inr (.inl z)), _ => exact List.mem_singleton.mpr rfl
      | .inr (.inr (.inr (some z))), _ => exact List.mem_singleton.mpr rfl
    | succ i =>
      have := ih (n + 1) i v (by simpa using h) hv
      rw [show n + (i + 1) = n + 1 + i by omega]
      exact List.mem_append_right _ this
theorem j_lv_of {b : Nat} : ∀ (ls : List j_V) (n : Nat) (q : Nat × Value), q ∈ j_lv b n ls → ∃ (i : Nat) (v : j_V), q.1 = n + i ∧ ls[i]? = some v ∧ v ≠ ju_ ∧ q.2 = j_val b v := by
  intro ls
  induction ls with
  | nil => intro n q h; exact absurd h (by simp [j_lv])
  | cons w r ih =>
    intro n q h
    rcases List.mem_append.mp h with h | h
    · match w, h with
      | .inl z, h => rw [List.mem_singleton.mp h]; exact ⟨0, _, rfl, rfl, (fun e => by cases e), rfl⟩
      | .inr (.inl z), h => rw [List.mem_singleton.mp h]; exact ⟨0, _, rfl, rfl, (fun e => by cases e), rfl⟩
      | .inr (.inr (.inl z)), h => rw [List.mem_singleton.mp h]; exact ⟨0, _, rfl, rfl, (fun e => by cases e), rfl⟩
      | .inr (.inr (.inr (some z))), h => rw [List.mem_singleton.mp h]; exact ⟨0, _, rfl, rfl, (fun e => by cases e), rfl⟩
      | .inr (.inr (.inr none)), h => exact absurd h (by simp)
    · obtain ⟨i, v, h1, h2, h3, h4⟩ := ih (n + 1) q h
      exact ⟨i + 1, v, by omega, by simpa using h2, h3, h4⟩
theorem j_lv_get {b nL : Nat} {la : Array Slot} {ls : List j_V} {i : Nat} {v : j_V} (hl : lv_has la nL (j_lv b 0 ls)) (h : ls[i]? = some v) (hv : v ≠ ju_) : la[i]? = some (.val (j_val b v)) := by
  have := hl.2.2 _ (j_lv_mem ls 0 i v h hv)
  rwa [Nat.zero_add] at this
/-- the local before i is no long -/
def j_nl (ls : List j_V) (i : Nat) : Bool := match i with
  | 0 => true
  | k + 1 => match ls[k]? with
    | some (.inr (.inr (.inl _))) => false
    | _ => true
theorem j_lv_set {b nL i : Nat} {la : Array Slot} {ls : List j_V} {v : j_V} (hn : j_nl ls i = true) (hl : lv_has la nL ((i, j_val b v) :: (j_lv b 0 ls).filter (fun q => !(q.1 == i) && !(q.1 + 1 == i && q.2.category == 2)))) : lv_has la nL (j_lv b 0 (ls.set i v)) := by
  refine ⟨hl.1, hl.2.1, fun q hq => hl.2.2 q ?_⟩
  obtain ⟨j, w, h1, h2, h3, h4⟩ := j_lv_of _ _ _ hq
  rw [Nat.zero_add] at h1
  by_cases hj : j = i
  · subst hj
    rw [List.getElem?_set] at h2
    split at h2
    · split at h2
      · cases h2
        refine List.mem_cons.mpr (Or.inl ?_)
        rw [← h1, ← h4]
      · cases h2
    · exact absurd rfl (by assumption)
  · rw [List.getElem?_set_ne (by omega)] at h2
    refine List.mem_cons_of_mem _ (List.mem_filter.mpr ⟨?_, ?_⟩)
    · have := j_lv_mem (b := b) ls 0 j w h2 h3
      rw [Nat.zero_add] at this
      rw [← h1, ← h4] at this
      exact this
    · rw [h1]
      have e1 : (j == i) = false := by simpa using hj
      rw [e1]
      simp only [Bool.not_false, Bool.true_and, Bool.not_eq_true', Bool.and_eq_false_iff]
      by_cases hji : j + 1 = i
      · right
        subst hji
        unfold j_nl at hn
        rw [h4]
        simp only [h2] at hn
        match w, hn with
        | .inl z, _ => rfl
        | .inr (.inl none), _ => rfl
        | .inr (.inl (some _)), _ => rfl
        | .inr (.inr (.inr none)), _ => rfl
        | .inr (.inr (.inr (some z))), _ => rfl
      · left
        simpa using hji
theorem j_iload {i : Nat} {z : Int} (hd : j_D y pc (.iload i) 2 pc') (h : ls[i]? = some (ji_ z)) (k : j_J G y d B S pc' ls (ji_ z :: st) σ Q) : j_J G y d B S pc ls st σ Q :=
  j_pure (fun p e R s m args below meth c H locs cells slots Qf la C hH hl w => by obtain ⟨hd, rfl⟩ := hd; exact lv_iload C.1 C.2.1 hd (j_lv_get hl h (fun e => by cases e)) w) k
theorem j_iload_n {i : Fin 4} {z : Int} (hd : j_D y pc (.iload_n i) 1 pc') (h : ls[(i : Nat)]? = some (ji_ z)) (k : j_J G y d B S pc' ls (ji_ z :: st) σ Q) : j_J G y d B S pc ls st σ Q :=
  j_pure (fun p e R s m args below meth c H locs cells slots Qf la C hH hl w => by obtain ⟨hd, rfl⟩ := hd; exact lv_iload_n C.1 C.2.1 hd rfl (j_lv_get hl h (fun e => by cases e)) w) k
theorem j_lload_n {i : Fin 4} {x : Int64} (hd : j_D y pc (.lload_n i) 1 pc') (h : ls[(i : Nat)]? = some (jl_ x)) (k : j_J G y d B S pc' ls (jl_ x :: st) σ Q) : j_J G y d B S pc ls st σ Q :=
  j_pure (fun p e R s m args below meth c H locs cells slots Qf la C hH hl w => by obtain ⟨hd, rfl⟩ := hd; exact lv_lload_n C.1 C.2.1 hd rfl (j_lv_get hl h (fun e => by cases e)) w) k
theorem j_aload {i : Nat} {a : Nat} (hd : j_D y pc (.aload i) 2 pc') (h : ls[i]? = some (jr_ a)) (k : j_J G y d B S pc' ls (jr_ a :: st) σ Q) : j_J G y d B S pc ls st σ Q :=
  j_pure (fun p e R s m args below meth c H locs cells slots Qf la C hH hl w => by obtain ⟨hd, rfl⟩ := hd; exact lv_aload C.1 C.2.1 hd (j_lv_get hl h (fun e => by cases e)) w) k
theorem j_aload_n {i : Fin 4} {a : Nat} (hd : j_D y pc (.aload_n i) 1 pc') (h : ls[(i : Nat)]? = some (jr_ a)) (k : j_J G y d B S pc' ls (jr_ a :: st) σ Q) : j_J G y d B S pc ls st σ Q :=
  j_pure (fun p e R s m args below meth c H locs cells slots Qf la C hH hl w => by obtain ⟨hd, rfl⟩ := hd; exact lv_aload_n C.1 C.2.1 hd rfl (j_lv_get hl h (fun e => by cases e)) w) k
theorem j_aload_nX {i : Fin 4} {a : Nat} (hd : j_D y pc (.aload_n i) 1 pc') (h : ls[(i : Nat)]? = some (jx_ a)) (k : j_J G y d B S pc' ls (jx_ a :: st) σ Q) : j_J G y d B S pc ls st σ Q :=
  j_pure (fun p e R s m args below meth c H locs cells slots Qf la C hH hl w => by obtain ⟨hd, rfl⟩ := hd; exact lv_aload_n C.1 C.2.1 hd rfl (j_lv_get hl h (fun e => by cases e)) w) k
theorem j_istore {i : Nat} {z : Int} (hd : j_D y pc (.istore i) 2 pc') (hi : Nat.blt i y.2.2.1 = true) (hn : j_nl ls i = true) (k : j_J G y d B S pc' (ls.set i (ji_ z)) st σ Q) : j_J G y d B S pc ls (ji_ z :: st) σ Q := by
  intro p e R s m args below meth c H locs cells slots mc ms la C h1 h2 h3 h4 h5 h6 hH hL hl hb
  obtain ⟨hd, rfl⟩ := hd
  exact lv_istore C.1 C.2.1 hd hl (Nat.le_of_ble_eq_true hi) rfl (fun la' hl' => k p e R s m args below meth c H locs cells slots mc ms la' C h1 h2 h3 h4 h5 h6 hH hL (j_lv_set (v := ji_ z) hn hl') hb)
theorem j_istore_n {i : Fin 4} {z : Int} (hd : j_D y pc (.istore_n i) 1 pc') (hi : Nat.blt (i : Nat) y.2.2.1 = true) (hn : j_nl ls (i : Nat) = true) (k : j_J G y d B S pc' (ls.set (i : Nat) (ji_ z)) st σ Q) : j_J G y d B S pc ls (ji_ z :: st) σ Q := by
  intro p e R s m args below meth c H locs cells slots mc ms la C h1 h2 h3 h4 h5 h6 hH hL hl hb
  obtain ⟨hd, rfl⟩ := hd
  exact lv_istore_n C.1 C.2.1 hd rfl hl (Nat.le_of_ble_eq_true hi) rfl (fun la' hl' => k p e R s m args below meth c H locs cells slots mc ms la' C h1 h2 h3 h4 h5 h6 hH hL (j_lv_set (v := ji_ z) hn hl') hb)
theorem j_astore {i a : Nat} (hd : j_D y pc (.astore i) 2 pc') (hi : Nat.blt i y.2.2.1 = true) (hn : j_nl ls i = true) (k : j_J G y d B S pc' (ls.set i (jr_ a)) st σ Q) : j_J G y d B S pc ls (jr_ a :: st) σ Q := by
  intro p e R s m args below meth c H locs cells slots mc ms la C h1 h2 h3 h4 h5 h6 hH hL hl hb
  obtain ⟨hd, rfl⟩ := hd
  exact lv_astore C.1 C.2.1 hd hl (Nat.le_of_ble_eq_true hi) rfl (fun la' hl' => k p e R s m args below meth c H locs cells slots mc ms la' C h1 h2 h3 h4 h5 h6 hH hL (j_lv_set (v := jr_ a) hn hl') hb)
theorem j_astore_n {i : Fin 4} {a : Nat} (hd : j_D y pc (.astore_n i) 1 pc') (hi : Nat.blt (i : Nat) y.2.2.1 = true) (hn : j_nl ls (i : Nat) = true) (k : j_J G y d B S pc' (ls.set (i : Nat) (jr_ a)) st σ Q) : j_J G y d B S pc ls (jr_ a :: st) σ Q := by
  intro p e R s m args below meth c H locs cells slots mc ms la C h1 h2 h3 h4 h5 h6 hH hL hl hb
  obtain ⟨hd, rfl⟩ := hd
  exact lv_astore_n C.1 C.2.1 hd rfl hl (Nat.le_of_ble_eq_true hi) rfl (fun la' hl' => k p e R s m args below meth c H locs cells slots mc ms la' C h1 h2 h3 h4 h5 h6 hH hL (j_lv_set (v := jr_ a) hn hl') hb)
theorem j_iinc {i : Nat} {n z : Int} (hd : j_D y pc (.iinc i n) 3 pc') (h : ls[i]? = some (ji_ z)) (hi : Nat.blt i y.2.2.1 = true) (hn : j_nl ls i = true) (k : j_J G y d B S pc' (ls.set i (ji_ (z + n))) st σ Q) : j_J G y d B S pc ls st σ Q := by
  intro p e R s m args below meth c H locs cells slots mc ms la C h1 h2 h3 h4 h5 h6 hH hL hl hb
  obtain ⟨hd, rfl⟩ := hd
  have hm := j_lv_mem (b := j_b G) ls 0 i _ h (fun e => by cases e)
  rw [Nat.zero_add] at hm
  obtain ⟨kk, hkk⟩ := List.getElem?_of_mem hm
  exact lv_iinc (v := Int32.ofInt (z + n)) C.1 C.2.1 hd hl hkk (Int32.ofInt_add z n).symm (Nat.le_of_ble_eq_true hi) rfl (fun la' hl' => k p e R s m args below meth c H locs cells slots mc ms la' C h1 h2 h3 h4 h5 h6 hH hL (j_lv_set (v := ji_ (z + n)) hn hl') hb)
/-- locals of which nothing more is asked -/
def j_le : List j_V → List j_V → Prop
  | [], _ => True
  | _ :: _, [] => False
  | v :: r, w :: t => (v = ju_ ∨ v = w) ∧ j_le r t
theorem j_le_lv {b : Nat} : ∀ (l1 l2 : List j_V) (n : Nat), j_le l1 l2 → ∀ q ∈ j_lv b n l1, q ∈ j_lv b n l2 := by
  intro l1
  induction l1 with
  | nil => intro l2 n _ q hq; exact absurd hq (by simp [j_lv])
  | cons v r ih =>
    intro l2 n h q hq
    cases l2 with
    | nil => exact absurd h (by simp [j_le])
    | cons w t =>
      obtain ⟨h1, h2⟩ := h
      rcases List.mem_append.mp hq with hq | hq
      · rcases h1 with rfl | rfl
        · exact absurd hq (by simp)
        · exact List.mem_append_left _ hq
      · exact List.mem_append_right _ (ih t (n + 1) h2 q hq)
theorem j_J.forget {ls' : List j_V} (h : j_le ls' ls) (k : j_J G y d B S pc ls' st σ Q) : j_J G y d B S pc ls st σ Q :=
  fun p e R s m args below meth c H locs cells slots mc ms la C h1 h2 h3 h4 h5 h6 hH hL hl hb =>
    k p e R s m args below meth c H locs cells slots mc ms la C h1 h2 h3 h4 h5 h6 hH hL ⟨hl.1, hl.2.1, fun q hq => hl.2.2 q (j_le_lv ls' ls 0 h q hq)⟩ hb
-- stack and arithmetic
theorem j_dupI {z : Int} (hd : j_D y pc .dup 1 pc') (k : j_J G y d B S pc' ls (ji_ z :: ji_ z :: st) σ Q) : j_J G y d B S pc ls (ji_ z :: st) σ Q :=
  j_pure (fun p e R s m args below meth c H locs cells slots Qf la C hH hl w => by obtain ⟨hd, rfl⟩ := hd; exact lv_dup C.1 C.2.1 hd rfl w) k
theorem j_dupR {a : Nat} (hd : j_D y pc .dup 1 pc') (k : j_J G y d B S pc' ls (jr_ a :: jr_ a :: st) σ Q) : j_J G y d B S pc ls (jr_ a :: st) σ Q :=
  j_pure (fun p e R s m args below meth c H locs cells slots Qf la C hH hl w => by obtain ⟨hd, rfl⟩ := hd; exact lv_dup C.1 C.2.1 hd rfl w) k
theorem j_popI {z : Int} (hd : j_D y pc .pop 1 pc') (k : j_J G y d B S pc' ls (st) σ Q) : j_J G y d B S pc ls (ji_ z :: st) σ Q :=
  j_pure (fun p e R s m args below meth c H locs cells slots Qf la C hH hl w => by obtain ⟨hd, rfl⟩ := hd; exact lv_pop C.1 C.2.1 hd rfl w) k
theorem j_popR {r : Option Nat} (hd : j_D y pc .pop 1 pc') (k : j_J G y d B S pc' ls (st) σ Q) : j_J G y d B S pc ls (jq_ r :: st) σ Q :=
  j_pure (fun p e R s m args below meth c H locs cells slots Qf la C hH hl w => by obtain ⟨hd, rfl⟩ := hd; cases r <;> exact lv_pop C.1 C.2.1 hd rfl w) k
theorem j_dup_x1IR {z : Int} {a : Nat} (hd : j_D y pc .dup_x1 1 pc') (k : j_J G y d B S pc' ls (ji_ z :: jr_ a :: ji_ z :: st) σ Q) : j_J G y d B S pc ls (ji_ z :: jr_ a :: st) σ Q :=
  j_pure (fun p e R s m args below meth c H locs cells slots Qf la C hH hl w => by obtain ⟨hd, rfl⟩ := hd; exact lv_dup_x1 C.1 C.2.1 hd rfl rfl w) k
theorem j_dup_x1RR {a2 a : Nat} (hd : j_D y pc .dup_x1 1 pc') (k : j_J G y d B S pc' ls (jr_ a2 :: jr_ a :: jr_ a2 :: st) σ Q) : j_J G y d B S pc ls (jr_ a2 :: jr_ a :: st) σ Q :=
  j_pure (fun p e R s m args below meth c H locs cells slots Qf la C hH hl w => by obtain ⟨hd, rfl⟩ := hd; exact lv_dup_x1 C.1 C.2.1 hd rfl rfl w) k
theorem j_iadd {x z : Int} (hd : j_D y pc .iadd 1 pc') (k : j_J G y d B S pc' ls (ji_ (x + z) :: st) σ Q) : j_J G y d B S pc ls (ji_ z :: ji_ x :: st) σ Q :=
  j_pure (fun p e R s m args below meth c H locs cells slots Qf la C hH hl w => by obtain ⟨hd, rfl⟩ := hd; exact lv_iadd C.1 C.2.1 hd (by rw [← Int32.ofInt_add]; exact w)) k
theorem j_isub {x z : Int} (hd : j_D y pc .isub 1 pc') (k : j_J G y d B S pc' ls (ji_ (x - z) :: st) σ Q) : j_J G y d B S pc ls (ji_ z :: ji_ x :: st) σ Q :=
  j_pure (fun p e R s m args below meth c H locs cells slots Qf la C hH hl w => by obtain ⟨hd, rfl⟩ := hd; exact lv_isub C.1 C.2.1 hd (by rw [← Int32.ofInt_sub]; exact w)) k
theorem j_imul {x z : Int} (hd : j_D y pc .imul 1 pc') (k : j_J G y d B S pc' ls (ji_ (x * z) :: st) σ Q) : j_J G y d B S pc ls (ji_ z :: ji_ x :: st) σ Q :=
  j_pure (fun p e R s m args below meth c H locs cells slots Qf la C hH hl w => by obtain ⟨hd, rfl⟩ := hd; exact lv_imul C.1 C.2.1 hd (by rw [← Int32.ofInt_mul]; exact w)) k
theorem j_ineg {x : Int} (hd : j_D y pc .ineg 1 pc') (k : j_J G y d B S pc' ls (ji_ (-x) :: st) σ Q) : j_J G y d B S pc ls (ji_ x :: st) σ Q :=
  j_pure (fun p e R s m args below meth c H locs cells slots Qf la C hH hl w => by obtain ⟨hd, rfl⟩ := hd; exact lv_ineg C.1 C.2.1 hd (by rw [← Int32.ofInt_neg]; exact w)) k
theorem j_idivE {x z : Int} (hx : -2147483648 ≤ x ∧ x ≤ 2147483647) (hz : -2147483648 ≤ z ∧ z ≤ 2147483647) : Int32.ofInt x / Int32.ofInt z = Int32.ofInt (x.tdiv z) := (Int32.ofInt_tdiv hx.1 hx.2 hz.1 hz.2).symm
theorem j_idiv {x z : Int} (hd : j_D y pc .idiv 1 pc') (hx : -2147483648 ≤ x ∧ x ≤ 2147483647) (hz : -2147483648 ≤ z ∧ z ≤ 2147483647) (h0 : z ≠ 0) (k : j_J G y d B S pc' ls (ji_ (x.tdiv z) :: st) σ Q) : j_J G y d B S pc ls (ji_ z :: ji_ x :: st) σ Q :=
  j_pure (fun p e R s m args below meth c H locs cells slots Qf la C hH hl w => by
    obtain ⟨hd, rfl⟩ := hd
    exact lv_idiv C.1 C.2.1 hd (fun q => h0 ((j_eqI hz (by omega)).mp q)) (by rw [j_idivE hx hz]; exact w)) k
theorem j_irem {x z : Int} (hd : j_D y pc .irem 1 pc') (hx : -2147483648 ≤ x ∧ x ≤ 2147483647) (hz : -2147483648 ≤ z ∧ z ≤ 2147483647) (h0 : z ≠ 0) (k : j_J G y d B S pc' ls (ji_ (x.tmod z) :: st) σ Q) : j_J G y d B S pc ls (ji_ z :: ji_ x :: st) σ Q :=
  j_pure (fun p e R s m args below meth c H locs cells slots Qf la C hH hl w => by
    obtain ⟨hd, rfl⟩ := hd
    refine lv_irem C.1 C.2.1 hd (fun q => h0 ((j_eqI hz (by omega)).mp q)) ?_
    rw [j_idivE hx hz, ← Int32.ofInt_mul, ← Int32.ofInt_sub, show x - x.tdiv z * z = x.tmod z by rw [Int.tmod_def, Int.mul_comm]]
    exact w) k
theorem j_andE (z : Int) {m : Int32} (n : Nat) (hm : m.toBitVec.toNat = 2 ^ n - 1) (hn : n ≤ 31) : Int32.ofInt z &&& m = Int32.ofInt (z % 2 ^ n) := by
  rw [pk_and _ n hm]
  have h1 : (Int32.ofInt z).toBitVec.toNat = (z % 4294967296).toNat := by
    rw [Int32.toBitVec_ofInt, BitVec.toNat_ofInt]; rfl
  rw [h1]
  have hp : (0 : Int) < 2 ^ n := Int.pow_pos (by decide)
  have h2 : (((z % 4294967296).toNat % 2 ^ n : Nat) : Int) = z % 2 ^ n := by
    have h3 : 0 ≤ z % 4294967296 := Int.emod_nonneg _ (by decide)
    rw [Int.natCast_emod, Int.toNat_of_nonneg h3]
    have h4 : ((2 ^ n : Nat) : Int) = 2 ^ n := by simp
    rw [h4]
    refine Int.emod_emod_of_dvd z ?_
    have h5 : (4294967296 : Int) = 2 ^ n * 2 ^ (32 - n) := by
      rw [← Int.pow_add, show n + (32 - n) = 32 by omega]; decide
    rw [h5]
    exact Int.dvd_mul_right ..
  show Int32.ofNat _ = _
  rw [← Int32.ofInt_eq_ofNat, h2]
theorem j_iandM {x z : Int} (n : Nat) (hd : j_D y pc .iand 1 pc') (hm : (Int32.ofInt z).toBitVec.toNat = 2 ^ n - 1) (hn : n ≤ 31) (k : j_J G y d B S pc' ls (ji_ (x % 2 ^ n) :: st) σ Q) : j_J G y d B S pc ls (ji_ z :: ji_ x :: st) σ Q :=
  j_pure (fun p e R s m args below meth c H locs cells slots Qf la C hH hl w => by obtain ⟨hd, rfl⟩ := hd; exact lv_iand C.1 C.2.1 hd (by rw [j_andE x n hm hn]; exact w)) k
/-- a truth value as a number -/
def j_bz (c : Bool) : Int := if c = true then 1 else 0
theorem j_iandB {x z : Bool} (hd : j_D y pc .iand 1 pc') (k : j_J G y d B S pc' ls (ji_ (j_bz (x && z)) :: st) σ Q) : j_J G y d B S pc ls (ji_ (j_bz z) :: ji_ (j_bz x) :: st) σ Q :=
  j_pure (fun p e R s m args below meth c H locs cells slots Qf la C hH hl w => by obtain ⟨hd, rfl⟩ := hd; exact lv_iand C.1 C.2.1 hd (by rw [show Int32.ofInt (j_bz x) &&& Int32.ofInt (j_bz z) = Int32.ofInt (j_bz (x && z)) by cases x <;> cases z <;> decide]; exact w)) k
theorem j_iorB {x z : Bool} (hd : j_D y pc .ior 1 pc') (k : j_J G y d B S pc' ls (ji_ (j_bz (x || z)) :: st) σ Q) : j_J G y d B S pc ls (ji_ (j_bz z) :: ji_ (j_bz x) :: st) σ Q :=
  j_pure (fun p e R s m args below meth c H locs cells slots Qf la C hH hl w => by obtain ⟨hd, rfl⟩ := hd; exact lv_ior C.1 C.2.1 hd (by rw [show Int32.ofInt (j_bz x) ||| Int32.ofInt (j_bz z) = Int32.ofInt (j_bz (x || z)) by cases x <;> cases z <;> decide]; exact w)) k
theorem j_i2b {x : Int} (hd : j_D y pc .i2b 1 pc') (k : j_J G y d B S pc' ls (ji_ (x.bmod 256) :: st) σ Q) : j_J G y d B S pc ls (ji_ x :: st) σ Q :=
  j_pure (fun p e R s m args below meth c H locs cells slots Qf la C hH hl w => by
    obtain ⟨hd, rfl⟩ := hd
    refine lv_i2b (v := Int32.ofInt (x.bmod 256)) C.1 C.2.1 hd ?_ w
    rw [Int32.toInt8_ofInt, ← Int32.ofInt_int8ToInt, Int8.toInt_ofInt]) k
theorem j_i2l {x : Int} (hd : j_D y pc .i2l 1 pc') (k : j_J G y d B S pc' ls (jl_ (Int32.ofInt x).toInt64 :: st) σ Q) : j_J G y d B S pc ls (ji_ x :: st) σ Q :=
  j_pure (fun p e R s m args below meth c H locs cells slots Qf la C hH hl w => by obtain ⟨hd, rfl⟩ := hd; exact lv_i2l C.1 C.2.1 hd rfl w) k
theorem j_l2i {x : Int64} (hd : j_D y pc .l2i 1 pc') (k : j_J G y d B S pc' ls (ji_ x.toInt32.toInt :: st) σ Q) : j_J G y d B S pc ls (jl_ x :: st) σ Q :=
  j_pure (fun p e R s m args below meth c H locs cells slots Qf la C hH hl w => by obtain ⟨hd, rfl⟩ := hd; exact lv_l2i C.1 C.2.1 hd (Int32.ofInt_toInt _).symm w) k
theorem j_lshr {x : Int64} {z : Int} (hd : j_D y pc .lshr 1 pc') (k : j_J G y d B S pc' ls (jl_ (x >>> ((Int32.ofInt z).toInt64 &&& 63)) :: st) σ Q) : j_J G y d B S pc ls (ji_ z :: jl_ x :: st) σ Q :=
  j_pure (fun p e R s m args below meth c H locs cells slots Qf la C hH hl w => by obtain ⟨hd, rfl⟩ := hd; exact lv_lshr C.1 C.2.1 hd rfl w) k
theorem j_lshl {x : Int64} {z : Int} (hd : j_D y pc .lshl 1 pc') (k : j_J G y d B S pc' ls (jl_ (x <<< ((Int32.ofInt z).toInt64 &&& 63)) :: st) σ Q) : j_J G y d B S pc ls (ji_ z :: jl_ x :: st) σ Q :=
  j_pure (fun p e R s m args below meth c H locs cells slots Qf la C hH hl w => by obtain ⟨hd, rfl⟩ := hd; exact lv_lshl C.1 C.2.1 hd rfl w) k
theorem j_land {x z : Int64} (hd : j_D y pc .land 1 pc') (k : j_J G y d B S pc' ls (jl_ (x &&& z) :: st) σ Q) : j_J G y d B S pc ls (jl_ z :: jl_ x :: st) σ Q :=
  j_pure (fun p e R s m args below meth c H locs cells slots Qf la C hH hl w => by obtain ⟨hd, rfl⟩ := hd; exact lv_land C.1 C.2.1 hd w) k
theorem j_lor {x z : Int64} (hd : j_D y pc .lor 1 pc') (k : j_J G y d B S pc' ls (jl_ (x ||| z) :: st) σ Q) : j_J G y d B S pc ls (jl_ z :: jl_ x :: st) σ Q :=
  j_pure (fun p e R s m args below meth c H locs cells slots Qf la C hH hl w => by obtain ⟨hd, rfl⟩ := hd; exact lv_lor C.1 C.2.1 hd w) k
theorem j_ishr1 {x : Int} (hd : j_D y pc .ishr 1 pc') (hx : 0 ≤ x ∧ x ≤ 2147483647) (k : j_J G y d B S pc' ls (ji_ (x / 2) :: st) σ Q) : j_J G y d B S pc ls (ji_ 1 :: ji_ x :: st) σ Q :=
  j_pure (fun p e R s m args below meth c H locs cells slots Qf la C hH hl w => by
    obtain ⟨hd, rfl⟩ := hd
    refine lv_ishr C.1 C.2.1 hd ?_
    have h0 : Int32.ofInt x >>> (Int32.ofInt 1 &&& 31) = Int32.ofInt (x / 2) := by
      obtain ⟨n, rfl⟩ := Int.eq_ofNat_of_zero_le hx.1
      have h1 := pk_shrN (n := n) (by omega) (Int32.ofInt 1 &&& 31) 1 (by decide)
      rw [show ((n : Int) / 2) = ((n / 2 : Nat) : Int) by simp, Int32.ofInt_eq_ofNat, Int32.ofInt_eq_ofNat]
      exact h1
    rw [h0]
    exact w) k
-- branches
theorem j_goto {off : Int} (hd : j_E y pc .goto off pc' tgt) (k : j_J G y d B S tgt ls st σ Q) : j_J G y d B S pc ls st σ Q :=
  j_pure (fun p e R s m args below meth c H locs cells slots Qf la C hH hl w => by obtain ⟨hd, h1, h2⟩ := hd; exact lv_goto C.1 C.2.1 hd h2 w) k
/-- two ways on -/
theorem j_fork {st' : List j_V} {c1 c2 : Prop} (h : ∀ (p : Program) (e : Env) (R : Room) (s : State) (m : MethodId) (args : Array Value) (below : List Frame) (meth : Method) (c : Code) (H : Heap) (locs : List Loc) (cells slots : Nat) (Qf : State → Prop) (la : Array Slot), j_Cx G y p s m meth c →
      (c1 → W p (j_l G) e R s m args below meth c H locs cells slots Qf (F0 m tgt la (st'.map (j_val (j_b G))))) → (c2 → W p (j_l G) e R s m args below meth c H locs cells slots Qf (F0 m pc' la (st'.map (j_val (j_b G))))) → W p (j_l G) e R s m args below meth c H locs cells slots Qf (F0 m pc la (st.map (j_val (j_b G)))))
    (k1 : c1 → j_J G y d B S tgt ls st' σ Q) (k2 : c2 → j_J G y d B S pc' ls st' σ Q) : j_J G y d B S pc ls st σ Q := fun p e R s m args below meth c H locs cells slots mc ms la C h1 h2 h3 h4 h5 h6 hH hL hl hb =>
  h p e R s m args below meth c H locs cells slots _ la C (fun q => k1 q p e R s m args below meth c H locs cells slots mc ms la C h1 h2 h3 h4 h5 h6 hH hL hl hb) (fun q => k2 q p e R s m args below meth c H locs cells slots mc ms la C h1 h2 h3 h4 h5 h6 hH hL hl hb)
theorem j_icmp_eq {x z : Int} {off : Int} (hd : j_E y pc (.if_icmp .eq) off pc' tgt) (hx : -2147483648 ≤ x ∧ x ≤ 2147483647) (hz : -2147483648 ≤ z ∧ z ≤ 2147483647) (k1 : x = z → j_J G y d B S tgt ls st σ Q) (k2 : x ≠ z → j_J G y d B S pc' ls st σ Q) : j_J G y d B S pc ls (ji_ z :: ji_ x :: st) σ Q :=
  j_fork (fun p e R s m args below meth c H locs cells slots Qf la C w1 w2 => by
    obtain ⟨hd, rfl, h2⟩ := hd
    have he := j_eqI hx hz
    have hl := j_ltI hx hz
    have hg := j_ltI hz hx
    have hle := j_leI hx hz
    have hge := j_leI hz hx
    refine lv_icmp_eq C.1 C.2.1 hd h2 (fun q => w1 ?_) (fun q => w2 ?_)
    all_goals (simp only [he, hl, hg, hle, hge] at q; omega)) k1 k2
theorem j_if_eq {x : Int} {off : Int} (hd : j_E y pc (.ifCond .eq) off pc' tgt) (hx : -2147483648 ≤ x ∧ x ≤ 2147483647) (k1 : x = 0 → j_J G y d B S tgt ls st σ Q) (k2 : x ≠ 0 → j_J G y d B S pc' ls st σ Q) : j_J G y d B S pc ls (ji_ x :: st) σ Q :=
  j_fork (fun p e R s m args below meth c H locs cells slots Qf la C w1 w2 => by
    obtain ⟨hd, rfl, h2⟩ := hd
    have he : Int32.ofInt x = (0 : Int32) ↔ x = 0 := j_eqI hx (by omega : (-2147483648 : Int) ≤ 0 ∧ (0 : Int) ≤ 2147483647)
    have hl : Int32.ofInt x < (0 : Int32) ↔ x < 0 := j_ltI hx (by omega : (-2147483648 : Int) ≤ 0 ∧ (0 : Int) ≤ 2147483647)
    have hg : (0 : Int32) < Int32.ofInt x ↔ 0 < x := j_ltI (by omega : (-2147483648 : Int) ≤ 0 ∧ (0 : Int) ≤ 2147483647) hx
    have hle : Int32.ofInt x ≤ (0 : Int32) ↔ x ≤ 0 := j_leI hx (by omega : (-2147483648 : Int) ≤ 0 ∧ (0 : Int) ≤ 2147483647)
    have hge : (0 : Int32) ≤ Int32.ofInt x ↔ 0 ≤ x := j_leI (by omega : (-2147483648 : Int) ≤ 0 ∧ (0 : Int) ≤ 2147483647) hx
    refine lv_if_eq C.1 C.2.1 hd h2 (fun q => w1 ?_) (fun q => w2 ?_)
    all_goals (simp only [he, hl, hg, hle, hge] at q; omega)) k1 k2
theorem j_icmp_ne {x z : Int} {off : Int} (hd : j_E y pc (.if_icmp .ne) off pc' tgt) (hx : -2147483648 ≤ x ∧ x ≤ 2147483647) (hz : -2147483648 ≤ z ∧ z ≤ 2147483647) (k1 : x ≠ z → j_J G y d B S tgt ls st σ Q) (k2 : x = z → j_J G y d B S pc' ls st σ Q) : j_J G y d B S pc ls (ji_ z :: ji_ x :: st) σ Q :=
  j_fork (fun p e R s m args below meth c H locs cells slots Qf la C w1 w2 => by
    obtain ⟨hd, rfl, h2⟩ := hd
    have he := j_eqI hx hz
    have hl := j_ltI hx hz
    have hg := j_ltI hz hx
    have hle := j_leI hx hz
    have hge := j_leI hz hx
    refine lv_icmp_ne C.1 C.2.1 hd h2 (fun q => w1 ?_) (fun q => w2 ?_)
    all_goals (simp only [he, hl, hg, hle, hge] at q; omega)) k1 k2
theorem j_if_ne {x : Int} {off : Int} (hd : j_E y pc (.ifCond .ne) off pc' tgt) (hx : -2147483648 ≤ x ∧ x ≤ 2147483647) (k1 : x ≠ 0 → j_J G y d B S tgt ls st σ Q) (k2 : x = 0 → j_J G y d B S pc' ls st σ Q) : j_J G y d B S pc ls (ji_ x :: st) σ Q :=
  j_fork (fun p e R s m args below meth c H locs cells slots Qf la C w1 w2 => by
    obtain ⟨hd, rfl, h2⟩ := hd
    have he : Int32.ofInt x = (0 : Int32) ↔ x = 0 := j_eqI hx (by omega : (-2147483648 : Int) ≤ 0 ∧ (0 : Int) ≤ 2147483647)
    have hl : Int32.ofInt x < (0 : Int32) ↔ x < 0 := j_ltI hx (by omega : (-2147483648 : Int) ≤ 0 ∧ (0 : Int) ≤ 2147483647)
    have hg : (0 : Int32) < Int32.ofInt x ↔ 0 < x := j_ltI (by omega : (-2147483648 : Int) ≤ 0 ∧ (0 : Int) ≤ 2147483647) hx
    have hle : Int32.ofInt x ≤ (0 : Int32) ↔ x ≤ 0 := j_leI hx (by omega : (-2147483648 : Int) ≤ 0 ∧ (0 : Int) ≤ 2147483647)
    have hge : (0 : Int32) ≤ Int32.ofInt x ↔ 0 ≤ x := j_leI (by omega : (-2147483648 : Int) ≤ 0 ∧ (0 : Int) ≤ 2147483647) hx
    refine lv_if_ne C.1 C.2.1 hd h2 (fun q => w1 ?_) (fun q => w2 ?_)
    all_goals (simp only [he, hl, hg, hle, hge] at q; omega)) k1 k2
theorem j_icmp_lt {x z : Int} {off : Int} (hd : j_E y pc (.if_icmp .lt) off pc' tgt) (hx : -2147483648 ≤ x ∧ x ≤ 2147483647) (hz : -2147483648 ≤ z ∧ z ≤ 2147483647) (k1 : x < z → j_J G y d B S tgt ls st σ Q) (k2 : z ≤ x → j_J G y d B S pc' ls st σ Q) : j_J G y d B S pc ls (ji_ z :: ji_ x :: st) σ Q :=
  j_fork (fun p e R s m args below meth c H locs cells slots Qf la C w1 w2 => by
    obtain ⟨hd, rfl, h2⟩ := hd
    have he := j_eqI hx hz
    have hl := j_ltI hx hz
    have hg := j_ltI hz hx
    have hle := j_leI hx hz
    have hge := j_leI hz hx
    refine lv_icmp_lt C.1 C.2.1 hd h2 (fun q => w1 ?_) (fun q => w2 ?_)
    all_goals (simp only [he, hl, hg, hle, hge] at q; omega)) k1 k2
theorem j_if_lt {x : Int} {off : Int} (hd : j_E y pc (.ifCond .lt) off pc' tgt) (hx : -2147483648 ≤ x ∧ x ≤ 2147483647) (k1 : x < 0 → j_J G y d B S tgt ls st σ Q) (k2 : 0 ≤ x → j_J G y d B S pc' ls st σ Q) : j_J G y d B S pc ls (ji_ x :: st) σ Q :=
  j_fork (fun p e R s m args below meth c H locs cells slots Qf la C w1 w2 => by
    obtain ⟨hd, rfl, h2⟩ := hd
    have he : Int32.ofInt x = (0 : Int32) ↔ x = 0 := j_eqI hx (by omega : (-2147483648 : Int) ≤ 0 ∧ (0 : Int) ≤ 2147483647)
    have hl : Int32.ofInt x < (0 : Int32) ↔ x < 0 := j_ltI hx (by omega : (-2147483648 : Int) ≤ 0 ∧ (0 : Int) ≤ 2147483647)
    have hg : (0 : Int32) < Int32.ofInt x ↔ 0 < x := j_ltI (by omega : (-2147483648 : Int) ≤ 0 ∧ (0 : Int) ≤ 2147483647) hx
    have hle : Int32.ofInt x ≤ (0 : Int32) ↔ x ≤ 0 := j_leI hx (by omega : (-2147483648 : Int) ≤ 0 ∧ (0 : Int) ≤ 2147483647)
    have hge : (0 : Int32) ≤ Int32.ofInt x ↔ 0 ≤ x := j_leI (by omega : (-2147483648 : Int) ≤ 0 ∧ (0 : Int) ≤ 2147483647) hx
    refine lv_if_lt C.1 C.2.1 hd h2 (fun q => w1 ?_) (fun q => w2 ?_)
    all_goals (simp only [he, hl, hg, hle, hge] at q; omega)) k1 k2
theorem j_icmp_ge {x z : Int} {off : Int} (hd : j_E y pc (.if_icmp .ge) off pc' tgt) (hx : -2147483648 ≤ x ∧ x ≤ 2147483647) (hz : -2147483648 ≤ z ∧ z ≤ 2147483647) (k1 : z ≤ x → j_J G y d B S tgt ls st σ Q) (k2 : x < z → j_J G y d B S pc' ls st σ Q) : j_J G y d B S pc ls (ji_ z :: ji_ x :: st) σ Q :=
  j_fork (fun p e R s m args below meth c H locs cells slots Qf la C w1 w2 => by
    obtain ⟨hd, rfl, h2⟩ := hd
    have he := j_eqI hx hz
    have hl := j_ltI hx hz
    have hg := j_ltI hz hx
    have hle := j_leI hx hz
    have hge := j_leI hz hx
    refine lv_icmp_ge C.1 C.2.1 hd h2 (fun q => w1 ?_) (fun q => w2 ?_)
    all_goals (simp only [he, hl, hg, hle, hge] at q; omega)) k1 k2
theorem j_if_ge {x : Int} {off : Int} (hd : j_E y pc (.ifCond .ge) off pc' tgt) (hx : -2147483648 ≤ x ∧ x ≤ 2147483647) (k1 : 0 ≤ x → j_J G y d B S tgt ls st σ Q) (k2 : x < 0 → j_J G y d B S pc' ls st σ Q) : j_J G y d B S pc ls (ji_ x :: st) σ Q :=
  j_fork (fun p e R s m args below meth c H locs cells slots Qf la C w1 w2 => by
    obtain ⟨hd, rfl, h2⟩ := hd
    have he : Int32.ofInt x = (0 : Int32) ↔ x = 0 := j_eqI hx (by omega : (-2147483648 : Int) ≤ 0 ∧ (0 : Int) ≤ 2147483647)
    have hl : Int32.ofInt x < (0 : Int32) ↔ x < 0 := j_ltI hx (by omega : (-2147483648 : Int) ≤ 0 ∧ (0 : Int) ≤ 2147483647)
    have hg : (0 : Int32) < Int32.ofInt x ↔ 0 < x := j_ltI (by omega : (-2147483648 : Int) ≤ 0 ∧ (0 : Int) ≤ 2147483647) hx
    have hle : Int32.ofInt x ≤ (0 : Int32) ↔ x ≤ 0 := j_leI hx (by omega : (-2147483648 : Int) ≤ 0 ∧ (0 : Int) ≤ 2147483647)
    have hge : (0 : Int32) ≤ Int32.ofInt x ↔ 0 ≤ x := j_leI (by omega : (-2147483648 : Int) ≤ 0 ∧ (0 : Int) ≤ 2147483647) hx
    refine lv_if_ge C.1 C.2.1 hd h2 (fun q => w1 ?_) (fun q => w2 ?_)
    all_goals (simp only [he, hl, hg, hle, hge] at q; omega)) k1 k2
theorem j_icmp_gt {x z : Int} {off : Int} (hd : j_E y pc (.if_icmp .gt) off pc' tgt) (hx : -2147483648 ≤ x ∧ x ≤ 2147483647) (hz : -2147483648 ≤ z ∧ z ≤ 2147483647) (k1 : z < x → j_J G y d B S tgt ls st σ Q) (k2 : x ≤ z → j_J G y d B S pc' ls st σ Q) : j_J G y d B S pc ls (ji_ z :: ji_ x :: st) σ Q :=
  j_fork (fun p e R s m args below meth c H locs cells slots Qf la C w1 w2 => by
    obtain ⟨hd, rfl, h2⟩ := hd
    have he := j_eqI hx hz
    have hl := j_ltI hx hz
    have hg := j_ltI hz hx
    have hle := j_leI hx hz
    have hge := j_leI hz hx
    refine lv_icmp_gt C.1 C.2.1 hd h2 (fun q => w1 ?_) (fun q => w2 ?_)
    all_goals (simp only [he, hl, hg, hle, hge] at q; omega)) k1 k2
theorem j_if_gt {x : Int} {off : Int} (hd : j_E y pc (.ifCond .gt) off pc' tgt) (hx : -2147483648 ≤ x ∧ x ≤ 2147483647) (k1 : 0 < x → j_J G y d B S tgt ls st σ Q) (k2 : x ≤ 0 → j_J G y d B S pc' ls st σ Q) : j_J G y d B S pc ls (ji_ x :: st) σ Q :=
  j_fork (fun p e R s m args below meth c H locs cells slots Qf la C w1 w2 => by
    obtain ⟨hd, rfl, h2⟩ := hd
    have he : Int32.ofInt x = (0 : Int32) ↔ x = 0 := j_eqI hx (by omega : (-2147483648 : Int) ≤ 0 ∧ (0 : Int) ≤ 2147483647)
    have hl : Int32.ofInt x < (0 : Int32) ↔ x < 0 := j_ltI hx (by omega : (-2147483648 : Int) ≤ 0 ∧ (0 : Int) ≤ 2147483647)
    have hg : (0 : Int32) < Int32.ofInt x ↔ 0 < x := j_ltI (by omega : (-2147483648 : Int) ≤ 0 ∧ (0 : Int) ≤ 2147483647) hx
    have hle : Int32.ofInt x ≤ (0 : Int32) ↔ x ≤ 0 := j_leI hx (by omega : (-2147483648 : Int) ≤ 0 ∧ (0 : Int) ≤ 2147483647)
    have hge : (0 : Int32) ≤ Int32.ofInt x ↔ 0 ≤ x := j_leI (by omega : (-2147483648 : Int) ≤ 0 ∧ (0 : Int) ≤ 2147483647) hx
    refine lv_if_gt C.1 C.2.1 hd h2 (fun q => w1 ?_) (fun q => w2 ?_)
    all_goals (simp only [he, hl, hg, hle, hge] at q; omega)) k1 k2
theorem j_icmp_le {x z : Int} {off : Int} (hd : j_E y pc (.if_icmp .le) off pc' tgt) (hx : -2147483648 ≤ x ∧ x ≤ 2147483647) (hz : -2147483648 ≤ z ∧ z ≤ 2147483647) (k1 : x ≤ z → j_J G y d B S tgt ls st σ Q) (k2 : z < x → j_J G y d B S pc' ls st σ Q) : j_J G y d B S pc ls (ji_ z :: ji_ x :: st) σ Q :=
  j_fork (fun p e R s m args below meth c H locs cells slots Qf la C w1 w2 => by
    obtain ⟨hd, rfl, h2⟩ := hd
    have he := j_eqI hx hz
    have hl := j_ltI hx hz
    have hg := j_ltI hz hx
    have hle := j_leI hx hz
    have hge := j_leI hz hx
    refine lv_icmp_le C.1 C.2.1 hd h2 (fun q => w1 ?_) (fun q => w2 ?_)
    all_goals (simp only [he, hl, hg, hle, hge] at q; omega)) k1 k2
theorem j_if_le {x : Int} {off : Int} (hd : j_E y pc (.ifCond .le) off pc' tgt) (hx : -2147483648 ≤ x ∧ x ≤ 2147483647) (k1 : x ≤ 0 → j_J G y d B S tgt ls st σ Q) (k2 : 0 < x → j_J G y d B S pc' ls st σ Q) : j_J G y d B S pc ls (ji_ x :: st) σ Q :=
  j_fork (fun p e R s m args below meth c H locs cells slots Qf la C w1 w2 => by
    obtain ⟨hd, rfl, h2⟩ := hd
    have he : Int32.ofInt x = (0 : Int32) ↔ x = 0 := j_eqI hx (by omega : (-2147483648 : Int) ≤ 0 ∧ (0 : Int) ≤ 2147483647)
    have hl : Int32.ofInt x < (0 : Int32) ↔ x < 0 := j_ltI hx (by omega : (-2147483648 : Int) ≤ 0 ∧ (0 : Int) ≤ 2147483647)
    have hg : (0 : Int32) < Int32.ofInt x ↔ 0 < x := j_ltI (by omega : (-2147483648 : Int) ≤ 0 ∧ (0 : Int) ≤ 2147483647) hx
    have hle : Int32.ofInt x ≤ (0 : Int32) ↔ x ≤ 0 := j_leI hx (by omega : (-2147483648 : Int) ≤ 0 ∧ (0 : Int) ≤ 2147483647)
    have hge : (0 : Int32) ≤ Int32.ofInt x ↔ 0 ≤ x := j_leI (by omega : (-2147483648 : Int) ≤ 0 ∧ (0 : Int) ≤ 2147483647) hx
    refine lv_if_le C.1 C.2.1 hd h2 (fun q => w1 ?_) (fun q => w2 ?_)
    all_goals (simp only [he, hl, hg, hle, hge] at q; omega)) k1 k2
-- ends
theorem j_iretW {p : Program} {l : Launch} {e : Env} {R : Room} {s : State} {m : MethodId} {args : Array Value} {below : List Frame} {meth : Method} {c : Code} {H : Heap} {locs : List Loc} {mc ms : Nat} {cc : ByteArray} {v : Int32} {ty : FieldType} {la : Array Slot} {pc0 : Nat} (hexec : p.tables.exec = Jvm.exec) (hb : c.code = cc) (hr : meth.sig.returnType = some ty) (hn : narrow ty (.int v) = .int v) (hlocks : meth.locks = false)
    (hq : ∀ t : State, t.heap = H → s.WarmedH t.vm → s.sameButNew ({ t with vm := s.vm } : State) locs mc ms → j_End G Q s mc ms (.returned (some (.int v))) t) (hdg : decode cc pc0 = .ok (.ireturn, 1)) : W p l e R s m args below meth c H locs mc ms (j_XQ G below Q s mc ms) (F0 m pc0 la [.int v]) := by
  intro T hT X
  obtain ⟨fs, hret, hrun, hended, hW, hframe⟩ := X.leave (v := some (.int v)) (fun h => by rw [hr] at h; cases h)
  have hmeth' : T.vm.method? m = some meth := X.method'
  refine ⟨T.setFrames fs, ?_, .returned (some (.int v)), hrun, hended, hq _ hT hW hframe⟩
  jvm_step X.here [X.here.top, hexec, hb, hdg, hmeth', hr, hn]
  (try refine ⟨rfl, ?_⟩); (try refine ⟨rfl, ?_⟩)
  first | (intro acts; rw [hret _ acts rfl rfl rfl]) | rw [hret _ _ rfl rfl rfl]
  exact Steps.refl _
theorem j_vretW {p : Program} {l : Launch} {e : Env} {R : Room} {s : State} {m : MethodId} {args : Array Value} {below : List Frame} {meth : Method} {c : Code} {H : Heap} {locs : List Loc} {mc ms : Nat} {cc : ByteArray} {la : Array Slot} {pc0 : Nat} (hexec : p.tables.exec = Jvm.exec) (hb : c.code = cc) (hr : meth.sig.returnType = none) (hlocks : meth.locks = false)
    (hq : ∀ t : State, t.heap = H → s.WarmedH t.vm → s.sameButNew ({ t with vm := s.vm } : State) locs mc ms → j_End G Q s mc ms (.returned none) t) (hdg : decode cc pc0 = .ok (.return_, 1)) : W p l e R s m args below meth c H locs mc ms (j_XQ G below Q s mc ms) (F0 m pc0 la []) := by
  intro T hT X
  obtain ⟨fs, hret, hrun, hended, hW, hframe⟩ := X.leave (v := none) (fun _ => rfl)
  have hmeth' : T.vm.method? m = some meth := X.method'
  refine ⟨T.setFrames fs, ?_, .returned none, hrun, hended, hq _ hT hW hframe⟩
  jvm_step X.here [X.here.top, hexec, hb, hdg, hmeth', hr]
  (try refine ⟨rfl, ?_⟩); (try refine ⟨rfl, ?_⟩)
  first | (intro acts; rw [hret _ acts rfl rfl rfl]) | rw [hret _ _ rfl rfl rfl]
  exact Steps.refl _
theorem j_aretW {p : Program} {l : Launch} {e : Env} {R : Room} {s : State} {m : MethodId} {args : Array Value} {below : List Frame} {meth : Method} {c : Code} {H : Heap} {locs : List Loc} {mc ms : Nat} {cc : ByteArray} {v : Value} {rt : FieldType} {la : Array Slot} {pc0 : Nat} (hexec : p.tables.exec = Jvm.exec) (hb : c.code = cc) (hr : meth.sig.returnType = some rt) (hrt : (∃ n, rt = .object n) ∨ ∃ t, rt = .array t) (hv : v = .null ∨ ∃ a, v = .ref a) (hlocks : meth.locks = false)
    (hq : ∀ t : State, t.heap = H → s.WarmedH t.vm → s.sameButNew ({ t with vm := s.vm } : State) locs mc ms → j_End G Q s mc ms (.returned (some v)) t) (hdg : decode cc pc0 = .ok (.areturn, 1)) : W p l e R s m args below meth c H locs mc ms (j_XQ G below Q s mc ms) (F0 m pc0 la [v]) := by
  intro T hT X
  obtain ⟨fs, hret, hrun, hended, hW, hframe⟩ := X.leave (v := some v) (fun h => by rw [hr] at h; cases h)
  have hmeth' : T.vm.method? m = some meth := X.method'
  refine ⟨T.setFrames fs, ?_, .returned (some v), hrun, hended, hq _ hT hW hframe⟩
  rcases hrt with ⟨n, rfl⟩ | ⟨t, rfl⟩ <;> rcases hv with rfl | ⟨a, rfl⟩ <;>
    (jvm_step X.here [X.here.top, hexec, hb, hdg, hmeth', hr]
     (try refine ⟨rfl, ?_⟩); (try refine ⟨rfl, ?_⟩)
     first | (intro acts; rw [hret _ acts rfl rfl rfl]) | rw [hret _ _ rfl rfl rfl]
     exact Steps.refl _)
theorem j_endOf {H : Heap} {s t : State} {mc ms : Nat} {locs : List Loc} {o' : j_O} (hq : Q o' σ) (hH : j_Hp G σ H) (hL : ∀ q ∈ locs, j_b G ≤ q.base) (ht : t.heap = H) (hW : s.WarmedH t.vm) (hs : s.sameButNew ({ t with vm := s.vm } : State) locs mc ms) : j_End G Q s mc ms (j_out (j_b G) o') t :=
  ⟨⟨o', σ, rfl, hq, by rw [ht]; exact hH⟩, hW, locs, hs, hL⟩
theorem j_ireturn {z : Int} (hd : j_D y pc .ireturn 1 pc') (hr : y.2.2.2 = some .int) (hq : Q (.inl (some (ji_ z))) σ) : j_J G y d B S pc ls [ji_ z] σ Q := by
  intro p e R s m args below meth c H locs cells slots mc ms la C h1 h2 h3 h4 h5 h6 hH hL hl hb
  refine W.widen (k := mc) (n := ms) (by omega) (by omega) ?_
  exact j_iretW C.1 C.2.1 (C.2.2.2.1.trans hr) rfl C.2.2.2.2.2.1 (fun t ht hW hs => j_endOf hq hH hL ht hW hs) hd.1
theorem j_zreturn {z : Bool} (hd : j_D y pc .ireturn 1 pc') (hr : y.2.2.2 = some .boolean) (hq : Q (.inl (some (ji_ (j_bz z)))) σ) : j_J G y d B S pc ls [ji_ (j_bz z)] σ Q := by
  intro p e R s m args below meth c H locs cells slots mc ms la C h1 h2 h3 h4 h5 h6 hH hL hl hb
  refine W.widen (k := mc) (n := ms) (by omega) (by omega) ?_
  exact j_iretW C.1 C.2.1 (C.2.2.2.1.trans hr) (by cases z <;> decide) C.2.2.2.2.2.1 (fun t ht hW hs => j_endOf hq hH hL ht hW hs) hd.1
theorem j_vreturn (hd : j_D y pc .return_ 1 pc') (hr : y.2.2.2 = none) (hq : Q (.inl none) σ) : j_J G y d B S pc ls [] σ Q := by
  intro p e R s m args below meth c H locs cells slots mc ms la C h1 h2 h3 h4 h5 h6 hH hL hl hb
  refine W.widen (k := mc) (n := ms) (by omega) (by omega) ?_
  exact j_vretW C.1 C.2.1 (C.2.2.2.1.trans hr) C.2.2.2.2.2.1 (fun t ht hW hs => j_endOf hq hH hL ht hW hs) hd.1
theorem j_areturn {r : Option Nat} {rt : FieldType} (hd : j_D y pc .areturn 1 pc') (hr : y.2.2.2 = some rt) (hrt : (∃ n, rt = .object n) ∨ ∃ t, rt = .array t) (hq : Q (.inl (some (jq_ r))) σ) : j_J G y d B S pc ls [jq_ r] σ Q := by
  intro p e R s m args below meth c H locs cells slots mc ms la C h1 h2 h3 h4 h5 h6 hH hL hl hb
  refine W.widen (k := mc) (n := ms) (by omega) (by omega) ?_
  exact j_aretW C.1 C.2.1 (C.2.2.2.1.trans hr) hrt (match r with | none => Or.inl rfl | some _ => Or.inr ⟨_, rfl⟩) C.2.2.2.2.2.1 (fun t ht hW hs => j_endOf hq hH hL ht hW hs) hd.1
end

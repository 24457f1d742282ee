/-! ===== J: rows in the form in which the segments are printed ===== -/
/-- ends of methods that make no cell and move no reference: an int, nothing, a reference -/
def j_pI (N : Nat) (K : Nat → Option (Nat × Nat)) (g : Nat → Int → Option Nat) (q : Int → (Nat → Int → Int) → Prop) : j_O → j_S → Prop := fun o σ => ∃ z M', o = .inl (some (ji_ z)) ∧ σ = (N, K, M', g) ∧ q z M'
def j_pV (N : Nat) (K : Nat → Option (Nat × Nat)) (g : Nat → Int → Option Nat) (q : (Nat → Int → Int) → Prop) : j_O → j_S → Prop := fun o σ => ∃ M', o = .inl none ∧ σ = (N, K, M', g) ∧ q M'
def j_pR (N : Nat) (K : Nat → Option (Nat × Nat)) (g : Nat → Int → Option Nat) (q : Nat → (Nat → Int → Int) → Prop) : j_O → j_S → Prop := fun o σ => ∃ r M', o = .inl (some (jr_ r)) ∧ σ = (N, K, M', g) ∧ q r M'
theorem j_bz01 (c : Bool) : j_bz c = 0 ∨ j_bz c = 1 := by cases c <;> simp [j_bz]
theorem j_bz_of {z : Int} (h : z = 0 ∨ z = 1) : ∃ c : Bool, z = j_bz c := by
  rcases h with rfl | rfl
  · exact ⟨false, rfl⟩
  · exact ⟨true, rfl⟩
theorem j_bz_rng (c : Bool) : -2147483648 ≤ j_bz c ∧ j_bz c ≤ 2147483647 := by cases c <;> simp [j_bz]
theorem j_bz_0 {c : Bool} : j_bz c = 0 ↔ c = false := by cases c <;> simp [j_bz]
theorem j_bz_1 {c : Bool} : j_bz c ≠ 0 ↔ c = true := by cases c <;> simp [j_bz]
theorem j_bz_t : j_bz true = 1 := rfl
theorem j_bz_f : j_bz false = 0 := rfl
section
variable {G : j_G} {y y' : j_Mt} {d B S pc pc' n N : Nat} {ls st as rest : List j_V} {K : Nat → Option (Nat × Nat)} {M : Nat → Int → Int} {g : Nat → Int → Option Nat} {σ : j_S} {Q : j_O → j_S → Prop}
theorem j_zreturn' {z : Int} (hd : j_D y pc .ireturn 1 pc') (hr : y.2.2.2 = some .boolean) (hz : z = 0 ∨ z = 1) (hq : Q (.inl (some (ji_ z))) σ) : j_J G y d B S pc ls [ji_ z] σ Q := by
  obtain ⟨c, rfl⟩ := j_bz_of hz
  exact j_zreturn hd hr hq
theorem j_putZ' {idx ci k a : Nat} {z w : Int} (hd : j_D y pc (.putfield idx) 3 pc') (hf : j_F y.1.cls idx ci k z false) (hw : j_Wr y ci k) (ht : j_ft ci k = .boolean) (hK : K a = some (0, ci)) (hz : w = 0 ∨ w = 1) (kk : j_J G y d B S pc' ls st (N, K, j_up M a z w, g) Q) : j_J G y d B S pc ls (ji_ w :: jr_ a :: st) (N, K, M, g) Q := by
  obtain ⟨c, rfl⟩ := j_bz_of hz
  exact j_putZ hd hf hw ht hK kk
theorem j_iandB' {x z : Int} {c1 c2 : Bool} (hd : j_D y pc .iand 1 pc') (h1 : x = j_bz c1) (h2 : z = j_bz c2) (k : j_J G y d B S pc' ls (ji_ (j_bz (c1 && c2)) :: st) σ Q) : j_J G y d B S pc ls (ji_ z :: ji_ x :: st) σ Q := by
  subst h1; subst h2
  exact j_iandB hd k
theorem j_iorB' {x z : Int} {c1 c2 : Bool} (hd : j_D y pc .ior 1 pc') (h1 : x = j_bz c1) (h2 : z = j_bz c2) (k : j_J G y d B S pc' ls (ji_ (j_bz (c1 || c2)) :: st) σ Q) : j_J G y d B S pc ls (ji_ z :: ji_ x :: st) σ Q := by
  subst h1; subst h2
  exact j_iorB hd k
theorem j_ldc {idx : Nat} (hd : j_D y pc (.ldc idx) 2 pc') (hw : Cond.constant y.1.cls idx 2147483639 ∈ lw_tbl) (k : j_J G y d B S pc' ls (ji_ 2147483639 :: st) σ Q) : j_J G y d B S pc ls st σ Q :=
  j_pure (fun p e R s m args below meth c H locs cells slots Qf la C hH hl w => by obtain ⟨hd, rfl⟩ := hd; exact lv_ldc C.1 C.2.1 C.2.2.2.2.1 (C.2.2.2.2.2.2.2.1.2.1 _ hw rfl args) hd w) k
theorem j_ldc2 {idx : Nat} (hd : j_D y pc (.ldc2_w idx) 3 pc') (hw : Cond.constantLong y.1.cls idx 4294967295 ∈ lw_tbl) (k : j_J G y d B S pc' ls (jl_ 4294967295 :: st) σ Q) : j_J G y d B S pc ls st σ Q :=
  j_pure (fun p e R s m args below meth c H locs cells slots Qf la C hH hl w => by obtain ⟨hd, rfl⟩ := hd; exact lv_ldc2 C.1 C.2.1 C.2.2.2.2.1 (C.2.2.2.2.2.2.2.1.2.1 _ hw rfl args) hd w) k
theorem j_z (h : j_J G y d (0 + B) (0 + S) pc ls st σ Q) : j_J G y d B S pc ls st σ Q := by rw [Nat.zero_add, Nat.zero_add] at h; exact h
theorem j_pI_no {q : Int → (Nat → Int → Int) → Prop} : ∀ x σ', ¬ j_pI N K g q (.inr x) σ' := fun x σ' ⟨_, _, h, _⟩ => by cases h
theorem j_pV_no {q : (Nat → Int → Int) → Prop} : ∀ x σ', ¬ j_pV N K g q (.inr x) σ' := fun x σ' ⟨_, h, _⟩ => by cases h
theorem j_pR_no {q : Nat → (Nat → Int → Int) → Prop} : ∀ x σ', ¬ j_pR N K g q (.inr x) σ' := fun x σ' ⟨_, _, h, _⟩ => by cases h
theorem j_aSI {idx : Nat} {q : Int → (Nat → Int → Int) → Prop} (hd : j_D y pc (.invokestatic idx) 3 pc') (hl0 : j_Ls y.1.cls idx y' n) (hn : as.length = n) (hr : rest.length ≤ 4) (hC : j_Ct G y' d 0 0 as (N, K, M, g) (j_pI N K g q)) (kk : ∀ z M', q z M' → j_J G y (d + 1) B S pc' ls (ji_ z :: rest) (N, K, M', g) Q) : j_J G y (d + 1) B S pc ls (as.reverse ++ rest) (N, K, M, g) Q :=
  j_z (j_callS hd hl0 hn hr hC j_pI_no fun v σ' ⟨z, M', h1, h2, h3⟩ => by cases h1; cases h2; exact kk z M' h3)
theorem j_aSV {idx : Nat} {q : (Nat → Int → Int) → Prop} (hd : j_D y pc (.invokestatic idx) 3 pc') (hl0 : j_Ls y.1.cls idx y' n) (hn : as.length = n) (hr : rest.length ≤ 4) (hC : j_Ct G y' d 0 0 as (N, K, M, g) (j_pV N K g q)) (kk : ∀ M', q M' → j_J G y (d + 1) B S pc' ls rest (N, K, M', g) Q) : j_J G y (d + 1) B S pc ls (as.reverse ++ rest) (N, K, M, g) Q :=
  j_z (j_callS hd hl0 hn hr hC j_pV_no fun v σ' ⟨M', h1, h2, h3⟩ => by cases h1; cases h2; exact kk M' h3)
theorem j_aVI {idx a ci : Nat} {q : Int → (Nat → Int → Int) → Prop} (hd : j_D y pc (.invokevirtual idx) 3 pc') (hl0 : j_Lv y.1.cls idx ci y' n) (hK0 : K a = some (0, ci)) (hn : as.length = n) (hr : rest.length ≤ 4) (hC : j_Ct G y' d 0 0 (jr_ a :: as) (N, K, M, g) (j_pI N K g q)) (kk : ∀ z M', q z M' → j_J G y (d + 1) B S pc' ls (ji_ z :: rest) (N, K, M', g) Q) : j_J G y (d + 1) B S pc ls (as.reverse ++ jr_ a :: rest) (N, K, M, g) Q :=
  j_z (j_callV hd hl0 hK0 hn hr hC j_pI_no fun v σ' ⟨z, M', h1, h2, h3⟩ => by cases h1; cases h2; exact kk z M' h3)
theorem j_aVV {idx a ci : Nat} {q : (Nat → Int → Int) → Prop} (hd : j_D y pc (.invokevirtual idx) 3 pc') (hl0 : j_Lv y.1.cls idx ci y' n) (hK0 : K a = some (0, ci)) (hn : as.length = n) (hr : rest.length ≤ 4) (hC : j_Ct G y' d 0 0 (jr_ a :: as) (N, K, M, g) (j_pV N K g q)) (kk : ∀ M', q M' → j_J G y (d + 1) B S pc' ls rest (N, K, M', g) Q) : j_J G y (d + 1) B S pc ls (as.reverse ++ jr_ a :: rest) (N, K, M, g) Q :=
  j_z (j_callV hd hl0 hK0 hn hr hC j_pV_no fun v σ' ⟨M', h1, h2, h3⟩ => by cases h1; cases h2; exact kk M' h3)
theorem j_aVR {idx a ci : Nat} {q : Nat → (Nat → Int → Int) → Prop} (hd : j_D y pc (.invokevirtual idx) 3 pc') (hl0 : j_Lv y.1.cls idx ci y' n) (hK0 : K a = some (0, ci)) (hn : as.length = n) (hr : rest.length ≤ 4) (hC : j_Ct G y' d 0 0 (jr_ a :: as) (N, K, M, g) (j_pR N K g q)) (kk : ∀ r M', q r M' → j_J G y (d + 1) B S pc' ls (jr_ r :: rest) (N, K, M', g) Q) : j_J G y (d + 1) B S pc ls (as.reverse ++ jr_ a :: rest) (N, K, M, g) Q :=
  j_z (j_callV hd hl0 hK0 hn hr hC j_pR_no fun v σ' ⟨z, M', h1, h2, h3⟩ => by cases h1; cases h2; exact kk z M' h3)
theorem j_aF {idx cnt a ci : Nat} {x : MethodName} {q : (Nat → Int → Int) → Prop} (hd : j_D y pc (.invokeinterface idx cnt) 5 pc') (hl0 : j_Lf y.1.cls idx ci x y' n) (hK0 : K a = some (0, ci)) (hn : as.length = n) (hr : rest.length ≤ 4) (hC : j_Ct G y' d 0 0 (jr_ a :: as) (N, K, M, g) (j_pV N K g q)) (kk : ∀ M', q M' → j_J G y (d + 1) B S pc' ls rest (N, K, M', g) Q) : j_J G y (d + 1) B S pc ls (as.reverse ++ jr_ a :: rest) (N, K, M, g) Q :=
  j_z (j_callF hd hl0 hK0 hn hr hC j_pV_no fun v σ' ⟨M', h1, h2, h3⟩ => by cases h1; cases h2; exact kk M' h3)
/-- System.arraycopy from one byte array to another -/
def j_cpy {α : Type} (M : Nat → Int → α) (a0 a : Nat) (sp dp n : Int) : Nat → Int → α := fun x i => if x = a ∧ dp ≤ i ∧ i < dp + n then M a0 (sp + (i - dp)) else M x i
theorem j_copyB {idx a0 a n0 n1 : Nat} {sp dp n : Int} (hd : j_D y pc (.invokestatic idx) 3 pc') (hw : Cond.methodLink y.1.cls idx arraycopyName ∈ lw_tbl) (hk0 : K a0 = some (2, n0)) (hk1 : K a = some (2, n1)) (hr : 0 ≤ sp ∧ 0 ≤ dp ∧ 0 ≤ n ∧ sp + n ≤ (n0 : Int) ∧ dp + n ≤ (n1 : Int)) (hv0 : ∀ i : Int, sp ≤ i → i < sp + n → -128 ≤ M a0 i ∧ M a0 i ≤ 127) (hst : st.length ≤ 4) (kk : j_J G y (d + 1) B S pc' ls st (N, K, j_cpy M a0 a sp dp n, g) Q) : j_J G y (d + 1) B S pc ls (ji_ n :: ji_ dp :: jr_ a :: ji_ sp :: jr_ a0 :: st) (N, K, M, g) Q := by
  intro p e R s m args below meth c H locs cells slots mc ms la C h1 h2 h3 h4 h5 h6 hH hL hl hb0 T hT X
  obtain ⟨hd, rfl⟩ := hd
  obtain ⟨r1, r2, r3, r4, r5⟩ := hr
  have hG := C.2.2.2.2.2.2.2.1
  obtain ⟨hc0, hs0, -⟩ := hH.arr (t := 1) hk0
  obtain ⟨hc1, hs1, -⟩ := hH.arr (t := 1) hk1
  have e0 : arrV (j_dA G 2) n0 (j_av (j_b G) 2 (M a0) (g a0)) = arrV (j_dA G 2) n0 (fun j => Value.int ((fun i : Nat => Int32.ofInt (M a0 i)) j)) := by
    congr 1
  have e1 : arrV (j_dA G 2) n1 (j_av (j_b G) 2 (M a) (g a)) = arrV (j_dA G 2) n1 (fun j => Value.int ((fun i : Nat => Int32.ofInt (M a i)) j)) := by
    congr 1
  have hc0' := hc0; have hc1' := hc1
  dsimp only at hc0' hc1'
  rw [e0] at hc0'
  rw [e1] at hc1'
  obtain ⟨-, k1, hkk1, cm1, hkd1⟩ := (j_arrT hG (t := 1) (by omega)).1 n1 (fun j => Value.int ((fun i : Nat => Int32.ofInt (M a i)) j))
  have ng : ∀ z : Int, 0 ≤ z → z ≤ 65536 → ¬ Int32.ofInt z < 0 := fun z h0 hz q => by
    rw [show (0 : Int32) = Int32.ofInt 0 from rfl, j_ltI (by omega) (by omega)] at q
    omega
  have cl : ∀ z : Int, 0 ≤ z → z ≤ 65536 → (Int32.ofInt z).toNatClampNeg = z.toNat := fun z h0 hz => j_clamp h0 (by omega)
  have ti : ∀ z : Int, 0 ≤ z → z ≤ 65536 → (Int32.ofInt z).toInt = z := fun z h0 hz => j_toInt (by omega)
  have hsum := j_sum8 (b := j_b G) hst
  have hnw : nativeFrameWords "java/lang/System" "arraycopy" 5 + 11 ≤ 40 := by decide +kernel
  obtain ⟨vm', X', step⟩ := X.arraycopy C.1 C.2.2.2.2.1 (hG.2.1 _ hw rfl args) (hG.2.1 (.native arraycopyName) (by decide +kernel) rfl args) (hG.2.1 (.static arraycopyName) (by decide +kernel) rfl args) (hG.2.1 (.initialized "java/lang/System") (by decide +kernel) rfl args) (src := j_b G + a0) (dst := j_b G + a) (cs := arrV (j_dA G 2) n0 (fun j => Value.int ((fun i : Nat => Int32.ofInt (M a0 i)) j))) (cd := arrV (j_dA G 2) n1 (fun j => Value.int ((fun i : Nat => Int32.ofInt (M a i)) j))) (srcPos := Int32.ofInt sp) (destPos := Int32.ofInt dp) (n := Int32.ofInt n) (by rw [hT]; exact hc0') (by rw [hT]; exact hc1')
    (fun _ h => by cases h) (fun _ h => by cases h) (fun h => by cases h) (fun h => by cases h) hkk1 hkk1 hkd1 hkd1 rfl (ng sp r1 (by omega)) (ng dp r2 (by omega)) (ng n r3 (by omega))
    (by rw [ti sp r1 (by omega), ti n r3 (by omega), arrV_size]; omega)
    (by rw [ti dp r2 (by omega), ti n r3 (by omega), arrV_size]; omega)
    (fun vm₁ hal i hi => by
      rw [cl n r3 (by omega)] at hi
      rw [cl sp r1 (by omega)]
      have e : (arrV (j_dA G 2) n0 (fun j => Value.int ((fun i : Nat => Int32.ofInt (M a0 i)) j))).slots.getD (sp.toNat + i) .null = .int (Int32.ofInt (M a0 ((sp.toNat + i : Nat) : Int))) := by
        rw [Array.getD_eq_getD_getElem?, arrV_read _ _ (by omega)]
        rfl
      rw [e]
      have hv1 := hv0 ((sp.toNat + i : Nat) : Int) (by omega) (by omega)
      have hv2 : Int32.ofInt (M a0 ((sp.toNat + i : Nat) : Int)) = (Int32.ofInt (M a0 ((sp.toNat + i : Nat) : Int))).toInt8.toInt32 := by
        rw [Int32.toInt8_ofInt, ← Int32.ofInt_int8ToInt, Int8.toInt_ofInt_of_le (by omega) (by omega)]
      rw [hv2]
      exact ⟨pk_fb _, trivial⟩)
    (g := F0 m pc la ((ji_ n :: ji_ dp :: jr_ a :: ji_ sp :: jr_ a0 :: st).map (j_val (j_b G)))) rfl (hl.1.trans C.2.2.1.symm) (rest := st.map (j_val (j_b G))) rfl (by rw [C.2.1]; exact hd) (by omega) (by show 2 * 0 + ((st.map (j_val (j_b G))).map fun v => v.category).sum + _ ≤ _; omega)
  have ecop : copied (arrV (j_dA G 2) n0 (fun j => Value.int ((fun i : Nat => Int32.ofInt (M a0 i)) j))) (arrV (j_dA G 2) n1 (fun j => Value.int ((fun i : Nat => Int32.ofInt (M a i)) j))) (Int32.ofInt sp) (Int32.ofInt dp) (Int32.ofInt n) = arrV (j_dA G 2) n1 (j_av (j_b G) 2 (j_cpy M a0 a sp dp n a) (g a)) := by
    have hv := va_copied (fun z : Int32 => Value.int z) (j_dA G 2) (j_dA G 2) (n0 := n0) (n1 := n1) (sp := (Int32.ofInt sp).toNatClampNeg) (dp := (Int32.ofInt dp).toNatClampNeg) (n := (Int32.ofInt n).toNatClampNeg) (fun i : Nat => Int32.ofInt (M a0 i)) (fun i : Nat => Int32.ofInt (M a i)) (by rw [cl sp r1 (by omega), cl n r3 (by omega)]; omega)
    refine Eq.trans hv ?_
    congr 1
    funext j
    rw [cl sp r1 (by omega), cl n r3 (by omega), cl dp r2 (by omega)]
    unfold va_cpy j_av j_cpy
    rw [if_neg (by decide : ¬ 3 ≤ 2)]
    by_cases hj : dp.toNat ≤ j ∧ j < dp.toNat + n.toNat
    · have hj' : a = a ∧ dp ≤ (j : Int) ∧ (j : Int) < dp + n := ⟨rfl, by omega, by omega⟩
      rw [if_pos hj, if_pos hj']
      show Value.int (Int32.ofInt (M a0 ((sp.toNat + (j - dp.toNat) : Nat) : Int))) = _
      rw [show ((sp.toNat + (j - dp.toNat) : Nat) : Int) = sp + ((j : Int) - dp) by omega]
    · have hj' : ¬ (a = a ∧ dp ≤ (j : Int) ∧ (j : Int) < dp + n) := fun q => hj ⟨by omega, by omega⟩
      rw [if_neg hj, if_neg hj']
  rw [ecop] at X' step
  have hla : j_b G + a < H.size := (Array.getElem?_eq_some_iff.mp hc1).1
  obtain ⟨t, a1, b1⟩ := kk p e R s m args below meth c (H.setIfInBounds (j_b G + a) (arrV (j_dA G 2) n1 (j_av (j_b G) 2 (j_cpy M a0 a sp dp n a) (g a)))) _ cells slots mc ms la C h1 h2 h3 h4 h5 h6 (hH.set hk1 (by simp) (fun q hq => by simp [Array.getElem?_setIfInBounds, Ne.symm hq]) (fun x hx => by funext i; simp [j_cpy, hx]) (fun _ _ => rfl) (by
      unfold j_at
      rw [if_neg (by decide)]
      simp [Array.getElem?_setIfInBounds, hla])) (fun q hq => by
      rcases List.mem_append.mp hq with h | h
      · exact hL q h
      · obtain ⟨z, -, hz⟩ := List.mem_map.mp h
        rw [← hz]
        exact Nat.le_add_right _ _) hl hb0 _ (by rw [← hT]; rfl) X'
  exact ⟨t, step t a1, b1⟩
end

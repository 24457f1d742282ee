/-! ===== J: objects and arrays ===== -/
def j_ft (ci k : Nat) : FieldType := (j_ty.getD ci (fun _ => .int)) k
theorem j_uw0 : ∀ (ci : Nat), ci < 10 → ∀ w ∈ u_ws (j_cls[ci]?.getD ("", j_F_LP, 0)).1 (j_cls[ci]?.getD ("", j_F_LP, 0)).2.1 (j_cls[ci]?.getD ("", j_F_LP, 0)).2.2, w ∈ lw_tbl ∧ j_wk w = true := by decide +kernel
theorem j_ty0 : ∀ (ci : Nat), ci < 10 → ∀ k, k < (j_cls[ci]?.getD ("", j_F_LP, 0)).2.2 → parseFieldDescriptor ((j_cls[ci]?.getD ("", j_F_LP, 0)).2.1 k).2.2.1 = some (j_ft ci k) := by decide +kernel
theorem j_nm0 : ∀ (ci : Nat), ci < 10 → ∀ a, a < (j_cls[ci]?.getD ("", j_F_LP, 0)).2.2 → ∀ b, b < (j_cls[ci]?.getD ("", j_F_LP, 0)).2.2 → a ≠ b → ((j_cls[ci]?.getD ("", j_F_LP, 0)).2.1 a).2.1 ≠ ((j_cls[ci]?.getD ("", j_F_LP, 0)).2.1 b).2.1 := by decide +kernel
theorem j_lt10 {ci : Nat} {r : vw_C} (h : j_cls[ci]? = some r) : ci < 10 ∧ j_cls[ci]?.getD ("", j_F_LP, 0) = r := ⟨by have := (List.getElem?_eq_some_iff.mp h).1; exact this, by rw [h]; rfl⟩
theorem j_uw {ci : Nat} {r : vw_C} (h : j_cls[ci]? = some r) : ∀ w ∈ u_ws r.1 r.2.1 r.2.2, w ∈ lw_tbl ∧ j_wk w = true := by
  obtain ⟨h1, h2⟩ := j_lt10 h
  have := j_uw0 ci h1
  rw [h2] at this
  exact this
theorem j_tyk {ci : Nat} {r : vw_C} (h : j_cls[ci]? = some r) : ∀ k, k < r.2.2 → parseFieldDescriptor (r.2.1 k).2.2.1 = some (j_ft ci k) := by
  obtain ⟨h1, h2⟩ := j_lt10 h
  have := j_ty0 ci h1
  rw [h2] at this
  exact this
theorem j_nmk {ci : Nat} {r : vw_C} (h : j_cls[ci]? = some r) : ∀ a, a < r.2.2 → ∀ b, b < r.2.2 → a ≠ b → (r.2.1 a).2.1 ≠ (r.2.1 b).2.1 := by
  obtain ⟨h1, h2⟩ := j_lt10 h
  have := j_nm0 ci h1
  rw [h2] at this
  exact this
theorem j_us {G : j_G} {s : State} {args : Array Value} (hG : j_Gd G s) {ci : Nat} {r : vw_C} (h : j_cls[ci]? = some r) : ∀ w ∈ u_ws r.1 r.2.1 r.2.2, w.before args s = true := fun w hw => hG.2.1 w (j_uw h w hw).1 (j_uw h w hw).2 args
/-- the field that an entry of the pool names: class, place in the object, whether it holds a reference -/
def j_F (own : String) (idx ci k : Nat) (z : Int) (r : Bool) : Prop := (k : Int) = z ∧ ∃ (q : vw_C) (ref : String), j_cls[ci]? = some q ∧ k < q.2.2 ∧ j_isR ci k = r ∧
  (Cond.fieldLink own idx ref (q.2.1 k).2.1 (q.2.1 k).2.2.1 ∈ lw_tbl ∨ ∃ host : String, Cond.fieldLinkNest own idx ref (q.2.1 k).2.1 (q.2.1 k).2.2.1 host ∈ lw_tbl) ∧ (ref = (q.2.1 k).1 ∨ Cond.sameField ref (q.2.1 k).1 (q.2.1 k).2.1 (q.2.1 k).2.2.1 ∈ lw_tbl)
/-- it may be written here -/
def j_Wr (y : j_Mt) (ci k : Nat) : Prop := ∃ q : vw_C, j_cls[ci]? = some q ∧ ((q.2.1 k).2.2.2 = false ∨ ((q.2.1 k).2.2.2 = true ∧ y.1.name = "<init>" ∧ (q.2.1 k).1 = y.1.cls))
def j_up {α : Type} (M : Nat → Int → α) (a : Nat) (i : Int) (z : α) : Nat → Int → α := fun a' i' => if a' = a ∧ i' = i then z else M a' i'
theorem j_up_eq {α : Type} (M : Nat → Int → α) (a : Nat) (i : Int) (z : α) : j_up M a i z a i = z := by simp [j_up]
theorem j_up_ne {α : Type} {M : Nat → Int → α} {a : Nat} {i : Int} {z : α} {a' : Nat} {i' : Int} (h : a' ≠ a ∨ i' ≠ i) : j_up M a i z a' i' = M a' i' := by
  unfold j_up
  rw [if_neg]
  intro q
  rcases h with h | h
  · exact h q.1
  · exact h q.2
theorem j_up_a {α : Type} {M : Nat → Int → α} {a : Nat} {i : Int} {z : α} {a' : Nat} (h : a' ≠ a) : j_up M a i z a' = M a' := funext fun i' => j_up_ne (Or.inl h)
theorem j_same {args : Array Value} {G : j_G} {s : State} (hG : j_Gd G s) {ref own name desc : String} (h : ref = own ∨ Cond.sameField ref own name desc ∈ lw_tbl) (x : ClassId × Class × Nat × Field) (hx : s.fieldFound? own name desc = some x) : s.fieldFound? ref name desc = some x := by
  rcases h with rfl | h
  · exact hx
  · exact u_same (hG.2.1 _ h rfl args) x hx
theorem j_at.kept {G : j_G} {x t n : Nat} {M : Int → Int} {g : Int → Option Nat} {H H' : Heap} (h : j_at G x t n M g H) (hk : H'[j_b G + x]? = H[j_b G + x]?) : j_at G x t n M g H' := by
  unfold j_at at h ⊢
  by_cases ht : t = 0
  · rw [if_pos ht] at h ⊢
    obtain ⟨r, e1, e2⟩ := h
    exact ⟨r, e1, e2.kept hk⟩
  · rw [if_neg ht] at h ⊢
    rw [hk]; exact h
/-- a cell moves, the others stay -/
theorem j_Hp.set {G : j_G} {N : Nat} {K : Nat → Option (Nat × Nat)} {M M' : Nat → Int → Int} {g g' : Nat → Int → Option Nat} {H H' : Heap} {a t n : Nat} (hH : j_Hp G (N, K, M, g) H) (hK : K a = some (t, n)) (hz : H'.size = H.size) (ho : ∀ q : Nat, q ≠ j_b G + a → H'[q]? = H[q]?) (hM : ∀ x : Nat, x ≠ a → M' x = M x) (hg : ∀ x : Nat, x ≠ a → g' x = g x) (hc : j_at G a t n (M' a) (g' a) H') : j_Hp G (N, K, M', g') H' := by
  refine ⟨hz.trans hH.1, fun q hq => (ho q (by omega)).trans (hH.2.1 q hq), fun x t' n' hx => ?_⟩
  by_cases hxa : x = a
  · subst hxa
    cases hK.symm.trans hx
    exact ⟨(hH.2.2 x _ _ hK).1, (hH.2.2 x _ _ hK).2.1, hc⟩
  · obtain ⟨h1, h2, h3⟩ := hH.2.2 x t' n' hx
    refine ⟨h1, h2, ?_⟩
    show j_at G x t' n' (M' x) (g' x) H'
    rw [hM x hxa, hg x hxa]
    have hk := ho (j_b G + x) (by omega)
    exact h3.kept hk
/-- a cell comes, the others stay -/
theorem j_Hp.push {G : j_G} {N : Nat} {K : Nat → Option (Nat × Nat)} {M M' : Nat → Int → Int} {g g' : Nat → Int → Option Nat} {H H' : Heap} {t n : Nat} (hH : j_Hp G (N, K, M, g) H) (hz : H'.size = H.size + 1) (ho : ∀ q : Nat, q < H.size → H'[q]? = H[q]?) (hM : ∀ x : Nat, x ≠ N → M' x = M x) (hg : ∀ x : Nat, x ≠ N → g' x = g x) (ht : t ≤ 6) (hn : n ≤ 65536) (hc : j_at G N t n (M' N) (g' N) H') : j_Hp G (N + 1, (fun x => if x = N then some (t, n) else K x), M', g') H' := by
  have hsz : H.size = j_b G + N := hH.1
  refine ⟨by show H'.size = j_b G + (N + 1); omega, fun q hq => (ho q (by omega)).trans (hH.2.1 q hq), fun x t' n' hx => ?_⟩
  by_cases hxa : x = N
  · subst hxa
    have : some (t, n) = some (t', n') := by simpa using hx
    cases this
    exact ⟨ht, hn, hc⟩
  · have hx' : K x = some (t', n') := by simpa [hxa] using hx
    obtain ⟨h1, h2, h3⟩ := hH.2.2 x t' n' hx'
    refine ⟨h1, h2, ?_⟩
    show j_at G x t' n' (M' x) (g' x) H'
    rw [hM x hxa, hg x hxa]
    have hlt : j_b G + x < H.size := by
      unfold j_at at h3
      split at h3
      · obtain ⟨r, e1, cell, e2, -⟩ := h3
        exact (Array.getElem?_eq_some_iff.mp e2).1
      · exact (Array.getElem?_eq_some_iff.mp h3).1
    have hk := ho (j_b G + x) hlt
    exact h3.kept hk
theorem j_Hp.obj {G : j_G} {σ : j_S} {H : Heap} {a ci : Nat} (hH : j_Hp G σ H) (hK : σ.2.1 a = some (0, ci)) : ∃ r : vw_C, j_cls[ci]? = some r ∧ t_OB (j_b G + a) (j_dC G ci) r.2.2 (j_dI G ci) H (j_fv (j_b G) ci (σ.2.2.1 a) (σ.2.2.2 a)) := by
  have := (hH.2.2 a 0 ci hK).2.2
  unfold j_at at this
  rw [if_pos rfl] at this
  exact this
theorem j_Hp.arr {G : j_G} {σ : j_S} {H : Heap} {a t n : Nat} (hH : j_Hp G σ H) (hK : σ.2.1 a = some (t + 1, n)) : H[j_b G + a]? = some (arrV (j_dA G (t + 1)) n (j_av (j_b G) (t + 1) (σ.2.2.1 a) (σ.2.2.2 a))) ∧ n ≤ 65536 ∧ t + 1 ≤ 6 := by
  have := hH.2.2 a (t + 1) n hK
  refine ⟨?_, this.2.1, this.1⟩
  have h := this.2.2
  unfold j_at at h
  rw [if_neg (by omega)] at h
  exact h
theorem j_arrT {G : j_G} {s : State} (hG : j_Gd G s) {t : Nat} (ht : t + 1 ≤ 6) : ArrOfT s (j_dA G (t + 1)) (j_aty (t + 1)) ∧ va_RA s (j_dA G (t + 1)) (j_aty (t + 1)) := by
  match t, ht with
  | 0, _ => exact hG.1.2 0 _ rfl
  | 1, _ => exact hG.1.2 1 _ rfl
  | 2, _ => exact hG.1.2 2 _ rfl
  | 3, _ => exact hG.1.2 3 _ rfl
  | 4, _ => exact hG.1.2 4 _ rfl
  | 5, _ => exact hG.1.2 5 _ rfl
section
variable {G : j_G} {y : j_Mt} {d B S pc pc' : Nat} {ls st : List j_V} {N : Nat} {K : Nat → Option (Nat × Nat)} {M : Nat → Int → Int} {g : Nat → Int → Option Nat} {Q : j_O → j_S → Prop}
theorem j_getV {idx ci k a : Nat} {z : Int} {r : Bool} {v : j_V} (hd : j_D y pc (.getfield idx) 3 pc') (hf : j_F y.1.cls idx ci k z r) (hK : K a = some (0, ci)) (hv : j_val (j_b G) v = j_fv (j_b G) ci (M a) (g a) k) (kk : j_J G y d B S pc' ls (v :: st) (N, K, M, g) Q) : j_J G y d B S pc ls (jr_ a :: st) (N, K, M, g) Q := by
  refine j_pure (st' := v :: st) (fun p e R s m args below meth c H locs cells slots Qf la C hH hl w => ?_) kk
  obtain ⟨hd, rfl⟩ := hd
  obtain ⟨hx, hb, -, -, hown, -, -, hG, -⟩ := C
  obtain ⟨-, q, ref, hq, hk, -, hlink, hsame⟩ := hf
  obtain ⟨q', hq', cell, q1, q2, q3, q4⟩ := hH.obj hK
  cases hq.symm.trans hq'
  obtain ⟨hS, hfc, kC, hkC, hkind⟩ := hG.1.1 ci _ hq
  obtain ⟨cf, kf, fi, f, hi, hsl⟩ := hS k hk
  have hst := (u_facts (args := args) hfc hkC (u_lays (j_us hG hq) (fun _ h => h) hk) hi).1
  have hi' := j_same (args := args) hG hsame _ hi
  have hslot : cell.slots[f.slot]? = some (j_val (j_b G) v) := by rw [hsl, q4 k hk, hv]
  rcases hlink with hlink | ⟨host, hlink⟩
  · exact W.getf hx hb hown (hG.2.1 _ hlink rfl args) hi' hst q1 (by rw [q3]; exact fun h => by cases h) hslot rfl rfl hd w
  · exact va_Wgetf hx hb hown (hG.2.1 _ hlink rfl args) hi' hst q1 (by rw [q3]; exact fun h => by cases h) hslot rfl rfl hd w
theorem j_getI {idx ci k a : Nat} {z : Int} (hd : j_D y pc (.getfield idx) 3 pc') (hf : j_F y.1.cls idx ci k z false) (hK : K a = some (0, ci)) (kk : j_J G y d B S pc' ls (ji_ (M a z) :: st) (N, K, M, g) Q) : j_J G y d B S pc ls (jr_ a :: st) (N, K, M, g) Q :=
  j_getV (v := ji_ (M a z)) hd hf hK (by obtain ⟨rfl, q, ref, -, -, hr, -⟩ := hf; simp [j_fv, hr, j_val]) kk
theorem j_getR {idx ci k a x : Nat} {z : Int} (hd : j_D y pc (.getfield idx) 3 pc') (hf : j_F y.1.cls idx ci k z true) (hK : K a = some (0, ci)) (hg : g a z = some x) (kk : j_J G y d B S pc' ls (jr_ x :: st) (N, K, M, g) Q) : j_J G y d B S pc ls (jr_ a :: st) (N, K, M, g) Q :=
  j_getV (v := jr_ x) hd hf hK (by obtain ⟨rfl, q, ref, -, -, hr, -⟩ := hf; simp [j_fv, hr, j_val, hg]) kk
theorem j_putV {idx ci k a : Nat} {z : Int} {r : Bool} {v : j_V} {M' : Nat → Int → Int} {g' : Nat → Int → Option Nat} (hd : j_D y pc (.putfield idx) 3 pc') (hf : j_F y.1.cls idx ci k z r) (hw : j_Wr y ci k) (hK : K a = some (0, ci)) (hn : narrow (j_ft ci k) (j_val (j_b G) v) = j_val (j_b G) v) (hfit : fits (j_ft ci k) (j_val (j_b G) v) = true)
    (hM : ∀ x : Nat, x ≠ a → M' x = M x) (hg : ∀ x : Nat, x ≠ a → g' x = g x) (hu : ∀ j : Nat, j_fv (j_b G) ci (M' a) (g' a) j = updV (j_fv (j_b G) ci (M a) (g a)) k (j_val (j_b G) v) j) (kk : j_J G y d B S pc' ls st (N, K, M', g') Q) : j_J G y d B S pc ls (v :: jr_ a :: st) (N, K, M, g) Q := by
  intro p e R s m args below meth c H locs cells slots mc ms la C h1 h2 h3 h4 h5 h6 hH hL hl hb0
  have C0 := C
  obtain ⟨hd, rfl⟩ := hd
  obtain ⟨hx, hb, -, -, hown, -, hname, hG, -⟩ := C
  obtain ⟨-, q, ref, hq, hk, -, hlink, hsame⟩ := hf
  obtain ⟨q', hq', cell, q1, q2, q3, q4⟩ := hH.obj hK
  cases hq.symm.trans hq'
  obtain ⟨qw, hqw, hw⟩ := hw
  cases hq.symm.trans hqw
  have hus := j_us (args := args) hG hq
  have hKn := hG.1.1 ci _ hq
  obtain ⟨hS, hfc, kC, hkC, hkind⟩ := hKn
  obtain ⟨cf, kf, fi, f, hi, hsl⟩ := hS k hk
  have hst := (u_facts (args := args) hfc hkC (u_lays hus (fun _ h => h) hk) hi).1
  have hi' := j_same (args := args) hG hsame _ hi
  have hap := va_apart (own := y.1.cls) hus (fun _ h => h) (j_ft ci) (j_tyk hq) (j_nmk hq) hG.1 hq
  have hfits := u_fits (args := args) hfc hkC hkind (u_lays hus (fun _ h => h) hk) hi (j_tyk hq k hk) hn hfit
  have hfin : hasFlag f.accessFlags Acc.final = false ∨ (m.cls = cf ∧ meth.name = "<init>") := by
    have hlay := hus _ (u_in_lay hk)
    unfold u_lay at hlay
    rcases hw with hw | ⟨hw, hw2, hw3⟩
    · rw [if_neg (by rw [hw]; decide)] at hlay
      exact Or.inl (u_store (args := args) hfc hkC hkind hlay hi (j_tyk hq k hk) hn hfit).1
    · rw [if_pos hw] at hlay
      refine Or.inr ⟨?_, hname.trans hw2⟩
      obtain ⟨_, _, c', _, _, _, -, -, hf', -, -, -, hown2, -⟩ := Cond.laysFinal_spec hlay
      have e1 : c' = cf := by have := hi.symm.trans hf'; simp at this; exact this.1.symm
      rw [hw3] at hown2
      rw [← e1]; exact Option.some.inj (hown.symm.trans hown2)
  have hnone : cell.vm ≠ .unknown := by rw [q3]; exact fun h => by cases h
  have hlt : f.slot < cell.slots.size := by rw [hsl]; exact k2_hasslot (q4 k hk)
  have hat : j_b G + a < H.size := (Array.getElem?_eq_some_iff.mp q1).1
  have main : ∀ H' : Heap, H' = H.setIfInBounds (j_b G + a) (cell.setSlot f.slot (j_val (j_b G) v)) → W p (j_l G) e R s m args below meth c H' (locs ++ [⟨j_b G + a, f.slot⟩]) cells slots (j_XQ G below Q s mc ms) (F0 m (pc + 3) la (st.map (j_val (j_b G)))) := by
    intro H' hH'
    refine kk p e R s m args below meth c H' _ cells slots mc ms la C0 h1 h2 h3 h4 h5 h6 (hH.set hK (by rw [hH']; simp) (fun q hq => by rw [hH']; simp [Array.getElem?_setIfInBounds, Ne.symm hq]) hM hg ?_) (fun q hq => ?_) hl hb0
    · unfold j_at
      rw [if_pos rfl]
      refine ⟨_, hq, t_OB.to (V := updV (j_fv (j_b G) ci (M a) (g a)) k (j_val (j_b G) v)) ⟨cell.setSlot f.slot (j_val (j_b G) v), by rw [hH']; simp [Array.getElem?_setIfInBounds, hat], q2, q3, ?_⟩ (fun j _ => (hu j).symm)⟩
      rw [hsl]
      exact t_set q4 hap hk _
    · rcases List.mem_append.mp hq with h | h
      · exact hL q h
      · rw [List.mem_singleton.mp h]; exact Nat.le_add_right _ _
  rcases hlink with hlink | ⟨host, hlink⟩
  · exact W.putf hx hb hown (hG.2.1 _ hlink rfl args) hi' hst hfin q1 hnone hlt hfits.1 (by rw [q2, q3]; exact hfits.2) rfl rfl hd (main _ rfl)
  · exact va_Wputf hx hb hown (hG.2.1 _ hlink rfl args) hi' hst hfin q1 hnone hlt hfits.1 (by rw [q2, q3]; exact hfits.2) rfl rfl hd (main _ rfl)
theorem j_fv_up {b ci k : Nat} {M : Nat → Int → Int} {g : Nat → Int → Option Nat} {a : Nat} {z : Int} {w : Int} (hz : (k : Int) = z) (hr : j_isR ci k = false) (j : Nat) : j_fv b ci (j_up M a z w a) (g a) j = updV (j_fv b ci (M a) (g a)) k (.int (Int32.ofInt w)) j := by
  subst hz
  by_cases hj : j = k
  · subst hj
    simp [j_fv, updV, hr, j_up]
  · have : ¬ (j : Int) = (k : Int) := by omega
    simp [j_fv, updV, hj, j_up, this]
theorem j_fv_ug {b ci k : Nat} {M : Nat → Int → Int} {g : Nat → Int → Option Nat} {a : Nat} {z : Int} {w : Option Nat} (hz : (k : Int) = z) (hr : j_isR ci k = true) (j : Nat) : j_fv b ci (M a) (j_up g a z w a) j = updV (j_fv b ci (M a) (g a)) k (j_rf b w) j := by
  subst hz
  by_cases hj : j = k
  · subst hj
    simp [j_fv, updV, hr, j_up]
  · have : ¬ (j : Int) = (k : Int) := by omega
    simp [j_fv, updV, hj, j_up, this]
theorem j_putI {idx ci k a : Nat} {z w : Int} (hd : j_D y pc (.putfield idx) 3 pc') (hf : j_F y.1.cls idx ci k z false) (hw : j_Wr y ci k) (ht : j_ft ci k = .int) (hK : K a = some (0, ci)) (kk : j_J G y d B S pc' ls st (N, K, j_up M a z w, g) Q) : j_J G y d B S pc ls (ji_ w :: jr_ a :: st) (N, K, M, g) Q :=
  j_putV hd hf hw hK (by rw [ht]; rfl) (by rw [ht]; rfl) (fun x hx => j_up_a hx) (fun _ _ => rfl) (fun j => by obtain ⟨hz, q, ref, -, -, hr, -⟩ := hf; exact j_fv_up hz hr j) kk
theorem j_putZ {idx ci k a : Nat} {z : Int} {w : Bool} (hd : j_D y pc (.putfield idx) 3 pc') (hf : j_F y.1.cls idx ci k z false) (hw : j_Wr y ci k) (ht : j_ft ci k = .boolean) (hK : K a = some (0, ci)) (kk : j_J G y d B S pc' ls st (N, K, j_up M a z (j_bz w), g) Q) : j_J G y d B S pc ls (ji_ (j_bz w) :: jr_ a :: st) (N, K, M, g) Q :=
  j_putV hd hf hw hK (by rw [ht]; cases w <;> rfl) (by rw [ht]; cases w <;> rfl) (fun x hx => j_up_a hx) (fun _ _ => rfl) (fun j => by obtain ⟨hz, q, ref, -, -, hr, -⟩ := hf; exact j_fv_up hz hr j) kk
theorem j_putR {idx ci k a : Nat} {z : Int} {w : Option Nat} (hd : j_D y pc (.putfield idx) 3 pc') (hf : j_F y.1.cls idx ci k z true) (hw : j_Wr y ci k) (ht : (∃ n, j_ft ci k = .object n) ∨ ∃ t, j_ft ci k = .array t) (hK : K a = some (0, ci)) (kk : j_J G y d B S pc' ls st (N, K, M, j_up g a z w) Q) : j_J G y d B S pc ls (jq_ w :: jr_ a :: st) (N, K, M, g) Q :=
  j_putV hd hf hw hK (by rcases ht with ⟨n, ht⟩ | ⟨n, ht⟩ <;> (rw [ht]; cases w <;> rfl)) (by rcases ht with ⟨n, ht⟩ | ⟨n, ht⟩ <;> (rw [ht]; cases w <;> rfl)) (fun _ _ => rfl) (fun x hx => j_up_a hx) (fun j => by obtain ⟨hz, q, ref, -, -, hr, -⟩ := hf; exact j_fv_ug hz hr j) kk
-- arrays
theorem j_iald {a n : Nat} {z : Int} (hd : j_D y pc .iaload 1 pc') (hK : K a = some (1, n)) (h0 : 0 ≤ z) (hn : z < n) (kk : j_J G y d B S pc' ls (ji_ (M a z) :: st) (N, K, M, g) Q) : j_J G y d B S pc ls (ji_ z :: jr_ a :: st) (N, K, M, g) Q := by
  refine j_pure (st' := ji_ (M a z) :: st) (fun p e R s m args below meth c H locs cells slots Qf la C hH hl w => ?_) kk
  obtain ⟨hd, rfl⟩ := hd
  obtain ⟨hc, hsm, -⟩ := hH.arr (t := 0) hK
  have hin := j_in h0 hn hsm
  refine W.iald C.1 C.2.1 hc ((j_arrT C.2.2.2.2.2.2.2.1 (t := 0) (by omega)).1 n _) (fun q => by cases q) (by show ¬ (_ ∨ (arrV _ _ _).slots.size ≤ _); rw [arrV_size]; exact hin) (v := .int (Int32.ofInt (M a z))) ?_ rfl rfl hd w
  have hlt : z.toNat < n := by omega
  show (arrV _ _ _).slots[_]? = _
  rw [j_clamp h0 (by omega), arrV_read _ _ hlt]
  simp only [j_av]
  rw [if_neg (by omega), Int.toNat_of_nonneg h0]
theorem j_bald {a n : Nat} {z : Int} (hd : j_D y pc .baload 1 pc') (hK : K a = some (2, n)) (h0 : 0 ≤ z) (hn : z < n) (kk : j_J G y d B S pc' ls (ji_ (M a z) :: st) (N, K, M, g) Q) : j_J G y d B S pc ls (ji_ z :: jr_ a :: st) (N, K, M, g) Q := by
  refine j_pure (st' := ji_ (M a z) :: st) (fun p e R s m args below meth c H locs cells slots Qf la C hH hl w => ?_) kk
  obtain ⟨hd, rfl⟩ := hd
  obtain ⟨hc, hsm, -⟩ := hH.arr (t := 1) hK
  have hin := j_in h0 hn hsm
  refine W.bald C.1 C.2.1 hc ((j_arrT C.2.2.2.2.2.2.2.1 (t := 1) (by omega)).1 n _) (fun q => by cases q) (by show ¬ (_ ∨ (arrV _ _ _).slots.size ≤ _); rw [arrV_size]; exact hin) (v := .int (Int32.ofInt (M a z))) ?_ rfl rfl hd w
  have hlt : z.toNat < n := by omega
  show (arrV _ _ _).slots[_]? = _
  rw [j_clamp h0 (by omega), arrV_read _ _ hlt]
  simp only [j_av]
  rw [if_neg (by omega), Int.toNat_of_nonneg h0]
theorem j_aatyR {t : Nat} : (j_aty (t + 3)).isReference = true ∧ ∃ C : String, j_aty (t + 3) = .object C := by
  match t with
  | 0 => exact ⟨rfl, _, rfl⟩
  | 1 => exact ⟨rfl, _, rfl⟩
  | 2 => exact ⟨rfl, _, rfl⟩
  | t + 3 => exact ⟨rfl, _, rfl⟩
theorem j_aaldV {a n t : Nat} {z : Int} (hd : j_D y pc .aaload 1 pc') (hK : K a = some (t + 3, n)) (h0 : 0 ≤ z) (hn : z < n) (kk : j_J G y d B S pc' ls (jq_ (g a z) :: st) (N, K, M, g) Q) : j_J G y d B S pc ls (ji_ z :: jr_ a :: st) (N, K, M, g) Q := by
  refine j_pure (st' := jq_ (g a z) :: st) (fun p e R s m args below meth c H locs cells slots Qf la C hH hl w => ?_) kk
  obtain ⟨hd, rfl⟩ := hd
  obtain ⟨hc, hsm, h6⟩ := hH.arr (t := t + 2) hK
  have hin := j_in h0 hn hsm
  refine W.aald (ty := j_aty (t + 3)) C.1 C.2.1 hc ((j_arrT C.2.2.2.2.2.2.2.1 (t := t + 2) h6).1 n _) j_aatyR.1 (fun q => by cases q) (by show ¬ (_ ∨ (arrV _ _ _).slots.size ≤ _); rw [arrV_size]; exact hin) (v := j_rf (j_b G) (g a z)) ?_ rfl rfl hd w
  have hlt : z.toNat < n := by omega
  show (arrV _ _ _).slots[_]? = _
  rw [j_clamp h0 (by omega), arrV_read _ _ hlt]
  simp only [j_av]
  rw [if_pos (by omega), Int.toNat_of_nonneg h0]
theorem j_aald {a n t x : Nat} {z : Int} (hd : j_D y pc .aaload 1 pc') (hK : K a = some (t + 3, n)) (h0 : 0 ≤ z) (hn : z < n) (hg : g a z = some x) (kk : j_J G y d B S pc' ls (jr_ x :: st) (N, K, M, g) Q) : j_J G y d B S pc ls (ji_ z :: jr_ a :: st) (N, K, M, g) Q :=
  j_aaldV hd hK h0 hn (by rw [hg]; exact kk)
theorem j_alen {a n t : Nat} (hd : j_D y pc .arraylength 1 pc') (hK : K a = some (t + 1, n)) (kk : j_J G y d B S pc' ls (ji_ (n : Int) :: st) (N, K, M, g) Q) : j_J G y d B S pc ls (jr_ a :: st) (N, K, M, g) Q := by
  refine j_pure (st' := ji_ (n : Int) :: st) (fun p e R s m args below meth c H locs cells slots Qf la C hH hl w => ?_) kk
  obtain ⟨hd, rfl⟩ := hd
  obtain ⟨hc, hsm, h6⟩ := hH.arr hK
  exact W.alen (n := Int32.ofInt n) C.1 C.2.1 hc ((j_arrT C.2.2.2.2.2.2.2.1 h6).1 n _) (by rw [arrV_size, Int32.ofInt_eq_ofNat]) rfl rfl hd w
theorem j_av_up {b t : Nat} {M : Nat → Int → Int} {g : Nat → Int → Option Nat} {a : Nat} {z w : Int} (h0 : 0 ≤ z) (ht : t < 3) : updV (j_av b t (M a) (g a)) z.toNat (.int (Int32.ofInt w)) = j_av b t (j_up M a z w a) (g a) := by
  funext j
  by_cases hj : j = z.toNat
  · subst hj
    simp [updV, j_av, j_up, Int.toNat_of_nonneg h0, Nat.not_le.mpr ht]
  · have : ¬ (j : Int) = z := by omega
    simp [updV, hj, j_av, j_up, this]
theorem j_av_ug {b t : Nat} {M : Nat → Int → Int} {g : Nat → Int → Option Nat} {a : Nat} {z : Int} {w : Option Nat} (h0 : 0 ≤ z) (ht : 3 ≤ t) : updV (j_av b t (M a) (g a)) z.toNat (j_rf b w) = j_av b t (M a) (j_up g a z w a) := by
  funext j
  by_cases hj : j = z.toNat
  · subst hj
    simp [updV, j_av, j_up, Int.toNat_of_nonneg h0, ht]
  · have : ¬ (j : Int) = z := by omega
    simp [updV, hj, j_av, j_up, this]
theorem j_locs {G : j_G} {locs : List Loc} {a i : Nat} (hL : ∀ q ∈ locs, j_b G ≤ q.base) : ∀ q ∈ locs ++ [(⟨j_b G + a, i⟩ : Loc)], j_b G ≤ q.base := fun q hq => by
  rcases List.mem_append.mp hq with h | h
  · exact hL q h
  · rw [List.mem_singleton.mp h]; exact Nat.le_add_right _ _
theorem j_iast {a n : Nat} {z w : Int} (hd : j_D y pc .iastore 1 pc') (hK : K a = some (1, n)) (h0 : 0 ≤ z) (hn : z < n) (kk : j_J G y d B S pc' ls st (N, K, j_up M a z w, g) Q) : j_J G y d B S pc ls (ji_ w :: ji_ z :: jr_ a :: st) (N, K, M, g) Q := by
  intro p e R s m args below meth c H locs cells slots mc ms la C h1 h2 h3 h4 h5 h6 hH hL hl hb0
  obtain ⟨hd, rfl⟩ := hd
  obtain ⟨hc, hsm, -⟩ := hH.arr (t := 0) hK
  have hin := j_in h0 hn hsm
  refine W.iast C.1 C.2.1 hc ((j_arrT C.2.2.2.2.2.2.2.1 (t := 0) (by omega)).1 n _) (fun q => by cases q) (by show ¬ (_ ∨ (arrV _ _ _).slots.size ≤ _); rw [arrV_size]; exact hin) rfl rfl hd fun H' e1 z1 o1 => ?_
  refine kk p e R s m args below meth c H' _ cells slots mc ms la C h1 h2 h3 h4 h5 h6 (hH.set hK z1 o1 (fun x hx => j_up_a hx) (fun _ _ => rfl) ?_) (j_locs hL) hl hb0
  unfold j_at
  rw [if_neg (by decide), e1, arrV_store, j_clamp h0 (by omega), j_av_up h0 (by decide)]
theorem j_bast {a n : Nat} {z w : Int} (hd : j_D y pc .bastore 1 pc') (hK : K a = some (2, n)) (h0 : 0 ≤ z) (hn : z < n) (hw : -128 ≤ w ∧ w ≤ 127) (kk : j_J G y d B S pc' ls st (N, K, j_up M a z w, g) Q) : j_J G y d B S pc ls (ji_ w :: ji_ z :: jr_ a :: st) (N, K, M, g) Q := by
  intro p e R s m args below meth c H locs cells slots mc ms la C h1 h2 h3 h4 h5 h6 hH hL hl hb0
  obtain ⟨hd, rfl⟩ := hd
  obtain ⟨hc, hsm, -⟩ := hH.arr (t := 1) hK
  have hin := j_in h0 hn hsm
  refine W.bast C.1 C.2.1 hc ((j_arrT C.2.2.2.2.2.2.2.1 (t := 1) (by omega)).1 n _) (fun q => by cases q) (by show ¬ (_ ∨ (arrV _ _ _).slots.size ≤ _); rw [arrV_size]; exact hin) rfl rfl hd fun H' e1 z1 o1 => ?_
  refine kk p e R s m args below meth c H' _ cells slots mc ms la C h1 h2 h3 h4 h5 h6 (hH.set hK z1 o1 (fun x hx => j_up_a hx) (fun _ _ => rfl) ?_) (j_locs hL) hl hb0
  have hnar : narrow .byte (.int (Int32.ofInt w)) = .int (Int32.ofInt w) := by
    show Value.int (Int32.ofInt w).toInt8.toInt32 = _
    rw [Int32.toInt8_ofInt, ← Int32.ofInt_int8ToInt, Int8.toInt_ofInt_of_le (by omega) (by omega)]
  unfold j_at
  rw [if_neg (by decide), e1, hnar, arrV_store, j_clamp h0 (by omega), j_av_up h0 (by decide)]
/-- an object of the class may stand in the array -/
def j_cast (ci t : Nat) : Prop := ∃ q : vw_C, j_cls[ci]? = some q ∧ (j_aty t = .object q.1 ∨ ∃ C : String, j_aty t = .object C ∧ Cond.castable q.1 C ∈ lw_tbl)
theorem j_aast {a n t v ci : Nat} {z : Int} (hd : j_D y pc .aastore 1 pc') (hK : K a = some (t + 3, n)) (h0 : 0 ≤ z) (hn : z < n) (hv : K v = some (0, ci)) (hcast : j_cast ci (t + 3)) (kk : j_J G y d B S pc' ls st (N, K, M, j_up g a z (some v)) Q) : j_J G y d B S pc ls (jr_ v :: ji_ z :: jr_ a :: st) (N, K, M, g) Q := by
  intro p e R s m args below meth c H locs cells slots mc ms la C h1 h2 h3 h4 h5 h6 hH hL hl hb0
  obtain ⟨hd, rfl⟩ := hd
  obtain ⟨hc, hsm, hle⟩ := hH.arr (t := t + 2) hK
  have hG := C.2.2.2.2.2.2.2.1
  obtain ⟨q, hq, hcast⟩ := hcast
  obtain ⟨q', hq', cellV, g1, g2, g3, -⟩ := hH.obj hv
  cases hq.symm.trans hq'
  obtain ⟨-, hRA⟩ := j_arrT hG (t := t + 2) hle
  have hcls := (hG.1.1 ci _ hq).2
  obtain ⟨kC, hkC, -⟩ := hcls.2
  obtain ⟨CE, hCE⟩ := (j_aatyR (t := t)).2
  rw [hCE] at hRA
  obtain ⟨kA, comp, k1, k2, k3, -⟩ := hRA
  obtain ⟨kcomp, hkcomp, -⟩ := Vm.findClass_spec k3
  have hass : s.vm.assignable (j_dC G ci) comp = true := by
    rcases hcast with h | ⟨C', h, hw⟩
    · rw [hCE] at h
      cases h
      cases hcls.1.symm.trans k3
      exact va_assign hcls
    · rw [hCE] at h
      cases h
      obtain ⟨c3, c4, hc3, hc4, hasg⟩ := Cond.castable_spec (hG.2.1 _ hw rfl #[])
      cases hcls.1.symm.trans hc3
      cases k3.symm.trans hc4
      exact hasg
  have hin : ¬ Int32.ofInt z < 0 ∧ (Int32.ofInt z).toNatClampNeg < n := ⟨fun q => (j_in h0 hn hsm) (Or.inl q), by rw [j_clamp h0 (by omega)]; omega⟩
  refine W.aast C.1 C.2.1 hc (fun q h => by cases h) (fun h => by cases h) k1 k2 rfl hkcomp ⟨hin.1, by show _ < (arrV _ _ _).slots.size; rw [arrV_size]; exact hin.2⟩ g1 (fun q h => by rw [g3] at h; cases h) (by rw [g2]; exact hkC) (by rw [g2]; exact hass) rfl rfl hd fun H' e1 z1 o1 => ?_
  refine kk p e R s m args below meth c H' _ cells slots mc ms la C h1 h2 h3 h4 h5 h6 (hH.set hK z1 o1 (fun _ _ => rfl) (fun x hx => j_up_a hx) ?_) (j_locs hL) hl hb0
  unfold j_at
  rw [if_neg (by omega), e1, arrV_store, j_clamp h0 (by omega), show Value.ref (j_b G + v) = j_rf (j_b G) (some v) from rfl, j_av_ug h0 (by omega)]
theorem j_aastN {a n t : Nat} {z : Int} (hd : j_D y pc .aastore 1 pc') (hK : K a = some (t + 3, n)) (h0 : 0 ≤ z) (hn : z < n) (kk : j_J G y d B S pc' ls st (N, K, M, j_up g a z none) Q) : j_J G y d B S pc ls (jn_ :: ji_ z :: jr_ a :: st) (N, K, M, g) Q := by
  intro p e R s m args below meth c H locs cells slots mc ms la C h1 h2 h3 h4 h5 h6 hH hL hl hb0
  obtain ⟨hd, rfl⟩ := hd
  obtain ⟨hc, hsm, hle⟩ := hH.arr (t := t + 2) hK
  have hG := C.2.2.2.2.2.2.2.1
  obtain ⟨hAr, -⟩ := j_arrT hG (t := t + 2) hle
  obtain ⟨CE, hCE⟩ := (j_aatyR (t := t)).2
  rw [hCE] at hAr
  have hin := j_in h0 hn hsm
  refine va_WaastN (C := CE) C.1 C.2.1 hc (hAr n _) (fun h => by cases h) (by show ¬ (_ ∨ (arrV _ _ _).slots.size ≤ _); rw [arrV_size]; exact hin) rfl rfl hd fun H' e1 z1 o1 => ?_
  refine kk p e R s m args below meth c H' _ cells slots mc ms la C h1 h2 h3 h4 h5 h6 (hH.set hK z1 o1 (fun _ _ => rfl) (fun x hx => j_up_a hx) ?_) (j_locs hL) hl hb0
  unfold j_at
  rw [if_neg (by omega), e1, arrV_store, j_clamp h0 (by omega), show Value.null = j_rf (j_b G) none from rfl, j_av_ug h0 (by omega)]
/-- rows of a cell that is new -/
def j_nw {α : Type} (M : Nat → Int → α) (a : Nat) (x : α) : Nat → Int → α := fun a' i => if a' = a then x else M a' i
def j_nk (K : Nat → Option (Nat × Nat)) (a t n : Nat) : Nat → Option (Nat × Nat) := fun x => if x = a then some (t, n) else K x
theorem j_nw_ne {α : Type} {M : Nat → Int → α} {a x : Nat} {v : α} (h : x ≠ a) : j_nw M a v x = M x := by funext i; simp [j_nw, h]
theorem j_nw_eq {α : Type} {M : Nat → Int → α} {a : Nat} {v : α} {i : Int} : j_nw M a v a i = v := by simp [j_nw]
theorem j_nk_ne {K : Nat → Option (Nat × Nat)} {a t n x : Nat} (h : x ≠ a) : j_nk K a t n x = K x := by simp [j_nk, h]
theorem j_nk_eq {K : Nat → Option (Nat × Nat)} {a t n : Nat} : j_nk K a t n a = some (t, n) := by simp [j_nk]
theorem j_dfl (ci k : Nat) (h : ci < 10) (hk : k < (j_cls[ci]?.getD ("", j_F_LP, 0)).2.2) : defaultValue (j_ft ci k) = if j_isR ci k = true then .null else .int 0 := by
  revert k
  revert ci
  decide +kernel
theorem j_new {idx ci n : Nat} {q : vw_C} (hd : j_D y pc (.new idx) 3 pc') (hq : j_cls[ci]? = some q) (hn : q.2.2 = n) (hcl : Cond.classLink y.1.cls idx q.1 ∈ lw_tbl) (hins : Cond.instantiable q.1 n ∈ lw_tbl) (hini : Cond.initialized q.1 ∈ lw_tbl) (kk : j_J G y d B S pc' ls (jr_ N :: st) (N + 1, j_nk K N 0 ci, j_nw M N 0, j_nw g N none) Q) : j_J G y d (B + 1) (S + n) pc ls st (N, K, M, g) Q := by
  intro p e R s m args below meth c H locs cells slots mc ms la C h1 h2 h3 h4 h5 h6 hH hL hl hb0
  obtain ⟨hd, rfl⟩ := hd
  subst hn
  have hG := C.2.2.2.2.2.2.2.1
  have hKn := hG.1.1 ci _ hq
  have hsz : H.size = j_b G + N := hH.1
  have hus := j_us (args := args) hG hq
  refine W.newcK C.1 C.2.1 C.2.2.2.2.1 (hG.2.1 _ hcl rfl args) (hG.2.1 _ hins rfl args) (hG.2.1 _ hini rfl args) rfl hd (by omega) (by omega) hKn.2.1 rfl fun H1 kC hkC e1 z1 o1 => ?_
  rw [hsz] at e1
  have hwin := kk p e R s m args below meth c H1 locs (cells + 1) (slots + q.2.2) mc ms la C h1 h2 (by omega) h4 (by omega) h6 (hH.push z1 o1 (fun x hx => j_nw_ne hx) (fun x hx => j_nw_ne hx) (by omega) (by have := (j_lt10 hq).1; omega) ?_) hL hl hb0
  · rw [show (F0 m pc la (st.map (j_val (j_b G)))).stack = st.map (j_val (j_b G)) from rfl, hsz]
    exact hwin
  · unfold j_at
    rw [if_pos rfl]
    refine ⟨q, hq, (u_born (j_ft ci) hus (fun _ h => h) hKn hkC e1 (j_tyk hq)).to fun k hk => ?_⟩
    obtain ⟨hlt, hgd⟩ := j_lt10 hq
    rw [j_dfl ci k hlt (by rw [hgd]; exact hk)]
    unfold j_fv
    split <;> simp [j_nw, j_rf]
theorem j_newa {at0 : ArrayType} {t n : Nat} {z : Int} (hd : j_D y pc (.newarray at0) 2 pc') (ht : (at0 = .int ∧ t = 1) ∨ (at0 = .byte ∧ t = 2)) (hw : Cond.arrayClass (newarray.typeOf at0) ∈ lw_tbl) (hz : z = n) (hn : n ≤ 65536) (kk : j_J G y d B S pc' ls (jr_ N :: st) (N + 1, j_nk K N t n, j_nw M N 0, j_nw g N none) Q) : j_J G y d (B + 1) (S + n) pc ls (ji_ z :: st) (N, K, M, g) Q := by
  intro p e R s m args below meth c H locs cells slots mc ms la C h1 h2 h3 h4 h5 h6 hH hL hl hb0
  obtain ⟨hd, rfl⟩ := hd
  subst hz
  have hG := C.2.2.2.2.2.2.2.1
  have hsz : H.size = j_b G + N := hH.1
  have hcl : (Int32.ofInt (n : Int)).toNatClampNeg = n := by rw [j_clamp (by omega) (by omega)]; omega
  have hneg : ¬ Int32.ofInt (n : Int) < 0 := by
    rw [show (0 : Int32) = Int32.ofInt 0 from rfl, j_ltI (by omega) (by omega)]; omega
  refine W.newa C.1 C.2.1 (hG.2.1 _ hw rfl args) rfl hd rfl hneg (by rw [hcl]; rcases ht with ⟨rfl, -⟩ | ⟨rfl, -⟩ <;> (show n * _ ≤ _; simp [componentBytes, newarray.typeOf]; omega)) (by omega) (by rw [hcl]; omega) fun cA kA comp f1 f2 f3 => ?_
  rw [hcl]
  have hcA : cA = j_dA G t := by
    rcases ht with ⟨rfl, rfl⟩ | ⟨rfl, rfl⟩
    · have := (j_arrT hG (t := 0) (by omega)).2
      exact Option.some.inj (f1.symm.trans this)
    · have := (j_arrT hG (t := 1) (by omega)).2
      exact Option.some.inj (f1.symm.trans this)
  subst hcA
  have hwin := kk p e R s m args below meth c (H.push { cls := j_dA G t, slots := Array.replicate n (defaultValue (newarray.typeOf at0)), vm := .none }) locs (cells + 1) (slots + n) mc ms la C h1 h2 (by omega) h4 (by omega) h6 (hH.push (by simp) (fun q hq => by rw [Array.getElem?_push, if_neg (Nat.ne_of_lt hq)]) (fun x hx => j_nw_ne hx) (fun x hx => j_nw_ne hx) (by rcases ht with ⟨-, rfl⟩ | ⟨-, rfl⟩ <;> omega) hn ?_) hL hl hb0
  · rw [hsz]
    exact hwin
  · unfold j_at
    rw [if_neg (by rcases ht with ⟨-, rfl⟩ | ⟨-, rfl⟩ <;> omega), ← hsz, Array.getElem?_push, if_pos rfl, arrV_new]
    congr 2
    funext j
    rcases ht with ⟨rfl, rfl⟩ | ⟨rfl, rfl⟩ <;> simp [j_av, j_nw, defaultValue, newarray.typeOf]
theorem j_anewa {idx t n : Nat} {z : Int} {C0 : String} (hd : j_D y pc (.anewarray idx) 3 pc') (ht : j_aty (t + 3) = .object C0) (ht6 : t + 3 ≤ 6) (hC : C0 ∈ ["LinePatcher$Text", "LinePatcher$Way", "LinePatcher$Change", "java/lang/Object"]) (hw : Cond.classLink y.1.cls idx C0 ∈ lw_tbl) (hz : z = n) (hn : n ≤ 65536) (kk : j_J G y d B S pc' ls (jr_ N :: st) (N + 1, j_nk K N (t + 3) n, j_nw M N 0, j_nw g N none) Q) : j_J G y d (B + 1) (S + n) pc ls (ji_ z :: st) (N, K, M, g) Q := by
  intro p e R s m args below meth c H locs cells slots mc ms la C h1 h2 h3 h4 h5 h6 hH hL hl hb0
  obtain ⟨hd, rfl⟩ := hd
  subst hz
  have hG := C.2.2.2.2.2.2.2.1
  have hsz : H.size = j_b G + N := hH.1
  have hcl : (Int32.ofInt (n : Int)).toNatClampNeg = n := by rw [j_clamp (by omega) (by omega)]; omega
  have hneg : ¬ Int32.ofInt (n : Int) < 0 := by
    rw [show (0 : Int32) = Int32.ofInt 0 from rfl, j_ltI (by omega) (by omega)]; omega
  refine W.anew C.1 C.2.1 C.2.2.2.2.1 (hG.2.1 _ hw rfl args) ((hG.2.2.1.1 C0 hC).use) rfl hd rfl hneg (by rw [hcl]; omega) (by omega) (by rw [hcl]; omega) fun cA kA comp f1 f2 f3 f4 => ?_
  rw [hcl]
  have hcA : cA = j_dA G (t + 3) := by
    have := (j_arrT hG (t := t + 2) ht6).2
    rw [ht] at this
    obtain ⟨_, _, _, _, _, k4⟩ := this
    exact Option.some.inj (f1.symm.trans k4)
  subst hcA
  have hwin := kk p e R s m args below meth c (H.push { cls := j_dA G (t + 3), slots := Array.replicate n .null, vm := .none }) locs (cells + 1) (slots + n) mc ms la C h1 h2 (by omega) h4 (by omega) h6 (hH.push (by simp) (fun q hq => by rw [Array.getElem?_push, if_neg (Nat.ne_of_lt hq)]) (fun x hx => j_nw_ne hx) (fun x hx => j_nw_ne hx) ht6 hn ?_) hL hl hb0
  · rw [hsz]
    exact hwin
  · unfold j_at
    rw [if_neg (by omega), ← hsz, Array.getElem?_push, if_pos rfl, arrV_new]
    congr 2
    funext j
    simp [j_av, j_nw, j_rf]
/-- java.lang.Object's own constructor -/
theorem j_objInit {idx a : Nat} (hd : j_D y pc (.invokespecial idx) 3 pc') (hl0 : Cond.methodLink y.1.cls idx objectInit ∈ lw_tbl) (hst : st.length ≤ 4) (kk : j_J G y (d + 1) B S pc' ls st (N, K, M, g) Q) : j_J G y (d + 1) B S pc ls (jr_ a :: st) (N, K, M, g) Q := by
  intro p e R s m args below meth c H locs cells slots mc ms la C h1 h2 h3 h4 h5 h6 hH hL hl hb0
  obtain ⟨hd, rfl⟩ := hd
  have hG := C.2.2.2.2.2.2.2.1
  have hsum : ((st.map (j_val (j_b G))).map fun v => v.category).sum ≤ 8 := by
    have key : ∀ l : List j_V, ((l.map (j_val (j_b G))).map fun v => v.category).sum ≤ 2 * l.length := by
      intro l
      induction l with
      | nil => simp
      | cons v r ih =>
        have := lv_cat (j_val (j_b G) v)
        simp only [List.map_cons, List.sum_cons, List.length_cons]
        omega
    have := key st
    omega
  refine W.objInit C.1 C.2.1 C.2.2.2.2.1 (hG.2.1 _ hl0 rfl args) (hG.2.1 (.instanceMethod objectInit) (by decide +kernel) rfl args) (hG.2.1 (.code objectInit ⟨#[0xb1]⟩ 1 none) (by decide +kernel) rfl args) rfl (by rw [C.2.2.1]; exact hl.1) rfl hd (by omega) (by show 2 * 0 + _ + 12 ≤ _; omega) ?_
  exact kk p e R s m args below meth c H locs cells slots mc ms la C h1 h2 h3 h4 h5 h6 hH hL hl hb0
end

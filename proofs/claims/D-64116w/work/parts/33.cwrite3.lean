/-! ===== contracts: write of the component ===== -/
theorem lg_mem {l : List Int} {i : Int} (h0 : 0 ≤ i) (h1 : i < l.length) : lg l i ∈ l := by
  unfold lg
  rw [List.getD_eq_getElem?_getD, List.getElem?_eq_getElem (by omega)]
  exact List.getElem_mem _
def bytL (l : List Int) : Prop := ∀ x ∈ l, 0 ≤ x ∧ x ≤ 255
theorem bytL.r {l : List Int} (h : bytL l) : ∀ i : Int, 0 ≤ i → i < l.length → 0 ≤ lg l i ∧ lg l i ≤ 255 := fun i i0 i1 => h _ (lg_mem i0 i1)
theorem bytL_app {a b : List Int} (h1 : bytL a) (h2 : bytL b) : bytL (a ++ b) := fun x hx => (List.mem_append.mp hx).elim (h1 x) (h2 x)
theorem numT_b {v : Int} (h : 0 ≤ v ∧ v ≤ 99) : bytL (numT v) := by
  intro x hx
  unfold numT at hx
  split at hx
  · simp only [List.mem_cons, List.not_mem_nil, or_false] at hx
    omega
  · simp only [List.mem_cons, List.not_mem_nil, or_false] at hx
    omega
theorem hdT_b {x dx y dy : Int} (h1 : 0 ≤ x ∧ x ≤ 99) (h2 : 0 ≤ dx ∧ dx ≤ 99) (h3 : 0 ≤ y ∧ y ≤ 99) (h4 : 0 ≤ dy ∧ dy ≤ 99) : bytL (hdT x dx y dy) := by
  have one : ∀ c : Int, 0 ≤ c ∧ c ≤ 255 → bytL [c] := fun c hc z hz => by rw [List.mem_singleton] at hz; subst hz; exact hc
  unfold hdT
  exact bytL_app (bytL_app (bytL_app (bytL_app (bytL_app (bytL_app (bytL_app (bytL_app (one 64 (by omega)) (numT_b h1)) (one 44 (by omega))) (numT_b h2)) (one 32 (by omega))) (numT_b h3)) (one 44 (by omega))) (numT_b h4)) (one 10 (by omega))
theorem rowsT_b {L : List (Int × Int)} (h : ∀ p ∈ L, 0 ≤ p.1 ∧ p.1 ≤ 255 ∧ 0 ≤ p.2 ∧ p.2 ≤ 255) : bytL (rowsT L) := by
  induction L with
  | nil => intro x hx; cases hx
  | cons p L ih =>
    have hp := h p (by simp)
    intro x hx
    simp only [rowsT, List.mem_cons] at hx
    rcases hx with rfl | rfl | rfl | hx
    · omega
    · omega
    · omega
    · exact ih (fun q hq => h q (by simp [hq])) x hx
theorem sl_mem {l : List Int} {a b x : Int} (h : x ∈ sl l a b) : x ∈ l := by
  unfold sl at h
  exact List.mem_of_mem_drop (List.mem_of_mem_take h)
theorem mem_lg {l : List Int} {x : Int} (h : x ∈ l) : ∃ i : Int, 0 ≤ i ∧ i < l.length ∧ lg l i = x := by
  obtain ⟨k, hk, he⟩ := List.getElem_of_mem h
  refine ⟨(k : Int), by omega, by omega, ?_⟩
  unfold lg
  rw [List.getD_eq_getElem?_getD, show ((k : Int)).toNat = k by omega, List.getElem?_eq_getElem hk]
  exact he
theorem chL.b {l : List Int} (h : chL l) : ∀ x ∈ l, 0 ≤ x ∧ x ≤ 127 := fun x hx => by
  obtain ⟨i, i0, i1, e⟩ := mem_lg hx
  rw [← e]; exact h i i0 i1
theorem kpL_b {k : Int} {l : List Int} {a b : Int} (hk : 0 ≤ k ∧ k ≤ 255) (hl : chL l) : ∀ p ∈ kpL k l a b, 0 ≤ p.1 ∧ p.1 ≤ 255 ∧ 0 ≤ p.2 ∧ p.2 ≤ 255 := by
  intro p hp
  unfold kpL at hp
  obtain ⟨x, hx, rfl⟩ := List.mem_map.mp hp
  have := hl.b x (sl_mem hx)
  dsimp only
  omega
theorem mid_b {l1 l2 : List Int} (h1 : chL l1) (h2 : chL l2) (R : List c4) : ∀ s z, ∀ p ∈ midOf l1 l2 s R z, 0 ≤ p.1 ∧ p.1 ≤ 255 ∧ 0 ≤ p.2 ∧ p.2 ≤ 255 := by
  induction R with
  | nil => intro s z p hp; exact kpL_b (by omega) h1 p hp
  | cons c R ih =>
    intro s z p hp
    rw [midOf] at hp
    rcases List.mem_append.mp hp with q | q
    · exact kpL_b (by omega) h1 p q
    · rcases List.mem_append.mp q with q | q
      · exact kpL_b (by omega) h1 p q
      · rcases List.mem_append.mp q with q | q
        · exact kpL_b (by omega) h2 p q
        · exact ih _ _ p q
theorem lsC_snoc (T : List c4) : ∀ c c', lsC c (T ++ [c']) = c' := by
  induction T with
  | nil => intro c c'; rfl
  | cons a T ih => intro c c'; exact ih a c'
/-- the changes of a comparison -/
def chgF (l1 l2 : List Int) (w : Int) : List c4 := clF (mtF l1 l2 w) l1.length l2.length 49 0 0
theorem chgF_ok {l1 l2 : List Int} {w : Int} (h1 : (l1.length : Int) ≤ 24) (h2 : (l2.length : Int) ≤ 24) : CLp (mtF l1 l2 w) l1.length l2.length 0 0 (chgF l1 l2 w) := by
  have hg := mtF_gm (l1 := l1) (l2 := l2) (way := w)
  exact clF_ok h1 hg.1 (fun s t s0 st t1 => hg.2 s t s0 st t1) 49 0 0 (by omega) (by omega) (by omega) (by omega) (by omega) (fun t t0 t1 t2 => by have := hg.1 t t0 t1; omega)
def fWrite (A : AS) (ctx : Int) : Int × AS := if 0 ≤ ctx ∧ ctx ≤ 3 then (match A.2.1 with
  | none => (-3, A)
  | some (l1, l2, w) => (wrN ctx 26 (chgF l1 l2 w), (A.1, A.2.1, wrT l1 l2 ctx 26 (chgF l1 l2 w)))) else (-1, A)
section
variable {G : j_G} {d N : Nat} {K : Nat → Option (Nat × Nat)} {M : Nat → Int → Int} {g : Nat → Int → Option Nat} {l1 l2 : List Int} {A : AS}
/-- what a hunk needs -/
theorem hk_pre {ctx i j : Int} {c : c4} {gs R : List c4} {P : Int} (hctx : 0 ≤ ctx ∧ ctx ≤ 3) (hn : (l1.length : Int) ≤ 24) (hm : (l2.length : Int) ≤ 24) (hi : 0 ≤ i) (hj : 0 ≤ j) (h : vl l1.length l2.length i j (c :: gs ++ R)) (hb : min ctx c.1 ≤ c.1 - i) (hg : farC ctx (lsC c gs).2.1 R) (hP : P + 16 * ((l1.length - i) + (l2.length - j)) ≤ 900) :
    P + 13 + 3 * (midOf l1 l2 (c.1 - min ctx c.1) (c :: gs) ((lsC c gs).2.1 + min ctx (l1.length - (lsC c gs).2.1))).length ≤ 900 ∧ (lsC c gs).2.2.2 + min ctx (l1.length - (lsC c gs).2.1) ≤ l2.length ∧
    ∃ i' j' : Int, 0 ≤ i' ∧ 0 ≤ j' ∧ i' ≤ l1.length ∧ j' ≤ l2.length ∧ vl l1.length l2.length i' j' R ∧ P + (hkT l1 l2 ctx c gs).length + 16 * ((l1.length - i') + (l2.length - j')) ≤ 900 ∧ stC ctx i' R := by
  obtain ⟨a1, a2, a3, a4, a5, a6⟩ := vl_app gs R c i j h
  obtain ⟨b1, b2, b3, b4⟩ := hk_len (l1 := l1) (l2 := l2) rfl rfl hctx.1 gs R hi hj h hb hg
  have hc1 : i ≤ c.1 := h.1
  have hcy : c.1 - i = c.2.2.1 - j := h.2.1
  refine ⟨by omega, b3, (lsC c gs).2.1 + min ctx (l1.length - (lsC c gs).2.1), (lsC c gs).2.2.2 + min ctx (l1.length - (lsC c gs).2.1), by omega, by omega, by omega, b3, b4, by omega, ?_⟩
  cases R with
  | nil => trivial
  | cons c' R =>
    have : 2 * ctx < c'.1 - (lsC c gs).2.1 := hg
    show min ctx c'.1 ≤ c'.1 - _
    omega
theorem hkT_b {ctx i j : Int} {c : c4} {gs R : List c4} (hctx : 0 ≤ ctx ∧ ctx ≤ 3) (hn : (l1.length : Int) ≤ 24) (hm : (l2.length : Int) ≤ 24) (hi : 0 ≤ i) (hj : 0 ≤ j) (h : vl l1.length l2.length i j (c :: gs ++ R)) (hb : min ctx c.1 ≤ c.1 - i) (hey : (lsC c gs).2.2.2 + min ctx (l1.length - (lsC c gs).2.1) ≤ l2.length) (c1 : chL l1) (c2 : chL l2) : bytL (hkT l1 l2 ctx c gs) := by
  obtain ⟨a1, a2, a3, a4, a5, a6⟩ := vl_app gs R c i j h
  have hc1 : i ≤ c.1 := h.1
  have hcy : c.1 - i = c.2.2.1 - j := h.2.1
  exact bytL_app (hdT_b (by omega) (by omega) (by omega) (by omega)) (rowsT_b (mid_b c1 c2 _ _ _))
theorem ct_LP_write {ctx : Int} (hs : rSh K g) (hc : cInv M A) (ha : aInv A) (hctx : -2147483648 ≤ ctx ∧ ctx ≤ 2147483647) : j_Ct G jm_LP_write (d + 3) 0 0 [jr_ 0, ji_ ctx] (N, K, M, g) (j_pI N K g (cP M (fWrite A ctx))) := by
  refine j_Ct.ofJ (ls := [jr_ 0, ji_ ctx, ju_, ju_, ju_]) (by decide) rfl rfl ?_
  refine s_LP_write_0 (ct_LP_within hctx (by omega) (by omega)) (fun z M1 hq => ?_)
  obtain ⟨hM, hz⟩ := hq
  subst hM
  refine s_LP_write_6 (r1 := by omega) (k1 := fun c => ?_) (k2 := fun c => ⟨_, M1, rfl, rfl, by unfold fWrite; rw [if_neg (by omega)]; exact ⟨rfl, hc, ha, cOut.rfl⟩⟩)
  unfold fWrite
  rw [if_pos (by omega)]
  have hctx' : 0 ≤ ctx ∧ ctx ≤ 3 := by omega
  have hla := hc.2.1
  obtain ⟨hb14, hla⟩ := hla
  match hC : A.2.1, hla with
  | none, ⟨q1, _⟩ => exact s_LP_write_11 hs.K0 (r1 := by omega) (k1 := fun q => absurd q1 q) (k2 := fun _ => ⟨_, M1, rfl, rfl, rfl, hc, ha, cOut.rfl⟩)
  | some (l1, l2, w), ⟨q1, q2, q3, q4⟩ =>
    show j_J G jm_LP_write (d + 3) 0 0 11 _ [] _ (j_pI N K g (cP M1 (wrN ctx 26 (chgF l1 l2 w), (A.1, some (l1, l2, w), wrT l1 l2 ctx 26 (chgF l1 l2 w)))))
    obtain ⟨al1, al2, n24, m24⟩ := ha.2.1 l1 l2 w hC
    have hCL := chgF_ok (w := w) n24 m24
    refine s_LP_write_11 hs.K0 (r1 := by omega) (k1 := fun _ => ?_) (k2 := fun q => by omega)
    refine s_LP_write_21 hs.K0 (ct_LP_findChanges (d := d + 2) hs q2 q3 q4 mtF_gm hCL) (fun M2 hq => ?_)
    obtain ⟨w1, w2, w3⟩ := hq
    have hLl := (CLp_len _ 0 0 (by omega) hCL).1
    have hvl := CLp.vl _ _ _ hCL
    generalize chgF l1 l2 w = L at hCL w1 w2 hLl hvl ⊢
    refine s_LP_write_25 hs.K0 hs.G0_10 hs.K30 ?_
    have hp0 : cPp (j_up M2 30 1 0) [] := ⟨by rw [j_up_eq]; rfl, by simp, fun i i0 i1 => by simp at i1; omega, fun i i0 i1 => by rw [j_up_a (by omega), w3.1 31 (by omega) (by omega)]; exact hc.2.2.2.2.2.2 i i0 i1⟩
    have f0 : cF3 M2 (j_up M2 30 1 0) := ⟨fun a a1 a2 => j_up_a a1, fun k hk => j_up_ne (Or.inr hk)⟩
    have fin : ∀ (P : List Int) (cnt : Int) (M3 : Nat → Int → Int), cPp M3 P → bytL P → (P.length : Int) ≤ 900 → cF3 M2 M3 → cP M1 (cnt, (A.1, some (l1, l2, w), P)) cnt M3 := by
      intro P cnt M3 hp3 hPb hPl hf3
      have fM : ∀ a, a ≠ 0 → (a < 30 ∨ 31 < a) → (a < 42 ∨ 66 < a) → M3 a = M1 a := fun a a1 a2 a3 => by rw [hf3.1 a (by omega) (by omega), w3.1 a a1 a3]
      have e7 : M3 0 7 = M1 0 7 := by rw [hf3.1 0 (by omega) (by omega), w3.2 7 (by omega)]
      refine ⟨rfl, ⟨fun t t0 t1 => ?_, ?_, hc.2.2.1.kept (fun a a1 a2 => fM a (by omega) (by omega) (by omega)), hp3⟩, ⟨ha.1, fun x1 x2 x3 e => ?_, hPb.r, hPl⟩, fun a a1 => fM a (by omega) (by omega) (by omega)⟩
      · have ct := tA_c t0 t1
        exact (hc.1 t t0 t1).kept (fM _ (by omega) (by omega) (by omega)) (fM _ (by omega) (by omega) (by omega))
      · have := hc.2.1.kept (M' := M3) e7 (fun a a1 a2 => fM a (by omega) (by omega) (by omega))
        rw [hC] at this
        exact this
      · cases e
        exact ⟨al1, al2, n24, m24⟩
    suffices lp : ∀ (f : Nat) (B R : List c4) (P : List Int) (i j cnt : Int) (M3 : Nat → Int → Int) (u4 : j_V), R.length ≤ f → L = B ++ R → 0 ≤ i → 0 ≤ j → i ≤ l1.length → j ≤ l2.length → vl l1.length l2.length i j R → stC ctx i R → (P.length : Int) + 16 * ((l1.length - i) + (l2.length - j)) ≤ 900 → bytL P → 0 ≤ cnt → cnt ≤ B.length → cPp M3 P → cF3 M2 M3 →
        j_J G jm_LP_write (d + 3) 0 0 37 [jr_ 0, ji_ ctx, ji_ cnt, ji_ (B.length : Int), u4] [] (N, K, M3, g) (j_pI N K g (cP M1 (cnt + wrN ctx f R, (A.1, some (l1, l2, w), P ++ wrT l1 l2 ctx f R)))) by
      have := lp 26 [] L [] 0 0 0 _ ju_ (by omega) rfl (by omega) (by omega) (by omega) (by omega) hvl (by
        cases L with
        | nil => trivial
        | cons c L => show min ctx c.1 ≤ c.1 - 0; omega) (by simp; omega) (fun x hx => by cases hx) (by omega) (by simp) hp0 f0
      rw [Int.zero_add, List.nil_append] at this
      exact this
    intro f
    induction f with
    | zero =>
      intro B R P i j cnt M3 u4 hR hL hi hj hin hjm hv hst hPl hPb c0 c1 hp3 hf3
      have : R = [] := List.length_eq_zero_iff.mp (by omega)
      subst this
      rw [List.append_nil] at hL
      subst hL
      have e9 : M3 0 9 = L.length := by rw [hf3.1 0 (by omega) (by omega)]; exact w2
      refine s_LP_write_37 hs.K0 (r2 := by rw [e9]; omega) (k1 := fun _ => ⟨_, M3, rfl, rfl, ?_⟩) (k2 := fun q => by omega)
      have := fin P cnt M3 hp3 hPb (by omega) hf3
      rw [wrN, wrT, Int.add_zero, List.append_nil]
      exact this
    | succ f ih =>
      intro B R P i j cnt M3 u4 hR hL hi hj hin hjm hv hst hPl hPb c0 c1 hp3 hf3
      have e9 : M3 0 9 = L.length := by rw [hf3.1 0 (by omega) (by omega)]; exact w2
      cases R with
      | nil =>
        rw [List.append_nil] at hL
        subst hL
        refine s_LP_write_37 hs.K0 (r2 := by rw [e9]; omega) (k1 := fun _ => ⟨_, M3, rfl, rfl, ?_⟩) (k2 := fun q => by omega)
        have := fin P cnt M3 hp3 hPb (by omega) hf3
        have x1 : wrN ctx (f + 1) [] = 0 := rfl
        have x2 : wrT l1 l2 ctx (f + 1) [] = [] := rfl
        rw [x1, x2, Int.add_zero, List.append_nil]
        exact this
      | cons c R0 =>
        have hLlen : (L.length : Int) = B.length + (R0.length + 1) := by rw [hL, List.length_append, List.length_cons]; omega
        rw [List.length_cons] at hR
        have w1' : cCh M3 B.length (c :: R0) := by
          have := w1.kept (M' := M3) L 0 (fun a a1 a2 => hf3.1 a (by omega) (by omega))
          rw [hL] at this
          have := ((cCh.app B (c :: R0) 0).mp this).2
          rw [Nat.zero_add] at this
          exact this
        have x1 : wrN ctx (f + 1) (c :: R0) = 1 + wrN ctx f (R0.drop (tkN ctx c R0)) := rfl
        have x2 : wrT l1 l2 ctx (f + 1) (c :: R0) = hkT l1 l2 ctx c (R0.take (tkN ctx c R0)) ++ wrT l1 l2 ctx f (R0.drop (tkN ctx c R0)) := rfl
        have htk := tkN_le (ctx := ctx) R0 c
        have htd : R0.take (tkN ctx c R0) ++ R0.drop (tkN ctx c R0) = R0 := List.take_append_drop _ _
        have hgap := tkN_gap (ctx := ctx) R0 c
        have htl : (R0.take (tkN ctx c R0)).length = tkN ctx c R0 := by rw [List.length_take]; omega
        have hdl : (R0.drop (tkN ctx c R0)).length = R0.length - tkN ctx c R0 := List.length_drop
        refine s_LP_write_37 hs.K0 (r2 := by rw [e9]; omega) (k1 := fun q => by omega) (k2 := fun _ => ?_)
        -- the hunk is written
        have k94 : j_J G jm_LP_write (d + 3) 0 0 94 [jr_ 0, ji_ ctx, ji_ cnt, ji_ (B.length : Int), ji_ ((B.length + tkN ctx c R0 : Nat) : Int)] [] (N, K, M3, g) (j_pI N K g (cP M1 (cnt + wrN ctx (f + 1) (c :: R0), (A.1, some (l1, l2, w), P ++ wrT l1 l2 ctx (f + 1) (c :: R0))))) := by
          rw [x1, x2]
          generalize hgs : R0.take (tkN ctx c R0) = gs at htd hgap htl
          generalize hds : R0.drop (tkN ctx c R0) = ds at htd hgap hdl
          have hv' : vl l1.length l2.length i j (c :: gs ++ ds) := by rw [List.cons_append, htd]; exact hv
          obtain ⟨p1, p2, i', j', p3, p4, p5, p6, p7, p8, p9⟩ := hk_pre hctx' n24 m24 hi hj hv' hst hgap hPl
          have hch' : cCh M3 B.length (c :: gs) := by
            rw [← htd, ← List.cons_append] at w1'
            exact ((cCh.app (c :: gs) ds _).mp w1').1
          have t1 : cTx M3 10 l1 := (q2.kept (w3.1 _ (by omega) (by omega)) (w3.1 _ (by omega) (by omega))).kept (hf3.1 _ (by omega) (by omega)) (hf3.1 _ (by omega) (by omega))
          have t2 : cTx M3 12 l2 := (q3.kept (w3.1 _ (by omega) (by omega)) (w3.1 _ (by omega) (by omega))).kept (hf3.1 _ (by omega) (by omega)) (hf3.1 _ (by omega) (by omega))
          have hkb := hkT_b hctx' n24 m24 hi hj hv' hst p2 (allL_ch al1) (allL_ch al2)
          refine s_LP_write_94 hs.K0 (hC := by rw [← htl]; exact ct_LP_writeHunk (d := d) hs hp3 t1 t2 hch' (by omega) hctx' hi hj hv' hst p2 p1) (k1 := fun M4 hq => ?_)
          refine s_LP_write_102 ?_
          have hPl' : ((P ++ hkT l1 l2 ctx c gs).length : Int) = P.length + (hkT l1 l2 ctx c gs).length := by rw [List.length_append]; omega
          have hBl : (B ++ c :: gs).length = B.length + tkN ctx c R0 + 1 := by rw [List.length_append, List.length_cons]; omega
          have := ih (B ++ c :: gs) ds (P ++ hkT l1 l2 ctx c gs) i' j' (cnt + 1) M4 (ji_ ((B.length + tkN ctx c R0 : Nat) : Int)) (by omega) (by rw [hL, ← htd, List.append_assoc]; rfl) p3 p4 p5 p6 p7 p9 (by omega) (bytL_app hPb hkb) (by omega) (by omega) hq.1 (hf3.trans hq.2)
          rw [hBl, show ((B.length + tkN ctx c R0 + 1 : Nat) : Int) = ((B.length + tkN ctx c R0 : Nat) : Int) + 1 by omega, show cnt + 1 + wrN ctx f ds = cnt + (1 + wrN ctx f ds) by omega, List.append_assoc] at this
          exact this
        suffices ls : ∀ (r T : List c4), T ++ r = R0 → tkN ctx c R0 = T.length + tkN ctx (lsC c T) r → j_J G jm_LP_write (d + 3) 0 0 48 [jr_ 0, ji_ ctx, ji_ cnt, ji_ (B.length : Int), ji_ ((B.length + T.length : Nat) : Int)] [] (N, K, M3, g) (j_pI N K g (cP M1 (cnt + wrN ctx (f + 1) (c :: R0), (A.1, some (l1, l2, w), P ++ wrT l1 l2 ctx (f + 1) (c :: R0))))) from
          ls R0 [] rfl (by simp [lsC])
        intro r
        induction r with
        | nil =>
          intro T hT htk'
          rw [List.append_nil] at hT
          have : tkN ctx c R0 = T.length := by rw [htk']; rfl
          rw [← this]
          subst hT
          exact s_LP_write_48 hs.K0 (r2 := by rw [e9]; omega) (k1 := fun _ => k94) (k2 := fun q => by omega)
        | cons c' r ihr =>
          intro T hT htk'
          have hRl : R0.length = T.length + (r.length + 1) := by rw [← hT, List.length_append, List.length_cons]
          have w1'' := w1'
          rw [← hT, ← List.cons_append] at w1''
          obtain ⟨y1, y2⟩ := (cCh.app (c :: T) (c' :: r) _).mp w1''
          have yl := (cCh_last T c _ y1).1
          obtain ⟨y3, -⟩ := y2
          rw [List.length_cons, show B.length + (T.length + 1) = B.length + T.length + 1 by omega] at y3
          obtain ⟨ga, ka⟩ := hs.chg (k := B.length + T.length) (by omega)
          obtain ⟨gb, kb⟩ := hs.chg (k := B.length + T.length + 1) (by omega)
          have ec : ((B.length + T.length : Nat) : Int) + 1 = ((B.length + T.length + 1 : Nat) : Int) := by omega
          have hcr : 0 ≤ c'.1 ∧ c'.1 ≤ 24 ∧ 0 ≤ (lsC c T).2.1 ∧ (lsC c T).2.1 ≤ 24 := by
            have hv2 := hv
            rw [← hT, ← List.cons_append] at hv2
            obtain ⟨z1, z2, z3, z4, z5, z6⟩ := vl_app T (c' :: r) c i j hv2
            obtain ⟨z7, z8, z9, z10, -⟩ := z1
            have := hv.1
            omega
          refine s_LP_write_48 hs.K0 (r2 := by rw [e9]; omega) (k1 := fun q => by omega) (k2 := fun _ => ?_)
          refine s_LP_write_59 hs.K0 hs.G0_8 (tg2 := 2) hs.K29 (r3 := by omega) (r3' := by omega) (hg5 := by rw [ec]; exact gb) (hk3 := kb) (tg4 := 2) (hk4 := hs.K29) (r6 := by omega) (r6' := by omega) (hg8 := ga) (hk5 := ka) (r9 := by rw [y3, yl]; omega) (k1 := fun q => ?_) (k2 := fun q => ?_)
          · rw [y3, yl] at q
            have : tkN ctx c R0 = T.length := by rw [htk', tkN, if_neg (by omega)]; rfl
            rw [← this]
            exact k94
          · rw [y3, yl] at q
            have := ihr (T ++ [c']) (by rw [List.append_assoc]; exact hT) (by rw [htk', lsC_snoc, tkN, if_pos q, List.length_append, List.length_singleton]; omega)
            rw [List.length_append, List.length_singleton] at this
            rw [ec]
            exact this
end

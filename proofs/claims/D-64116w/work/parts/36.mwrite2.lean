/-! ===== contracts: write of the model ===== -/
section
variable {G : j_G} {d N : Nat} {K : Nat → Option (Nat × Nat)} {M : Nat → Int → Int} {g : Nat → Int → Option Nat} {m : Nat} {A : AS}
theorem ct_Mo_write {ctx : Int} (h : rMo K g m) (hc : mInv M m A) (ha : aInv A) (hctx : -2147483648 ≤ ctx ∧ ctx ≤ 2147483647) : j_Ct G jm_Mo_write (d + 3) 0 0 [jr_ m, ji_ ctx] (N, K, M, g) (j_pI N K g (mP m M (fWrite A ctx))) := by
  refine j_Ct.ofJ (ls := [jr_ m, ji_ ctx, ju_, ju_, ju_, ju_, ju_]) (by decide) rfl rfl ?_
  refine s_Mo_write_0 (ct_Mo_within hctx (by omega) (by omega)) (fun z M1 hq => ?_)
  obtain ⟨hM, hz⟩ := hq
  subst hM
  refine s_Mo_write_6 (r1 := by omega) (k1 := fun c => ?_) (k2 := fun c => ⟨_, M1, rfl, rfl, by unfold fWrite; rw [if_neg (by omega)]; exact ⟨rfl, hc, mOut.rfl⟩⟩)
  unfold fWrite
  rw [if_pos (by omega)]
  have hctx' : 0 ≤ ctx ∧ ctx ≤ 3 := by omega
  have hla := hc.2.1
  match hC : A.2.1, hla with
  | none, q1 => exact s_Mo_write_11 h.o (r1 := by rw [q1]; omega) (k1 := fun q => absurd q1 q) (k2 := fun _ => ⟨_, M1, rfl, rfl, rfl, hc, mOut.rfl⟩)
  | some (l1, l2, w), hcp =>
    show j_J G jm_Mo_write (d + 3) 0 0 11 _ [] _ (j_pI N K g (mP m M1 (wrN ctx 26 (chgF l1 l2 w), (A.1, some (l1, l2, w), wrT l1 l2 ctx 26 (chgF l1 l2 w)))))
    obtain ⟨al1, al2, n24, m24⟩ := ha.2.1 l1 l2 w hC
    have hCL := chgF_ok (w := w) n24 m24
    have h15 : M1 m 15 = 1 := hcp.1
    refine s_Mo_write_11 h.o (r1 := by omega) (k1 := fun _ => ?_) (k2 := fun q => by omega)
    refine s_Mo_write_21 h.o (ct_Mo_row (d := d + 1) h hcp n24 m24 mtF_gm hCL) (fun M2 hq => ?_)
    obtain ⟨w1, w2, w3⟩ := hq
    have hLl := (CLp_len _ 0 0 (by omega) hCL).1
    have hvl := CLp.vl _ _ _ hCL
    generalize chgF l1 l2 w = L at hCL w1 w2 hLl hvl ⊢
    have hTl := mid_tot (l1 := l1) (l2 := l2) rfl rfl L 0 0 (by omega) (by omega) hvl
    have hsm : smO (midOf l1 l2 0 L l1.length) := mid_b (allL_ch al1) (allL_ch al2) L 0 l1.length
    refine s_Mo_write_25 h.o ?_
    have f0 : j_fm m [24] [m + 18] M2 (j_up M2 m 24 0) := j_fm.fld (by simp)
    have p0 : mPp (j_up M2 m 24 0) m [] := ⟨j_up_eq _ _ _ _, fun i i0 i1 => by simp at i1; omega⟩
    have fin : ∀ (P : List Int) (cnt : Int) (M3 : Nat → Int → Int), mPp M3 m P → j_fm m [24] [m + 18] M2 M3 → mP m M1 (cnt, (A.1, some (l1, l2, w), P)) cnt M3 := by
      intro P cnt M3 hp3 hf3
      have ft : j_fm m [21, 24] [m + 16, m + 17, m + 18] M1 M3 := (w3.mono (by simp) (by simp)).trans (hf3.mono (by simp) (by simp))
      have := mInv.paper hc ft (by simp) (by simp) hp3.1 hp3.2
      rw [hC] at this
      exact ⟨rfl, this, mOut.of ft (by simp)⟩
    suffices lp : ∀ (f : Nat) (R : List c4) (Pre : List (Int × Int)) (P : List Int) (px py i j cnt : Int) (M3 : Nat → Int → Int) (u4 u5 u6 : j_V), R.length ≤ f → Pre ++ midOf l1 l2 px R l1.length = midOf l1 l2 0 L l1.length → 0 ≤ px → 0 ≤ py → px ≤ l1.length → vl l1.length l2.length px py R → oth 43 Pre = px → oth 45 Pre = py → ((Pre = [] ∧ px = 0) ∨ farC ctx px R) → 0 ≤ i → 0 ≤ j → vl l1.length l2.length i j R → stC ctx i R → i ≤ l1.length → j ≤ l2.length → (P.length : Int) + 16 * ((l1.length - i) + (l2.length - j)) ≤ 900 → 0 ≤ cnt → cnt ≤ 1000 - R.length → mPp M3 m P → j_fm m [24] [m + 18] M2 M3 →
        j_J G jm_Mo_write (d + 3) 0 0 34 [jr_ m, ji_ ctx, ji_ cnt, ji_ (Pre.length : Int), u4, u5, u6] [] (N, K, M3, g) (j_pI N K g (mP m M1 (cnt + wrN ctx f R, (A.1, some (l1, l2, w), P ++ wrT l1 l2 ctx f R)))) by
      have := lp 26 L [] [] 0 0 0 0 0 _ ju_ ju_ ju_ (by omega) rfl (by omega) (by omega) (by omega) hvl rfl rfl (Or.inl ⟨rfl, rfl⟩) (by omega) (by omega) hvl (by
        cases L with
        | nil => trivial
        | cons c L => show min ctx c.1 ≤ c.1 - 0; have := hvl.1; omega) (by omega) (by omega) (by simp; omega) (by omega) (by omega) p0 f0
      rw [Int.zero_add, List.nil_append] at this
      exact this
    -- kept lines are passed
    have skip : ∀ (k : Nat) (Pre S : List (Int × Int)) (Ks : List (Int × Int)) (cnt : Int) (M3 : Nat → Int → Int) (u4 u5 u6 : j_V) (Q : j_O → j_S → Prop), Ks.length = k → (∀ p ∈ Ks, p.1 = 32) → Pre ++ (Ks ++ S) = midOf l1 l2 0 L l1.length → j_fm m [24] [m + 18] M2 M3 →
        j_J G jm_Mo_write (d + 3) 0 0 34 [jr_ m, ji_ ctx, ji_ cnt, ji_ ((Pre ++ Ks).length : Int), u4, u5, u6] [] (N, K, M3, g) Q → j_J G jm_Mo_write (d + 3) 0 0 34 [jr_ m, ji_ ctx, ji_ cnt, ji_ (Pre.length : Int), u4, u5, u6] [] (N, K, M3, g) Q := by
      intro k
      induction k with
      | zero =>
        intro Pre S Ks cnt M3 u4 u5 u6 Q hk h32 hO hf3 kk
        have : Ks = [] := List.length_eq_zero_iff.mp hk
        subst this
        rw [List.append_nil] at kk
        exact kk
      | succ k ih =>
        intro Pre S Ks cnt M3 u4 u5 u6 Q hk h32 hO hf3 kk
        cases Ks with
        | nil => simp at hk
        | cons p Ks =>
          rw [List.length_cons] at hk
          have hOl := congrArg List.length hO
          rw [List.length_append, List.length_append, List.length_cons] at hOl
          have e21 : M3 m 21 = (midOf l1 l2 0 L l1.length).length := by rw [hf3.2 _ (by simp)]; exact w1
          have e16 : M3 (m + 16) Pre.length = 32 := by
            rw [hf3.1 _ (by omega) (by simp)]
            rw [← hO] at w2
            have := ((mOp.app Pre _ 0).mp w2).2
            rw [Int.zero_add] at this
            obtain ⟨y1, -⟩ := this
            rw [y1]; exact h32 p (by simp)
          refine s_Mo_write_34 h.o (r2 := by rw [e21]; omega) (k1 := fun q => by omega) (k2 := fun _ => ?_)
          refine s_Mo_write_42 h.o h.g22 h.k16 (r3 := by omega) (r3' := by omega) (r4 := by rw [e16]; omega) (k1 := fun q => absurd e16 q) (k2 := fun _ => ?_)
          have := ih (Pre ++ [p]) S Ks cnt M3 u4 u5 u6 Q (by omega) (fun q hq => h32 q (by simp [hq])) (by rw [List.append_assoc]; exact hO) hf3 (by rw [List.append_assoc]; exact kk)
          rw [List.length_append, List.length_singleton, show ((Pre.length + 1 : Nat) : Int) = (Pre.length : Int) + 1 by omega] at this
          exact this
    intro f
    induction f with
    | zero =>
      intro R Pre P px py i j cnt M3 u4 u5 u6 hR hO hpx hpy hpn hv o43 o45 hfar hi hj hvi hst hin hjm hPl c0 c1 hp3 hf3
      have : R = [] := List.length_eq_zero_iff.mp (by omega)
      subst this
      rw [midOf] at hO
      have e21 : M3 m 21 = (midOf l1 l2 0 L l1.length).length := by rw [hf3.2 _ (by simp)]; exact w1
      refine skip _ Pre [] (kpL 32 l1 px l1.length) cnt M3 u4 u5 u6 _ rfl kpL_32 (by rw [List.append_nil]; exact hO) hf3 ?_
      rw [hO]
      refine s_Mo_write_34 h.o (r2 := by rw [e21]; omega) (k1 := fun _ => ⟨_, M3, rfl, rfl, ?_⟩) (k2 := fun q => by omega)
      rw [wrN, wrT, Int.add_zero, List.append_nil]
      exact fin P cnt M3 hp3 hf3
    | succ f ih =>
      intro R Pre P px py i j cnt M3 u4 u5 u6 hR hO hpx hpy hpn hv o43 o45 hfar hi hj hvi hst hin hjm hPl c0 c1 hp3 hf3
      have e21 : M3 m 21 = (midOf l1 l2 0 L l1.length).length := by rw [hf3.2 _ (by simp)]; exact w1
      cases R with
      | nil =>
        rw [midOf] at hO
        refine skip _ Pre [] (kpL 32 l1 px l1.length) cnt M3 u4 u5 u6 _ rfl kpL_32 (by rw [List.append_nil]; exact hO) hf3 ?_
        rw [hO]
        refine s_Mo_write_34 h.o (r2 := by rw [e21]; omega) (k1 := fun _ => ⟨_, M3, rfl, rfl, ?_⟩) (k2 := fun q => by omega)
        have x1 : wrN ctx (f + 1) [] = 0 := rfl
        have x2 : wrT l1 l2 ctx (f + 1) [] = [] := rfl
        rw [x1, x2, Int.add_zero, List.append_nil]
        exact fin P cnt M3 hp3 hf3
      | cons c R0 =>
        rw [List.length_cons] at hR c1
        have x1 : wrN ctx (f + 1) (c :: R0) = 1 + wrN ctx f (R0.drop (tkN ctx c R0)) := rfl
        have x2 : wrT l1 l2 ctx (f + 1) (c :: R0) = hkT l1 l2 ctx c (R0.take (tkN ctx c R0)) ++ wrT l1 l2 ctx f (R0.drop (tkN ctx c R0)) := rfl
        have hdl : (R0.drop (tkN ctx c R0)).length ≤ R0.length := by rw [List.length_drop]; omega
        have htd : R0.take (tkN ctx c R0) ++ R0.drop (tkN ctx c R0) = R0 := List.take_append_drop _ _
        have hgap := tkN_gap (ctx := ctx) R0 c
        have hlo := fun e => lo_mid (l1 := l1) (l2 := l2) rfl rfl hctx'.1 R0 c px py e hpx hpy hv
        have hvp := hv
        obtain ⟨v1, v2, v3, v4, v5, v6, v7, v8⟩ := hv
        rw [x1, x2]
        have hkx := kpL_len (k := 32) (l := l1) hpx v1 (by omega)
        -- the kept lines in front
        rw [mid_kp (c :: R0) (s := px) (t := c.1) hpx v1 (Int.le_refl _)] at hO
        refine skip _ Pre (midOf l1 l2 c.1 (c :: R0) l1.length) (kpL 32 l1 px c.1) cnt M3 u4 u5 u6 _ rfl kpL_32 hO hf3 ?_
        generalize hgs : R0.take (tkN ctx c R0) = gs at htd hgap hlo ⊢
        generalize hds : R0.drop (tkN ctx c R0) = ds at htd hgap hdl ⊢
        have hvp' : vl l1.length l2.length px py (c :: gs ++ ds) := by rw [List.cons_append, htd]; exact hvp
        have hvi' : vl l1.length l2.length i j (c :: gs ++ ds) := by rw [List.cons_append, htd]; exact hvi
        obtain ⟨p1, p2, i', j', p3, p4, p5, p6, p7, p8, p9⟩ := hk_pre hctx' n24 m24 hi hj hvi' hst hgap hPl
        obtain ⟨b1, b2, b3, b4, b5, b6⟩ := vl_app gs ds c px py hvp'
        have hvc : vl l1.length l2.length c.1 c.2.2.1 (c :: gs ++ ds) := ⟨by omega, by omega, hvp'.2.2⟩
        obtain ⟨m1, m2, m3⟩ := mid_cnt rfl rfl gs ds c c.1 c.2.2.1 (by omega) (by omega) hvc
        have hsplit : midOf l1 l2 c.1 (c :: R0) l1.length = midOf l1 l2 c.1 (c :: gs) (lsC c gs).2.1 ++ midOf l1 l2 (lsC c gs).2.1 ds l1.length := by
          rw [← htd, ← List.cons_append]; exact mid_app gs ds c c.1
        have hOl := congrArg List.length hO
        rw [List.length_append, List.length_append, hsplit, List.length_append] at hOl
        have hpl : ((Pre ++ kpL 32 l1 px c.1).length : Int) = Pre.length + (c.1 - px) := by rw [List.length_append]; omega
        -- the first line of a change
        obtain ⟨p0', S0, hp0', hpS⟩ : ∃ p S, p.1 ≠ (32 : Int) ∧ midOf l1 l2 c.1 (c :: R0) l1.length = p :: S := by
          rw [midOf, kpL_nil (Int.le_refl c.1), List.nil_append]
          by_cases q : c.1 < c.2.1
          · rw [kpL_cons (by omega) q (by omega)]
            exact ⟨_, _, by simp, rfl⟩
          · rw [kpL_nil (by omega : c.2.1 ≤ c.1), List.nil_append, kpL_cons (l := l2) (by omega) (by omega) (by omega)]
            exact ⟨_, _, by simp, rfl⟩
        have hO2 : (Pre ++ kpL 32 l1 px c.1) ++ midOf l1 l2 c.1 (c :: R0) l1.length = midOf l1 l2 0 L l1.length := by rw [List.append_assoc]; exact hO
        have w2' : mOp M3 m 0 ((Pre ++ kpL 32 l1 px c.1) ++ midOf l1 l2 c.1 (c :: R0) l1.length) := by
          rw [hO2]
          exact w2.kept _ 0 (fun x _ _ => by rw [hf3.1 _ (by omega) (by simp), hf3.1 _ (by omega) (by simp)]; exact ⟨rfl, rfl⟩)
        have hsm' : smO ((Pre ++ kpL 32 l1 px c.1) ++ midOf l1 l2 c.1 (c :: R0) l1.length) := by rw [hO2]; exact hsm
        have e16 : M3 (m + 16) ((Pre ++ kpL 32 l1 px c.1).length : Int) = p0'.1 := by
          have := ((mOp.app _ _ 0).mp w2').2
          rw [Int.zero_add, hpS] at this
          exact this.1
        have hp0r := hsm' p0' (by rw [hpS]; simp)
        have hlen2 : (((Pre ++ kpL 32 l1 px c.1) ++ midOf l1 l2 c.1 (c :: R0) l1.length).length : Int) ≤ 48 := by rw [hO2]; omega
        have hlen3 : (((Pre ++ kpL 32 l1 px c.1)).length : Int) < 48 := by
          rw [List.length_append, hpS, List.length_cons] at hlen2; omega
        have hlt : ((Pre ++ kpL 32 l1 px c.1).length : Int) < (midOf l1 l2 0 L l1.length).length := by
          rw [← hO2, List.length_append (as := Pre ++ kpL 32 l1 px c.1), hpS, List.length_cons]; omega
        refine s_Mo_write_34 h.o (r2 := by rw [e21]; omega) (k1 := fun q => by omega) (k2 := fun _ => ?_)
        refine s_Mo_write_42 h.o h.g22 h.k16 (r3 := by omega) (r3' := by omega) (r4 := by rw [e16]; omega) (k1 := fun _ => ?_) (k2 := fun q => absurd (e16 ▸ q) hp0')
        refine s_Mo_write_59 h.o (ct_Mo_lastOf (d := d + 2) h (by rw [hO2]; exact e21) w2' hlen2 hsm' hctx') (fun z M4 hq => ?_)
        obtain ⟨hM, hz⟩ := hq
        subst hM
        rw [hlo] at hz
        -- the ends of the hunk
        have eback : (if ((Pre ++ kpL 32 l1 px c.1).length : Int) < ctx then 0 else ((Pre ++ kpL 32 l1 px c.1).length : Int) - ctx) = (Pre ++ kpL 32 l1 px c.1).length - min ctx c.1 := by
          rcases hfar with ⟨q1, q2⟩ | q
          · have hp0 : (Pre.length : Int) = 0 := by rw [q1]; rfl
            split <;> omega
          · have : 2 * ctx < c.1 - px := q
            rw [hpl]
            split <;> omega
        have hbk : min ctx c.1 ≤ c.1 - px := by
          rcases hfar with ⟨q1, q2⟩ | q
          · omega
          · have : 2 * ctx < c.1 - px := q
            omega
        -- the parts
        have hA : Pre ++ kpL 32 l1 px c.1 = (Pre ++ kpL 32 l1 px (c.1 - min ctx c.1)) ++ kpL 32 l1 (c.1 - min ctx c.1) c.1 := by rw [kpL_app hpx (by omega : px ≤ c.1 - min ctx c.1) (by omega), List.append_assoc]
        have hX : midOf l1 l2 (c.1 - min ctx c.1) (c :: gs) ((lsC c gs).2.1 + min ctx (l1.length - (lsC c gs).2.1)) = kpL 32 l1 (c.1 - min ctx c.1) c.1 ++ (midOf l1 l2 c.1 (c :: gs) (lsC c gs).2.1 ++ kpL 32 l1 (lsC c gs).2.1 ((lsC c gs).2.1 + min ctx (l1.length - (lsC c gs).2.1))) := by
          rw [mid_kp (c :: gs) (s := c.1 - min ctx c.1) (t := c.1) (by omega) (by omega) (Int.le_refl _), mid_end gs c c.1 (by omega) (by omega)]
        have hB : midOf l1 l2 (lsC c gs).2.1 ds l1.length = kpL 32 l1 (lsC c gs).2.1 ((lsC c gs).2.1 + min ctx (l1.length - (lsC c gs).2.1)) ++ midOf l1 l2 ((lsC c gs).2.1 + min ctx (l1.length - (lsC c gs).2.1)) ds l1.length := by
          refine mid_kp ds (by omega) (by omega) ?_
          cases ds with
          | nil => show _ ≤ _; omega
          | cons c' ds => have : 2 * ctx < c'.1 - (lsC c gs).2.1 := hgap; show _ ≤ c'.1; omega
        have hparts : (Pre ++ kpL 32 l1 px (c.1 - min ctx c.1)) ++ (midOf l1 l2 (c.1 - min ctx c.1) (c :: gs) ((lsC c gs).2.1 + min ctx (l1.length - (lsC c gs).2.1)) ++ midOf l1 l2 ((lsC c gs).2.1 + min ctx (l1.length - (lsC c gs).2.1)) ds l1.length) = midOf l1 l2 0 L l1.length := by
          rw [← hO2, hA, hsplit, hB, hX]
          simp only [List.append_assoc]
        have hAl : ((Pre ++ kpL 32 l1 px (c.1 - min ctx c.1)).length : Int) = Pre.length + (c.1 - min ctx c.1 - px) := by
          rw [List.length_append]
          have := kpL_len (k := 32) (l := l1) hpx (by omega : px ≤ c.1 - min ctx c.1) (by omega)
          omega
        have hXl : ((midOf l1 l2 (c.1 - min ctx c.1) (c :: gs) ((lsC c gs).2.1 + min ctx (l1.length - (lsC c gs).2.1))).length : Int) = min ctx c.1 + (midOf l1 l2 c.1 (c :: gs) (lsC c gs).2.1).length + min ctx (l1.length - (lsC c gs).2.1) := by
          rw [hX, List.length_append, List.length_append]
          have q1 := kpL_len (k := 32) (l := l1) (a := c.1 - min ctx c.1) (b := c.1) (by omega) (by omega) (by omega)
          have q2 := kpL_len (k := 32) (l := l1) (a := (lsC c gs).2.1) (b := (lsC c gs).2.1 + min ctx (l1.length - (lsC c gs).2.1)) (by omega) (by omega) (by omega)
          omega
        have hrest : ((midOf l1 l2 (lsC c gs).2.1 ds l1.length).length : Int) = l1.length - (lsC c gs).2.1 ∧ ds = [] ∨ 2 * ctx < (midOf l1 l2 (lsC c gs).2.1 ds l1.length).length ∧ 2 * ctx < l1.length - (lsC c gs).2.1 := by
          cases ds with
          | nil =>
            left
            rw [midOf]
            exact ⟨kpL_len (by omega) (by omega) (by omega), rfl⟩
          | cons c' ds =>
            right
            have : 2 * ctx < c'.1 - (lsC c gs).2.1 := hgap
            obtain ⟨z1, z2, z3, z4, -⟩ := b1
            rw [midOf, List.length_append]
            have := kpL_len (k := 32) (l := l1) (a := (lsC c gs).2.1) (b := c'.1) (by omega) z1 (by omega)
            omega
        have hto : ∀ t0 : Int, (t0 = z + ctx ∧ z + ctx ≤ (midOf l1 l2 0 L l1.length).length ∨ t0 = (midOf l1 l2 0 L l1.length).length ∧ ((midOf l1 l2 0 L l1.length).length : Int) < z + ctx) → t0 = z + min ctx (l1.length - (lsC c gs).2.1) := by
          intro t0 ht0
          rcases hrest with ⟨q, -⟩ | ⟨q, q'⟩ <;> omega
        -- the hunk
        have k103 : ∀ (t0 : Int) (u6 : j_V), t0 = z + min ctx (l1.length - (lsC c gs).2.1) → j_J G jm_Mo_write (d + 3) 0 0 103 [jr_ m, ji_ ctx, ji_ cnt, ji_ ((Pre ++ kpL 32 l1 px c.1).length : Int), ji_ z, ji_ ((Pre ++ kpL 32 l1 px c.1).length - min ctx c.1), u6] [ji_ t0] (N, K, M4, g) (j_pI N K g (mP m M1 (cnt + (1 + wrN ctx f ds), (A.1, some (l1, l2, w), P ++ (hkT l1 l2 ctx c gs ++ wrT l1 l2 ctx f ds))))) := by
          intro t0 u6 ht0
          have ea1 : ((Pre ++ kpL 32 l1 px c.1).length : Int) - min ctx c.1 = ((Pre ++ kpL 32 l1 px (c.1 - min ctx c.1)).length : Int) := by omega
          have ea2 : t0 = (((Pre ++ kpL 32 l1 px (c.1 - min ctx c.1)).length + (midOf l1 l2 (c.1 - min ctx c.1) (c :: gs) ((lsC c gs).2.1 + min ctx (l1.length - (lsC c gs).2.1))).length : Nat) : Int) := by omega
          have op' : mOp M4 m 0 ((Pre ++ kpL 32 l1 px (c.1 - min ctx c.1)) ++ (midOf l1 l2 (c.1 - min ctx c.1) (c :: gs) ((lsC c gs).2.1 + min ctx (l1.length - (lsC c gs).2.1)) ++ midOf l1 l2 ((lsC c gs).2.1 + min ctx (l1.length - (lsC c gs).2.1)) ds l1.length)) := by
            rw [hparts, ← hO2]; exact w2'
          have cc := ct_Mo_putHunk (G := G) (d := d) (N := N) (P := P) h op' (by rw [hparts]; omega) (by rw [hparts]; exact hsm) hp3 (by omega)
          rw [ea1, ea2]
          refine s_Mo_write_103 h.o cc (fun M5 hq5 => ?_)
          have hq5' := hq5.1
          -- counts
          have ho1 : oth 43 (Pre ++ kpL 32 l1 px (c.1 - min ctx c.1)) = c.1 - min ctx c.1 := by
            rw [oth_app, o43, oth_kp hpx (by omega) (by omega), if_neg (by omega)]; omega
          have ho2 : oth 45 (Pre ++ kpL 32 l1 px (c.1 - min ctx c.1)) = c.2.2.1 - min ctx c.1 := by
            rw [oth_app, o45, oth_kp hpx (by omega) (by omega), if_neg (by omega)]; omega
          have ho3 : oth 43 (midOf l1 l2 (c.1 - min ctx c.1) (c :: gs) ((lsC c gs).2.1 + min ctx (l1.length - (lsC c gs).2.1))) = (lsC c gs).2.1 + min ctx (l1.length - (lsC c gs).2.1) - (c.1 - min ctx c.1) := by
            rw [hX, oth_app, oth_app, m2, oth_kp (by omega) (by omega) (by omega), oth_kp (by omega) (by omega) (by omega), if_neg (by omega), if_neg (by omega)]; omega
          have ho4 : oth 45 (midOf l1 l2 (c.1 - min ctx c.1) (c :: gs) ((lsC c gs).2.1 + min ctx (l1.length - (lsC c gs).2.1))) = (lsC c gs).2.2.2 + min ctx (l1.length - (lsC c gs).2.1) - (c.2.2.1 - min ctx c.1) := by
            rw [hX, oth_app, oth_app, m3, oth_kp (by omega) (by omega) (by omega), oth_kp (by omega) (by omega) (by omega), if_neg (by omega), if_neg (by omega)]; omega
          rw [ho1, ho2, ho3, ho4] at hq5'
          have ehk : hkT l1 l2 ctx c gs = hdT (c.1 - min ctx c.1) ((lsC c gs).2.1 + min ctx (l1.length - (lsC c gs).2.1) - (c.1 - min ctx c.1)) (c.2.2.1 - min ctx c.1) ((lsC c gs).2.2.2 + min ctx (l1.length - (lsC c gs).2.1) - (c.2.2.1 - min ctx c.1)) ++ rowsT (midOf l1 l2 (c.1 - min ctx c.1) (c :: gs) ((lsC c gs).2.1 + min ctx (l1.length - (lsC c gs).2.1))) := rfl
          rw [← ehk] at hq5'
          refine s_Mo_write_113 ?_
          have hPre' : ((Pre ++ kpL 32 l1 px c.1 ++ midOf l1 l2 c.1 (c :: gs) (lsC c gs).2.1).length : Int) = z := by rw [List.length_append]; omega
          have hPl' : ((P ++ hkT l1 l2 ctx c gs).length : Int) = P.length + (hkT l1 l2 ctx c gs).length := by rw [List.length_append]; omega
          have := fun v5 v6 => ih ds (Pre ++ kpL 32 l1 px c.1 ++ midOf l1 l2 c.1 (c :: gs) (lsC c gs).2.1) (P ++ hkT l1 l2 ctx c gs) (lsC c gs).2.1 (lsC c gs).2.2.2 i' j' (cnt + 1) M5 (ji_ z) v5 v6 (by omega) (by rw [List.append_assoc, ← hsplit]; exact hO2) (by omega) (by omega) b3 b1 (by rw [oth_app, oth_app, o43, oth_kp hpx v1 (by omega), m2, if_neg (by omega)]; omega) (by rw [oth_app, oth_app, o45, oth_kp hpx v1 (by omega), m3, if_neg (by omega)]; omega) (Or.inr hgap) p3 p4 p7 p9 p5 p6 (by omega) (by omega) (by omega) hq5' (hf3.trans hq5.2)
          rw [hPre', show cnt + 1 + wrN ctx f ds = cnt + (1 + wrN ctx f ds) by omega, List.append_assoc] at this
          exact this _ _
        have k79 : j_J G jm_Mo_write (d + 3) 0 0 79 [jr_ m, ji_ ctx, ji_ cnt, ji_ ((Pre ++ kpL 32 l1 px c.1).length : Int), ji_ z, u5, u6] [ji_ ((Pre ++ kpL 32 l1 px c.1).length - min ctx c.1)] (N, K, M4, g) (j_pI N K g (mP m M1 (cnt + (1 + wrN ctx f ds), (A.1, some (l1, l2, w), P ++ (hkT l1 l2 ctx c gs ++ wrT l1 l2 ctx f ds))))) := by
          refine s_Mo_write_79 h.o (r1 := by omega) (r2 := by rw [e21]; omega) (k1 := fun q => k103 _ _ (hto _ (Or.inl ⟨rfl, by omega⟩))) (k2 := fun q => ?_)
          refine s_Mo_write_92 h.o ?_
          rw [e21]
          exact k103 _ _ (hto _ (Or.inr ⟨rfl, by omega⟩))
        refine s_Mo_write_65 (r1 := by omega) (k1 := fun q => ?_) (k2 := fun q => ?_)
        · rw [if_neg (by omega)] at eback
          rw [eback]; exact k79
        · rw [if_pos q] at eback
          rw [eback]; exact k79
end

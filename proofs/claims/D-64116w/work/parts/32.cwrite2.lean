/-! ===== contracts: the component writes hunks ===== -/
theorem cCh_last {M : Nat → Int → Int} (gs : List c4) : ∀ c k, cCh M k (c :: gs) → M (42 + (k + gs.length)) 1 = (lsC c gs).2.1 ∧ M (42 + (k + gs.length)) 3 = (lsC c gs).2.2.2 := by
  induction gs with
  | nil => intro c k ⟨h1, h2, h3, h4, h5⟩; exact ⟨h2, h4⟩
  | cons c' gs ih =>
    intro c k ⟨h1, h2, h3, h4, h5⟩
    have := ih c' (k + 1) h5
    rw [List.length_cons, show k + (gs.length + 1) = k + 1 + gs.length by omega]
    exact this
theorem vl_in {n m : Int} (gs R : List c4) : ∀ c i j, vl n m i j (c :: gs ++ R) → ∀ c' ∈ c :: gs, c'.2.1 ≤ (lsC c gs).2.1 := by
  induction gs with
  | nil =>
    intro c i j h c' hc'
    rw [List.mem_singleton] at hc'
    subst hc'
    exact Int.le_refl _
  | cons d gs ih =>
    intro c i j h c' hc'
    obtain ⟨h1, h2, h3, h4, h5, h6, h7, h8⟩ := h
    have a := ih d _ _ h8
    have hd := (vl_app gs R d _ _ h8).2.1
    obtain ⟨k1, k2, k3⟩ := h8
    rcases List.mem_cons.mp hc' with rfl | q
    · simp only [lsC]; omega
    · exact a c' q
section
variable {G : j_G} {d N : Nat} {K : Nat → Option (Nat × Nat)} {M : Nat → Int → Int} {g : Nat → Int → Option Nat} {l1 l2 : List Int}
theorem ct_LP_writeHunk {P : List Int} {ctx i j : Int} {k : Nat} {c : c4} {gs R : List c4} (hs : rSh K g) (hc : cPp M P) (h1 : cTx M 10 l1) (h2 : cTx M 12 l2) (hch : cCh M k (c :: gs)) (hk : k + gs.length < 25) (hctx : 0 ≤ ctx ∧ ctx ≤ 3) (hi : 0 ≤ i) (hj : 0 ≤ j) (hv : vl l1.length l2.length i j (c :: gs ++ R)) (hb : min ctx c.1 ≤ c.1 - i) (hey : (lsC c gs).2.2.2 + min ctx (l1.length - (lsC c gs).2.1) ≤ l2.length) (hP : (P.length : Int) + 13 + 3 * (midOf l1 l2 (c.1 - min ctx c.1) (c :: gs) ((lsC c gs).2.1 + min ctx (l1.length - (lsC c gs).2.1))).length ≤ 900) :
    j_Ct G jm_LP_writeHunk (d + 2) 0 0 [jr_ 0, ji_ k, ji_ ((k + gs.length : Nat) : Int), ji_ ctx] (N, K, M, g) (j_pV N K g fun M' => cPp M' (P ++ hkT l1 l2 ctx c gs) ∧ cF3 M M') := by
  have n24 := h1.2.1
  have m24 := h2.2.1
  obtain ⟨a1, a2, a3, a4, a5, a6⟩ := vl_app gs R c i j hv
  have hin := vl_in gs R c i j hv
  have hlast := cCh_last gs c k hch
  have hch0 := hch
  obtain ⟨f0, f1, f2, f3, -⟩ := hch
  have hv0 := hv
  obtain ⟨v1, v2, v3, v4, v5, v6, v7, v8⟩ := hv
  obtain ⟨gk, kk⟩ := hs.chg (k := k) (by omega)
  obtain ⟨gl, kl⟩ := hs.chg (k := k + gs.length) (by omega)
  refine j_Ct.ofJ (ls := [jr_ 0, ji_ k, ji_ ((k + gs.length : Nat) : Int), ji_ ctx, ju_, ju_, ju_, ju_, ju_, ju_, ju_]) (by decide) rfl rfl ?_
  refine s_LP_writeHunk_0 hs.K0 hs.G0_8 (tg2 := 2) hs.K29 (r3 := by omega) (r3' := by omega) (hg5 := gk) (hk3 := kk) (hC := ct_Ma_min (by omega) (by rw [f0]; omega)) (k1 := fun back M1 hq => ?_)
  obtain ⟨hM, hback⟩ := hq
  subst hM
  rw [f0] at hback
  have eb : back = min ctx c.1 := by omega
  refine s_LP_writeHunk_13 hs.K0 hs.G0_3 hs.K9 hs.G9_0 hs.K10 hs.G0_8 (tg4 := 2) (hk4 := hs.K29) (r7 := by omega) (r7' := by omega) (hg9 := gl) (hk5 := kl) (hC := ct_Ma_min (by omega) (by rw [h1.1, hlast.1]; omega)) (k1 := fun ahead M2 hq => ?_)
  obtain ⟨hM, hah⟩ := hq
  subst hM
  rw [h1.1, hlast.1] at hah
  have ea : ahead = min ctx (l1.length - (lsC c gs).2.1) := by omega
  unfold hkT
  rw [← eb, ← ea] at hP ⊢
  rw [← ea] at hey
  refine s_LP_writeHunk_39 hs.K0 hs.G0_8 (tg2 := 2) hs.K29 (r3 := by omega) (r3' := by omega) (hg5 := gk) (hk3 := kk) (tg4 := 2) (hk4 := hs.K29) (r6 := by omega) (r6' := by omega) (hg8 := gk) (hk5 := kk) (tg6 := 2) (hk6 := hs.K29) (r9 := by omega) (r9' := by omega) (hg11 := gl) (hk7 := kl) (hg13 := hs.G0_10) (hk8 := hs.K30) (hC := ct_put hs hc (by omega)) (k1 := fun M3 q3 => ?_)
  rw [f0, f2, hlast.1]
  have e3 : ((P ++ [64]).length : Int) = P.length + 1 := by rw [List.length_append, List.length_singleton]; omega
  have hf3 := q3.2
  refine s_LP_writeHunk_92 hs.K0 hs.G0_10 hs.K30 (ct_Pp_number (d := d) hs q3.1 (by omega) (by omega)) (fun M4 q4 => ?_)
  have n4 := numT_len (c.1 - back)
  have e4 : ((P ++ [64] ++ numT (c.1 - back)).length : Int) = (P ++ [64]).length + (numT (c.1 - back)).length := by rw [List.length_append]; omega
  have hf4 := hf3.trans q4.2
  refine s_LP_writeHunk_101 hs.K0 hs.G0_10 hs.K30 (ct_put hs q4.1 (by omega)) (fun M5 q5 => ?_)
  have e5 : ((P ++ [64] ++ numT (c.1 - back) ++ [44]).length : Int) = (P ++ [64] ++ numT (c.1 - back)).length + 1 := by rw [List.length_append, List.length_singleton]; omega
  have hf5 := hf4.trans q5.2
  refine s_LP_writeHunk_110 hs.K0 hs.G0_10 hs.K30 (ct_Pp_number (d := d) hs q5.1 (by omega) (by omega)) (fun M6 q6 => ?_)
  have q6' := q6.1
  have hf6 := hf5.trans q6.2
  generalize hQ6 : P ++ [64] ++ numT (c.1 - back) ++ [44] ++ numT ((lsC c gs).2.1 + ahead - (c.1 - back)) = Q6 at q6'
  have n6 := numT_len ((lsC c gs).2.1 + ahead - (c.1 - back))
  have e6 : (Q6.length : Int) = (P ++ [64] ++ numT (c.1 - back) ++ [44]).length + (numT ((lsC c gs).2.1 + ahead - (c.1 - back))).length := by rw [← hQ6, List.length_append]; omega
  refine s_LP_writeHunk_122 hs.K0 hs.G0_10 hs.K30 (ct_put hs q6' (by omega)) (fun M7 q7 => ?_)
  have e7 : ((Q6 ++ [32]).length : Int) = Q6.length + 1 := by rw [List.length_append, List.length_singleton]; omega
  have hf7 := hf6.trans q7.2
  refine s_LP_writeHunk_131 hs.K0 hs.G0_10 hs.K30 (ct_Pp_number (d := d) hs q7.1 (by omega) (by omega)) (fun M8 q8 => ?_)
  have n8 := numT_len (c.2.2.1 - back)
  have e8 : ((Q6 ++ [32] ++ numT (c.2.2.1 - back)).length : Int) = (Q6 ++ [32]).length + (numT (c.2.2.1 - back)).length := by rw [List.length_append]; omega
  have hf8 := hf7.trans q8.2
  refine s_LP_writeHunk_140 hs.K0 hs.G0_10 hs.K30 (ct_put hs q8.1 (by omega)) (fun M9 q9 => ?_)
  have e9 : ((Q6 ++ [32] ++ numT (c.2.2.1 - back) ++ [44]).length : Int) = (Q6 ++ [32] ++ numT (c.2.2.1 - back)).length + 1 := by rw [List.length_append, List.length_singleton]; omega
  have hf9 := hf8.trans q9.2
  have hl9 : M9 (42 + (k + gs.length)) 3 = (lsC c gs).2.2.2 := by rw [hf9.1 _ (by omega) (by omega)]; exact hlast.2
  refine s_LP_writeHunk_149 hs.K0 hs.G0_10 hs.G0_8 (tg2 := 2) hs.K29 (r5 := by omega) (r5' := by omega) (hg7 := gl) (hk3 := kl) (hk4 := hs.K30) (hC := by rw [hl9]; exact ct_Pp_number (d := d) hs q9.1 (by omega) (by omega)) (k1 := fun M10 q10 => ?_)
  have q10' := q10.1
  have hf10 := hf9.trans q10.2
  generalize hQ10 : Q6 ++ [32] ++ numT (c.2.2.1 - back) ++ [44] ++ numT ((lsC c gs).2.2.2 + ahead - (c.2.2.1 - back)) = Q10 at q10'
  have n10 := numT_len ((lsC c gs).2.2.2 + ahead - (c.2.2.1 - back))
  have e10 : (Q10.length : Int) = (Q6 ++ [32] ++ numT (c.2.2.1 - back) ++ [44]).length + (numT ((lsC c gs).2.2.2 + ahead - (c.2.2.1 - back))).length := by rw [← hQ10, List.length_append]; omega
  refine s_LP_writeHunk_171 hs.K0 hs.G0_10 hs.K30 (ct_put hs q10' (by omega)) (fun M11 q11 => ?_)
  have hf11 := hf10.trans q11.2
  have q11' := q11.1
  have hH : Q10 ++ [10] = P ++ hdT (c.1 - back) ((lsC c gs).2.1 + ahead - (c.1 - back)) (c.2.2.1 - back) ((lsC c gs).2.2.2 + ahead - (c.2.2.1 - back)) := by
    rw [← hQ10, ← hQ6]
    unfold hdT
    simp only [List.append_assoc]
  have e11 : ((Q10 ++ [10]).length : Int) ≤ P.length + 13 := by rw [List.length_append, List.length_singleton]; omega
  rw [← List.append_assoc, ← hH]
  generalize Q10 ++ [10] = Q at q11' e11 ⊢
  clear q3 q4 q5 q6 q7 q8 q9 q10 q11 hf3 hf4 hf5 hf6 hf7 hf8 hf9 hf10 q6' q10' hQ6 hQ10 hH e3 e4 e5 e6 e7 e8 e9 e10 n4 n6 n8 n10 hl9
  refine s_LP_writeHunk_180 ?_
  suffices lp : ∀ (rem : List c4) (kk' : Nat) (s y : Int) (Pc : List Int) (M' : Nat → Int → Int) (u10 : j_V), kk' + rem.length = k + gs.length + 1 → 0 ≤ s → 0 ≤ y → s ≤ (lsC c gs).2.1 + ahead → cCh M' kk' rem → vl l1.length l2.length s y (rem ++ R) → (∀ c' ∈ rem, c'.2.1 ≤ (lsC c gs).2.1 + ahead) → cPp M' Pc → (Pc.length : Int) + 3 * (midOf l1 l2 s rem ((lsC c gs).2.1 + ahead)).length ≤ 900 → Pc ++ rowsT (midOf l1 l2 s rem ((lsC c gs).2.1 + ahead)) = Q ++ rowsT (midOf l1 l2 (c.1 - back) (c :: gs) ((lsC c gs).2.1 + ahead)) → cF3 M2 M' →
      j_J G jm_LP_writeHunk (d + 2) 0 0 183 [jr_ 0, ji_ k, ji_ ((k + gs.length : Nat) : Int), ji_ ctx, ji_ back, ji_ ahead, ji_ s, ji_ (c.2.2.1 - back), ji_ ((lsC c gs).2.1 + ahead), ji_ kk', u10] [] (N, K, M', g) (j_pV N K g fun M' => cPp M' (Q ++ rowsT (midOf l1 l2 (c.1 - back) (c :: gs) ((lsC c gs).2.1 + ahead))) ∧ cF3 M2 M') from
    lp (c :: gs) k (c.1 - back) (c.2.2.1 - back) Q M11 _ (by rw [List.length_cons]; omega) (by omega) (by omega) (by omega) (hch0.kept _ _ (fun a x y => hf11.1 a (by omega) (by omega))) ⟨by omega, by omega, v3, v4, v5, v6, v7, v8⟩ (fun c' hc' => by have := hin c' hc'; omega) q11' (by omega) rfl hf11
  intro rem
  induction rem with
  | nil =>
    intro kk' s y Pc M' u10 hkk hs0 hy0 hse hcc hvv hall hp hlen htot hfr
    have t1 : cTx M' 10 l1 := h1.kept (hfr.1 _ (by omega) (by omega)) (hfr.1 _ (by omega) (by omega))
    rw [List.length_nil] at hkk
    refine s_LP_writeHunk_183 (k1 := fun _ => ?_) (k2 := fun q => by omega)
    have hkl := kpL_len (k := 32) (l := l1) hs0 hse (by omega)
    rw [midOf] at hlen
    refine s_LP_writeHunk_277 hs.K0 hs.G0_3 hs.K9 hs.G9_0 (hC := ct_LP_rows (d := d) hs hp (Or.inl rfl) t1 hs0 hse (by omega) (by omega)) (k1 := fun M'' hq => ?_)
    refine s_LP_writeHunk_294 ⟨M'', rfl, rfl, ?_, hfr.trans hq.2⟩
    rw [← htot, midOf]
    exact hq.1
  | cons c' rem ih =>
    intro kk' s y Pc M' u10 hkk hs0 hy0 hse hcc hvv hall hp hlen htot hfr
    rw [List.length_cons] at hkk
    obtain ⟨w0, w1, w2, w3, w4⟩ := hcc
    obtain ⟨x1, x2, x3, x4, x5, x6, x7, x8⟩ := hvv
    obtain ⟨gk', kk''⟩ := hs.chg (k := kk') (by omega)
    have t1 : cTx M' 10 l1 := h1.kept (hfr.1 _ (by omega) (by omega)) (hfr.1 _ (by omega) (by omega))
    have hce := hall c' (by simp)
    have b1 := kpL_len (k := 32) (l := l1) hs0 x1 (by omega)
    have b2 := kpL_len (k := 45) (l := l1) (by omega) x3 (by omega)
    have b3 := kpL_len (k := 43) (l := l2) (by omega) x5 (by omega)
    rw [midOf, List.length_append, List.length_append, List.length_append] at hlen
    refine s_LP_writeHunk_183 (k1 := fun q => by omega) (k2 := fun _ => ?_)
    refine s_LP_writeHunk_189 hs.K0 hs.G0_8 (tg2 := 2) hs.K29 (r3 := by omega) (r3' := by omega) (hg5 := gk') (hg7 := hs.G0_3) (hk3 := hs.K9) (hg9 := hs.G9_0) (hk4 := kk'') (hC := by rw [w0]; exact ct_LP_rows (d := d) hs hp (Or.inl rfl) t1 hs0 x1 (by omega) (by omega)) (k1 := fun Ma qa => ?_)
    have fa := qa.2
    have la : ((Pc ++ rowsT (kpL 32 l1 s c'.1)).length : Int) = Pc.length + 3 * (c'.1 - s) := by rw [List.length_append, rowsT_len]; omega
    have ta : cTx Ma 10 l1 := t1.kept (fa.1 _ (by omega) (by omega)) (fa.1 _ (by omega) (by omega))
    have wa : ∀ f : Int, Ma (42 + kk') f = M' (42 + kk') f := fun f => by rw [fa.1 _ (by omega) (by omega)]
    refine s_LP_writeHunk_218 hs.K0 hs.G0_3 hs.K9 hs.G9_0 (hk3 := kk'') (hC := by rw [wa, wa, w0, w1]; exact ct_LP_rows (d := d) hs qa.1 (Or.inl rfl) ta (by omega) x3 (by omega) (by omega)) (k1 := fun Mb qb => ?_)
    have fb := fa.trans qb.2
    have lb : ((Pc ++ rowsT (kpL 32 l1 s c'.1) ++ rowsT (kpL 45 l1 c'.1 c'.2.1)).length : Int) = Pc.length + 3 * (c'.1 - s) + 3 * (c'.2.1 - c'.1) := by rw [List.length_append, rowsT_len]; omega
    have tb : cTx Mb 12 l2 := (h2.kept (hfr.1 _ (by omega) (by omega)) (hfr.1 _ (by omega) (by omega))).kept (fb.1 _ (by omega) (by omega)) (fb.1 _ (by omega) (by omega))
    have wb : ∀ f : Int, Mb (42 + kk') f = M' (42 + kk') f := fun f => by rw [fb.1 _ (by omega) (by omega)]
    refine s_LP_writeHunk_241 hs.K0 hs.G0_3 hs.K9 hs.G9_1 (hk3 := kk'') (hC := by rw [wb, wb, w2, w3]; exact ct_LP_rows (d := d) hs qb.1 (Or.inr rfl) tb (by omega) x5 (by omega) (by omega)) (k1 := fun Mc qc => ?_)
    have fc := fb.trans qc.2
    have wc : ∀ f : Int, Mc (42 + kk') f = M' (42 + kk') f := fun f => by rw [fc.1 _ (by omega) (by omega)]
    refine s_LP_writeHunk_264 kk'' (k1 := ?_)
    rw [wc, w1]
    refine ih (kk' + 1) c'.2.1 c'.2.2.2 _ Mc _ (by omega) (by omega) (by omega) hce (w4.kept _ _ (fun a x y => fc.1 a (by omega) (by omega))) x8 (fun c'' h'' => hall c'' (by simp [h''])) qc.1 ?_ ?_ (hfr.trans fc)
    · rw [List.length_append, rowsT_len]; omega
    · rw [← htot, midOf]
      simp only [rowsT_app, List.append_assoc]
end

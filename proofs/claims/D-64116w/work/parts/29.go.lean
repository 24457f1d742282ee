/-! ===== contracts: Standing goes on between its anchors ===== -/
theorem mk1_0 {i j : Int} {old : Int → Int} : mk1 i j 0 old = old := by
  funext t
  rw [mk1_out (by omega)]
theorem mk1_l {i j c : Int} {old : Int → Int} (hc : 0 ≤ c) : mk1 i j (c + 1) old = mk1 (i + 1) (j + 1) c (fun t => if t = i then j else old t) := by
  funext t
  unfold mk1
  show (if _ then _ else _) = (if _ then _ else (if _ then _ else _))
  by_cases h : t = i
  · subst h
    rw [if_pos (by omega), if_neg (by omega), if_pos rfl]
    omega
  · rw [if_neg h]
    by_cases h2 : i ≤ t ∧ t < i + (c + 1)
    · rw [if_pos h2, if_pos (by omega)]; omega
    · rw [if_neg h2, if_neg (by omega)]
theorem mk1_r {p q c : Int} {old : Int → Int} (hc : 0 ≤ c) : mk1 (p - (c + 1)) (q - (c + 1)) (c + 1) old = mk1 (p - 1 - c) (q - 1 - c) c (fun t => if t = p - 1 then q - 1 else old t) := by
  funext t
  unfold mk1
  show (if _ then _ else _) = (if _ then _ else (if _ then _ else _))
  by_cases h : t = p - 1
  · subst h
    rw [if_pos (by omega), if_neg (by omega), if_pos rfl]
    omega
  · rw [if_neg h]
    by_cases h2 : p - (c + 1) ≤ t ∧ t < p - (c + 1) + (c + 1)
    · rw [if_pos h2, if_pos (by omega)]; omega
    · rw [if_neg h2, if_neg (by omega)]
theorem mkA_nil {tp old : Int → Int} : mkA tp [] old = old := by
  funext t
  unfold mkA
  simp
theorem lc_Re_run : j_Lc jm_Re_run 5 := ⟨by decide +kernel, by decide +kernel, by decide, by decide +kernel, by decide⟩
theorem lc_Sd_run : j_Lc jm_Sd_run 5 := ⟨by decide +kernel, by decide +kernel, by decide, by decide +kernel, by decide⟩
theorem lf_Sd_Re : j_Lf "LinePatcher$Standing" 48 3 ⟨"LinePatcher$Way", "run", "(LLinePatcher$Pairing;IIII)V"⟩ jm_Re_run 5 := ⟨by decide +kernel, by decide +kernel, by decide +kernel, by decide +kernel, by decide +kernel, ⟨_, rfl, by decide +kernel, by decide +kernel, by decide +kernel⟩, ⟨by decide, by decide⟩, by decide +kernel, by decide +kernel, lc_Re_run⟩
theorem lf_LP_Re : j_Lf "LinePatcher" 110 3 ⟨"LinePatcher$Way", "run", "(LLinePatcher$Pairing;IIII)V"⟩ jm_Re_run 5 := ⟨by decide +kernel, by decide +kernel, by decide +kernel, by decide +kernel, by decide +kernel, ⟨_, rfl, by decide +kernel, by decide +kernel, by decide +kernel⟩, ⟨by decide, by decide⟩, by decide +kernel, by decide +kernel, lc_Re_run⟩
theorem lf_LP_Sd : j_Lf "LinePatcher" 110 4 ⟨"LinePatcher$Way", "run", "(LLinePatcher$Pairing;IIII)V"⟩ jm_Sd_run 5 := ⟨by decide +kernel, by decide +kernel, by decide +kernel, by decide +kernel, by decide +kernel, ⟨_, rfl, by decide +kernel, by decide +kernel, by decide +kernel⟩, ⟨by decide, by decide⟩, by decide +kernel, by decide +kernel, lc_Sd_run⟩
section
variable {G : j_G} {d N : Nat} {K : Nat → Option (Nat × Nat)} {g : Nat → Int → Option Nat} {o c p s : Nat} {l1 l2 : List Int} {Q : j_O → j_S → Prop}
theorem sd_go1 {X eX Y eY dep : Int} {D : Nat} {u11 : j_V} (hi2 : eX ≤ l1.length) (hj2 : eY ≤ l2.length) : ∀ (f : Nat) (i j : Int) (M : Nat → Int → Int), rPr K g M p l1 l2 → eX - i ≤ f → 0 ≤ i → i ≤ eX → 0 ≤ j → j ≤ eY →
    (∀ M2, M2 (p + 5) = mk1 i j (pfx l1 l2 eX eY f i j) (M (p + 5)) → j_fr [p + 5] M M2 → j_J G jm_Sd_go (D + 1) 0 0 58 [jr_ s, jr_ p, ji_ X, ji_ eX, ji_ Y, ji_ eY, ji_ dep, ji_ (i + pfx l1 l2 eX eY f i j), ji_ (j + pfx l1 l2 eX eY f i j), ji_ eX, ji_ eY, u11] [] (N, K, M2, g) Q) →
    j_J G jm_Sd_go (D + 1) 0 0 14 [jr_ s, jr_ p, ji_ X, ji_ eX, ji_ Y, ji_ eY, ji_ dep, ji_ i, ji_ j, ji_ eX, ji_ eY, u11] [] (N, K, M, g) Q := by
  intro f
  induction f with
  | zero =>
    intro i j M hP hf hi hi1 hj hj1 kk
    have l1l := hP.2.2.2.2.2.1.2.2.2.2.1
    have := kk M (by rw [pfx, mk1_0]) j_fr.rfl
    rw [pfx, Int.add_zero, Int.add_zero] at this
    exact s_Sd_go_14 (k1 := fun h => this) (k2 := fun h => by omega)
  | succ f ih =>
    intro i j M hP hf hi hi1 hj hj1 kk
    have l1l := hP.2.2.2.2.2.1.2.2.2.2.1
    have l2l := hP.2.2.2.2.2.2.2.2.2.2.1
    have stop : ¬ (i < eX ∧ j < eY ∧ lg l1 i = lg l2 j) → j_J G jm_Sd_go (D + 1) 0 0 58 [jr_ s, jr_ p, ji_ X, ji_ eX, ji_ Y, ji_ eY, ji_ dep, ji_ i, ji_ j, ji_ eX, ji_ eY, u11] [] (N, K, M, g) Q := by
      intro hn
      have e : pfx l1 l2 eX eY (f + 1) i j = 0 := by rw [pfx, if_neg hn]
      have := kk M (by rw [e, mk1_0]) j_fr.rfl
      rw [e, Int.add_zero, Int.add_zero] at this
      exact this
    refine s_Sd_go_14 (k1 := fun h => stop (by omega)) (k2 := fun h => ?_)
    refine s_Sd_go_21 (k1 := fun h2 => stop (by omega)) (k2 := fun h2 => ?_)
    refine s_Sd_go_28 hP.1 (ct_Pr_equal hP (by omega) (by omega) (by omega) (by omega)) (fun z M' hq => ?_)
    obtain ⟨hM, hz⟩ := hq
    subst hM
    refine s_Sd_go_36 (r1 := by omega) (k1 := fun h3 => stop (by omega)) (k2 := fun h3 => ?_)
    have he : lg l1 i = lg l2 j := by omega
    have eb : j.bmod 256 = j := bmod_id (by omega)
    have hpf := pfx_r (l1 := l1) (l2 := l2) (a1 := eX) (b1 := eY) f (i + 1) (j + 1)
    have e : pfx l1 l2 eX eY (f + 1) i j = pfx l1 l2 eX eY f (i + 1) (j + 1) + 1 := by rw [pfx, if_pos ⟨h, h2, he⟩]
    refine s_Sd_go_39 hP.1 hP.2.2.2.1 hP.2.2.2.2.1 (r4 := by rw [eb]; omega) (k1 := ?_)
    rw [eb]
    refine ih (i + 1) (j + 1) _ (hP.kept (j_up_a (by omega)) (j_up_a (by omega)) (j_up_a (by omega)) (j_up_a (by omega))) (by omega) (by omega) (by omega) (by omega) (by omega) (fun M2 h1 h2 => ?_)
    have := kk M2 (by rw [h1, e, mk1_l hpf.1, j_up_s]) ((j_fr.up (by simp)).trans h2)
    rw [e, show i + (pfx l1 l2 eX eY f (i + 1) (j + 1) + 1) = i + 1 + pfx l1 l2 eX eY f (i + 1) (j + 1) by omega, show j + (pfx l1 l2 eX eY f (i + 1) (j + 1) + 1) = j + 1 + pfx l1 l2 eX eY f (i + 1) (j + 1) by omega] at this
    exact this
theorem sd_go2 {X eX Y eY dep i j : Int} {D : Nat} {u11 : j_V} (hi : 0 ≤ i) (hj : 0 ≤ j) : ∀ (f : Nat) (u v : Int) (M : Nat → Int → Int), rPr K g M p l1 l2 → u - i ≤ f → i ≤ u → j ≤ v → u ≤ l1.length → v ≤ l2.length →
    (∀ M2, M2 (p + 5) = mk1 (u - sfx l1 l2 i j f u v) (v - sfx l1 l2 i j f u v) (sfx l1 l2 i j f u v) (M (p + 5)) → j_fr [p + 5] M M2 → j_J G jm_Sd_go (D + 1) 0 0 106 [jr_ s, jr_ p, ji_ X, ji_ eX, ji_ Y, ji_ eY, ji_ dep, ji_ i, ji_ j, ji_ (u - sfx l1 l2 i j f u v), ji_ (v - sfx l1 l2 i j f u v), u11] [] (N, K, M2, g) Q) →
    j_J G jm_Sd_go (D + 1) 0 0 58 [jr_ s, jr_ p, ji_ X, ji_ eX, ji_ Y, ji_ eY, ji_ dep, ji_ i, ji_ j, ji_ u, ji_ v, u11] [] (N, K, M, g) Q := by
  intro f
  induction f with
  | zero =>
    intro u v M hP hf hi1 hj1 hi2 hj2 kk
    have l1l := hP.2.2.2.2.2.1.2.2.2.2.1
    have := kk M (by rw [sfx, mk1_0]) j_fr.rfl
    rw [sfx, Int.sub_zero, Int.sub_zero] at this
    exact s_Sd_go_58 (k1 := fun h => this) (k2 := fun h => by omega)
  | succ f ih =>
    intro u v M hP hf hi1 hj1 hi2 hj2 kk
    have l1l := hP.2.2.2.2.2.1.2.2.2.2.1
    have l2l := hP.2.2.2.2.2.2.2.2.2.2.1
    have stop : ¬ (i < u ∧ j < v ∧ lg l1 (u - 1) = lg l2 (v - 1)) → j_J G jm_Sd_go (D + 1) 0 0 106 [jr_ s, jr_ p, ji_ X, ji_ eX, ji_ Y, ji_ eY, ji_ dep, ji_ i, ji_ j, ji_ u, ji_ v, u11] [] (N, K, M, g) Q := by
      intro hn
      have e : sfx l1 l2 i j (f + 1) u v = 0 := by rw [sfx, if_neg hn]
      have := kk M (by rw [e, mk1_0]) j_fr.rfl
      rw [e, Int.sub_zero, Int.sub_zero] at this
      exact this
    refine s_Sd_go_58 (k1 := fun h => stop (by omega)) (k2 := fun h => ?_)
    refine s_Sd_go_65 (k1 := fun h2 => stop (by omega)) (k2 := fun h2 => ?_)
    refine s_Sd_go_72 hP.1 (ct_Pr_equal hP (by omega) (by omega) (by omega) (by omega)) (fun z M' hq => ?_)
    obtain ⟨hM, hz⟩ := hq
    subst hM
    refine s_Sd_go_84 (r1 := by omega) (k1 := fun h3 => stop (by omega)) (k2 := fun h3 => ?_)
    have he : lg l1 (u - 1) = lg l2 (v - 1) := by omega
    have eu : u + (-1) = u - 1 := by omega
    have ev : v + (-1) = v - 1 := by omega
    have eb : (v - 1).bmod 256 = v - 1 := bmod_id (by omega)
    have hsf := sfx_r (l1 := l1) (l2 := l2) (i := i) (j := j) f (u - 1) (v - 1)
    have e : sfx l1 l2 i j (f + 1) u v = sfx l1 l2 i j f (u - 1) (v - 1) + 1 := by rw [sfx, if_pos ⟨h, h2, he⟩]
    refine s_Sd_go_87 hP.1 hP.2.2.2.1 hP.2.2.2.2.1 (r4 := by rw [ev, eb]; omega) (k1 := ?_)
    rw [ev, eu, eb]
    refine ih (u - 1) (v - 1) _ (hP.kept (j_up_a (by omega)) (j_up_a (by omega)) (j_up_a (by omega)) (j_up_a (by omega))) (by omega) (by omega) (by omega) (by omega) (by omega) (fun M2 h1 h2 => ?_)
    have := kk M2 (by rw [h1, e, mk1_r hsf.1, j_up_s]) ((j_fr.up (by simp)).trans h2)
    rw [e, show u - (sfx l1 l2 i j f (u - 1) (v - 1) + 1) = u - 1 - sfx l1 l2 i j f (u - 1) (v - 1) by omega, show v - (sfx l1 l2 i j f (u - 1) (v - 1) + 1) = v - 1 - sfx l1 l2 i j f (u - 1) (v - 1) by omega] at this
    exact this
theorem ct_Sd_go (hO : K o = some (0, 3)) (hg : g o 0 = some c) (hc : K c = some (2, 1225)) (hS : rSd K g s o) (hcs : c < s) (hsp : s + 3 < p) : ∀ (f : Nat) (M : Nat → Int → Int) (X eX Y eY dep : Int), rPr K g M p l1 l2 → 0 ≤ X → X ≤ eX → eX ≤ l1.length → 0 ≤ Y → Y ≤ eY → eY ≤ l2.length → eX - X ≤ f → 0 ≤ dep → dep + f ≤ 24 → (∀ t, X ≤ t → t < eX → M (p + 5) t = -1) →
    j_Ct G jm_Sd_go (d + f + 5) 0 0 [jr_ s, jr_ p, ji_ X, ji_ eX, ji_ Y, ji_ eY, ji_ dep] (N, K, M, g) (j_pV N K g fun M' => M' (p + 5) = pm l1 l2 (f + 1) (X, eX, Y, eY) (M (p + 5)) ∧ j_fr [c, s + 1, s + 2, s + 3, p + 5] M M') := by
  have body : ∀ f : Nat, (∀ f' : Nat, f = f' + 1 → ∀ (M : Nat → Int → Int) (X eX Y eY dep : Int), rPr K g M p l1 l2 → 0 ≤ X → X ≤ eX → eX ≤ l1.length → 0 ≤ Y → Y ≤ eY → eY ≤ l2.length → eX - X ≤ f' → 0 ≤ dep → dep + f' ≤ 24 → (∀ t, X ≤ t → t < eX → M (p + 5) t = -1) →
      j_Ct G jm_Sd_go (d + f' + 5) 0 0 [jr_ s, jr_ p, ji_ X, ji_ eX, ji_ Y, ji_ eY, ji_ dep] (N, K, M, g) (j_pV N K g fun M' => M' (p + 5) = pm l1 l2 (f' + 1) (X, eX, Y, eY) (M (p + 5)) ∧ j_fr [c, s + 1, s + 2, s + 3, p + 5] M M')) →
      ∀ (M : Nat → Int → Int) (X eX Y eY dep : Int), rPr K g M p l1 l2 → 0 ≤ X → X ≤ eX → eX ≤ l1.length → 0 ≤ Y → Y ≤ eY → eY ≤ l2.length → eX - X ≤ f → 0 ≤ dep → dep + f ≤ 24 → (∀ t, X ≤ t → t < eX → M (p + 5) t = -1) →
      j_Ct G jm_Sd_go (d + f + 5) 0 0 [jr_ s, jr_ p, ji_ X, ji_ eX, ji_ Y, ji_ eY, ji_ dep] (N, K, M, g) (j_pV N K g fun M' => M' (p + 5) = pm l1 l2 (f + 1) (X, eX, Y, eY) (M (p + 5)) ∧ j_fr [c, s + 1, s + 2, s + 3, p + 5] M M') := by
    intro f rec M X eX Y eY dep hP hX hX1 hX2 hY hY1 hY2 hsz hd0 hd1 hold
    have hS' := hS
    obtain ⟨s1, s2, s3, s4, s5, s6, s7, s8⟩ := hS
    have l1l := hP.2.2.2.2.2.1.2.2.2.2.1
    have l2l := hP.2.2.2.2.2.2.2.2.2.2.1
    have okr : okR (X, eX, Y, eY) := ⟨hX, hX1, hY, hY1⟩
    obtain ⟨k1, k2, k3, k4, k5, k6, k7⟩ := core_ok (l1 := l1) (l2 := l2) okr
    refine j_Ct.ofJ (ls := [jr_ s, jr_ p, ji_ X, ji_ eX, ji_ Y, ji_ eY, ji_ dep, ju_, ju_, ju_, ju_, ju_]) (by decide) rfl rfl ?_
    refine s_Sd_go_0 ?_
    refine sd_go1 (D := d + f + 4) hX2 hY2 24 X Y M hP (by omega) hX hX1 hY hY1 (fun M1 hM1 hf1 => ?_)
    have hP1 : rPr K g M1 p l1 l2 := hP.kept (hf1 _ (by simp)) (hf1 _ (by simp)) (hf1 _ (by simp)) (hf1 _ (by simp))
    have hp := pfx_r (l1 := l1) (l2 := l2) (a1 := eX) (b1 := eY) 24 X Y
    refine sd_go2 (D := d + f + 4) (by omega) (by omega) 24 eX eY M1 hP1 (by omega) (by omega) (by omega) hX2 hY2 (fun M2 hM2 hf2 => ?_)
    have hP2 : rPr K g M2 p l1 l2 := hP1.kept (hf2 _ (by simp)) (hf2 _ (by simp)) (hf2 _ (by simp)) (hf2 _ (by simp))
    have hends : M2 (p + 5) = endsM l1 l2 (X, eX, Y, eY) (M (p + 5)) := by
      rw [hM2, hM1]
      unfold endsM core
      dsimp only
      rw [show eX - (eX - sfx l1 l2 (X + pfx l1 l2 eX eY 24 X Y) (Y + pfx l1 l2 eX eY 24 X Y) 24 eX eY) = sfx l1 l2 (X + pfx l1 l2 eX eY 24 X Y) (Y + pfx l1 l2 eX eY 24 X Y) 24 eX eY by omega, show X + pfx l1 l2 eX eY 24 X Y - X = pfx l1 l2 eX eY 24 X Y by omega]
    have hcore : core l1 l2 (X, eX, Y, eY) = (X + pfx l1 l2 eX eY 24 X Y, eX - sfx l1 l2 (X + pfx l1 l2 eX eY 24 X Y) (Y + pfx l1 l2 eX eY 24 X Y) 24 eX eY, Y + pfx l1 l2 eX eY 24 X Y, eY - sfx l1 l2 (X + pfx l1 l2 eX eY 24 X Y) (Y + pfx l1 l2 eX eY 24 X Y) 24 eX eY) := rfl
    generalize X + pfx l1 l2 eX eY 24 X Y = i at hcore ⊢
    generalize Y + pfx l1 l2 eX eY 24 X Y = j at hcore ⊢
    generalize eX - sfx l1 l2 i j 24 eX eY = u at hcore ⊢
    generalize eY - sfx l1 l2 i j 24 eX eY = v at hcore ⊢
    have hpm : pm l1 l2 (f + 1) (X, eX, Y, eY) (M (p + 5)) = if mxR l1 l2 (i, u, j, v) ≤ 0 then gR l1 l2 i u j v (M2 (p + 5)) else (rngs (tpR l1 l2 (i, u, j, v)) u v i j (anR l1 l2 (i, u, j, v))).foldl (fun o r' => pm l1 l2 f r' o) (mkA (tpR l1 l2 (i, u, j, v)) (anR l1 l2 (i, u, j, v)) (M2 (p + 5))) := by
      rw [pm, hcore, ← hends]
    rw [hpm]
    have hin : ∀ t, i ≤ t → t < u → M2 (p + 5) t = -1 := fun t t1 t2 => by
      rw [hends, endsM_out okr (Or.inr (Or.inr (by rw [hcore]; exact ⟨t1, t2⟩)))]
      rw [hcore] at k2 k3
      exact hold t (by dsimp only at k2; omega) (by dsimp only at k3; omega)
    rw [hcore] at k1 k2 k3 k4 k5 k6 k7
    dsimp only at k2 k3 k4 k5 k6 k7
    have q1 : 0 ≤ i := k1.1
    have q2 : i ≤ u := k1.2.1
    have q3 : 0 ≤ j := k1.2.2.1
    have q4 : j ≤ v := k1.2.2.2
    clear hpm hcore hends hM1 hM2 hp
    have fr2 : j_fr [c, s + 1, s + 2, s + 3, p + 5] M M2 := (hf1.mono (by simp)).trans (hf2.mono (by simp))
    refine s_Sd_go_106 (k1 := fun h => by omega) (k2 := fun h => ?_)
    refine s_Sd_go_113 s1 (ct_Sd_anchor (d := d + f + 3) hS' hP2 hsp q1 q2 (by omega) q3 q4 (by omega)) (fun z M3 hq => ?_)
    obtain ⟨hz, hM3, hf3⟩ := hq
    have hP3 : rPr K g M3 p l1 l2 := hP2.kept (hf3 _ (by simp; omega)) (hf3 _ (by simp; omega)) (hf3 _ (by simp; omega)) (hf3 _ (by simp; omega))
    have fr3 : j_fr [c, s + 1, s + 2, s + 3, p + 5] M M3 := fr2.trans (hf3.mono (by simp))
    refine s_Sd_go_126 (r1 := by omega) (k1 := fun h2 => ?_) (k2 := fun h2 => ?_)
    · -- anchors
      have hmx : 0 < mxR l1 l2 (i, u, j, v) := by omega
      rw [if_neg (by omega), ← hM3]
      have hne := an_ne hmx
      have hu : upw (tpR l1 l2 (i, u, j, v)) i u j v (anR l1 l2 (i, u, j, v)) := an_upw (l1 := l1) (l2 := l2) (k := (i, u, j, v)) k1
      obtain ⟨L, hL⟩ : ∃ L, L = anR l1 l2 (i, u, j, v) := ⟨_, rfl⟩
      rw [← hL] at hu hne hM3 ⊢
      clear hL
      obtain ⟨tp, htp⟩ : ∃ tp, tp = tpR l1 l2 (i, u, j, v) := ⟨_, rfl⟩
      rw [← htp] at hu hM3 ⊢
      clear htp
      have hiu : i < u := by
        cases L with
        | nil => exact absurd rfl hne
        | cons x L => obtain ⟨u1, u2, u3⟩ := hu; omega
      obtain ⟨f', hf'⟩ : ∃ f', f = f' + 1 := ⟨f - 1, by omega⟩
      have rec' := rec f' hf'
      subst hf'
      have hlen : ∀ r' ∈ rngs tp u v i j L, r'.2.1 - r'.1 ≤ f' := fun r' hr' => by
        have := (rngs_ok _ _ _ q1 q3 hu r' hr').2.2.2.2.2 hne
        omega
      clear rec hz h2 hmx hne
      suffices lp : ∀ (k : Nat) (x i' j' : Int) (L' : List Int) (M4 : Nat → Int → Int), x + k = u → i ≤ i' → 0 ≤ j' → j ≤ j' → i' ≤ x → upw tp i' u j' v L' → (∀ y ∈ L', x ≤ y) → (∀ t, i' ≤ t → t < u → t ∉ L' → M4 (p + 5) t = -1) → (∀ t ∈ L', M4 (p + 5) t = tp t) → (∀ r' ∈ rngs tp u v i' j' L', r'.2.1 - r'.1 ≤ f') → j_fr [c, s + 1, s + 2, s + 3, p + 5] M M4 →
          j_J G jm_Sd_go (d + (f' + 1) + 5) 0 0 152 [jr_ s, jr_ p, ji_ X, ji_ eX, ji_ Y, ji_ eY, ji_ dep, ji_ i', ji_ j', ji_ u, ji_ v, ji_ x] [] (N, K, M4, g) (j_pV N K g fun M' => M' (p + 5) = (rngs tp u v i' j' L').foldl (fun o r' => pm l1 l2 (f' + 1) r' o) (M4 (p + 5)) ∧ j_fr [c, s + 1, s + 2, s + 3, p + 5] M M') from
        lp (u - i).toNat i i j L M3 (by omega) (by omega) q3 (by omega) (by omega) hu (fun y hy => (upw_in _ _ _ hu y hy).1) (fun t t1 t2 t3 => by rw [hM3, mkA_out t3]; exact hin t t1 t2) (fun t ht => by rw [hM3]; unfold mkA; rw [if_pos ht]) hlen fr3
      intro k
      induction k with
      | zero =>
        intro x i' j' L' M4 hk hi' hj0 hj' hx hu' hL' hn ht hl' hf4
        have hnil : L' = [] := by
          cases L' with
          | nil => rfl
          | cons y L' =>
            have := hL' y (by simp)
            obtain ⟨u1, u2, u3⟩ := hu'
            omega
        subst hnil
        have hP4 : rPr K g M4 p l1 l2 := hP.kept (hf4 _ (by simp; omega)) (hf4 _ (by simp; omega)) (hf4 _ (by simp; omega)) (hf4 _ (by simp; omega))
        obtain ⟨u1, u2⟩ := hu'
        refine s_Sd_go_152 (k1 := fun h => ?_) (k2 := fun h => by omega)
        have := rec' M4 i' u j' v (dep + 1) hP4 (by omega) (by omega) (by omega) hj0 u2 (by omega) (hl' (i', u, j', v) (by simp [rngs])) (by omega) (by omega) (fun t t1 t2 => hn t t1 t2 (by simp))
        refine s_Sd_go_214 this (fun M5 hq => ?_)
        obtain ⟨hM5, hf5⟩ := hq
        exact s_Sd_go_231 ⟨M5, rfl, rfl, hM5, hf4.trans hf5⟩
      | succ k ih =>
        intro x i' j' L' M4 hk hi' hj0 hj' hx hu' hL' hn ht hl' hf4
        have hP4 : rPr K g M4 p l1 l2 := hP.kept (hf4 _ (by simp; omega)) (hf4 _ (by simp; omega)) (hf4 _ (by simp; omega)) (hf4 _ (by simp; omega))
        refine s_Sd_go_152 (k1 := fun h => by omega) (k2 := fun h => ?_)
        by_cases hxL : x ∈ L'
        · cases L' with
          | nil => cases hxL
          | cons y L' =>
            have hu'' := hu'
            obtain ⟨u1, u2, u3, u4, u5⟩ := hu'
            have hyx : y = x := by
              rcases List.mem_cons.mp hxL with q | q
              · exact q.symm
              · have a := (upw_in _ _ _ u5 x q).1
                have b := hL' y (by simp)
                omega
            subst hyx
            have e := ht y (by simp)
            refine s_Sd_go_159 hP.1 hP.2.2.2.1 hP.2.2.2.2.1 (r4 := by rw [e]; omega) (k1 := fun h3 => by omega) (k2 := fun h3 => ?_)
            have hxl : ∀ t ∈ L', y + 1 ≤ t := fun t q => (upw_in _ _ _ u5 t q).1
            have cc := rec' M4 i' y j' (tp y) (dep + 1) hP4 (by omega) (by omega) (by omega) hj0 u3 (by omega) (hl' (i', y, j', tp y) (by simp [rngs])) (by omega) (by omega) (fun t t1 t2 => hn t t1 (by omega) (fun q => by
              rcases List.mem_cons.mp q with q | q
              · omega
              · have := hxl t q; omega))
            rw [← e] at cc
            refine s_Sd_go_169 hP.1 hP.2.2.2.1 hP.2.2.2.2.1 (hC := cc) (k1 := fun M5 hq => ?_)
            obtain ⟨hM5, hf5⟩ := hq
            rw [e] at hM5
            have out : ∀ t, y ≤ t → M5 (p + 5) t = M4 (p + 5) t := fun t t1 => by
              rw [hM5]; exact pm_out _ _ _ t ⟨by show 0 ≤ i'; omega, u1, hj0, u3⟩ (Or.inr t1)
            have e5 : M5 (p + 5) y = tp y := by rw [out y (Int.le_refl _), e]
            refine s_Sd_go_191 hP.1 hP.2.2.2.1 hP.2.2.2.2.1 (k1 := ?_)
            rw [e5]
            have := ih (y + 1) (y + 1) (tp y + 1) L' M5 (by omega) (by omega) (by omega) (by omega) (by omega) u5 hxl (fun t t1 t2 t3 => by rw [out t (by omega)]; exact hn t (by omega) t2 (fun q => by
              rcases List.mem_cons.mp q with q | q
              · omega
              · exact t3 q)) (fun t q => by rw [out t (by have := hxl t q; omega)]; exact ht t (by simp [q])) (fun r' hr' => hl' r' (by simp [rngs, hr'])) (hf4.trans hf5)
            rw [hM5] at this
            exact this
        · have e := hn x hx (by omega) hxL
          refine s_Sd_go_159 hP.1 hP.2.2.2.1 hP.2.2.2.2.1 (r4 := by rw [e]; omega) (k1 := fun h3 => ?_) (k2 := fun h3 => by omega)
          exact ih (x + 1) i' j' L' M4 (by omega) hi' hj0 hj' (by omega) hu' (fun y hy => by
            have := hL' y hy
            by_cases q : y = x
            · subst q; exact absurd hy hxL
            · omega) hn ht hl' hf4
    · -- none
      have hmx : mxR l1 l2 (i, u, j, v) ≤ 0 := by omega
      have hmx0 : mxR l1 l2 (i, u, j, v) = 0 := by
        have := mxr_0 (f := rk (tpR l1 l2 (i, u, j, v)) i) (a0 := i) (u - i).toNat
        exact Int.le_antisymm hmx this
      rw [if_pos hmx]
      have e : M3 (p + 5) = M2 (p + 5) := by
        rw [hM3, show anR l1 l2 (i, u, j, v) = [] from by unfold anR; rw [hmx0]; exact chs_0 _ (by omega), mkA_nil]
      refine s_Sd_go_129 s1 s2 hO lf_Sd_Re (ct_Re_run (d := d + f) hO hg hc hP3 q1 q2 (by omega) q3 q4 (by omega) (by omega)) (fun M4 hq => ?_)
      obtain ⟨hM4, hf4⟩ := hq
      exact s_Sd_go_147 ⟨M4, rfl, rfl, by rw [hM4, e], fr3.trans (hf4.mono (by simp))⟩
  intro f
  induction f with
  | zero => exact body 0 (fun f' h => by omega)
  | succ f ih => exact body (f + 1) (fun f' h => by
      have : f' = f := by omega
      subst this
      exact ih)
theorem ct_Sd_run {M : Nat → Int → Int} {X eX Y eY : Int} (hO : K o = some (0, 3)) (hg : g o 0 = some c) (hc : K c = some (2, 1225)) (hS : rSd K g s o) (hcs : c < s) (hsp : s + 3 < p) (hP : rPr K g M p l1 l2) (hX : 0 ≤ X) (hX1 : X ≤ eX) (hX2 : eX ≤ l1.length) (hY : 0 ≤ Y) (hY1 : Y ≤ eY) (hY2 : eY ≤ l2.length) (hold : ∀ t, X ≤ t → t < eX → M (p + 5) t = -1) :
    j_Ct G jm_Sd_run (d + 30) 0 0 [jr_ s, jr_ p, ji_ X, ji_ eX, ji_ Y, ji_ eY] (N, K, M, g) (j_pV N K g fun M' => M' (p + 5) = pm l1 l2 25 (X, eX, Y, eY) (M (p + 5)) ∧ j_fr [c, s + 1, s + 2, s + 3, p + 5] M M') := by
  have l1l := hP.2.2.2.2.2.1.2.2.2.2.1
  refine j_Ct.ofJ (ls := [jr_ s, jr_ p, ji_ X, ji_ eX, ji_ Y, ji_ eY]) (by decide) rfl rfl ?_
  refine s_Sd_run_0 (ct_Sd_go (d := d) hO hg hc hS hcs hsp 24 M X eX Y eY 0 hP hX hX1 hX2 hY hY1 hY2 (by omega) (by omega) (by omega) hold) (fun M' hq => ?_)
  exact s_Sd_run_12 ⟨M', rfl, rfl, hq⟩
end

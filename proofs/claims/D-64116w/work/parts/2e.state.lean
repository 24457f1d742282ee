/-! ===== the shape of the worlds; what they hold; the operations as functions ===== -/
def kOf : List (Nat × Nat × Nat) := [(0, 0, 0), (1, 3, 4), (2, 0, 3), (3, 2, 1225), (4, 4, 2), (5, 0, 4), (6, 1, 25), (7, 1, 24), (8, 1, 24), (9, 0, 2), (10, 0, 1), (11, 2, 24), (12, 0, 1), (13, 2, 24), (14, 2, 24), (15, 0, 2), (16, 0, 1), (17, 2, 24), (18, 0, 1), (19, 2, 24), (20, 2, 24), (21, 0, 2), (22, 0, 1), (23, 2, 24), (24, 0, 1), (25, 2, 24), (26, 2, 24), (27, 0, 1), (28, 2, 24), (29, 5, 25), (30, 0, 7), (31, 2, 900), (32, 0, 9), (34, 0, 1), (35, 2, 24), (36, 0, 1), (37, 2, 24), (38, 0, 1), (39, 2, 24), (40, 0, 1), (41, 2, 24), (42, 0, 5), (43, 0, 5), (44, 0, 5), (45, 0, 5), (46, 0, 5), (47, 0, 5), (48, 0, 5), (49, 0, 5), (50, 0, 5), (51, 0, 5), (52, 0, 5), (53, 0, 5), (54, 0, 5), (55, 0, 5), (56, 0, 5), (57, 0, 5), (58, 0, 5), (59, 0, 5), (60, 0, 5), (61, 0, 5), (62, 0, 5), (63, 0, 5), (64, 0, 5), (65, 0, 5), (66, 0, 5), (67, 0, 8), (68, 1, 96), (69, 1, 4), (70, 1, 24), (71, 1, 24), (72, 1, 24), (73, 1, 625), (74, 1, 60), (75, 1, 60), (76, 1, 60), (77, 1, 60), (78, 1, 24), (79, 1, 24), (80, 1, 24), (81, 1, 24), (82, 1, 24), (83, 1, 48), (84, 1, 48), (85, 1, 900), (86, 1, 80), (87, 1, 80), (88, 1, 80), (89, 1, 80), (90, 1, 80), (91, 1, 80), (92, 1, 24), (93, 1, 24)]
def gOf : List (Nat × Int × Nat) := [(0, 0, 1), (0, 1, 2), (0, 2, 4), (0, 3, 9), (0, 4, 15), (0, 5, 21), (0, 6, 27), (0, 8, 29), (0, 10, 30), (0, 11, 32), (1, 0, 34), (1, 1, 36), (1, 2, 38), (1, 3, 40), (2, 0, 3), (4, 0, 2), (4, 1, 5), (5, 0, 2), (5, 1, 6), (5, 2, 7), (5, 3, 8), (9, 0, 10), (9, 1, 12), (9, 2, 14), (10, 0, 11), (12, 0, 13), (15, 0, 16), (15, 1, 18), (15, 2, 20), (16, 0, 17), (18, 0, 19), (21, 0, 22), (21, 1, 24), (21, 2, 26), (22, 0, 23), (24, 0, 25), (27, 0, 28), (29, 0, 42), (29, 1, 43), (29, 2, 44), (29, 3, 45), (29, 4, 46), (29, 5, 47), (29, 6, 48), (29, 7, 49), (29, 8, 50), (29, 9, 51), (29, 10, 52), (29, 11, 53), (29, 12, 54), (29, 13, 55), (29, 14, 56), (29, 15, 57), (29, 16, 58), (29, 17, 59), (29, 18, 60), (29, 19, 61), (29, 20, 62), (29, 21, 63), (29, 22, 64), (29, 23, 65), (29, 24, 66), (30, 0, 31), (34, 0, 35), (36, 0, 37), (38, 0, 39), (40, 0, 41), (67, 0, 68), (67, 1, 69), (67, 4, 70), (67, 5, 71), (67, 6, 72), (67, 7, 73), (67, 9, 74), (67, 10, 75), (67, 11, 76), (67, 12, 77), (67, 13, 78), (67, 14, 79), (67, 18, 80), (67, 19, 81), (67, 20, 82), (67, 22, 83), (67, 23, 84), (67, 25, 85), (67, 27, 86), (67, 28, 87), (67, 29, 88), (67, 30, 89), (67, 31, 90), (67, 32, 91), (67, 36, 92), (67, 37, 93)]
/-- what lies at the first addresses, and which reference leads where -/
def rSh (K : Nat → Option (Nat × Nat)) (g : Nat → Int → Option Nat) : Prop := (∀ q ∈ kOf, K q.1 = some q.2) ∧ ∀ q ∈ gOf, g q.1 q.2.1 = some q.2.2
theorem rSh.k {K : Nat → Option (Nat × Nat)} {g : Nat → Int → Option Nat} (h : rSh K g) {a t n : Nat} (hm : kOf.contains (a, t, n) = true) : K a = some (t, n) := h.1 (a, t, n) (List.contains_iff_mem.mp hm)
theorem rSh.g {K : Nat → Option (Nat × Nat)} {g : Nat → Int → Option Nat} (h : rSh K g) {a b : Nat} {i : Int} (hm : gOf.contains (a, i, b) = true) : g a i = some b := h.2 (a, i, b) (List.contains_iff_mem.mp hm)
theorem rSh.mo {K : Nat → Option (Nat × Nat)} {g : Nat → Int → Option Nat} (h : rSh K g) : rMo K g 67 := by
  refine ⟨h.k rfl, fun q hq => ?_⟩
  have h1 : (moT.all fun q => gOf.contains (67, q.1, 67 + q.2.1) && kOf.contains (67 + q.2.1, 1, q.2.2)) = true := by decide +kernel
  have h2 := List.all_eq_true.mp h1 q hq
  obtain ⟨h3, h4⟩ := Bool.and_eq_true_iff.mp h2
  exact ⟨h.g h3, h.k h4⟩
section
variable {K : Nat → Option (Nat × Nat)} {g : Nat → Int → Option Nat}
theorem rSh.K0 (h : rSh K g) : K 0 = some (0, 0) := h.k rfl
theorem rSh.K1 (h : rSh K g) : K 1 = some (3, 4) := h.k rfl
theorem rSh.K2 (h : rSh K g) : K 2 = some (0, 3) := h.k rfl
theorem rSh.K3 (h : rSh K g) : K 3 = some (2, 1225) := h.k rfl
theorem rSh.K4 (h : rSh K g) : K 4 = some (4, 2) := h.k rfl
theorem rSh.K5 (h : rSh K g) : K 5 = some (0, 4) := h.k rfl
theorem rSh.K6 (h : rSh K g) : K 6 = some (1, 25) := h.k rfl
theorem rSh.K7 (h : rSh K g) : K 7 = some (1, 24) := h.k rfl
theorem rSh.K8 (h : rSh K g) : K 8 = some (1, 24) := h.k rfl
theorem rSh.K9 (h : rSh K g) : K 9 = some (0, 2) := h.k rfl
theorem rSh.K10 (h : rSh K g) : K 10 = some (0, 1) := h.k rfl
theorem rSh.K11 (h : rSh K g) : K 11 = some (2, 24) := h.k rfl
theorem rSh.K12 (h : rSh K g) : K 12 = some (0, 1) := h.k rfl
theorem rSh.K13 (h : rSh K g) : K 13 = some (2, 24) := h.k rfl
theorem rSh.K14 (h : rSh K g) : K 14 = some (2, 24) := h.k rfl
theorem rSh.K15 (h : rSh K g) : K 15 = some (0, 2) := h.k rfl
theorem rSh.K16 (h : rSh K g) : K 16 = some (0, 1) := h.k rfl
theorem rSh.K17 (h : rSh K g) : K 17 = some (2, 24) := h.k rfl
theorem rSh.K18 (h : rSh K g) : K 18 = some (0, 1) := h.k rfl
theorem rSh.K19 (h : rSh K g) : K 19 = some (2, 24) := h.k rfl
theorem rSh.K20 (h : rSh K g) : K 20 = some (2, 24) := h.k rfl
theorem rSh.K21 (h : rSh K g) : K 21 = some (0, 2) := h.k rfl
theorem rSh.K22 (h : rSh K g) : K 22 = some (0, 1) := h.k rfl
theorem rSh.K23 (h : rSh K g) : K 23 = some (2, 24) := h.k rfl
theorem rSh.K24 (h : rSh K g) : K 24 = some (0, 1) := h.k rfl
theorem rSh.K25 (h : rSh K g) : K 25 = some (2, 24) := h.k rfl
theorem rSh.K26 (h : rSh K g) : K 26 = some (2, 24) := h.k rfl
theorem rSh.K27 (h : rSh K g) : K 27 = some (0, 1) := h.k rfl
theorem rSh.K28 (h : rSh K g) : K 28 = some (2, 24) := h.k rfl
theorem rSh.K29 (h : rSh K g) : K 29 = some (5, 25) := h.k rfl
theorem rSh.K30 (h : rSh K g) : K 30 = some (0, 7) := h.k rfl
theorem rSh.K31 (h : rSh K g) : K 31 = some (2, 900) := h.k rfl
theorem rSh.K32 (h : rSh K g) : K 32 = some (0, 9) := h.k rfl
theorem rSh.K34 (h : rSh K g) : K 34 = some (0, 1) := h.k rfl
theorem rSh.K35 (h : rSh K g) : K 35 = some (2, 24) := h.k rfl
theorem rSh.K36 (h : rSh K g) : K 36 = some (0, 1) := h.k rfl
theorem rSh.K37 (h : rSh K g) : K 37 = some (2, 24) := h.k rfl
theorem rSh.K38 (h : rSh K g) : K 38 = some (0, 1) := h.k rfl
theorem rSh.K39 (h : rSh K g) : K 39 = some (2, 24) := h.k rfl
theorem rSh.K40 (h : rSh K g) : K 40 = some (0, 1) := h.k rfl
theorem rSh.K41 (h : rSh K g) : K 41 = some (2, 24) := h.k rfl
theorem rSh.K42 (h : rSh K g) : K 42 = some (0, 5) := h.k rfl
theorem rSh.K43 (h : rSh K g) : K 43 = some (0, 5) := h.k rfl
theorem rSh.K44 (h : rSh K g) : K 44 = some (0, 5) := h.k rfl
theorem rSh.K45 (h : rSh K g) : K 45 = some (0, 5) := h.k rfl
theorem rSh.K46 (h : rSh K g) : K 46 = some (0, 5) := h.k rfl
theorem rSh.K47 (h : rSh K g) : K 47 = some (0, 5) := h.k rfl
theorem rSh.K48 (h : rSh K g) : K 48 = some (0, 5) := h.k rfl
theorem rSh.K49 (h : rSh K g) : K 49 = some (0, 5) := h.k rfl
theorem rSh.K50 (h : rSh K g) : K 50 = some (0, 5) := h.k rfl
theorem rSh.K51 (h : rSh K g) : K 51 = some (0, 5) := h.k rfl
theorem rSh.K52 (h : rSh K g) : K 52 = some (0, 5) := h.k rfl
theorem rSh.K53 (h : rSh K g) : K 53 = some (0, 5) := h.k rfl
theorem rSh.K54 (h : rSh K g) : K 54 = some (0, 5) := h.k rfl
theorem rSh.K55 (h : rSh K g) : K 55 = some (0, 5) := h.k rfl
theorem rSh.K56 (h : rSh K g) : K 56 = some (0, 5) := h.k rfl
theorem rSh.K57 (h : rSh K g) : K 57 = some (0, 5) := h.k rfl
theorem rSh.K58 (h : rSh K g) : K 58 = some (0, 5) := h.k rfl
theorem rSh.K59 (h : rSh K g) : K 59 = some (0, 5) := h.k rfl
theorem rSh.K60 (h : rSh K g) : K 60 = some (0, 5) := h.k rfl
theorem rSh.K61 (h : rSh K g) : K 61 = some (0, 5) := h.k rfl
theorem rSh.K62 (h : rSh K g) : K 62 = some (0, 5) := h.k rfl
theorem rSh.K63 (h : rSh K g) : K 63 = some (0, 5) := h.k rfl
theorem rSh.K64 (h : rSh K g) : K 64 = some (0, 5) := h.k rfl
theorem rSh.K65 (h : rSh K g) : K 65 = some (0, 5) := h.k rfl
theorem rSh.K66 (h : rSh K g) : K 66 = some (0, 5) := h.k rfl
theorem rSh.G0_0 (h : rSh K g) : g 0 0 = some 1 := h.g rfl
theorem rSh.G0_1 (h : rSh K g) : g 0 1 = some 2 := h.g rfl
theorem rSh.G0_2 (h : rSh K g) : g 0 2 = some 4 := h.g rfl
theorem rSh.G0_3 (h : rSh K g) : g 0 3 = some 9 := h.g rfl
theorem rSh.G0_4 (h : rSh K g) : g 0 4 = some 15 := h.g rfl
theorem rSh.G0_5 (h : rSh K g) : g 0 5 = some 21 := h.g rfl
theorem rSh.G0_6 (h : rSh K g) : g 0 6 = some 27 := h.g rfl
theorem rSh.G0_8 (h : rSh K g) : g 0 8 = some 29 := h.g rfl
theorem rSh.G0_10 (h : rSh K g) : g 0 10 = some 30 := h.g rfl
theorem rSh.G0_11 (h : rSh K g) : g 0 11 = some 32 := h.g rfl
theorem rSh.G1_0 (h : rSh K g) : g 1 0 = some 34 := h.g rfl
theorem rSh.G1_1 (h : rSh K g) : g 1 1 = some 36 := h.g rfl
theorem rSh.G1_2 (h : rSh K g) : g 1 2 = some 38 := h.g rfl
theorem rSh.G1_3 (h : rSh K g) : g 1 3 = some 40 := h.g rfl
theorem rSh.G2_0 (h : rSh K g) : g 2 0 = some 3 := h.g rfl
theorem rSh.G4_0 (h : rSh K g) : g 4 0 = some 2 := h.g rfl
theorem rSh.G4_1 (h : rSh K g) : g 4 1 = some 5 := h.g rfl
theorem rSh.G5_0 (h : rSh K g) : g 5 0 = some 2 := h.g rfl
theorem rSh.G5_1 (h : rSh K g) : g 5 1 = some 6 := h.g rfl
theorem rSh.G5_2 (h : rSh K g) : g 5 2 = some 7 := h.g rfl
theorem rSh.G5_3 (h : rSh K g) : g 5 3 = some 8 := h.g rfl
theorem rSh.G9_0 (h : rSh K g) : g 9 0 = some 10 := h.g rfl
theorem rSh.G9_1 (h : rSh K g) : g 9 1 = some 12 := h.g rfl
theorem rSh.G9_2 (h : rSh K g) : g 9 2 = some 14 := h.g rfl
theorem rSh.G10_0 (h : rSh K g) : g 10 0 = some 11 := h.g rfl
theorem rSh.G12_0 (h : rSh K g) : g 12 0 = some 13 := h.g rfl
theorem rSh.G15_0 (h : rSh K g) : g 15 0 = some 16 := h.g rfl
theorem rSh.G15_1 (h : rSh K g) : g 15 1 = some 18 := h.g rfl
theorem rSh.G15_2 (h : rSh K g) : g 15 2 = some 20 := h.g rfl
theorem rSh.G16_0 (h : rSh K g) : g 16 0 = some 17 := h.g rfl
theorem rSh.G18_0 (h : rSh K g) : g 18 0 = some 19 := h.g rfl
theorem rSh.G21_0 (h : rSh K g) : g 21 0 = some 22 := h.g rfl
theorem rSh.G21_1 (h : rSh K g) : g 21 1 = some 24 := h.g rfl
theorem rSh.G21_2 (h : rSh K g) : g 21 2 = some 26 := h.g rfl
theorem rSh.G22_0 (h : rSh K g) : g 22 0 = some 23 := h.g rfl
theorem rSh.G24_0 (h : rSh K g) : g 24 0 = some 25 := h.g rfl
theorem rSh.G27_0 (h : rSh K g) : g 27 0 = some 28 := h.g rfl
theorem rSh.G30_0 (h : rSh K g) : g 30 0 = some 31 := h.g rfl
theorem rSh.G34_0 (h : rSh K g) : g 34 0 = some 35 := h.g rfl
theorem rSh.G36_0 (h : rSh K g) : g 36 0 = some 37 := h.g rfl
theorem rSh.G38_0 (h : rSh K g) : g 38 0 = some 39 := h.g rfl
theorem rSh.G40_0 (h : rSh K g) : g 40 0 = some 41 := h.g rfl
end
/-- a text at a -/
def cTx (M : Nat → Int → Int) (a : Nat) (l : List Int) : Prop := M a 1 = l.length ∧ (l.length : Int) ≤ 24 ∧ (∀ i : Int, 0 ≤ i → i < l.length → M (a + 1) i = lg l i) ∧ ∀ i : Int, 0 ≤ i → i < 24 → -128 ≤ M (a + 1) i ∧ M (a + 1) i ≤ 127
theorem cTx.r {K : Nat → Option (Nat × Nat)} {g : Nat → Int → Option Nat} {M : Nat → Int → Int} {a : Nat} {l : List Int} (h : cTx M a l) (hs : rSh K g) (h1 : kOf.contains (a, 0, 1) = true) (h2 : gOf.contains (a, 0, a + 1) = true) (h3 : kOf.contains (a + 1, 2, 24) = true) : rTx K g M a (a + 1) l :=
  ⟨hs.k h1, hs.g h2, hs.k h3, h.1, h.2.1, h.2.2.1, h.2.2.2⟩
theorem rTx.c {K : Nat → Option (Nat × Nat)} {g : Nat → Int → Option Nat} {M : Nat → Int → Int} {a : Nat} {l : List Int} (h : rTx K g M a (a + 1) l) : cTx M a l := ⟨h.2.2.2.1, h.2.2.2.2.1, h.2.2.2.2.2.1, h.2.2.2.2.2.2⟩
theorem cTx.kept {M M' : Nat → Int → Int} {a : Nat} {l : List Int} (h : cTx M a l) (h1 : M' a = M a) (h2 : M' (a + 1) = M (a + 1)) : cTx M' a l := by
  unfold cTx
  rw [h1, h2]
  exact h
/-- the address of text t -/
def tA (t : Int) : Nat := 34 + 2 * t.toNat
theorem tA_c {t : Int} (h0 : 0 ≤ t) (h1 : t ≤ 3) : t = 0 ∧ tA t = 34 ∨ t = 1 ∧ tA t = 36 ∨ t = 2 ∧ tA t = 38 ∨ t = 3 ∧ tA t = 40 := by
  unfold tA
  omega
theorem tA_g {K : Nat → Option (Nat × Nat)} {g : Nat → Int → Option Nat} (hs : rSh K g) {t : Int} (h0 : 0 ≤ t) (h1 : t ≤ 3) : g 1 t = some (tA t) := by
  rcases tA_c h0 h1 with ⟨e, e'⟩ | ⟨e, e'⟩ | ⟨e, e'⟩ | ⟨e, e'⟩ <;> rw [e'] <;> subst e <;> exact hs.g rfl
theorem tA_r {K : Nat → Option (Nat × Nat)} {g : Nat → Int → Option Nat} (hs : rSh K g) {M : Nat → Int → Int} {t : Int} {l : List Int} (h0 : 0 ≤ t) (h1 : t ≤ 3) (h : cTx M (tA t) l) : rTx K g M (tA t) (tA t + 1) l := by
  rcases tA_c h0 h1 with ⟨e, e'⟩ | ⟨e, e'⟩ | ⟨e, e'⟩ | ⟨e, e'⟩ <;> rw [e'] at h ⊢ <;> exact h.r hs rfl rfl rfl
/-- texts, the latest comparison, the paper -/
abbrev AS : Type := (Int → List Int) × Option (List Int × List Int × Int) × List Int
/-- the paper of the component -/
def cPp (M : Nat → Int → Int) (P : List Int) : Prop := M 30 1 = P.length ∧ (P.length : Int) ≤ 900 ∧ (∀ i : Int, 0 ≤ i → i < P.length → M 31 i = (lg P i).bmod 256) ∧ ∀ i : Int, 0 ≤ i → i < 900 → -128 ≤ M 31 i ∧ M 31 i ≤ 127
def cLa (M : Nat → Int → Int) (C : Option (List Int × List Int × Int)) : Prop := (∀ i : Int, 0 ≤ i → i < 24 → -128 ≤ M 14 i ∧ M 14 i ≤ 127) ∧ match C with
  | none => M 0 7 = 0 ∧ ∃ l1 l2, cTx M 10 l1 ∧ cTx M 12 l2
  | some (l1, l2, w) => M 0 7 = 1 ∧ cTx M 10 l1 ∧ cTx M 12 l2 ∧ ∀ i : Int, 0 ≤ i → i < l1.length → M 14 i = mtF l1 l2 w i
def cRs (M : Nat → Int → Int) : Prop := (∃ l1 l2, cTx M 16 l1 ∧ cTx M 18 l2) ∧ (∃ l1 l2, cTx M 22 l1 ∧ cTx M 24 l2) ∧ ∃ l, cTx M 27 l
/-- what the component holds -/
def cInv (M : Nat → Int → Int) (A : AS) : Prop := (∀ t : Int, 0 ≤ t → t ≤ 3 → cTx M (tA t) (A.1 t)) ∧ cLa M A.2.1 ∧ cRs M ∧ cPp M A.2.2
/-- what is always so -/
def aInv (A : AS) : Prop := (∀ t : Int, 0 ≤ t → t ≤ 3 → chL (A.1 t) ∧ ((A.1 t).length : Int) ≤ 24) ∧ (∀ l1 l2 w, A.2.1 = some (l1, l2, w) → allL l1 ∧ allL l2 ∧ (l1.length : Int) ≤ 24 ∧ (l2.length : Int) ≤ 24) ∧ (∀ i : Int, 0 ≤ i → i < A.2.2.length → 0 ≤ lg A.2.2 i ∧ lg A.2.2 i ≤ 255) ∧ (A.2.2.length : Int) ≤ 900
/-- what the model holds -/
def mInv (M : Nat → Int → Int) (m : Nat) (A : AS) : Prop := (∀ t : Int, 0 ≤ t → t ≤ 3 → mTx M m t (A.1 t)) ∧ (match A.2.1 with
  | none => M m 15 = 0
  | some (l1, l2, w) => mCp M m l1 l2 (mtF l1 l2 w)) ∧ M m 24 = A.2.2.length ∧ ∀ i : Int, 0 ≤ i → i < A.2.2.length → M (m + 18) i = lg A.2.2 i
section
variable {M M' : Nat → Int → Int} {A : AS} {C : Option (List Int × List Int × Int)} {P : List Int}
theorem cLa.kept (h : cLa M C) (h0 : M' 0 7 = M 0 7) (h1 : ∀ a, 10 ≤ a → a ≤ 14 → M' a = M a) : cLa M' C := by
  obtain ⟨h2, h3⟩ := h
  refine ⟨by rw [h1 14 (by omega) (by omega)]; exact h2, ?_⟩
  match C, h3 with
  | none, ⟨q1, l1, l2, q2, q3⟩ => exact ⟨by rw [h0]; exact q1, l1, l2, q2.kept (h1 _ (by omega) (by omega)) (h1 _ (by omega) (by omega)), q3.kept (h1 _ (by omega) (by omega)) (h1 _ (by omega) (by omega))⟩
  | some (l1, l2, w), ⟨q1, q2, q3, q4⟩ => exact ⟨by rw [h0]; exact q1, q2.kept (h1 _ (by omega) (by omega)) (h1 _ (by omega) (by omega)), q3.kept (h1 _ (by omega) (by omega)) (h1 _ (by omega) (by omega)), by rw [h1 14 (by omega) (by omega)]; exact q4⟩
theorem cRs.kept (h : cRs M) (h1 : ∀ a, 16 ≤ a → a ≤ 28 → M' a = M a) : cRs M' := by
  obtain ⟨⟨a1, a2, a3, a4⟩, ⟨b1, b2, b3, b4⟩, c1, c2⟩ := h
  exact ⟨⟨a1, a2, a3.kept (h1 _ (by omega) (by omega)) (h1 _ (by omega) (by omega)), a4.kept (h1 _ (by omega) (by omega)) (h1 _ (by omega) (by omega))⟩, ⟨b1, b2, b3.kept (h1 _ (by omega) (by omega)) (h1 _ (by omega) (by omega)), b4.kept (h1 _ (by omega) (by omega)) (h1 _ (by omega) (by omega))⟩, c1, c2.kept (h1 _ (by omega) (by omega)) (h1 _ (by omega) (by omega))⟩
theorem cPp.kept (h : cPp M P) (h0 : M' 30 1 = M 30 1) (h1 : M' 31 = M 31) : cPp M' P := by
  unfold cPp
  rw [h0, h1]
  exact h
/-- one text changes -/
def upT (T : Int → List Int) (t : Int) (l : List Int) : Int → List Int := fun s => if s = t then l else T s
theorem cInv.text (h : cInv M A) {t : Int} {l : List Int} (h0 : 0 ≤ t) (h1 : t ≤ 3) (hf : ∀ a, a ≠ tA t → a ≠ tA t + 1 → M' a = M a) (hl : cTx M' (tA t) l) : cInv M' (upT A.1 t l, A.2) := by
  have ht := tA_c h0 h1
  refine ⟨fun s s0 s1 => ?_, h.2.1.kept (by rw [hf 0 (by omega) (by omega)]) (fun a a0 a1 => hf a (by omega) (by omega)), h.2.2.1.kept (fun a a0 a1 => hf a (by omega) (by omega)), h.2.2.2.kept (by rw [hf 30 (by omega) (by omega)]) (hf 31 (by omega) (by omega))⟩
  show cTx M' (tA s) (if s = t then l else A.1 s)
  by_cases hst : s = t
  · subst hst; rw [if_pos rfl]; exact hl
  · rw [if_neg hst]
    have hs := tA_c s0 s1
    exact (h.1 s s0 s1).kept (hf _ (by omega) (by omega)) (hf _ (by omega) (by omega))
theorem cInv.paper (h : cInv M A) {P' : List Int} (hf : ∀ a, a ≠ 30 → a ≠ 31 → M' a = M a) (hp : cPp M' P') : cInv M' (A.1, A.2.1, P') := by
  refine ⟨fun s s0 s1 => ?_, h.2.1.kept (by rw [hf 0 (by omega) (by omega)]) (fun a a0 a1 => hf a (by omega) (by omega)), h.2.2.1.kept (fun a a0 a1 => hf a (by omega) (by omega)), hp⟩
  have hs := tA_c s0 s1
  exact (h.1 s s0 s1).kept (hf _ (by omega) (by omega)) (hf _ (by omega) (by omega))
theorem mInv.kept {m : Nat} (h : mInv M m A) (hf : ∀ a, m ≤ a → a ≤ m + 26 → M' a = M a) : mInv M' m A := by
  obtain ⟨h1, h2, h3, h4⟩ := h
  have e0 := hf m (by omega) (by omega)
  refine ⟨fun t t0 t1 => (h1 t t0 t1).kept (hf _ (by omega) (by omega)) (hf _ (by omega) (by omega)), ?_, by rw [e0]; exact h3, by rw [hf _ (by omega) (by omega)]; exact h4⟩
  match hC : A.2.1, h2 with
  | none, q => rw [e0]; exact q
  | some (l1, l2, w), q =>
    show mCp M' m l1 l2 (mtF l1 l2 w)
    unfold mCp
    rw [e0, hf _ (by omega) (by omega), hf _ (by omega) (by omega), hf _ (by omega) (by omega)]
    exact q
theorem mTx.up {m : Nat} {T : Int → List Int} {t : Int} {l : List Int} (h0 : 0 ≤ t) (h1 : t ≤ 3) (h : ∀ s : Int, 0 ≤ s → s ≤ 3 → mTx M m s (T s)) (hf1 : ∀ s i : Int, 0 ≤ s → s ≤ 3 → s ≠ t → 0 ≤ i → i < 24 → M' (m + 1) (24 * s + i) = M (m + 1) (24 * s + i)) (hf2 : ∀ s : Int, s ≠ t → M' (m + 2) s = M (m + 2) s) (hl : mTx M' m t l) : ∀ s : Int, 0 ≤ s → s ≤ 3 → mTx M' m s (upT T t l s) := by
  intro s s0 s1
  unfold upT
  by_cases hst : s = t
  · subst hst; rw [if_pos rfl]; exact hl
  · rw [if_neg hst]
    obtain ⟨q1, q2, q3, q4⟩ := h s s0 s1
    exact ⟨by rw [hf2 s hst]; exact q1, q2, q3, fun i i0 i1 => by rw [hf1 s i s0 s1 hst i0 (by omega)]; exact q4 i i0 i1⟩
end
def letB (l : List Int) : Bool := l.all fun c => decide (97 ≤ c) && decide (c ≤ 122)
theorem lg_cons {x : Int} {l : List Int} {i : Int} (h : 0 < i) : lg (x :: l) i = lg l (i - 1) := by
  unfold lg
  obtain ⟨n, hn⟩ : ∃ n, i.toNat = n + 1 := ⟨i.toNat - 1, by omega⟩
  rw [hn, show (i - 1).toNat = n by omega]
  rfl
theorem letB_iff (l : List Int) : letB l = true ↔ allL l := by
  induction l with
  | nil => exact ⟨fun _ i h0 h1 => by simp at h1; omega, fun _ => rfl⟩
  | cons x l ih =>
    have e : letB (x :: l) = (decide (97 ≤ x) && decide (x ≤ 122) && letB l) := rfl
    rw [e, Bool.and_eq_true, Bool.and_eq_true, decide_eq_true_eq, decide_eq_true_eq, ih]
    constructor
    · rintro ⟨⟨h1, h2⟩, h3⟩ i i0 i1
      rw [List.length_cons] at i1
      by_cases hi : i = 0
      · subst hi; exact ⟨h1, h2⟩
      · rw [lg_cons (by omega)]; exact h3 (i - 1) (by omega) (by omega)
    · intro h
      have h0 := h 0 (by omega) (by rw [List.length_cons]; omega)
      refine ⟨⟨h0.1, h0.2⟩, fun i i0 i1 => ?_⟩
      have := h (i + 1) (by omega) (by rw [List.length_cons]; omega)
      rw [lg_cons (by omega), show i + 1 - 1 = i by omega] at this
      exact this
/-- character k of eight, the last one first -/
def chA (x : Int64) (k : Int) : Int := ((x >>> ((Int32.ofInt (8 * k)).toInt64 &&& 63)).toInt32.toInt) % 2 ^ 8
def dnL (x : Int64) : Nat → List Int
  | 0 => []
  | n + 1 => chA x n :: dnL x n
theorem chA_r {x : Int64} {k : Int} : 0 ≤ chA x k ∧ chA x k ≤ 255 := by
  unfold chA
  omega
theorem dnL_len {x : Int64} (n : Nat) : (dnL x n).length = n := by
  induction n with
  | zero => rfl
  | succ n ih => simp [dnL, ih]
theorem dnL_all {x : Int64} (n : Nat) : allL (dnL x n) ↔ ∀ k : Int, 0 ≤ k → k < n → 97 ≤ chA x k ∧ chA x k ≤ 122 := by
  rw [← letB_iff]
  induction n with
  | zero => exact ⟨fun _ k h0 h1 => by omega, fun _ => rfl⟩
  | succ n ih =>
    have e : letB (dnL x (n + 1)) = (decide (97 ≤ chA x n) && decide (chA x n ≤ 122) && letB (dnL x n)) := rfl
    rw [e, Bool.and_eq_true, Bool.and_eq_true, decide_eq_true_eq, decide_eq_true_eq, ih]
    constructor
    · rintro ⟨h1, h2⟩ k k0 k1
      by_cases hk : k = n
      · subst hk; exact h1
      · exact h2 k k0 (by omega)
    · intro h
      exact ⟨h n (by omega) (by omega), fun k k0 k1 => h k k0 (by omega)⟩
theorem allL_ch {l : List Int} (h : allL l) : chL l := fun i i0 i1 => by have := h i i0 i1; omega
def fAdd (A : AS) (t : Int) (x : Int64) (n : Int) : Int × AS := if 0 ≤ t ∧ t ≤ 3 ∧ 1 ≤ n ∧ n ≤ 8 ∧ letB (dnL x n.toNat) = true then (if 24 < ((A.1 t).length : Int) + n then (-2, A) else ((A.1 t).length + n, (upT A.1 t (A.1 t ++ dnL x n.toNat), A.2))) else (-1, A)
def fClear (A : AS) (t : Int) : Int × AS := if 0 ≤ t ∧ t ≤ 3 then ((A.1 t).length, (upT A.1 t [], A.2)) else (-1, A)
def fSize (A : AS) (t : Int) : Int × AS := (if 0 ≤ t ∧ t ≤ 3 then ((A.1 t).length : Int) else -1, A)
def fLine (A : AS) (t i : Int) : Int × AS := (if 0 ≤ t ∧ t ≤ 3 then (if 0 ≤ i ∧ i < ((A.1 t).length : Int) then lg (A.1 t) i else -3) else -1, A)
def fCmp (A : AS) (x y w : Int) : Int × AS := if 0 ≤ x ∧ x ≤ 3 ∧ 0 ≤ y ∧ y ≤ 3 ∧ 0 ≤ w ∧ w ≤ 1 then (if letB (A.1 x) = true ∧ letB (A.1 y) = true then ((A.1 x).length + (A.1 y).length - 2 * cntP (mtF (A.1 x) (A.1 y) w) (A.1 x).length, (A.1, some (A.1 x, A.1 y, w), A.2.2)) else (-3, A)) else (-1, A)
def fMatch (A : AS) (i : Int) : Int × AS := (match A.2.1 with
  | none => -3
  | some (l1, l2, w) => if 0 ≤ i ∧ i < (l1.length : Int) ∧ 0 ≤ mtF l1 l2 w i then mtF l1 l2 w i else -3, A)
def fType (A : AS) (x : Int64) (n : Int) : Int × AS := if 1 ≤ n ∧ n ≤ 8 then (if 900 < (A.2.2.length : Int) + n then (-2, A) else (A.2.2.length + n, (A.1, A.2.1, A.2.2 ++ dnL x n.toNat))) else (-1, A)
def fWipe (A : AS) : Int × AS := (A.2.2.length, (A.1, A.2.1, []))
def fChar (A : AS) (i : Int) : Int × AS := (if 0 ≤ i ∧ i < (A.2.2.length : Int) then lg A.2.2 i else -3, A)

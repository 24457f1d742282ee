/-! ===== J: the call instructions ===== -/
theorem j_cw_code {y : j_Mt} (h : j_isRead y = false) : j_cw y = .code y.1 y.2.1 y.2.2.1 y.2.2.2 := by
  unfold j_cw
  rw [if_neg (by rw [h]; decide)]
theorem j_sum8 {b : Nat} {l : List j_V} (h : l.length ≤ 4) : ((l.map (j_val b)).map fun v => v.category).sum ≤ 8 := by
  have := j_catsum b l
  omega
theorem j_lenOf {y : MethodName} {n k : Nat} (h : (parseMethodDescriptor y.desc).map (fun d => d.parameters.length) = some n) (hk : k = n) : ∀ sig, parseMethodDescriptor y.desc = some sig → k = sig.parameters.length := by
  intro sig hs
  rw [hs] at h
  rw [hk]
  exact (Option.some.inj h).symm
abbrev j_Bp (G : j_G) (R : Room) (σ : j_S) (as : List j_V) (B S : Nat) : Pt → Array Value → Prop := fun A a => a = (as.map (j_val (j_b G))).toArray ∧ j_Gd G A.U ∧ j_Hp G σ A.U.heap ∧ j_b G ≤ A.U.heap.size ∧ A.cells + B ≤ R.cells ∧ A.slots + S ≤ R.slots
abbrev j_Bq (G : j_G) (Q : j_O → j_S → Prop) (B S : Nat) : Pt → Array Value → Option Value → Pt → Prop := fun A _ v P => ∃ (σ' : j_S) (L : List Loc) (w : Option j_V), v = w.map (j_val (j_b G)) ∧ Q (.inl w) σ' ∧ j_Hp G σ' P.U.heap ∧ P.locs = A.locs ++ L ∧ (∀ q ∈ L, j_b G ≤ q.base) ∧ P.cells = A.cells + B ∧ P.slots = A.slots + S
theorem j_back {p : Program} {e : Env} {R : Room} {s : State} {sargs : Array Value} {below : List Frame} {G : j_G} {y : j_Mt} {d B S n len : Nat} {as : List j_V} {σ : j_S} {Q : j_O → j_S → Prop} (hC : j_Ct G y d B S as σ Q) (hL : j_Lc y n) (hret : ∀ x σ', ¬ Q (.inr x) σ') (hfr : d + 1 ≤ R.frames) (hlo : 48 * (d + 1) ≤ R.locals) : Back (j_l G) R p e below s sargs y.1 len 8 (j_Bp G R σ as B S) (j_Bq G Q B S) := by
  intro m meth c A g ig mk a X hg hsize hdg hW hn hp
  obtain ⟨rfl, hG, hH, hb0, hce, hsl⟩ := hp
  obtain ⟨T', L, σ', X', hLb, hH', h⟩ := j_enter X hL hC hG hH hb0 hg hsize hW hdg hn hfr hlo hce hsl
  rcases h with ⟨v, hQ, hst⟩ | ⟨x, hQ, -⟩
  · exact ⟨v.map (j_val (j_b G)), (T', A.locs ++ L, A.cells + B, A.slots + S), X', ⟨σ', L, v, rfl, hQ, hH', rfl, hLb, rfl, rfl⟩, hst⟩
  · exact absurd hQ (hret x σ')
/-- a contract that only returns -/
def j_ret (q : Option j_V → j_S → Prop) : j_O → j_S → Prop := fun o σ => ∃ v, o = .inl v ∧ q v σ
theorem j_ret_no {q : Option j_V → j_S → Prop} : ∀ x σ', ¬ j_ret q (.inr x) σ' := fun x σ' h => by
  obtain ⟨v, h1, -⟩ := h
  cases h1
theorem j_ret_in {q : Option j_V → j_S → Prop} {v : Option j_V} {σ : j_S} (h : j_ret q (.inl v) σ) : q v σ := by
  obtain ⟨v', h1, h2⟩ := h
  cases h1
  exact h2
theorem j_mapRev (b : Nat) (as rest : List j_V) : (as.reverse ++ rest).map (j_val b) = (as.map (j_val b)).reverse ++ rest.map (j_val b) := by simp
theorem j_optList (b : Nat) (v : Option j_V) (rest : List j_V) : (v.map (j_val b)).toList ++ rest.map (j_val b) = (v.toList ++ rest).map (j_val b) := by cases v <;> simp
section
variable {G : j_G} {y y' : j_Mt} {d B S B' S' pc pc' n : Nat} {ls st as rest : List j_V} {σ : j_S} {Q Q' : j_O → j_S → Prop}
theorem j_callS {idx : Nat} (hd : j_D y pc (.invokestatic idx) 3 pc') (hl0 : j_Ls y.1.cls idx y' n) (hn : as.length = n) (hr : rest.length ≤ 4) (hC : j_Ct G y' d B' S' as σ Q') (hret : ∀ x σ', ¬ Q' (.inr x) σ') (kk : ∀ v σ', Q' (.inl v) σ' → j_J G y (d + 1) B S pc' ls (v.toList ++ rest) σ' Q) : j_J G y (d + 1) (B' + B) (S' + S) pc ls (as.reverse ++ rest) σ Q := by
  intro p e R s m args below meth c H locs cells slots mc ms la C h1 h2 h3 h4 h5 h6 hH hL hl hb0 T hT X
  obtain ⟨hd, rfl⟩ := hd
  obtain ⟨hlink, hstat, hnr, hLc⟩ := hl0
  have hG := C.2.2.2.2.2.2.2.1
  have hK := j_back (p := p) (e := e) (s := s) (sargs := args) (below := below) (R := R) (len := 3) hC hLc hret (by omega) (by omega)
  have hcw := hG.2.1 _ hLc.2.1 (j_cw_wk y') args
  rw [j_cw_code hnr] at hcw
  have hpre : ∀ vm₁, s.WarmedH vm₁ → j_Bp G R σ as B' S' (T.setVm vm₁, locs, cells, slots) (as.map (j_val (j_b G))).toArray := fun vm₁ hW₁ => ⟨rfl, hG.warm (U := T.setVm vm₁) hW₁, by show j_Hp G σ T.heap; rw [hT]; exact hH, by show j_b G ≤ T.heap.size; rw [hT, hH.1]; exact Nat.le_add_right _ _, by show cells + B' ≤ R.cells; omega, by show slots + S' ≤ R.slots; omega⟩
  have fin : ∀ (v : Option Value) (P : Pt), Stand p (j_l G) e R s m args below meth c P.U P.locs P.cells P.slots → j_Bq G Q' B' S' (T, locs, cells, slots) #[] v P → (∀ target, Steps p.tables e below (P.U.setTop (F0 m (pc + 3) la (v.toList ++ rest.map (j_val (j_b G))))) target → Steps p.tables e below (T.setTop (F0 m pc la ((as.reverse ++ rest).map (j_val (j_b G))))) target) → ∃ t, Steps p.tables e below (T.setTop (F0 m pc la ((as.reverse ++ rest).map (j_val (j_b G))))) t ∧ j_XQ G below Q s mc ms t := by
    intro v P X' hq st
    obtain ⟨U', l2, c2, s2⟩ := P
    obtain ⟨σ', L, w, rfl, hQ, hH', e1, hLb, e2, e3⟩ := hq
    dsimp only [Pt.U, Pt.locs, Pt.cells, Pt.slots] at X' e1 e2 e3 hH' st
    subst e1; subst e2; subst e3
    rw [j_optList] at st
    obtain ⟨t, a1, b1⟩ := kk w σ' hQ p e R s m args below meth c U'.heap (locs ++ L) (cells + B') (slots + S') mc ms la C h1 h2 (by omega) h4 (by omega) h6 hH' (fun q hq => by rcases List.mem_append.mp hq with h | h; exact hL q h; exact hLb q h) hl hb0 U' rfl X'
    exact ⟨t, st t a1, b1⟩
  rcases hlink with hlink | ⟨host, hlink⟩
  · obtain ⟨v, vm₁, P, hW₁, X', hq, st⟩ := callS X C.1 (bytes := y'.2.1) (maxL := y'.2.2.1) (ret := y'.2.2.2) C.2.2.2.2.1 (hG.2.1 _ hlink rfl args) (hG.2.1 _ hstat rfl args) (hG.2.1 _ hLc.1 rfl args) hcw hLc.2.2.1 hK (g := F0 m pc la ((as.reverse ++ rest).map (j_val (j_b G)))) rfl (hl.1.trans C.2.2.1.symm) (argsL := as.map (j_val (j_b G))) (rest := rest.map (j_val (j_b G))) (by rw [List.length_map]; exact j_lenOf hLc.2.2.2.1 hn) (j_mapRev _ _ _) (by show 2 * 0 + _ ≤ 8; have := j_sum8 (b := j_b G) hr; omega) (by rw [C.2.1]; exact hd) hpre
    exact fin v P X' hq st
  · obtain ⟨v, vm₁, P, hW₁, X', hq, st⟩ := va_callSN X C.1 (bytes := y'.2.1) (maxL := y'.2.2.1) (ret := y'.2.2.2) C.2.2.2.2.1 (hG.2.1 _ hlink rfl args) (hG.2.1 _ hstat rfl args) (hG.2.1 _ hLc.1 rfl args) hcw hLc.2.2.1 hK (g := F0 m pc la ((as.reverse ++ rest).map (j_val (j_b G)))) rfl (hl.1.trans C.2.2.1.symm) (argsL := as.map (j_val (j_b G))) (rest := rest.map (j_val (j_b G))) (by rw [List.length_map]; exact j_lenOf hLc.2.2.2.1 hn) (j_mapRev _ _ _) (by show 2 * 0 + _ ≤ 8; have := j_sum8 (b := j_b G) hr; omega) (by rw [C.2.1]; exact hd) hpre
    exact fin v P X' hq st
theorem j_callI {idx a : Nat} (hd : j_D y pc (.invokespecial idx) 3 pc') (hl0 : j_Li y.1.cls idx y' n) (hn : as.length = n) (hr : rest.length ≤ 4) (hC : j_Ct G y' d B' S' (jr_ a :: as) σ Q') (hret : ∀ x σ', ¬ Q' (.inr x) σ') (kk : ∀ v σ', Q' (.inl v) σ' → j_J G y (d + 1) B S pc' ls (v.toList ++ rest) σ' Q) : j_J G y (d + 1) (B' + B) (S' + S) pc ls (as.reverse ++ jr_ a :: rest) σ Q := by
  intro p e R s m args below meth c H locs cells slots mc ms la C h1 h2 h3 h4 h5 h6 hH hL hl hb0 T hT X
  obtain ⟨hd, rfl⟩ := hd
  obtain ⟨hlink, hinst, hin, hrt, hnr, hLc⟩ := hl0
  have hG := C.2.2.2.2.2.2.2.1
  have hK := j_back (p := p) (e := e) (s := s) (sargs := args) (below := below) (R := R) (len := 3) hC hLc hret (by omega) (by omega)
  have hcw := hG.2.1 _ hLc.2.1 (j_cw_wk y') args
  rw [j_cw_code hnr, hrt] at hcw
  have hpre : ∀ vm₁, s.WarmedH vm₁ → j_Bp G R σ (jr_ a :: as) B' S' (T.setVm vm₁, locs, cells, slots) (Value.ref (j_b G + a) :: as.map (j_val (j_b G))).toArray := fun vm₁ hW₁ => ⟨rfl, hG.warm (U := T.setVm vm₁) hW₁, by show j_Hp G σ T.heap; rw [hT]; exact hH, by show j_b G ≤ T.heap.size; rw [hT, hH.1]; exact Nat.le_add_right _ _, by show cells + B' ≤ R.cells; omega, by show slots + S' ≤ R.slots; omega⟩
  have fin : ∀ (v : Option Value) (P : Pt), Stand p (j_l G) e R s m args below meth c P.U P.locs P.cells P.slots → j_Bq G Q' B' S' (T, locs, cells, slots) #[] v P → (∀ target, Steps p.tables e below (P.U.setTop (F0 m (pc + 3) la (v.toList ++ rest.map (j_val (j_b G))))) target → Steps p.tables e below (T.setTop (F0 m pc la ((as.reverse ++ jr_ a :: rest).map (j_val (j_b G))))) target) → ∃ t, Steps p.tables e below (T.setTop (F0 m pc la ((as.reverse ++ jr_ a :: rest).map (j_val (j_b G))))) t ∧ j_XQ G below Q s mc ms t := by
    intro v P X' hq st
    obtain ⟨U', l2, c2, s2⟩ := P
    obtain ⟨σ', L, w, rfl, hQ, hH', e1, hLb, e2, e3⟩ := hq
    dsimp only [Pt.U, Pt.locs, Pt.cells, Pt.slots] at X' e1 e2 e3 hH' st
    subst e1; subst e2; subst e3
    rw [j_optList] at st
    obtain ⟨t, a1, b1⟩ := kk w σ' hQ p e R s m args below meth c U'.heap (locs ++ L) (cells + B') (slots + S') mc ms la C h1 h2 (by omega) h4 (by omega) h6 hH' (fun q hq => by rcases List.mem_append.mp hq with h | h; exact hL q h; exact hLb q h) hl hb0 U' rfl X'
    exact ⟨t, st t a1, b1⟩
  rcases hlink with hlink | ⟨host, hlink⟩
  · obtain ⟨v, vm₁, P, hW₁, X', hq, st⟩ := callI X C.1 (bytes := y'.2.1) (maxL := y'.2.2.1) C.2.2.2.2.1 hin (hG.2.1 _ hlink rfl args) (hG.2.1 _ hinst rfl args) hcw hLc.2.2.1 hK (g := F0 m pc la ((as.reverse ++ jr_ a :: rest).map (j_val (j_b G)))) rfl (hl.1.trans C.2.2.1.symm) (a := j_b G + a) (argsL := as.map (j_val (j_b G))) (rest := rest.map (j_val (j_b G))) (by rw [List.length_map]; exact j_lenOf hLc.2.2.2.1 hn) (j_mapRev _ _ _) (by show 2 * 0 + _ ≤ 8; have := j_sum8 (b := j_b G) hr; omega) (by rw [C.2.1]; exact hd) hpre
    exact fin v P X' hq st
  · obtain ⟨v, vm₁, P, hW₁, X', hq, st⟩ := va_callIN X C.1 (bytes := y'.2.1) (maxL := y'.2.2.1) C.2.2.2.2.1 hin (hG.2.1 _ hlink rfl args) (hG.2.1 _ hinst rfl args) hcw hLc.2.2.1 hK (g := F0 m pc la ((as.reverse ++ jr_ a :: rest).map (j_val (j_b G)))) rfl (hl.1.trans C.2.2.1.symm) (a := j_b G + a) (argsL := as.map (j_val (j_b G))) (rest := rest.map (j_val (j_b G))) (by rw [List.length_map]; exact j_lenOf hLc.2.2.2.1 hn) (j_mapRev _ _ _) (by show 2 * 0 + _ ≤ 8; have := j_sum8 (b := j_b G) hr; omega) (by rw [C.2.1]; exact hd) hpre
    exact fin v P X' hq st
theorem j_callF {idx cnt a ci : Nat} {x : MethodName} (hd : j_D y pc (.invokeinterface idx cnt) 5 pc') (hl0 : j_Lf y.1.cls idx ci x y' n) (hK0 : σ.2.1 a = some (0, ci)) (hn : as.length = n) (hr : rest.length ≤ 4) (hC : j_Ct G y' d B' S' (jr_ a :: as) σ Q') (hret : ∀ x σ', ¬ Q' (.inr x) σ') (kk : ∀ v σ', Q' (.inl v) σ' → j_J G y (d + 1) B S pc' ls (v.toList ++ rest) σ' Q) : j_J G y (d + 1) (B' + B) (S' + S) pc ls (as.reverse ++ jr_ a :: rest) σ Q := by
  intro p e R s m args below meth c H locs cells slots mc ms la C h1 h2 h3 h4 h5 h6 hH hL hl hb0 T hT X
  obtain ⟨hd, rfl⟩ := hd
  obtain ⟨hlink, hdecl, hface, hinst, hpub, ⟨q, hq, hsel, hunh, hcast⟩, hx0, hlen0, hnr, hLc⟩ := hl0
  have hG := C.2.2.2.2.2.2.2.1
  have hK := j_back (p := p) (e := e) (s := s) (sargs := args) (below := below) (R := R) (len := 5) hC hLc hret (by omega) (by omega)
  have hcw := hG.2.1 _ hLc.2.1 (j_cw_wk y') args
  rw [j_cw_code hnr] at hcw
  have hfw : j_wk (Cond.interfaceMethod x.cls x.cls x.name x.desc) = true := by
    have e1 : (x.cls == "java/lang/invoke/MethodHandle") = false := by simpa using hx0.1
    have e2 : (x.cls == "java/lang/invoke/VarHandle") = false := by simpa using hx0.2
    simp [j_wk, Cond.onTables, Cond.keepsFace, Cond.keeps, Cond.steady, Cond.faceAtom, hx0.1, hx0.2]
  obtain ⟨q', hq', cellB, g1, g2, g3, -⟩ := hH.obj hK0
  cases hq.symm.trans hq'
  obtain ⟨hfc, kB, hkB, -⟩ := (hG.1.1 ci _ hq).2
  have hpre : ∀ vm₁, s.WarmedH vm₁ → j_Bp G R σ (jr_ a :: as) B' S' (T.setVm vm₁, locs, cells, slots) (Value.ref (j_b G + a) :: as.map (j_val (j_b G))).toArray := fun vm₁ hW₁ => ⟨rfl, hG.warm (U := T.setVm vm₁) hW₁, by show j_Hp G σ T.heap; rw [hT]; exact hH, by show j_b G ≤ T.heap.size; rw [hT, hH.1]; exact Nat.le_add_right _ _, by show cells + B' ≤ R.cells; omega, by show slots + S' ≤ R.slots; omega⟩
  obtain ⟨v, vm₁, P, hW₁, X', hqq, st⟩ := va_callIF X C.1 (C := q.1) (bytes := y'.2.1) (maxL := y'.2.2.1) (ret := y'.2.2.2) C.2.2.2.2.1 (hG.2.1 _ hlink rfl args) (hG.2.1 _ hdecl rfl args) (hG.2.1 _ hface hfw args) (hG.2.1 _ hsel rfl args) (hG.2.1 _ hinst rfl args) (hG.2.1 _ hpub rfl args) (hG.2.1 _ hunh rfl args) (hG.2.1 _ hcast rfl args) hcw hx0 hK (b := j_b G + a) (cellB := cellB) (kB := kB) (by rw [hT]; exact g1) (by rw [g3]; rfl) (by rw [g2]; exact hfc) (by rw [g2]; exact hkB) (g := F0 m pc la ((as.reverse ++ jr_ a :: rest).map (j_val (j_b G)))) rfl (hl.1.trans C.2.2.1.symm) (argsL := as.map (j_val (j_b G))) (rest := rest.map (j_val (j_b G))) (by rw [List.length_map]; exact j_lenOf hlen0 hn) (j_mapRev _ _ _) (by show 2 * 0 + _ ≤ 8; have := j_sum8 (b := j_b G) hr; omega) (by rw [C.2.1]; exact hd) hpre
  obtain ⟨U', l2, c2, s2⟩ := P
  obtain ⟨σ', L, w, rfl, hQ, hH', e1, hLb, e2, e3⟩ := hqq
  dsimp only [Pt.U, Pt.locs, Pt.cells, Pt.slots] at X' e1 e2 e3 hH' st
  subst e1; subst e2; subst e3
  rw [j_optList] at st
  obtain ⟨t, a1, b1⟩ := kk w σ' hQ p e R s m args below meth c U'.heap (locs ++ L) (cells + B') (slots + S') mc ms la C h1 h2 (by omega) h4 (by omega) h6 hH' (fun q hq => by rcases List.mem_append.mp hq with h | h; exact hL q h; exact hLb q h) hl hb0 U' rfl X'
  exact ⟨t, st t a1, b1⟩
/-- an instance method, the machine's half: it returns, or it throws -/
theorem j_runV {p : Program} {e : Env} {R : Room} {s : State} {m : MethodId} {args : Array Value} {below : List Frame} {meth : Method} {c : Code} {H : Heap} {locs : List Loc} {cells slots : Nat} {la : Array Slot} {T : State} {idx a ci : Nat} (C : j_Cx G y p s m meth c) (h1 : d + 1 ≤ R.frames) (h2 : 48 * (d + 1) ≤ R.locals) (h3 : cells + B' ≤ R.cells) (h5 : slots + S' ≤ R.slots) (hH : j_Hp G σ H) (hl : la.size = y.2.2.1) (hT : T.heap = H) (X : Stand p (j_l G) e R s m args below meth c T locs cells slots)
    (hd : decode y.2.1 pc = .ok (.invokevirtual idx, 3)) (hl0 : j_Lv y.1.cls idx ci y' n) (hK0 : σ.2.1 a = some (0, ci)) (hn : as.length = n) (hr : rest.length ≤ 4) (hC : j_Ct G y' d B' S' (jr_ a :: as) σ Q') :
    ∃ (T' : State) (L : List Loc) (σ' : j_S), Stand p (j_l G) e R s m args below meth c T' (locs ++ L) (cells + B') (slots + S') ∧ (∀ q ∈ L, j_b G ≤ q.base) ∧ j_Hp G σ' T'.heap ∧
      ((∃ v : Option j_V, Q' (.inl v) σ' ∧ ∀ target, Steps p.tables e below (T'.setTop (F0 m (pc + 3) la ((v.toList ++ rest).map (j_val (j_b G))))) target → Steps p.tables e below (T.setTop (F0 m pc la ((as.reverse ++ jr_ a :: rest).map (j_val (j_b G))))) target) ∨
       (∃ x : Nat, Q' (.inr x) σ' ∧ ∀ target, Steps p.tables e below ((T'.setTop (F0 m pc la (rest.map (j_val (j_b G))))).pushFrame (.throwing (j_b G + x))) target → Steps p.tables e below (T.setTop (F0 m pc la ((as.reverse ++ jr_ a :: rest).map (j_val (j_b G))))) target)) := by
  obtain ⟨hlink, hinst, ⟨q, hq, hsel⟩, hLc⟩ := hl0
  have hG := C.2.2.2.2.2.2.2.1
  have hcw := hG.2.1 _ hLc.2.1 (j_cw_wk y') args
  obtain ⟨mk, methM, hnamed, hmethM, hstM, habM⟩ := Cond.instanceMethod_spec (hG.2.1 _ hinst rfl args)
  obtain ⟨methM', cM, hmethM', -, -, -, -, -, -, hsigM⟩ := j_cw_spec hnamed hcw
  cases hmethM.symm.trans hmethM'
  obtain ⟨c2, r2, m2, q1, q2, q3, q4, kP, hkP, hkPi⟩ := Cond.selects_spec (hG.2.1 _ hsel rfl args)
  obtain ⟨q', hq', cellB, g1, g2, g3, -⟩ := hH.obj hK0
  cases hq.symm.trans hq'
  obtain ⟨hfc, kB, hkB, -⟩ := (hG.1.1 ci _ hq).2
  have hfc : s.vm.findClass q.1 = some cellB.cls := by rw [g2]; exact hfc
  cases hfc.symm.trans q1
  cases (State.methodFound?_of_named hnamed hLc.2.2.1).symm.trans q2
  cases hnamed.symm.trans q3
  have hselP : selectMethod e.platform s.vm cellB.cls mk = .method mk := by rw [Launch.admits_selectMethod X.admits]; exact q4
  obtain ⟨vm₁, X₁, hstep₁⟩ := X.invokevirtual C.1 C.2.2.2.2.1 (hG.2.1 _ hlink rfl args) hnamed hmethM hstM hkP hkPi hLc.2.2.1 (a := j_b G + a) (cell := cellB) (by rw [hT]; exact g1)
    (fun z h => by rw [g3] at h; cases h) hselP hmethM habM hkP hkPi (g := F0 m pc la ((as.reverse ++ jr_ a :: rest).map (j_val (j_b G)))) rfl (argsL := as.map (j_val (j_b G))) (rest := rest.map (j_val (j_b G))) (by rw [List.length_map]; exact j_lenOf hLc.2.2.2.1 hn _ hsigM) (j_mapRev _ _ _) (by rw [C.2.1]; exact hd)
  obtain ⟨T', L, σ', X', hLb, hH', h⟩ := j_enter X₁ hLc hC (hG.warm (U := T.setVm vm₁) X₁.warmed) (by show j_Hp G σ T.heap; rw [hT]; exact hH) (by show j_b G ≤ T.heap.size; rw [hT, hH.1]; exact Nat.le_add_right _ _) (g := F0 m pc la (rest.map (j_val (j_b G)))) rfl (hl.trans C.2.2.1.symm) (by show 2 * 0 + ((rest.map (j_val (j_b G))).map fun v => v.category).sum ≤ 8; have := j_sum8 (b := j_b G) hr; omega) (ig := .invokevirtual idx) (len := 3) (by rw [C.2.1]; exact hd) (X₁.named hnamed) h1 h2 h3 h5
  refine ⟨T', L, σ', X', hLb, hH', ?_⟩
  rcases h with ⟨v, hQ, st⟩ | ⟨x, hQ, st⟩
  · refine Or.inl ⟨v, hQ, fun target h => hstep₁ _ fun acts => ?_⟩
    rw [doInvoke_state]
    refine st.trans ?_
    show Steps p.tables e below (T'.setTop (F0 m (pc + 3) la ((v.map (j_val (j_b G))).toList ++ rest.map (j_val (j_b G))))) target
    rw [j_optList]
    exact h
  · refine Or.inr ⟨x, hQ, fun target h => hstep₁ _ fun acts => ?_⟩
    rw [doInvoke_state]
    exact st.trans h
theorem j_callV {idx a ci : Nat} (hd : j_D y pc (.invokevirtual idx) 3 pc') (hl0 : j_Lv y.1.cls idx ci y' n) (hK0 : σ.2.1 a = some (0, ci)) (hn : as.length = n) (hr : rest.length ≤ 4) (hC : j_Ct G y' d B' S' (jr_ a :: as) σ Q') (hret : ∀ x σ', ¬ Q' (.inr x) σ') (kk : ∀ v σ', Q' (.inl v) σ' → j_J G y (d + 1) B S pc' ls (v.toList ++ rest) σ' Q) : j_J G y (d + 1) (B' + B) (S' + S) pc ls (as.reverse ++ jr_ a :: rest) σ Q := by
  intro p e R s m args below meth c H locs cells slots mc ms la C h1 h2 h3 h4 h5 h6 hH hL hl hb0 T hT X
  obtain ⟨hd, rfl⟩ := hd
  obtain ⟨T', L, σ', X', hLb, hH', h⟩ := j_runV C h1 h2 (by omega) (by omega) hH hl.1 hT X hd hl0 hK0 hn hr hC
  rcases h with ⟨v, hQ, st⟩ | ⟨x, hQ, -⟩
  · obtain ⟨t, a1, b1⟩ := kk v σ' hQ p e R s m args below meth c T'.heap (locs ++ L) (cells + B') (slots + S') mc ms la C h1 h2 (by omega) h4 (by omega) h6 hH' (fun q hq => by rcases List.mem_append.mp hq with h | h; exact hL q h; exact hLb q h) hl hb0 T' rfl X'
    exact ⟨t, st t a1, b1⟩
  · exact absurd hQ (hret x σ')
/-- a callee that may throw, in a method without handlers -/
theorem j_callX {idx a ci : Nat} (hnr : j_isRead y = false) (hd : j_D y pc (.invokevirtual idx) 3 pc') (hl0 : j_Lv y.1.cls idx ci y' n) (hK0 : σ.2.1 a = some (0, ci)) (hn : as.length = n) (hr : rest.length ≤ 4) (hC : j_Ct G y' d B' S' (jr_ a :: as) σ Q') (kt : ∀ x σ', Q' (.inr x) σ' → Q (.inr x) σ') (kk : ∀ v σ', Q' (.inl v) σ' → j_J G y (d + 1) B S pc' ls (v.toList ++ rest) σ' Q) : j_J G y (d + 1) (B' + B) (S' + S) pc ls (as.reverse ++ jr_ a :: rest) σ Q := by
  intro p e R s m args below meth c H locs cells slots mc ms la C h1 h2 h3 h4 h5 h6 hH hL hl hb0 T hT X
  obtain ⟨hd, rfl⟩ := hd
  obtain ⟨T', L, σ', X', hLb, hH', h⟩ := j_runV C h1 h2 (by omega) (by omega) hH hl.1 hT X hd hl0 hK0 hn hr hC
  have hLL : ∀ q ∈ locs ++ L, j_b G ≤ q.base := fun q hq => by rcases List.mem_append.mp hq with h | h; exact hL q h; exact hLb q h
  rcases h with ⟨v, hQ, st⟩ | ⟨x, hQ, st⟩
  · obtain ⟨t, a1, b1⟩ := kk v σ' hQ p e R s m args below meth c T'.heap (locs ++ L) (cells + B') (slots + S') mc ms la C h1 h2 (by omega) h4 (by omega) h6 hH' hLL hl hb0 T' rfl X'
    exact ⟨t, st t a1, b1⟩
  · have hht := C.2.2.2.2.2.2.2.2
    unfold j_ht at hht
    rw [if_neg (by rw [hnr]; decide)] at hht
    have X2 := stand_widen X' (k := mc) (n := ms) (by omega) (by omega)
    obtain ⟨st2, b1, b2, b3, b4⟩ := X2.leaveThrown (j_b G + x) (g := F0 m pc la (rest.map (j_val (j_b G)))) rfl rfl rfl (fun z hz => by
      have : c.exceptionTable.toList = [] := by simpa using hht
      rw [this] at hz; cases hz) C.2.2.2.2.2.1
    exact ⟨_, st _ st2, .threw (j_b G + x), b1, b2, ⟨.inr x, σ', rfl, kt x σ' hQ, hH'⟩, b3, locs ++ L, b4, hLL⟩
end

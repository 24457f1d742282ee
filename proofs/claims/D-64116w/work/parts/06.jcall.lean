/-! ===== J: calls ===== -/
theorem j_cw_spec {A : Array Value} {s : State} {y : j_Mt} {mk : MethodId} (hn : s.methodNamed? y.1 = some mk) (h : (j_cw y).before A s = true) :
    ∃ meth c, s.vm.method? mk = some meth ∧ meth.code = some c ∧ c.code = y.2.1 ∧ c.maxLocals = y.2.2.1 ∧ meth.sig.returnType = y.2.2.2 ∧ meth.locks = false ∧ j_ht y c ∧ parseMethodDescriptor y.1.desc = some meth.sig := by
  unfold j_cw at h
  unfold j_ht
  by_cases hr : j_isRead y = true
  · rw [if_pos hr] at h
    obtain ⟨m', meth, c, h0, h1, h2, h3, h4, h5, h6, h7, h8⟩ := Cond.codeWith_spec h
    cases h0.symm.trans hn
    exact ⟨meth, c, h1, h2, h3, h4, h6, h7, by rw [if_pos hr]; exact h5, h8⟩
  · rw [if_neg hr] at h
    obtain ⟨meth, c, h1, h2, h3, h4, h5, h6, h7, h8⟩ := Cond.code_spec hn h
    exact ⟨meth, c, h1, h2, h3, h4, h5, h6, by rw [if_neg hr]; exact h7, h8⟩
theorem j_cw_named {A : Array Value} {s : State} {y : j_Mt} (h : (j_cw y).before A s = true) : ∃ mk, s.methodNamed? y.1 = some mk := by
  unfold j_cw at h
  by_cases hr : j_isRead y = true
  · rw [if_pos hr] at h
    obtain ⟨m', meth, c, h0, -⟩ := Cond.codeWith_spec h
    exact ⟨m', h0⟩
  · rw [if_neg hr] at h
    exact Cond.code_named h
theorem j_cw_wk (y : j_Mt) : j_wk (j_cw y) = true := by
  unfold j_cw
  split <;> rfl
/-- what is asked of a callee, wherever it is called -/
def j_Lc (y : j_Mt) (n : Nat) : Prop := Cond.initialized y.1.cls ∈ lw_tbl ∧ j_cw y ∈ lw_tbl ∧ (y.1.cls ≠ "java/lang/invoke/MethodHandle" ∧ y.1.cls ≠ "java/lang/invoke/VarHandle") ∧ (parseMethodDescriptor y.1.desc).map (fun d => d.parameters.length) = some n ∧ y.2.2.1 ≤ 29
theorem j_Ct.of {G : j_G} {y : j_Mt} {d B S : Nat} {as ls : List j_V} {σ : j_S} {Q : j_O → j_S → Prop} (hy : plainName y.1.cls = true) (hls : lv_has ((lg_sl (as.map (j_val (j_b G))) ++ List.replicate (y.2.2.1 - (lg_sl (as.map (j_val (j_b G)))).length) Slot.unset).toArray) y.2.2.1 (j_lv (j_b G) 0 ls)) (k : j_J G y d B S 0 ls [] σ Q) : j_Ct G y d B S as σ Q := by
  refine MetFree.of_bodyS (code := y.2.1) (maxLocals := y.2.2.1) (ret := y.2.2.2) hy ?_ ?_
  · intro A s m h hn
    obtain ⟨meth, c, h1, h2, h3, h4, h5, h6, -, -⟩ := j_cw_spec hn (atoms_spec (ws := [j_cw y]) h _ List.mem_cons_self)
    exact ⟨meth, c, h1, h2, h3, h4, h5, h6⟩
  · intro p e s m A below meth c s₁ Bd hml hP _
    obtain ⟨rfl, hG, hH, hb0⟩ := hP
    have hh0 : s₁.heap = s.heap := by rw [Bd.state]; rfl
    have hcw := atoms_spec (ws := [j_cw y]) Bd.pre _ List.mem_cons_self
    obtain ⟨meth', c', h1, h2, h3, h4, h5, h6, h7, h8⟩ := j_cw_spec Bd.named hcw
    cases Bd.method.symm.trans h1
    cases (Stand.of_body Bd).code.symm.trans h2
    have C : j_Cx G y p s m meth c := ⟨Bd.exec, Bd.bytes, hml, Bd.returns, findClass_of_methodNamed Bd.named, Bd.notSynchronized, (name_of_methodNamed Bd.named Bd.method).1, hG, h7⟩
    have w := k p e { frames := d, cells := B, slots := S, locals := 48 * d } s m (as.map (j_val (j_b G))).toArray below meth c s.heap [] 0 0 B S _ C (Nat.le_refl _) (Nat.le_refl _) (by omega) (Nat.le_refl _) (by omega) (Nat.le_refl _) hH (fun q h => by cases h) hls hb0
    rw [lg_entry_eq]
    obtain ⟨t, a1, o, b1, b2, b3⟩ := w s₁ hh0 (Stand.of_body Bd)
    exact ⟨t, o, a1, b1, b2, b3⟩
/-- the locals at a method's entry -/
def j_ent : List j_V → List j_V
  | [] => []
  | .inr (.inr (.inl x)) :: r => jl_ x :: ju_ :: j_ent r
  | v :: r => v :: j_ent r
theorem j_lv_app {b : Nat} : ∀ (l1 l2 : List j_V) (n : Nat), j_lv b n (l1 ++ l2) = j_lv b n l1 ++ j_lv b (n + l1.length) l2 := by
  intro l1
  induction l1 with
  | nil => intro l2 n; simp [j_lv]
  | cons v r ih =>
    intro l2 n
    simp only [List.cons_append, j_lv, ih, List.append_assoc, List.length_cons]
    rw [show n + 1 + r.length = n + (r.length + 1) by omega]
theorem j_lv_unk {b : Nat} : ∀ (k n : Nat), j_lv b n (List.replicate k ju_) = [] := by
  intro k
  induction k with
  | zero => intro n; rfl
  | succ k ih => intro n; simp [List.replicate_succ, j_lv, ih]
theorem j_ent_lv {b : Nat} : ∀ (as : List j_V) (n : Nat), ∀ q ∈ j_lv b n (j_ent as), q ∈ lv_args n (as.map (j_val b)) := by
  intro as
  induction as with
  | nil => intro n q hq; exact absurd hq (by simp [j_ent, j_lv])
  | cons v r ih =>
    intro n q hq
    match v, hq with
    | .inl z, hq =>
      simp only [j_ent, j_lv, List.mem_append, List.mem_singleton] at hq
      simp only [List.map_cons, lv_args, j_val, Value.category]
      rcases hq with rfl | hq
      · simp [j_val]
      · refine List.mem_cons_of_mem _ ?_
        simpa using ih (n + 1) q hq
    | .inr (.inl none), hq =>
      simp only [j_ent, j_lv, List.mem_append, List.mem_singleton] at hq
      simp only [List.map_cons, lv_args, j_val, j_rf, Value.category]
      rcases hq with rfl | hq
      · simp [j_val, j_rf]
      · refine List.mem_cons_of_mem _ ?_
        simpa using ih (n + 1) q hq
    | .inr (.inl (some z)), hq =>
      simp only [j_ent, j_lv, List.mem_append, List.mem_singleton] at hq
      simp only [List.map_cons, lv_args, j_val, j_rf, Value.category]
      rcases hq with rfl | hq
      · simp [j_val, j_rf]
      · refine List.mem_cons_of_mem _ ?_
        simpa using ih (n + 1) q hq
    | .inr (.inr (.inl x)), hq =>
      simp only [j_ent, j_lv, List.mem_append, List.mem_singleton, List.nil_append] at hq
      simp only [List.map_cons, lv_args, j_val, Value.category]
      rcases hq with rfl | hq
      · simp [j_val]
      · refine List.mem_cons_of_mem _ ?_
        simpa using ih (n + 1 + 1) q hq
    | .inr (.inr (.inr none)), hq =>
      simp only [j_ent, j_lv, List.nil_append] at hq
      simp only [List.map_cons, lv_args, j_val, Value.category]
      refine List.mem_cons_of_mem _ ?_
      simpa using ih (n + 1) q hq
    | .inr (.inr (.inr (some z))), hq =>
      simp only [j_ent, j_lv, List.mem_append, List.mem_singleton] at hq
      simp only [List.map_cons, lv_args, j_val, Value.category]
      rcases hq with rfl | hq
      · simp [j_val]
      · refine List.mem_cons_of_mem _ ?_
        simpa using ih (n + 1) q hq
theorem j_sl_len {b : Nat} : ∀ as : List j_V, (lg_sl (as.map (j_val b))).length ≤ (j_ent as).length := by
  intro as
  induction as with
  | nil => simp [lg_sl, j_ent]
  | cons v r ih =>
    have hc : ∀ w : Value, (lg_sl (w :: r.map (j_val b))).length = (if w.category = 2 then 2 else 1) + (lg_sl (r.map (j_val b))).length := by
      intro w
      simp only [lg_sl, List.flatMap_cons, List.length_append]
      split <;> simp
    rw [List.map_cons, hc]
    match v with
    | .inl z => simp [j_ent, j_val, Value.category]; omega
    | .inr (.inl none) => simp [j_ent, j_val, j_rf, Value.category]; omega
    | .inr (.inl (some z)) => simp [j_ent, j_val, j_rf, Value.category]; omega
    | .inr (.inr (.inl x)) => simp [j_ent, j_val, Value.category]; omega
    | .inr (.inr (.inr none)) => simp [j_ent, j_val, Value.category]; omega
    | .inr (.inr (.inr (some z))) => simp [j_ent, j_val, Value.category]; omega
/-- A CONTRACT out of the walk from the entry -/
theorem j_Ct.ofJ {G : j_G} {y : j_Mt} {d B S : Nat} {as ls : List j_V} {σ : j_S} {Q : j_O → j_S → Prop} (hy : plainName y.1.cls = true) (h1 : Nat.ble (j_ent as).length y.2.2.1 = true) (hls : j_ent as ++ List.replicate (y.2.2.1 - (j_ent as).length) ju_ = ls) (k : j_J G y d B S 0 ls [] σ Q) : j_Ct G y d B S as σ Q := by
  refine j_Ct.of hy ?_ k
  have he := lv_entry (as.map (j_val (j_b G))) (n := y.2.2.1) (Nat.le_trans (j_sl_len as) (Nat.le_of_ble_eq_true h1))
  refine ⟨he.1, he.2.1, fun q hq => he.2.2 q ?_⟩
  rw [← hls, j_lv_app, j_lv_unk, List.append_nil] at hq
  exact j_ent_lv as 0 q hq
theorem j_Ct.mono {G : j_G} {y : j_Mt} {d B S : Nat} {as : List j_V} {σ : j_S} {Q Q' : j_O → j_S → Prop} (k : j_Ct G y d B S as σ Q) (h : ∀ o σ', Q o σ' → Q' o σ') : j_Ct G y d B S as σ Q' := by
  intro p e ha hc hk s m args below hf happ hP hK
  obtain ⟨n, o, h1, h2, h3, ⟨o', σ', e1, e2, e3⟩, h4⟩ := k p e ha hc hk s m args below hf happ hP hK
  exact ⟨n, o, h1, h2, h3, ⟨o', σ', e1, h o' σ' e2, e3⟩, h4⟩
theorem j_catsum (b : Nat) : ∀ l : List j_V, ((l.map (j_val b)).map fun v => v.category).sum ≤ 2 * l.length := by
  intro l
  induction l with
  | nil => simp
  | cons v r ih =>
    have := lv_cat (j_val b v)
    simp only [List.map_cons, List.sum_cons, List.length_cons]
    omega
section
variable {p : Program} {e : Env} {R : Room} {s : State} {m : MethodId} {args : Array Value} {below : List Frame} {meth : Method} {c : Code} {T : State} {locs : List Loc} {cells slots : Nat}
/-- into the callee and out of it again, whichever way it ends -/
theorem j_enter {G : j_G} {y : j_Mt} {d B S n : Nat} {as : List j_V} {σ : j_S} {Q : j_O → j_S → Prop} (X : Stand p (j_l G) e R s m args below meth c T locs cells slots) (hL : j_Lc y n) (hC : j_Ct G y d B S as σ Q) (hG : j_Gd G T) (hH : j_Hp G σ T.heap) (hb0 : j_b G ≤ T.heap.size) {g : JFrame} (hg : g.method = m) (hsize : g.locals.size = c.maxLocals) (hsum : 2 * g.monitorRoom + (g.stack.map fun v => v.category).sum ≤ 8) {ig : Instr} {len : Nat} (hdg : decode c.code g.pc = .ok (ig, len))
    {mk : MethodId} (hn : T.methodNamed? y.1 = some mk) (hfr : d + 1 ≤ R.frames) (hlo : 48 * (d + 1) ≤ R.locals) (hce : cells + B ≤ R.cells) (hsl : slots + S ≤ R.slots) :
    ∃ (T' : State) (L : List Loc) (σ' : j_S), Stand p (j_l G) e R s m args below meth c T' (locs ++ L) (cells + B) (slots + S) ∧ (∀ q ∈ L, j_b G ≤ q.base) ∧ j_Hp G σ' T'.heap ∧
      ((∃ v : Option j_V, Q (.inl v) σ' ∧ Steps p.tables e below (doInvoke e (T.setTop g) [] mk (as.map (j_val (j_b G))).toArray).1 (T'.setTop { g with pc := g.pc + len, stack := (v.map (j_val (j_b G))).toList ++ g.stack })) ∨
       (∃ x : Nat, Q (.inr x) σ' ∧ Steps p.tables e below (doInvoke e (T.setTop g) [] mk (as.map (j_val (j_b G))).toArray).1 ((T'.setTop g).pushFrame (.throwing (j_b G + x))))) := by
  obtain ⟨hi, hcwt, hy, -, hmax⟩ := hL
  have hcw := hG.2.1 _ hcwt (j_cw_wk y) (as.map (j_val (j_b G))).toArray
  obtain ⟨methY, cY, hmY, hcY, -, hlY, -, -, -, -⟩ := j_cw_spec hn hcw
  obtain ⟨kY, hkY, -⟩ := className_of_methodNamed hn
  have hinitY : kY.init = .initialized := Cond.initialized_spec (findClass_of_methodNamed hn) hkY (hG.2.1 _ hi rfl #[])
  have h : At T g.method c below := by rw [hg]; exact X.here
  have happ : (headSpec [j_cw y] { frames := d, cells := B, slots := S, locals := 48 * d }).appliesLoose y.1 e.platform (T.calling g mk (as.map (j_val (j_b G))).toArray) = true :=
    Spec.appliesLoose_calling (g := g) h hdg hn hkY hinitY (X.room_calling (g := g) (R' := { frames := d, cells := B, slots := S, locals := 48 * d }) hsize hmY hcY hfr (by rw [hlY]; show 2 * g.monitorRoom + _ + _ + 48 * d ≤ _; omega) hce hsl) (atoms_intro fun w hw => by rw [List.mem_singleton.mp hw]; exact hcw)
  obtain ⟨mid, hmid⟩ := h.above
  have hfr' : (T.setTop g).frames = (.java g :: mid) ++ below := by rw [State.frames_setTop' g h.top, hmid]; rfl
  have hG' : j_Gd G (T.calling g mk (as.map (j_val (j_b G))).toArray) := hG.warm (U := T.calling g mk (as.map (j_val (j_b G))).toArray) (State.WarmedH.refl T)
  obtain ⟨o, s₂, hsteps, -, hend, hq⟩ := Steps.callFree hC p X.admits X.cas X.clock (acts := []) hfr' happ ⟨rfl, hG', hH, hb0⟩ trivial
  have hq' : j_End G Q (T.calling g mk (as.map (j_val (j_b G))).toArray) B S o s₂ := hq
  obtain ⟨⟨o', σ', rfl, hQ, hH'⟩, hW₂, L, hsame, hLb⟩ := hq'
  rw [State.frames_setTop' g h.top, X.tail] at hend
  cases o' with
  | inl v =>
    obtain ⟨T', X', -, -, ht⟩ := X.outOf hg hdg (v := v.map (j_val (j_b G))) hend hW₂ hsame
    refine ⟨T', L, σ', X', hLb, ?_, Or.inl ⟨v, hQ, ?_⟩⟩
    · rw [ht] at hH'; exact hH'
    · rw [← ht]; exact hsteps
  | inr x =>
    obtain ⟨T', X', -, -, ht⟩ := X.outOfThrown hg (x := j_b G + x) hend hW₂ hsame
    refine ⟨T', L, σ', X', hLb, ?_, Or.inr ⟨x, hQ, ?_⟩⟩
    · rw [ht] at hH'; exact hH'
    · rw [← ht]; exact hsteps
end
/-- a static callee -/
def j_Ls (own : String) (idx : Nat) (y : j_Mt) (n : Nat) : Prop := (Cond.methodLink own idx y.1 ∈ lw_tbl ∨ ∃ host : String, Cond.methodLinkNest own idx y.1 host ∈ lw_tbl) ∧ Cond.static y.1 ∈ lw_tbl ∧ j_isRead y = false ∧ j_Lc y n
/-- a callee that is found by the receiver's class -/
def j_Lv (own : String) (idx ci : Nat) (y : j_Mt) (n : Nat) : Prop := Cond.methodLink own idx y.1 ∈ lw_tbl ∧ Cond.instanceMethod y.1 ∈ lw_tbl ∧ (∃ q : vw_C, j_cls[ci]? = some q ∧ Cond.selects q.1 y.1 y.1 ∈ lw_tbl) ∧ j_Lc y n
/-- a constructor -/
def j_Li (own : String) (idx : Nat) (y : j_Mt) (n : Nat) : Prop := (Cond.methodLink own idx y.1 ∈ lw_tbl ∨ ∃ host : String, Cond.methodLinkNest own idx y.1 host ∈ lw_tbl) ∧ Cond.instanceMethod y.1 ∈ lw_tbl ∧ y.1.name = "<init>" ∧ y.2.2.2 = none ∧ j_isRead y = false ∧ j_Lc y n
/-- a callee behind an interface -/
def j_Lf (own : String) (idx ci : Nat) (x : MethodName) (y : j_Mt) (n : Nat) : Prop := Cond.methodLink own idx x ∈ lw_tbl ∧ Cond.declares x ∈ lw_tbl ∧ Cond.interfaceMethod x.cls x.cls x.name x.desc ∈ lw_tbl ∧ Cond.instanceMethod y.1 ∈ lw_tbl ∧ Cond.publicMethod y.1 ∈ lw_tbl ∧ (∃ q : vw_C, j_cls[ci]? = some q ∧ Cond.selects q.1 x y.1 ∈ lw_tbl ∧ Cond.unhidden q.1 x.name x.desc ∈ lw_tbl ∧ Cond.castable q.1 x.cls ∈ lw_tbl) ∧ (x.cls ≠ "java/lang/invoke/MethodHandle" ∧ x.cls ≠ "java/lang/invoke/VarHandle") ∧ (parseMethodDescriptor x.desc).map (fun d => d.parameters.length) = some n ∧ j_isRead y = false ∧ j_Lc y n

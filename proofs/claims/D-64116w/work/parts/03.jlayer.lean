/-! ===== the layer J: an abstract store, values as whole numbers, one judgement for a point of a method, one for a call ===== -/
abbrev j_V : Type := Int ⊕ (Option Nat ⊕ (Int64 ⊕ Option Nat))
/-- an int -/
abbrev ji_ (z : Int) : j_V := .inl z
/-- a reference into the store, or null -/
abbrev jq_ (r : Option Nat) : j_V := .inr (.inl r)
abbrev jr_ (a : Nat) : j_V := .inr (.inl (some a))
abbrev jn_ : j_V := .inr (.inl none)
abbrev jl_ (x : Int64) : j_V := .inr (.inr (.inl x))
/-- a local of which nothing is known -/
abbrev ju_ : j_V := .inr (.inr (.inr none))
/-- a reference to what was there before the law began -/
abbrev jx_ (a : Nat) : j_V := .inr (.inr (.inr (some a)))
def j_rf (b : Nat) (r : Option Nat) : Value := match r with
  | none => .null
  | some a => .ref (b + a)
def j_val (b : Nat) (v : j_V) : Value := match v with
  | .inl z => .int (Int32.ofInt z)
  | .inr (.inl r) => j_rf b r
  | .inr (.inr (.inl x)) => .long x
  | .inr (.inr (.inr none)) => .null
  | .inr (.inr (.inr (some a))) => .ref a
/-- cells made since the law began; what each is (0 and its class, or the tag of its elements and its length); numbers; references -/
abbrev j_S : Type := Nat × (Nat → Option (Nat × Nat)) × (Nat → Int → Int) × (Nat → Int → Option Nat)
/-- launch, first free address at the law's entry, the heap there, the classes' numbers, their slots, the array classes' numbers -/
abbrev j_G : Type := Launch × Nat × Heap × (Nat → ClassId) × (Nat → Nat → Nat) × (Nat → ClassId)
abbrev j_l (G : j_G) : Launch := G.1
abbrev j_b (G : j_G) : Nat := G.2.1
abbrev j_H (G : j_G) : Heap := G.2.2.1
abbrev j_dC (G : j_G) : Nat → ClassId := G.2.2.2.1
abbrev j_dI (G : j_G) : Nat → Nat → Nat := G.2.2.2.2.1
abbrev j_dA (G : j_G) : Nat → ClassId := G.2.2.2.2.2
def j_isR (ci k : Nat) : Bool := (j_rt.getD ci []).getD k false
def j_fv (b ci : Nat) (M : Int → Int) (g : Int → Option Nat) (k : Nat) : Value := if j_isR ci k = true then j_rf b (g (k : Int)) else .int (Int32.ofInt (M (k : Int)))
def j_av (b t : Nat) (M : Int → Int) (g : Int → Option Nat) (j : Nat) : Value := if 3 ≤ t then j_rf b (g (j : Int)) else .int (Int32.ofInt (M (j : Int)))
def j_at (G : j_G) (a t n : Nat) (M : Int → Int) (g : Int → Option Nat) (H : Heap) : Prop :=
  if t = 0 then ∃ r : vw_C, j_cls[n]? = some r ∧ t_OB (j_b G + a) (j_dC G n) r.2.2 (j_dI G n) H (j_fv (j_b G) n M g)
  else H[j_b G + a]? = some (arrV (j_dA G t) n (j_av (j_b G) t M g))
def j_Hp (G : j_G) (σ : j_S) (H : Heap) : Prop :=
  H.size = j_b G + σ.1 ∧ (∀ q : Nat, q < j_b G → H[q]? = (j_H G)[q]?) ∧ ∀ a t n : Nat, σ.2.1 a = some (t, n) → t ≤ 6 ∧ n ≤ 65536 ∧ j_at G a t n (σ.2.2.1 a) (σ.2.2.2 a) H
/-- words of the tables that stay true as entries are resolved -/
def j_wk (w : Cond) : Bool := (w.onTables && w.keepsFace) || (match w with
  | .fieldLinkNest .. | .methodLinkNest .. | .arrayClass _ => true
  | _ => false)
def j_tys (G : j_G) : List (ClassId × FieldType) := [(j_dA G 1, .int), (j_dA G 2, .byte), (j_dA G 3, .object "LinePatcher$Text"), (j_dA G 4, .object "LinePatcher$Way"), (j_dA G 5, .object "LinePatcher$Change"), (j_dA G 6, .object "java/lang/Object")]
def j_X (G : j_G) (U : State) : Prop :=
  (∀ C : String, C ∈ ["LinePatcher$Text", "LinePatcher$Way", "LinePatcher$Change", "java/lang/Object"] → va_AO C U) ∧
  va_Zq "java/lang/Throwable" "UNASSIGNED_STACK" "[Ljava/lang/StackTraceElement;" (fun q => j_b G ≤ q) U (j_H G) ∧
  va_Zq "java/lang/Throwable" "SUPPRESSED_SENTINEL" "Ljava/util/List;" (fun q => j_b G ≤ q) U (j_H G) ∧
  (∃ a : Nat, vk_R "LinePatcher$Paper" 28 "it cannot stand here" a U) ∧ ∃ mi : Nat, va_Mi "[Ljava/lang/Object;" mi U
def j_Gd (G : j_G) (U : State) : Prop :=
  va_K (j_dC G, j_dI G) j_cls (j_tys G) U ∧ (∀ w ∈ lw_tbl, j_wk w = true → ∀ A : Array Value, w.before A U = true) ∧ j_X G U ∧ (j_l G).flags = pinnedFlags ++ [noTraceFlag]
theorem j_wk.warm {w : Cond} {s U : State} (hW : s.WarmedH U.vm) (hk : j_wk w = true) (h : ∀ A : Array Value, w.before A s = true) : ∀ A : Array Value, w.before A U = true := by
  intro A
  unfold j_wk at hk
  rcases Bool.or_eq_true_iff.mp hk with h1 | h1
  · obtain ⟨h2, h3⟩ := Bool.and_eq_true_iff.mp h1
    have h4 : w.before A (s.setVm U.vm) = true := Cond.before_shiftedFace (State.Shifted.of_warmed hW) w h3 (h A)
    exact va_tabs h2 (rfl : (s.setVm U.vm).vm = U.vm) h4
  · match w, h1, h with
    | .fieldLinkNest .., _, h => exact (va_Nw.use rfl (va_Nw.warmF hW (h #[])))
    | .methodLinkNest .., _, h => exact (va_Nw.use rfl (va_Nw.warmM hW (h #[])))
    | .arrayClass _, _, h => exact word_at hW (Or.inr ⟨_, rfl⟩) (h A)
theorem j_X.warm {G : j_G} {s U : State} (hW : s.WarmedH U.vm) (h : j_X G s) : j_X G U := by
  obtain ⟨h1, h2, h3, ⟨a, h4⟩, mi, h5⟩ := h
  exact ⟨fun C hC => (h1 C hC).moved hW.alike, h2.moved hW.alike, h3.moved hW.alike, ⟨a, h4.warm hW⟩, mi, h5.moved hW.alike⟩
theorem j_Gd.warm {G : j_G} {s U : State} (hW : s.WarmedH U.vm) (h : j_Gd G s) : j_Gd G U :=
  ⟨va_K.moved hW.alike h.1, fun w hw hk => j_wk.warm hW hk (h.2.1 w hw hk), h.2.2.1.warm hW, h.2.2.2⟩
/-- the method's locals, as a list -/
def j_lv (b : Nat) : Nat → List j_V → List (Nat × Value)
  | _, [] => []
  | i, v :: r => (match v with
    | .inr (.inr (.inr none)) => []
    | _ => [(i, j_val b v)]) ++ j_lv b (i + 1) r
abbrev j_O : Type := Option j_V ⊕ Nat
def j_out (b : Nat) (o : j_O) : Outcome := match o with
  | .inl v => .returned (v.map (j_val b))
  | .inr x => .threw (b + x)
def j_isRead (y : j_Mt) : Bool := y.1.name == "read" && y.1.cls == "LinePatcher"
/-- the word that holds the method's code -/
def j_cw (y : j_Mt) : Cond := if j_isRead y = true then .codeWith y.1 y.2.1 y.2.2.1 y.2.2.2 [(0, 4, 7, 178)] else .code y.1 y.2.1 y.2.2.1 y.2.2.2
def j_ht (y : j_Mt) (c : Code) : Prop := if j_isRead y = true then c.exceptionTable.toList.map (fun h => (h.startPc, h.endPc, h.handlerPc, h.catchType)) = [(0, 4, 7, 178)] else c.exceptionTable.isEmpty = true
def j_Cx (G : j_G) (y : j_Mt) (p : Program) (s : State) (m : MethodId) (meth : Method) (c : Code) : Prop :=
  p.tables.exec = Jvm.exec ∧ c.code = y.2.1 ∧ c.maxLocals = y.2.2.1 ∧ meth.sig.returnType = y.2.2.2 ∧ s.vm.findClass y.1.cls = some m.cls ∧ meth.locks = false ∧ meth.name = y.1.name ∧ j_Gd G s ∧ j_ht y c
/-- the end of a method -/
def j_End (G : j_G) (Q : j_O → j_S → Prop) (s : State) (mc ms : Nat) (o : Outcome) (t : State) : Prop :=
  (∃ (o' : j_O) (σ' : j_S), o = j_out (j_b G) o' ∧ Q o' σ' ∧ j_Hp G σ' t.heap) ∧ s.WarmedH t.vm ∧ ∃ L : List Loc, s.sameButNew ({ t with vm := s.vm } : State) L mc ms ∧ ∀ q ∈ L, j_b G ≤ q.base
def j_XQ (G : j_G) (below : List Frame) (Q : j_O → j_S → Prop) (s : State) (mc ms : Nat) : State → Prop := fun t => ∃ o, t.status = .running ∧ Ended t below o ∧ j_End G Q s mc ms o t
/-- FROM THE POINT pc of y, with these locals and this operand stack, in this store, with d frames, B cells and S slots to spare: the method ends with Q -/
def j_J (G : j_G) (y : j_Mt) (d B S pc : Nat) (ls st : List j_V) (σ : j_S) (Q : j_O → j_S → Prop) : Prop :=
  ∀ (p : Program) (e : Env) (R : Room) (s : State) (m : MethodId) (args : Array Value) (below : List Frame) (meth : Method) (c : Code) (H : Heap) (locs : List Loc) (cells slots mc ms : Nat) (la : Array Slot),
    j_Cx G y p s m meth c → d ≤ R.frames → 48 * d ≤ R.locals → cells + B ≤ mc → mc ≤ R.cells → slots + S ≤ ms → ms ≤ R.slots → j_Hp G σ H → (∀ q ∈ locs, j_b G ≤ q.base) → lv_has la y.2.2.1 (j_lv (j_b G) 0 ls) → j_b G ≤ s.heap.size →
    W p (j_l G) e R s m args below meth c H locs cells slots (j_XQ G below Q s mc ms) (F0 m pc la (st.map (j_val (j_b G))))
/-- A CALL of y with these arguments in this store ends with Q -/
def j_Ct (G : j_G) (y : j_Mt) (d B S : Nat) (as : List j_V) (σ : j_S) (Q : j_O → j_S → Prop) : Prop :=
  MetFree (j_l G) y.1 (headSpec [j_cw y] { frames := d, cells := B, slots := S, locals := 48 * d }) (fun v s => v = (as.map (j_val (j_b G))).toArray ∧ j_Gd G s ∧ j_Hp G σ s.heap ∧ j_b G ≤ s.heap.size) (fun _ _ _ _ _ => True) (fun _ s o t => j_End G Q s B S o t)

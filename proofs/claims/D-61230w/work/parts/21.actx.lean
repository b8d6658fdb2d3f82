/-! what stands all through the machine's runs -/
/-- of the tables alone -/
def aK (x : aP) (U : State) : Prop := va_K x.D aCl (aTys x) U ∧ (∀ w ∈ aNF, va_Nw (.fieldLinkNest w.1 w.2.1 w.2.2.1 w.2.2.2.1 w.2.2.2.2.1 w.2.2.2.2.2) U) ∧ (∀ w ∈ aNM, va_Nw (.methodLinkNest w.1 w.2.1 w.2.2.1 w.2.2.2) U) ∧ (∀ w ∈ aXN, va_Nw (.castable w w) U) ∧ (∀ w ∈ aAO, va_AO w U) ∧ (∀ w ∈ aFW, va_Fw w.1 w.2.1 w.2.2 U) ∧ (∀ w ∈ aNC, va_Nc w.1 w.2 U) ∧ (∀ i, i < 28 → vk_R "BasicMachine$Parser" (aSx i) (aSt i) (x.sK i) U) ∧ ((∀ w ∈ aDC, va_Nw (.declares w) U) ∧ (Cond.arrayOver (.array .double)).before #[] U = true)
/-- of old cells: statics, string constants -/
def aSOk (x : aP) (A : Nat → Prop) (U : State) (H : Heap) (i : Nat) : Prop := va_O "java/lang/String" (x.sK i) A U H ∧ va_OF "java/lang/String" "coder" "B" (.int 0) (x.sK i) A U H ∧ va_OF "java/lang/String" "value" "[B" (.ref (x.sV i)) (x.sK i) A U H ∧ va_OF "java/lang/String" "hash" "I" (.int (aSh i)) (x.sK i) A U H ∧ va_T .byte (x.sV i) (aSb i).length (fun j => .int ((aSb i).getD j 0)) A U H
def aZ (x : aP) (A : Nat → Prop) (U : State) (H : Heap) : Prop := vx_Zq Bundle.tN "UNASSIGNED_STACK" Bundle.steD A U H ∧ vx_Zq Bundle.tN "SUPPRESSED_SENTINEL" Bundle.listD A U H ∧ va_Z "java/lang/String" "COMPACT_STRINGS" "Z" (.int 1) A U H ∧ (∀ i, i < 28 → aSOk x A U H i) ∧ va_Zq "jdk/internal/util/Preconditions" "SIOOBE_FORMATTER" "Ljava/util/function/BiFunction;" A U H
theorem aK.warm {x : aP} {s U : State} (hW : s.WarmedH U.vm) (h : aK x s) : aK x U := by
  obtain ⟨h1, h2, h3, h4, h5, h6, h7, h8, h9⟩ := h
  exact ⟨va_K.moved hW.alike h1, fun w hw => va_Nw.warmF hW (h2 w hw), fun w hw => va_Nw.warmM hW (h3 w hw), fun w hw => va_Nw.warmC hW (h4 w hw), fun w hw => (h5 w hw).moved hW.alike, fun w hw => va_Fw.moved (aFW_ok w hw) hW.alike (h6 w hw), fun w hw => (h7 w hw).moved hW.alike, fun i hi => vk_R.warm hW (h8 i hi), fun w hw => va_Nw.warmD hW (h9.1 w hw), over_moved hW.alike h9.2⟩
theorem aZ.moved {x : aP} {A : Nat → Prop} {u U : State} {H : Heap} (hvm : u.vm.Alike U.vm) (h : aZ x A u H) : aZ x A U H := by
  obtain ⟨h1, h2, h3, h4, h5⟩ := h
  refine ⟨vx_Zq.moved hvm h1, vx_Zq.moved hvm h2, va_Z.moved hvm h3, fun i hi => ?_, va_Zq.moved hvm h5⟩
  obtain ⟨g1, g2, g3, g4, g5⟩ := h4 i hi
  exact ⟨va_O.moved hvm g1, va_OF.moved hvm g2, va_OF.moved hvm g3, va_OF.moved hvm g4, va_T.moved hvm g5⟩
theorem aZ.kept {x : aP} {A : Nat → Prop} {U : State} {H H1 : Heap} (h : aZ x A U H) (hq : ∀ a : Nat, a < H.size → ¬ A a → H1[a]? = H[a]?) : aZ x A U H1 := by
  obtain ⟨h1, h2, h3, h4, h5⟩ := h
  refine ⟨h1.kept hq, h2.kept hq, h3.kept hq, fun i hi => ?_, h5.kept hq⟩
  obtain ⟨g1, g2, g3, g4, g5⟩ := h4 i hi
  exact ⟨g1.kept hq, g2.kept hq, g3.kept hq, g4.kept hq, g5.kept hq⟩
theorem aZ.narrow {x : aP} {A B : Nat → Prop} {U : State} {H : Heap} (h : aZ x A U H) (hAB : ∀ q, B q → A q) : aZ x B U H := by
  obtain ⟨h1, h2, h3, h4, h5⟩ := h
  refine ⟨h1.narrow hAB, h2.narrow hAB, h3.narrow hAB, fun i hi => ?_, h5.narrow hAB⟩
  obtain ⟨g1, g2, g3, g4, g5⟩ := h4 i hi
  exact ⟨g1.narrow hAB, g2.narrow hAB, g3.narrow hAB, g4.narrow hAB, g5.narrow hAB⟩
/-- the six exceptions -/
def aExc (k : Nat) : String := aXN.getD k ""
def aPre (x : aP) (σ : aS) (U : State) : Prop := aW x σ U.heap ∧ aK x U ∧ aZ x (aDom σ) U U.heap
/-- how a method comes back: .inl its answer, .inr which exception -/
abbrev aO : Type := (Option Value) ⊕ Nat
def aQn (x : aP) (σ : aS) (o : aO) (σ' : aS) : Array Value → State → Outcome → State → Prop := fun _ s0 oc t => ∃ v, o = .inl v ∧ oc = .returned v ∧ aW x σ' t.heap ∧ (∀ q, aDom σ' q → aDom σ q) ∧ va_F (aDom σ) s0 t
def aQx (x : aP) (σ : aS) (o : aO) (σ' : aS) : String → State → State → Prop := fun E s0 t => ∃ k, o = .inr k ∧ E = aExc k ∧ aW x σ' t.heap ∧ (∀ q, aDom σ' q → aDom σ q) ∧ va_F (aDom σ) s0 t
abbrev aRm (fr lo mc ms : Nat) : Room := { frames := fr, cells := mc, slots := ms, locals := lo }
def aMet (l : Launch) (y : MethodName) (ws : List Cond) (fr lo : Nat) (x : aP) (As : List Value) (σ : aS) (o : aO) (σ' : aS) : Prop :=
  ∀ mc ms : Nat, mc + σ.1 = σ'.1 → ms + σ.2.1 = σ'.2.1 → vx_Met l y ws (aRm fr lo mc ms) (va_Pc As (aPre x σ)) (aQn x σ o σ') (aQx x σ o σ') mc ms (aDom σ)
/-- what stands all through a body -/
def aX (own : String) (p : Program) (l : Launch) (s : State) (m : MethodId) (args : Array Value) (meth : Method) (c : Code) (cc : ByteArray) (nL : Nat) (x : aP) (σ0 : aS) : Prop :=
  p.tables.exec = Jvm.exec ∧ c.code = cc ∧ c.maxLocals = nL ∧ s.vm.findClass own = some m.cls ∧ (∀ w ∈ lw_all, w.before args s = true) ∧ aK x s ∧ aZ x (aDom σ0) s s.heap ∧ meth.locks = false ∧ l.stackTraces = false
/-- where the heap stands: it holds σ; so many cells and slots are new -/
def aY (x : aP) (σ0 : aS) (s : State) (σ : aS) (H : Heap) (locs : List Loc) (kc ks : Nat) : Prop := aW x σ H ∧ va_S (aDom σ0) s.heap H locs ∧ (∀ q, aDom σ q → aDom σ0 q) ∧ kc + σ0.1 = σ.1 ∧ ks + σ0.2.1 = σ.2.1
/-- the goal of a body's walk -/
abbrev aG (l : Launch) (fr lo mc ms : Nat) (x : aP) (As : List Value) (σ0 : aS) (o : aO) (σ' : aS) (p : Program) (e : Env) (s : State) (m : MethodId) (below : List Frame) (meth : Method) (c : Code) (H : Heap) (locs : List Loc) (kc ks : Nat) (g : JFrame) : Prop :=
  W p l e (aRm fr lo mc ms) s m As.toArray below meth c H locs kc ks (vx_MQ below (aQn x σ0 o σ') (aQx x σ0 o σ') As.toArray s mc ms (aDom σ0)) g
theorem a_ofW {l : Launch} {y : MethodName} {cc : ByteArray} {nL : Nat} {ret : Option FieldType} {fr lo : Nat} {x : aP} {As : List Value} {σ σ' : aS} {o : aO} {own : String} (hl : l.stackTraces = false) (hy : plainName y.cls = true) (hyc : y.cls = own) (hn : (lg_sl As).length ≤ nL)
    (body : ∀ (mc ms : Nat) (p : Program) (e : Env) (s : State) (m : MethodId) (below : List Frame) (meth : Method) (c : Code) (ls : Array Slot) (H : Heap) (locs : List Loc) (kc ks : Nat), mc + σ.1 = σ'.1 → ms + σ.2.1 = σ'.2.1 → aX own p l s m As.toArray meth c cc nL x σ → (∀ z ∈ c.exceptionTable.toList, False) → aY x σ s σ H locs kc ks → meth.sig.returnType = ret → (y.name = meth.name) → lv_has ls nL (lv_args 0 As) → aG l fr lo mc ms x As σ o σ' p e s m below meth c H locs kc ks (F0 m 0 ls [])) :
    aMet l y (ws_ y cc nL ret) fr lo x As σ o σ' := by
  intro mc ms h1 h2
  refine vx_ofW (cc := cc) (maxL := nL) (ret := ret) hy rfl ?_
  intro p e s m args below meth c s₁ B hml hex hv
  obtain ⟨rfl, hP, hK, hZ⟩ := hv
  have hts := atoms_spec (ws := ws_ y cc nL ret) B.pre
  have hts : ∀ w ∈ lw_all, w.before _ s = true := fun w h => hts w (List.mem_cons_of_mem _ h)
  have hown : s.vm.findClass own = some m.cls := by rw [← hyc]; exact findClass_of_methodNamed B.named
  have hlv := lv_entry As (n := nL) hn
  rw [lg_entry_eq]
  exact body mc ms p e s m below meth c _ s.heap [] 0 0 h1 h2 ⟨B.exec, B.bytes, hml, hown, hts, hK, hZ, B.notSynchronized, hl⟩ hex ⟨hP, va_S.rf, fun q h => h, by omega, by omega⟩ B.returns (name_of_methodNamed B.named B.method).1.symm hlv

/-! ends, throws, calls of the machine's methods -/
def aLe (σ τ : aS) : Prop := σ.1 ≤ τ.1 ∧ σ.2.1 ≤ τ.2.1
theorem aLe.rf (σ : aS) : aLe σ σ := ⟨Nat.le_refl _, Nat.le_refl _⟩
theorem aLe.tr {a b c : aS} (h : aLe a b) (g : aLe b c) : aLe a c := ⟨Nat.le_trans h.1 g.1, Nat.le_trans h.2 g.2⟩
/-- the store behind a throw -/
def aTh (σ : aS) : aS := (σ.1 + 1, σ.2.1 + 6, σ.2.2)
section ARET
variable {own : String} {p : Program} {l : Launch} {e : Env} {s : State} {m : MethodId} {below : List Frame} {meth : Method} {c : Code} {H : Heap} {locs : List Loc} {kc ks mc ms fr lo : Nat} {As : List Value}
variable {cc : ByteArray} {nL : Nat} {x : aP} {σ0 σ : aS} {pc : Nat} {ls : Array Slot}
theorem a_end {g : JFrame} {v : Option Value} (Y : aY x σ0 s σ H locs kc ks) (h1 : mc + σ0.1 = σ.1) (h2 : ms + σ0.2.1 = σ.2.1)
    (k : (∀ t : State, t.heap = H → s.WarmedH t.vm → aQn x σ0 (.inl v) σ As.toArray s (.returned v) t) → (∀ q ∈ locs, aDom σ0 q.base) → W p l e (aRm fr lo kc ks) s m As.toArray below meth c H locs kc ks (MQ below (aQn x σ0 (.inl v) σ) As.toArray s kc ks (aDom σ0)) g) : aG l fr lo mc ms x As σ0 (.inl v) σ p e s m below meth c H locs kc ks g := by
  have e1 : mc = kc := by have := Y.2.2.2.1; omega
  have e2 : ms = ks := by have := Y.2.2.2.2; omega
  subst e1; subst e2
  exact vx_ret (k (fun t ht hW => ⟨v, rfl, rfl, by rw [ht]; exact Y.1, Y.2.2.1, Y.2.1.F ht⟩) Y.2.1.2.2)
theorem a_iret {v : Int32} (X : aX own p l s m As.toArray meth c cc nL x σ0) (Y : aY x σ0 s σ H locs kc ks) (h1 : mc + σ0.1 = σ.1) (h2 : ms + σ0.2.1 = σ.2.1) (hr : meth.sig.returnType = some .int) (hdg : decode cc pc = .ok (.ireturn, 1)) : aG l fr lo mc ms x As σ0 (.inl (some (.int v))) σ p e s m below meth c H locs kc ks (F0 m pc ls [.int v]) :=
  a_end Y h1 h2 fun hq hf => W.iret X.1 X.2.1 hr hq hf hdg X.2.2.2.2.2.2.2.1
theorem a_zret {v : Int32} {ty : FieldType} (X : aX own p l s m As.toArray meth c cc nL x σ0) (Y : aY x σ0 s σ H locs kc ks) (h1 : mc + σ0.1 = σ.1) (h2 : ms + σ0.2.1 = σ.2.1) (hr : meth.sig.returnType = some ty) (hn : narrow ty (.int v) = .int v) (hdg : decode cc pc = .ok (.ireturn, 1)) : aG l fr lo mc ms x As σ0 (.inl (some (.int v))) σ p e s m below meth c H locs kc ks (F0 m pc ls [.int v]) :=
  a_end Y h1 h2 fun hq hf => W.zret X.1 X.2.1 hr hn hq hf hdg X.2.2.2.2.2.2.2.1
theorem a_vret (X : aX own p l s m As.toArray meth c cc nL x σ0) (Y : aY x σ0 s σ H locs kc ks) (h1 : mc + σ0.1 = σ.1) (h2 : ms + σ0.2.1 = σ.2.1) (hr : meth.sig.returnType = none) (hdg : decode cc pc = .ok (.return_, 1)) : aG l fr lo mc ms x As σ0 (.inl none) σ p e s m below meth c H locs kc ks (F0 m pc ls []) :=
  a_end Y h1 h2 fun hq hf => W.vret X.1 X.2.1 hr hq hf hdg X.2.2.2.2.2.2.2.1
theorem a_lret {v : Int64} (X : aX own p l s m As.toArray meth c cc nL x σ0) (Y : aY x σ0 s σ H locs kc ks) (h1 : mc + σ0.1 = σ.1) (h2 : ms + σ0.2.1 = σ.2.1) (hr : meth.sig.returnType = some .long) (hdg : decode cc pc = .ok (.lreturn, 1)) : aG l fr lo mc ms x As σ0 (.inl (some (.long v))) σ p e s m below meth c H locs kc ks (F0 m pc ls [.long v]) :=
  a_end Y h1 h2 fun hq hf => W.lret X.1 X.2.1 hr hq hf hdg X.2.2.2.2.2.2.2.1
theorem a_dret {v : UInt64} (X : aX own p l s m As.toArray meth c cc nL x σ0) (Y : aY x σ0 s σ H locs kc ks) (h1 : mc + σ0.1 = σ.1) (h2 : ms + σ0.2.1 = σ.2.1) (hr : meth.sig.returnType = some .double) (hdg : decode cc pc = .ok (.dreturn, 1)) : aG l fr lo mc ms x As σ0 (.inl (some (.double v))) σ p e s m below meth c H locs kc ks (F0 m pc ls [.double v]) :=
  a_end Y h1 h2 fun hq hf => W.dret X.1 X.2.1 hr hq hf hdg X.2.2.2.2.2.2.2.1
theorem a_aret {r : Option Nat} {rt : FieldType} (X : aX own p l s m As.toArray meth c cc nL x σ0) (Y : aY x σ0 s σ H locs kc ks) (h1 : mc + σ0.1 = σ.1) (h2 : ms + σ0.2.1 = σ.2.1) (hr : meth.sig.returnType = some rt) (hrt : (∃ n, rt = .object n) ∨ ∃ t, rt = .array t) (hdg : decode cc pc = .ok (.areturn, 1)) : aG l fr lo mc ms x As σ0 (.inl (some (va_rf r))) σ p e s m below meth c H locs kc ks (F0 m pc ls [va_rf r]) :=
  a_end Y h1 h2 fun hq hf => W.aret X.1 X.2.1 hr hrt (va_rf_or r) hq hf hdg X.2.2.2.2.2.2.2.1
/-- throw new E() -/
theorem a_throw {k ik ic : Nat} {cls : String} {rest : List Value} (X : aX own p l s m As.toArray meth c cc nL x σ0) (Y : aY x σ0 s σ H locs kc ks) (h1 : mc + σ0.1 = (aTh σ).1) (h2 : ms + σ0.2.1 = (aTh σ).2.1) (hcls : aExc k = cls) (hfit : Bundle.fit cls = true) (hck : Cond.classLink own ik cls ∈ lw_all) (hci : Cond.initialized cls ∈ lw_all)
    (hat : ∀ w ∈ vx_at0 own ic cls aNms, w.before As.toArray s = true) (hgood : ∀ w ∈ Cond.classLink own ik cls :: Cond.initialized cls :: vx_at0 own ic cls aNms, vx_ot w = true) (hout : ∀ z ∈ c.exceptionTable.toList, covers z (pc + 7) = false) (hls : ls.size = nL)
    (hfr : 5 < fr) (hlo : (rest.map fun v => v.category).sum + 81 ≤ lo) (d0 : decode cc pc = .ok (.new ik, 3)) (d3 : decode cc (pc + 3) = .ok (.dup, 1)) (d4 : decode cc (pc + 4) = .ok (.invokespecial ic, 3)) (d7 : decode cc (pc + 7) = .ok (.athrow, 1)) :
    aG l fr lo mc ms x As σ0 (.inr k) (aTh σ) p e s m below meth c H locs kc ks (F0 m pc ls rest) := by
  subst hcls
  obtain ⟨hx, hb, hml, hown, hts, hK, hZ, hlk, htr⟩ := X
  have y4 := Y.2.2.2.1
  have y5 := Y.2.2.2.2
  have h1 : mc + σ0.1 = σ.1 + 1 := h1
  have h2 : ms + σ0.2.1 = σ.2.1 + 6 := h2
  refine ax_throw0 (names := aNms) (A := aDom σ0) hx hb htr hown hfit (by decide +kernel) (hts _ hck) (hts _ hci) hat hgood hZ.1 hZ.2.1 Y.2.1 (hls.trans hml.symm) d0 d3 d4 d7 hout (show (aNms.length + 3 < fr) from hfr) (show (rest.map fun v => v.category).sum + (13 * (aNms.length + 1) + 42) ≤ lo from hlo) (show kc + 1 ≤ mc by omega) (show ks + 6 ≤ ms by omega) hlk ?_ Y.2.1.2.2 (by omega) (by omega)
  intro t _ hz hk
  refine ⟨k, rfl, rfl, ⟨by rw [hz, Y.1.1]; rfl, fun q f hq => (Y.1.2 q f hq).kept (hk q (Y.1.2 q f hq).lt)⟩, fun q h => Y.2.2.1 q ?_, ⟨Nat.le_trans Y.2.1.1 (by omega), fun q h1 h2 => (hk q (Nat.lt_of_lt_of_le h1 Y.2.1.1)).trans (Y.2.1.2.1 q h1 h2)⟩⟩
  rcases h with h | h
  · exact Or.inl h
  · exact Or.inr (by have h : σ.1 + 1 ≤ q := h; omega)
/-- an exception of a callee goes on -/
theorem a_out {k : Nat} {rest : List Value} {q : Addr} {ce : Cell} (X : aX own p l s m As.toArray meth c cc nL x σ0) (Y : aY x σ0 s σ H locs kc ks) (h1 : mc + σ0.1 = σ.1) (h2 : ms + σ0.2.1 = σ.2.1) (hout : ∀ z ∈ c.exceptionTable.toList, covers z pc = false) (hcell : H[q]? = some ce) (hv : ce.vm = .none) (hcl : s.vm.findClass (aExc k) = some ce.cls) :
    vx_W p l e (aRm fr lo mc ms) s m As.toArray below meth c H locs kc ks (vx_MQ below (aQn x σ0 (.inr k) σ) (aQx x σ0 (.inr k) σ) As.toArray s mc ms (aDom σ0)) (F0 m pc ls rest) q := by
  have y4 := Y.2.2.2.1
  have y5 := Y.2.2.2.2
  exact vx_out hout X.2.2.2.2.2.2.2.1 hcell hv hcl (fun t ht _ => ⟨k, rfl, rfl, by rw [ht]; exact Y.1, Y.2.2.1, Y.2.1.F ht⟩) Y.2.1.2.2 (by omega) (by omega)
end ARET
theorem a_blind {As : List Value} {x : aP} {σ : aS} : FrameBlind (va_Pc As (aPre x σ)) := by
  intro a U g mk q
  obtain ⟨q0, qP, qK, qZ⟩ := q
  exact ⟨q0, qP, aK.warm (s := U) (U := U.calling g mk a) (State.WarmedH.refl U) qK, aZ.moved (u := U) (U := U.calling g mk a) (Vm.Alike.refl U.vm) qZ⟩
section ACALL
variable {own : String} {p : Program} {l : Launch} {e : Env} {R : Room} {s : State} {m : MethodId} {args : Array Value} {below : List Frame} {meth : Method} {c : Code} {H : Heap} {locs : List Loc} {kc ks : Nat} {Q : State → Prop}
variable {cc : ByteArray} {nL : Nat} {x : aP} {σ0 σ σ1 σf : aS} {pc : Nat} {ls : Array Slot} {rest st0 : List Value} {idx : Nat} {a : Nat} {o : aO} {As : List Value}
variable {y : MethodName} {bytes : ByteArray} {maxL n fr lo : Nat} {ret : Option FieldType}
theorem a_pre (X : aX own p l s m args meth c cc nL x σ0) (Y : aY x σ0 s σ H locs kc ks) : ∀ U : State, U.heap = H → s.WarmedH U.vm → va_Pc As (aPre x σ) As.toArray U :=
  fun U hU hW => ⟨rfl, by rw [hU]; exact Y.1, aK.warm hW X.2.2.2.2.2.1, by rw [hU]; exact (aZ.moved hW.alike (X.2.2.2.2.2.2.1.kept Y.2.1.2.1)).narrow Y.2.2.1⟩
theorem a_back (Y : aY x σ0 s σ H locs kc ks) {mc ms : Nat} {L : List Loc} {st₀ t T' : State} (hle : aLe σ σ1) (em : mc = σ1.1 - σ.1) (es : ms = σ1.2.1 - σ.2.1) (h0 : st₀.heap = H) (hL : ∀ q ∈ L, aDom σ q.base) (e1 : T'.heap = t.heap) (hw : aW x σ1 t.heap) (hd : ∀ q, aDom σ1 q → aDom σ q) (hF : va_F (aDom σ) st₀ t) : aY x σ0 s σ1 T'.heap (locs ++ L) (kc + mc) (ks + ms) := by
  have y4 := Y.2.2.2.1
  have y5 := Y.2.2.2.2
  obtain ⟨hz, hk⟩ := hF
  rw [h0] at hz hk
  obtain ⟨l1, l2⟩ := hle
  refine ⟨by rw [e1]; exact hw, ⟨Nat.le_trans Y.2.1.1 (by rw [e1]; exact hz), fun q h1 h2 => by rw [e1, hk q (Nat.lt_of_lt_of_le h1 Y.2.1.1) (fun z => h2 (Y.2.2.1 q z))]; exact Y.2.1.2.1 q h1 h2, fun q hq => ?_⟩, fun q h => Y.2.2.1 q (hd q h), by omega, by omega⟩
  rcases List.mem_append.mp hq with h | h
  · exact Y.2.1.2.2 q h
  · exact Y.2.2.1 _ (hL q h)
theorem a_after {mc ms : Nat} {a' : Array Value} (hr : vx_Run p l e R s m args below meth c H locs kc ks mc ms (F0 m pc ls st0) rest (aQn x σ o σ1 a') (aQx x σ o σ1) (aDom σ)) (Y : aY x σ0 s σ H locs kc ks) (hle : aLe σ σ1) (em : mc = σ1.1 - σ.1) (es : ms = σ1.2.1 - σ.2.1)
    (kn : ∀ v, o = .inl v → ∀ (H1 : Heap) (locs1 : List Loc) (kc1 ks1 : Nat), aY x σ0 s σ1 H1 locs1 kc1 ks1 → W p l e R s m args below meth c H1 locs1 kc1 ks1 Q (F0 m (pc + 3) ls (v.toList ++ rest)))
    (kx : ∀ k, o = .inr k → ∀ (H1 : Heap) (locs1 : List Loc) (kc1 ks1 : Nat) (q : Addr) (ce : Cell), aY x σ0 s σ1 H1 locs1 kc1 ks1 → H1[q]? = some ce → ce.vm = .none → s.vm.findClass (aExc k) = some ce.cls → vx_W p l e R s m args below meth c H1 locs1 kc1 ks1 Q (F0 m pc ls rest) q) :
    W p l e R s m args below meth c H locs kc ks Q (F0 m pc ls st0) := by
  intro T hT Z
  rcases hr T hT Z with ⟨v, st₀, t, T', L, h0, X', hL, e1, e2, ⟨v9, ho, hv, hw, hd, hF⟩, st⟩ | ⟨q, st₀, t, T', L, E, ce, h0, X', hL, e1, e2, ⟨k, ho, hE, hw, hd, hF⟩, hce, hcv, hcl, st⟩
  · cases hv
    obtain ⟨t2, a1, b1⟩ := kn v ho T'.heap (locs ++ L) _ _ (a_back Y hle em es h0 hL e1 hw hd hF) T' rfl X'
    exact ⟨t2, st t2 a1, b1⟩
  · subst hE
    obtain ⟨t2, a1, b1⟩ := kx k ho T'.heap (locs ++ L) _ _ q ce (a_back Y hle em es h0 hL e1 hw hd hF) (by rw [e1]; exact hce) hcv hcl T' rfl X'
    exact ⟨t2, st.trans a1, b1⟩
theorem a_after5 {mc ms : Nat} {a' : Array Value} (hr : vx_Run5 p l e R s m args below meth c H locs kc ks mc ms (F0 m pc ls st0) rest (aQn x σ o σ1 a') (aQx x σ o σ1) (aDom σ)) (Y : aY x σ0 s σ H locs kc ks) (hle : aLe σ σ1) (em : mc = σ1.1 - σ.1) (es : ms = σ1.2.1 - σ.2.1)
    (kn : ∀ v, o = .inl v → ∀ (H1 : Heap) (locs1 : List Loc) (kc1 ks1 : Nat), aY x σ0 s σ1 H1 locs1 kc1 ks1 → W p l e R s m args below meth c H1 locs1 kc1 ks1 Q (F0 m (pc + 5) ls (v.toList ++ rest)))
    (kx : ∀ k, o = .inr k → ∀ (H1 : Heap) (locs1 : List Loc) (kc1 ks1 : Nat) (q : Addr) (ce : Cell), aY x σ0 s σ1 H1 locs1 kc1 ks1 → H1[q]? = some ce → ce.vm = .none → s.vm.findClass (aExc k) = some ce.cls → vx_W p l e R s m args below meth c H1 locs1 kc1 ks1 Q (F0 m pc ls rest) q) :
    W p l e R s m args below meth c H locs kc ks Q (F0 m pc ls st0) := by
  intro T hT Z
  rcases hr T hT Z with ⟨v, st₀, t, T', L, h0, X', hL, e1, e2, ⟨v9, ho, hv, hw, hd, hF⟩, st⟩ | ⟨q, st₀, t, T', L, E, ce, h0, X', hL, e1, e2, ⟨k, ho, hE, hw, hd, hF⟩, hce, hcv, hcl, st⟩
  · cases hv
    obtain ⟨t2, a1, b1⟩ := kn v ho T'.heap (locs ++ L) _ _ (a_back Y hle em es h0 hL e1 hw hd hF) T' rfl X'
    exact ⟨t2, st t2 a1, b1⟩
  · subst hE
    obtain ⟨t2, a1, b1⟩ := kx k ho T'.heap (locs ++ L) _ _ q ce (a_back Y hle em es h0 hL e1 hw hd hF) (by rw [e1]; exact hce) hcv hcl T' rfl X'
    exact ⟨t2, st.trans a1, b1⟩
/-- what a call's caller owes beside its words -/
abbrev aFit (R : Room) (σ0 σ σ1 σf : aS) (fr lo maxL : Nat) : Prop := aLe σ σ1 ∧ aLe σ1 σf ∧ R.cells + σ0.1 = σf.1 ∧ R.slots + σ0.2.1 = σf.2.1 ∧ fr + 1 ≤ R.frames ∧ 8 + (maxL + 11) + lo ≤ R.locals
abbrev aKn (p : Program) (l : Launch) (e : Env) (R : Room) (s : State) (m : MethodId) (args : Array Value) (below : List Frame) (meth : Method) (c : Code) (Q : State → Prop) (x : aP) (σ0 σ1 : aS) (o : aO) (pc' : Nat) (ls : Array Slot) (rest : List Value) : Prop :=
  ∀ v, o = .inl v → ∀ (H1 : Heap) (locs1 : List Loc) (kc1 ks1 : Nat), aY x σ0 s σ1 H1 locs1 kc1 ks1 → W p l e R s m args below meth c H1 locs1 kc1 ks1 Q (F0 m pc' ls (v.toList ++ rest))
abbrev aKx (p : Program) (l : Launch) (e : Env) (R : Room) (s : State) (m : MethodId) (args : Array Value) (below : List Frame) (meth : Method) (c : Code) (Q : State → Prop) (x : aP) (σ0 σ1 : aS) (o : aO) (pc : Nat) (ls : Array Slot) (rest : List Value) : Prop :=
  ∀ k, o = .inr k → ∀ (H1 : Heap) (locs1 : List Loc) (kc1 ks1 : Nat) (q : Addr) (ce : Cell), aY x σ0 s σ1 H1 locs1 kc1 ks1 → H1[q]? = some ce → ce.vm = .none → s.vm.findClass (aExc k) = some ce.cls → vx_W p l e R s m args below meth c H1 locs1 kc1 ks1 Q (F0 m pc ls rest) q
theorem aFit.room (h : aFit R σ0 σ σ1 σf fr lo maxL) (Y : aY x σ0 s σ H locs kc ks) : kc + (σ1.1 - σ.1) ≤ R.cells ∧ ks + (σ1.2.1 - σ.2.1) ≤ R.slots := by
  obtain ⟨h1, h2, h3, h4, -, -⟩ := h
  have y4 := Y.2.2.2.1
  have y5 := Y.2.2.2.2
  have := h1.1; have := h1.2; have := h2.1; have := h2.2
  constructor <;> omega
theorem aFit.met (h : aFit R σ0 σ σ1 σf fr lo maxL) {ws : List Cond} (hM : aMet l y ws fr lo x As σ o σ1) : vx_Met l y ws (aRm fr lo (σ1.1 - σ.1) (σ1.2.1 - σ.2.1)) (va_Pc As (aPre x σ)) (aQn x σ o σ1) (aQx x σ o σ1) (σ1.1 - σ.1) (σ1.2.1 - σ.2.1) (aDom σ) :=
  hM _ _ (by have := h.1.1; omega) (by have := h.1.2; omega)
/-- invokevirtual of a method of the receiver's own class -/
theorem a_callV {C : String} (As : List Value) (X : aX own p l s m args meth c cc nL x σ0) (Y : aY x σ0 s σ H locs kc ks) (hM : aMet l y (ws_ y bytes maxL ret) fr lo x (.ref a :: As) σ o σ1) (hF : aFit R σ0 σ σ1 σf fr lo maxL)
    (h1 : Cond.methodLink own idx y ∈ lw_all) (h2 : Cond.instanceMethod y ∈ lw_all) (h3 : Cond.selects C y y ∈ lw_all) (h4 : Cond.initialized C ∈ lw_all) (h5 : Cond.code y bytes maxL ret ∈ lw_all)
    (hd : y.cls = C ∧ y.cls ≠ "java/lang/invoke/MethodHandle" ∧ y.cls ≠ "java/lang/invoke/VarHandle" ∧ (parseMethodDescriptor y.desc).map (fun d => d.parameters.length) = some n)
    (hv : ∃ cell : Cell, H[a]? = some cell ∧ cell.vm.isStatics = false ∧ s.vm.findClass C = some cell.cls) (hn : As.length = n) (hls : ls.size = nL) (hW : (rest.map fun v => v.category).sum ≤ 8) (hdg : decode cc pc = .ok (.invokevirtual idx, 3))
    (kn : aKn p l e R s m args below meth c Q x σ0 σ1 o (pc + 3) ls rest) (kx : aKx p l e R s m args below meth c Q x σ0 σ1 o pc ls rest) : W p l e R s m args below meth c H locs kc ks Q (F0 m pc ls (As.reverse ++ .ref a :: rest)) := by
  have hx := X
  obtain ⟨he, hb, hml, hown, hts, hK, -⟩ := X
  refine a_after (vx_runV (C := C) (b := a) (As := As) (rest := rest) (g := F0 m pc ls (As.reverse ++ .ref a :: rest)) ⟨he, hb, hml, hown, hts⟩ (hF.met hM) (cwV n hts (lw_V h1 h2 h3 h4 h5) rfl rfl rfl hd ⟨hF.2.2.2.2.1, hF.2.2.2.2.2⟩) ⟨a_blind, hv, a_pre hx Y⟩ rfl hn hls rfl (lv_room hW) hdg (hF.room Y)) Y hF.1 rfl rfl kn kx
/-- .. private, by a nest mate -/
theorem a_callVN {C host : String} (As : List Value) (X : aX own p l s m args meth c cc nL x σ0) (Y : aY x σ0 s σ H locs kc ks) (hM : aMet l y (ws_ y bytes maxL ret) fr lo x (.ref a :: As) σ o σ1) (hF : aFit R σ0 σ σ1 σf fr lo maxL)
    (h1 : (own, idx, y, host) ∈ aNM) (h2 : Cond.instanceMethod y ∈ lw_all) (h3 : Cond.selects C y y ∈ lw_all) (h4 : Cond.initialized y.cls ∈ lw_all) (h5 : Cond.code y bytes maxL ret ∈ lw_all)
    (hd : y.cls ≠ "java/lang/invoke/MethodHandle" ∧ y.cls ≠ "java/lang/invoke/VarHandle" ∧ (parseMethodDescriptor y.desc).map (fun d => d.parameters.length) = some n)
    (hv : ∃ cell : Cell, H[a]? = some cell ∧ cell.vm.isStatics = false ∧ s.vm.findClass C = some cell.cls) (hn : As.length = n) (hls : ls.size = nL) (hW : (rest.map fun v => v.category).sum ≤ 8) (hdg : decode cc pc = .ok (.invokevirtual idx, 3))
    (kn : aKn p l e R s m args below meth c Q x σ0 σ1 o (pc + 3) ls rest) (kx : aKx p l e R s m args below meth c Q x σ0 σ1 o pc ls rest) : W p l e R s m args below meth c H locs kc ks Q (F0 m pc ls (As.reverse ++ .ref a :: rest)) := by
  have hx := X
  obtain ⟨he, hb, hml, hown, hts, hK, -⟩ := X
  refine a_after (vx_runVN (host := host) (C := C) (b := a) (As := As) (rest := rest) (g := F0 m pc ls (As.reverse ++ .ref a :: rest)) ⟨he, hb, hml, hown, hts⟩ (hF.met hM) ⟨va_cnB n hts (lw_meth h5) rfl rfl rfl (hK.2.2.1 _ h1) (hts _ h4) hd ⟨hF.2.2.2.2.1, hF.2.2.2.2.2⟩, hts _ h2, hts _ h3⟩ ⟨a_blind, hv, a_pre hx Y⟩ rfl hn hls rfl (lv_room hW) hdg (hF.room Y)) Y hF.1 rfl rfl kn kx
/-- invokestatic -/
theorem a_callS (As : List Value) (X : aX own p l s m args meth c cc nL x σ0) (Y : aY x σ0 s σ H locs kc ks) (hM : aMet l y (ws_ y bytes maxL ret) fr lo x As σ o σ1) (hF : aFit R σ0 σ σ1 σf fr lo maxL)
    (h1 : Cond.methodLink own idx y ∈ lw_all) (h2 : Cond.static y ∈ lw_all) (h4 : Cond.initialized y.cls ∈ lw_all) (h5 : Cond.code y bytes maxL ret ∈ lw_all)
    (hd : y.cls ≠ "java/lang/invoke/MethodHandle" ∧ y.cls ≠ "java/lang/invoke/VarHandle" ∧ (parseMethodDescriptor y.desc).map (fun d => d.parameters.length) = some n)
    (hn : As.length = n) (hls : ls.size = nL) (hW : (rest.map fun v => v.category).sum ≤ 8) (hdg : decode cc pc = .ok (.invokestatic idx, 3))
    (kn : aKn p l e R s m args below meth c Q x σ0 σ1 o (pc + 3) ls rest) (kx : aKx p l e R s m args below meth c Q x σ0 σ1 o pc ls rest) : W p l e R s m args below meth c H locs kc ks Q (F0 m pc ls (As.reverse ++ rest)) := by
  have hx := X
  obtain ⟨he, hb, hml, hown, hts, hK, -⟩ := X
  refine a_after (vx_runS (As := As) (rest := rest) (g := F0 m pc ls (As.reverse ++ rest)) ⟨he, hb, hml, hown, hts⟩ (hF.met hM) (va_cwS n hts (lw_S h1 h2 h4 h5) rfl rfl rfl hd ⟨hF.2.2.2.2.1, hF.2.2.2.2.2⟩) ⟨a_blind, a_pre hx Y⟩ rfl hn hls rfl (lv_room hW) hdg (hF.room Y)) Y hF.1 rfl rfl kn kx
theorem a_callSN {host : String} (As : List Value) (X : aX own p l s m args meth c cc nL x σ0) (Y : aY x σ0 s σ H locs kc ks) (hM : aMet l y (ws_ y bytes maxL ret) fr lo x As σ o σ1) (hF : aFit R σ0 σ σ1 σf fr lo maxL)
    (h1 : (own, idx, y, host) ∈ aNM) (h2 : Cond.static y ∈ lw_all) (h4 : Cond.initialized y.cls ∈ lw_all) (h5 : Cond.code y bytes maxL ret ∈ lw_all)
    (hd : y.cls ≠ "java/lang/invoke/MethodHandle" ∧ y.cls ≠ "java/lang/invoke/VarHandle" ∧ (parseMethodDescriptor y.desc).map (fun d => d.parameters.length) = some n)
    (hn : As.length = n) (hls : ls.size = nL) (hW : (rest.map fun v => v.category).sum ≤ 8) (hdg : decode cc pc = .ok (.invokestatic idx, 3))
    (kn : aKn p l e R s m args below meth c Q x σ0 σ1 o (pc + 3) ls rest) (kx : aKx p l e R s m args below meth c Q x σ0 σ1 o pc ls rest) : W p l e R s m args below meth c H locs kc ks Q (F0 m pc ls (As.reverse ++ rest)) := by
  have hx := X
  obtain ⟨he, hb, hml, hown, hts, hK, -⟩ := X
  refine a_after (vx_runSN (host := host) (As := As) (rest := rest) (g := F0 m pc ls (As.reverse ++ rest)) ⟨he, hb, hml, hown, hts⟩ (hF.met hM) ⟨va_cnB n hts (lw_meth h5) rfl rfl rfl (hK.2.2.1 _ h1) (hts _ h4) hd ⟨hF.2.2.2.2.1, hF.2.2.2.2.2⟩, hts _ h2, trivial⟩ ⟨a_blind, a_pre hx Y⟩ rfl hn hls rfl (lv_room hW) hdg (hF.room Y)) Y hF.1 rfl rfl kn kx
/-- a constructor -/
theorem a_callI (As : List Value) (X : aX own p l s m args meth c cc nL x σ0) (Y : aY x σ0 s σ H locs kc ks) (hM : aMet l y (ws_ y bytes maxL none) fr lo x (.ref a :: As) σ o σ1) (hF : aFit R σ0 σ σ1 σf fr lo maxL)
    (h1 : Cond.methodLink own idx y ∈ lw_all) (h2 : Cond.instanceMethod y ∈ lw_all) (h4 : Cond.initialized y.cls ∈ lw_all) (h5 : Cond.code y bytes maxL none ∈ lw_all) (hy : y.name = "<init>")
    (hd : y.cls ≠ "java/lang/invoke/MethodHandle" ∧ y.cls ≠ "java/lang/invoke/VarHandle" ∧ (parseMethodDescriptor y.desc).map (fun d => d.parameters.length) = some n)
    (hn : As.length = n) (hls : ls.size = nL) (hW : (rest.map fun v => v.category).sum ≤ 8) (hdg : decode cc pc = .ok (.invokespecial idx, 3))
    (kn : aKn p l e R s m args below meth c Q x σ0 σ1 o (pc + 3) ls rest) (kx : aKx p l e R s m args below meth c Q x σ0 σ1 o pc ls rest) : W p l e R s m args below meth c H locs kc ks Q (F0 m pc ls (As.reverse ++ .ref a :: rest)) := by
  have hx := X
  obtain ⟨he, hb, hml, hown, hts, hK, -⟩ := X
  refine a_after (vx_runI (b := a) (As := As) (rest := rest) (g := F0 m pc ls (As.reverse ++ .ref a :: rest)) ⟨he, hb, hml, hown, hts⟩ (hF.met hM) (cwI n hts (lw_meth h5) rfl rfl rfl (hts _ h4) (hts _ h1) (hts _ h2) hy hd ⟨hF.2.2.2.2.1, hF.2.2.2.2.2⟩) ⟨a_blind, a_pre hx Y⟩ rfl hn hls rfl (lv_room hW) hdg (hF.room Y)) Y hF.1 rfl rfl kn kx
theorem a_callIN {host : String} (As : List Value) (X : aX own p l s m args meth c cc nL x σ0) (Y : aY x σ0 s σ H locs kc ks) (hM : aMet l y (ws_ y bytes maxL none) fr lo x (.ref a :: As) σ o σ1) (hF : aFit R σ0 σ σ1 σf fr lo maxL)
    (h1 : (own, idx, y, host) ∈ aNM) (h2 : Cond.instanceMethod y ∈ lw_all) (h4 : Cond.initialized y.cls ∈ lw_all) (h5 : Cond.code y bytes maxL none ∈ lw_all) (hy : y.name = "<init>")
    (hd : y.cls ≠ "java/lang/invoke/MethodHandle" ∧ y.cls ≠ "java/lang/invoke/VarHandle" ∧ (parseMethodDescriptor y.desc).map (fun d => d.parameters.length) = some n)
    (hn : As.length = n) (hls : ls.size = nL) (hW : (rest.map fun v => v.category).sum ≤ 8) (hdg : decode cc pc = .ok (.invokespecial idx, 3))
    (kn : aKn p l e R s m args below meth c Q x σ0 σ1 o (pc + 3) ls rest) (kx : aKx p l e R s m args below meth c Q x σ0 σ1 o pc ls rest) : W p l e R s m args below meth c H locs kc ks Q (F0 m pc ls (As.reverse ++ .ref a :: rest)) := by
  have hx := X
  obtain ⟨he, hb, hml, hown, hts, hK, -⟩ := X
  refine a_after (vx_runIN (host := host) (b := a) (As := As) (rest := rest) (g := F0 m pc ls (As.reverse ++ .ref a :: rest)) ⟨he, hb, hml, hown, hts⟩ (hF.met hM) ⟨va_cnB n hts (lw_meth h5) rfl rfl rfl (hK.2.2.1 _ h1) (hts _ h4) hd ⟨hF.2.2.2.2.1, hF.2.2.2.2.2⟩, hy, hts _ h2⟩ ⟨a_blind, a_pre hx Y⟩ rfl hn hls rfl (lv_room hW) hdg (hF.room Y)) Y hF.1 rfl rfl kn kx
end ACALL

/-! methods with handlers -/
/-- a callee that may throw, caught here -/
def xc {α β : Type} (z : Option (aS × (α ⊕ Nat))) (f : aS → α → Option β) (h : aS → Nat → Option β) : Option β := match z with
  | none => none
  | some (σ, .inl r) => f σ r
  | some (σ, .inr k) => h σ k
theorem e_xc {α β : Type} {z : Option (aS × (α ⊕ Nat))} {f : aS → α → Option β} {h : aS → Nat → Option β} {q : β} (e : xc z f h = some q) : (∃ σ r, z = some (σ, .inl r) ∧ f σ r = some q) ∨ (∃ σ k, z = some (σ, .inr k) ∧ h σ k = some q) := by
  unfold xc at e
  split at e
  · cases e
  · rename_i σ r
    exact Or.inl ⟨σ, r, rfl, e⟩
  · rename_i σ k
    exact Or.inr ⟨σ, k, rfl, e⟩
theorem mo_xc {α β : Type} {σ : aS} {z : Option (aS × (α ⊕ Nat))} {f : aS → α → Option (aS × β)} {h : aS → Nat → Option (aS × β)} (hz : Mo σ z) (hf : ∀ τ r, Mo τ (f τ r)) (hh : ∀ τ k, Mo τ (h τ k)) : Mo σ (xc z f h) := by
  intro q e
  rcases e_xc e with ⟨τ, r, g, e⟩ | ⟨τ, k, g, e⟩
  · exact (hz _ g).tr (hf τ r q e)
  · exact (hz _ g).tr (hh τ k q e)
theorem ho_of {c : Code} {L : List ExceptionTableEntry} {pc : Nat} (h : c.exceptionTable.toList = L) (d : L.all (fun z => !covers z pc) = true) : ∀ z ∈ c.exceptionTable.toList, covers z pc = false := by
  intro z hz
  rw [h] at hz
  have h9 : (!covers z pc) = true := List.all_eq_true.mp d z hz
  cases hc : covers z pc with
  | false => rfl
  | true => rw [hc] at h9; cases h9
theorem a_ofWH {l : Launch} {y : MethodName} {cc : ByteArray} {nL : Nat} {ret : Option FieldType} {hh : List (Nat × Nat × Nat × Nat)} {fr lo : Nat} {x : aP} {As : List Value} {σ σ' : aS} {o : aO} {own : String} (hl : l.stackTraces = false) (hy : plainName y.cls = true) (hyc : y.cls = own) (hn : (lg_sl As).length ≤ nL)
    (body : ∀ (mc ms : Nat) (p : Program) (e : Env) (s : State) (m : MethodId) (below : List Frame) (meth : Method) (c : Code) (ls : Array Slot) (H : Heap) (locs : List Loc) (kc ks : Nat), mc + σ.1 = σ'.1 → ms + σ.2.1 = σ'.2.1 → aX own p l s m As.toArray meth c cc nL x σ → c.exceptionTable.toList = tableOf hh → aY x σ s σ H locs kc ks → meth.sig.returnType = ret → (y.name = meth.name) → lv_has ls nL (lv_args 0 As) → aG l fr lo mc ms x As σ o σ' p e s m below meth c H locs kc ks (F0 m 0 ls [])) :
    aMet l y (wsW_ y cc nL ret hh) fr lo x As σ o σ' := by
  intro mc ms h1 h2
  refine vx_ofWH (cc := cc) (maxL := nL) (ret := ret) (hh := hh) hy rfl ?_
  intro p e s m args below meth c s₁ B hml hv
  obtain ⟨rfl, hP, hK, hZ⟩ := hv
  have hts := atoms_spec (ws := wsW_ y cc nL ret hh) B.pre
  have htab := vx_table (x := y) B (hts _ List.mem_cons_self)
  have hts : ∀ w ∈ lw_all, w.before _ s = true := fun w h => hts w (List.mem_cons_of_mem _ h)
  have hown : s.vm.findClass own = some m.cls := by rw [← hyc]; exact findClass_of_methodNamed B.named
  have hlv := lv_entry As (n := nL) hn
  rw [lg_entry_eq]
  exact body mc ms p e s m below meth c _ s.heap [] 0 0 h1 h2 ⟨B.exec, B.bytes, hml, hown, hts, hK, hZ, B.notSynchronized, hl⟩ htab ⟨hP, va_S.rf, fun q h => h, by omega, by omega⟩ B.returns (name_of_methodNamed B.named B.method).1.symm hlv
section AHAND
variable {own : String} {p : Program} {l : Launch} {e : Env} {R : Room} {s : State} {m : MethodId} {args : Array Value} {below : List Frame} {meth : Method} {c : Code} {H : Heap} {locs : List Loc} {kc ks : Nat} {Q : State → Prop}
variable {cc : ByteArray} {nL : Nat} {x : aP} {σ0 σ σ1 σf : aS} {pc : Nat} {ls : Array Slot} {rest : List Value} {idx : Nat} {a : Nat} {o : aO} {As : List Value}
variable {y : MethodName} {bytes : ByteArray} {maxL n fr lo : Nat} {ret : Option FieldType} {hh : List (Nat × Nat × Nat × Nat)}
theorem a_catch {E : String} {ce : Cell} {q : Addr} (X : aX own p l s m args meth c cc nL x σ0) (pre : List ExceptionTableEntry) (z : ExceptionTableEntry) (suf : List ExceptionTableEntry) (htab : c.exceptionTable.toList = pre ++ z :: suf)
    (hpass : ∀ y ∈ pre, y.catchType ≠ 0 ∧ ∃ nm : String, Cond.classLink own y.catchType nm ∈ lw_all ∧ (E, nm) ∈ aNC) (hx : covers z pc = true) (h0 : z.catchType ≠ 0) (hlink : Cond.classLink own z.catchType E ∈ lw_all) (hE : E ∈ aXN) (hcell : H[q]? = some ce) (hv : ce.vm = .none) (hcl : s.vm.findClass E = some ce.cls)
    (kk : W p l e R s m args below meth c H locs kc ks Q (F0 m z.handlerPc ls [.ref q])) : vx_W p l e R s m args below meth c H locs kc ks Q (F0 m pc ls rest) q :=
  vx_catch X.2.2.2.1 pre z suf htab (fun y hy => by
    obtain ⟨g1, nm, g2, g3⟩ := hpass y hy
    exact Or.inr ⟨g1, nm, X.2.2.2.2.1 _ g2, X.2.2.2.2.2.1.2.2.2.2.2.2.1 _ g3⟩) hx h0 (X.2.2.2.2.1 _ hlink) (va_Nw.use rfl (X.2.2.2.2.2.1.2.2.2.1 _ hE)) hcell hv hcl kk
theorem a_callVX {C : String} (As : List Value) (X : aX own p l s m args meth c cc nL x σ0) (Y : aY x σ0 s σ H locs kc ks) (hM : aMet l y (wsW_ y bytes maxL ret hh) fr lo x (.ref a :: As) σ o σ1) (hF : aFit R σ0 σ σ1 σf fr lo maxL)
    (h1 : Cond.methodLink own idx y ∈ lw_all) (h2 : Cond.instanceMethod y ∈ lw_all) (h3 : Cond.selects C y y ∈ lw_all) (h4 : Cond.initialized C ∈ lw_all) (h5 : Cond.codeWith y bytes maxL ret hh ∈ lw_all)
    (hd : y.cls = C ∧ y.cls ≠ "java/lang/invoke/MethodHandle" ∧ y.cls ≠ "java/lang/invoke/VarHandle" ∧ (parseMethodDescriptor y.desc).map (fun d => d.parameters.length) = some n)
    (hv : ∃ cell : Cell, H[a]? = some cell ∧ cell.vm.isStatics = false ∧ s.vm.findClass C = some cell.cls) (hn : As.length = n) (hls : ls.size = nL) (hW : (rest.map fun v => v.category).sum ≤ 8) (hdg : decode cc pc = .ok (.invokevirtual idx, 3))
    (kn : aKn p l e R s m args below meth c Q x σ0 σ1 o (pc + 3) ls rest) (kx : aKx p l e R s m args below meth c Q x σ0 σ1 o pc ls rest) : W p l e R s m args below meth c H locs kc ks Q (F0 m pc ls (As.reverse ++ .ref a :: rest)) := by
  have hx := X
  obtain ⟨he, hb, hml, hown, hts, hK, -⟩ := X
  refine a_after (vx_runVX (C := C) (b := a) (As := As) (rest := rest) (g := F0 m pc ls (As.reverse ++ .ref a :: rest)) ⟨he, hb, hml, hown, hts⟩ (hF.met hM) (vx_cwVW n hts (lw_VW h1 h2 h3 h4 h5) rfl rfl rfl hd ⟨hF.2.2.2.2.1, hF.2.2.2.2.2⟩) ⟨a_blind, hv, a_pre hx Y⟩ rfl hn hls rfl (lv_room hW) hdg (hF.room Y)) Y hF.1 rfl rfl kn kx
theorem a_callSX (As : List Value) (X : aX own p l s m args meth c cc nL x σ0) (Y : aY x σ0 s σ H locs kc ks) (hM : aMet l y (wsW_ y bytes maxL ret hh) fr lo x As σ o σ1) (hF : aFit R σ0 σ σ1 σf fr lo maxL)
    (h1 : Cond.methodLink own idx y ∈ lw_all) (h2 : Cond.static y ∈ lw_all) (h4 : Cond.initialized y.cls ∈ lw_all) (h5 : Cond.codeWith y bytes maxL ret hh ∈ lw_all)
    (hd : y.cls ≠ "java/lang/invoke/MethodHandle" ∧ y.cls ≠ "java/lang/invoke/VarHandle" ∧ (parseMethodDescriptor y.desc).map (fun d => d.parameters.length) = some n)
    (hn : As.length = n) (hls : ls.size = nL) (hW : (rest.map fun v => v.category).sum ≤ 8) (hdg : decode cc pc = .ok (.invokestatic idx, 3))
    (kn : aKn p l e R s m args below meth c Q x σ0 σ1 o (pc + 3) ls rest) (kx : aKx p l e R s m args below meth c Q x σ0 σ1 o pc ls rest) : W p l e R s m args below meth c H locs kc ks Q (F0 m pc ls (As.reverse ++ rest)) := by
  have hx := X
  obtain ⟨he, hb, hml, hown, hts, hK, -⟩ := X
  refine a_after (vx_runSX (As := As) (rest := rest) (g := F0 m pc ls (As.reverse ++ rest)) ⟨he, hb, hml, hown, hts⟩ (hF.met hM) (vx_cwSW n hts (lw_SW h1 h2 h4 h5) rfl rfl rfl hd ⟨hF.2.2.2.2.1, hF.2.2.2.2.2⟩) ⟨a_blind, a_pre hx Y⟩ rfl hn hls rfl (lv_room hW) hdg (hF.room Y)) Y hF.1 rfl rfl kn kx
end AHAND

/-! THE LAW: the machine's store beside the model's state -/
abbrev lb (x : aP) (h : Nat) (ad : Nat → Nat) : bP := (x.D, aCl, 1, (x.tc 0, x.tc 1, x.tc 2), h, ad)
def lB (x : aP) (h : Nat) (ad : Nat → Nat) (σ0 σ : aS) (st : bS) (H : Heap) : Prop := va_P x.D aCl (bcells (lb x h ad) st) H ∧ ∀ q, bAr (lb x h ad) q → ¬ aDom σ q ∧ aDom σ0 q
/-- the law's own start: nothing is held -/
abbrev l0 (s : State) : aS := (s.heap.size, 0, fun _ => none)
section LROWS
variable {own : String} {p : Program} {l : Launch} {e : Env} {R : Room} {s : State} {m : MethodId} {args : Array Value} {below : List Frame} {meth : Method} {c : Code} {H : Heap} {locs : List Loc} {kc ks : Nat} {Q : State → Prop}
variable {cc : ByteArray} {nL : Nat} {x : aP} {σ σ1 σf : aS} {pc : Nat} {ls : Array Slot} {rest st0 : List Value} {idx : Nat} {a h : Nat} {ad : Nat → Nat} {o : aO} {As : List Value} {st : bS}
variable {y : MethodName} {bytes : ByteArray} {maxL n fr lo : Nat} {ret : Option FieldType} {hh : List (Nat × Nat × Nat × Nat)}
theorem l_after {v : Option Value} {mc ms : Nat} {a' : Array Value} (hr : vx_Run p l e R s m args below meth c H locs kc ks mc ms (F0 m pc ls st0) rest (aQn x σ (.inl v) σ1 a') (aQx x σ (.inl v) σ1) (aDom σ)) (Y : aY x (l0 s) s σ H locs kc ks) (B : lB x h ad (l0 s) σ st H) (hle : aLe σ σ1) (em : mc = σ1.1 - σ.1) (es : ms = σ1.2.1 - σ.2.1)
    (kn : ∀ (H1 : Heap) (locs1 : List Loc) (kc1 ks1 : Nat), aY x (l0 s) s σ1 H1 locs1 kc1 ks1 → lB x h ad (l0 s) σ1 st H1 → W p l e R s m args below meth c H1 locs1 kc1 ks1 Q (F0 m (pc + 3) ls (v.toList ++ rest))) :
    W p l e R s m args below meth c H locs kc ks Q (F0 m pc ls st0) := by
  intro T hT Z
  rcases hr T hT Z with ⟨v1, s1, t, T', L, h0, X', hL, e1, e2, ⟨v9, ho, hv, hw, hd, hF⟩, stp⟩ | ⟨q, s1, t, T', L, E, ce, h0, X', hL, e1, e2, ⟨k, ho, hE, hw, hd, hF⟩, hce, hcv, hcl, stp⟩
  · cases hv
    cases ho
    have hB : lB x h ad (l0 s) σ1 st T'.heap := by
      refine ⟨B.1.kept (fun k q hk => ?_), fun q hq => ⟨fun z => (B.2 q hq).1 (hd q z), (B.2 q hq).2⟩⟩
      have hlt := (B.1 k q hk).lt
      have hA : bAr (lb x h ad) q.1 := by
        match k, hk with
        | 0, hk => cases hk; exact Or.inl rfl
        | k + 1, hk =>
          have hk : (bArrs.map (fun k => ((lb x h ad).ad k, bE (lb x h ad) st k)))[k]? = some q := hk
          obtain ⟨z, hz, rfl⟩ := List.mem_map.mp (List.mem_of_getElem? hk)
          exact Or.inr ⟨z, hz, rfl⟩
      rw [e1]
      have := hF.2 q.1 (by rw [h0]; exact hlt) (B.2 _ hA).1
      rw [h0] at this
      exact this
    obtain ⟨t2, a1, b1⟩ := kn T'.heap (locs ++ L) _ _ (a_back Y hle em es h0 hL e1 hw hd hF) hB T' rfl X'
    exact ⟨t2, stp t2 a1, b1⟩
  · cases ho
/-- a static helper of the law -/
theorem l_callSX {v : Option Value} (As : List Value) (X : aX own p l s m args meth c cc nL x (l0 s)) (Y : aY x (l0 s) s σ H locs kc ks) (B : lB x h ad (l0 s) σ st H) (hM : aMet l y (wsW_ y bytes maxL ret hh) fr lo x As σ (.inl v) σ1) (hF : aFit R (l0 s) σ σ1 σf fr lo maxL)
    (h1 : Cond.methodLink own idx y ∈ lw_all) (h2 : Cond.static y ∈ lw_all) (h4 : Cond.initialized y.cls ∈ lw_all) (h5 : Cond.codeWith y bytes maxL ret hh ∈ lw_all)
    (hd : y.cls ≠ "java/lang/invoke/MethodHandle" ∧ y.cls ≠ "java/lang/invoke/VarHandle" ∧ (parseMethodDescriptor y.desc).map (fun d => d.parameters.length) = some n)
    (hn : As.length = n) (hls : ls.size = nL) (hW : (rest.map fun v => v.category).sum ≤ 8) (hdg : decode cc pc = .ok (.invokestatic idx, 3))
    (kn : ∀ (H1 : Heap) (locs1 : List Loc) (kc1 ks1 : Nat), aY x (l0 s) s σ1 H1 locs1 kc1 ks1 → lB x h ad (l0 s) σ1 st H1 → W p l e R s m args below meth c H1 locs1 kc1 ks1 Q (F0 m (pc + 3) ls (v.toList ++ rest))) : W p l e R s m args below meth c H locs kc ks Q (F0 m pc ls (As.reverse ++ rest)) := by
  have hx := X
  obtain ⟨he, hb, hml, hown, hts, hK, -⟩ := X
  exact l_after (vx_runSX (As := As) (rest := rest) (g := F0 m pc ls (As.reverse ++ rest)) ⟨he, hb, hml, hown, hts⟩ (hF.met hM) (vx_cwSW n hts (lw_SW h1 h2 h4 h5) rfl rfl rfl hd ⟨hF.2.2.2.2.1, hF.2.2.2.2.2⟩) ⟨a_blind, a_pre hx Y⟩ rfl hn hls rfl (lv_room hW) hdg (hF.room Y)) Y B hF.1 rfl rfl kn
/-- a method of the machine, called by the law -/
theorem l_callV {v : Option Value} {C : String} (As : List Value) (X : aX own p l s m args meth c cc nL x (l0 s)) (Y : aY x (l0 s) s σ H locs kc ks) (B : lB x h ad (l0 s) σ st H) (hM : aMet l y (ws_ y bytes maxL ret) fr lo x (.ref a :: As) σ (.inl v) σ1) (hF : aFit R (l0 s) σ σ1 σf fr lo maxL)
    (h1 : Cond.methodLink own idx y ∈ lw_all) (h2 : Cond.instanceMethod y ∈ lw_all) (h3 : Cond.selects C y y ∈ lw_all) (h4 : Cond.initialized C ∈ lw_all) (h5 : Cond.code y bytes maxL ret ∈ lw_all)
    (hd : y.cls = C ∧ y.cls ≠ "java/lang/invoke/MethodHandle" ∧ y.cls ≠ "java/lang/invoke/VarHandle" ∧ (parseMethodDescriptor y.desc).map (fun d => d.parameters.length) = some n)
    (hv : ∃ cell : Cell, H[a]? = some cell ∧ cell.vm.isStatics = false ∧ s.vm.findClass C = some cell.cls) (hn : As.length = n) (hls : ls.size = nL) (hW : (rest.map fun v => v.category).sum ≤ 8) (hdg : decode cc pc = .ok (.invokevirtual idx, 3))
    (kn : ∀ (H1 : Heap) (locs1 : List Loc) (kc1 ks1 : Nat), aY x (l0 s) s σ1 H1 locs1 kc1 ks1 → lB x h ad (l0 s) σ1 st H1 → W p l e R s m args below meth c H1 locs1 kc1 ks1 Q (F0 m (pc + 3) ls (v.toList ++ rest))) : W p l e R s m args below meth c H locs kc ks Q (F0 m pc ls (As.reverse ++ .ref a :: rest)) := by
  have hx := X
  obtain ⟨he, hb, hml, hown, hts, hK, -⟩ := X
  exact l_after (vx_runV (C := C) (b := a) (As := As) (rest := rest) (g := F0 m pc ls (As.reverse ++ .ref a :: rest)) ⟨he, hb, hml, hown, hts⟩ (hF.met hM) (cwV n hts (lw_V h1 h2 h3 h4 h5) rfl rfl rfl hd ⟨hF.2.2.2.2.1, hF.2.2.2.2.2⟩) ⟨a_blind, hv, a_pre hx Y⟩ rfl hn hls rfl (lv_room hW) hdg (hF.room Y)) Y B hF.1 rfl rfl kn
/-- a method of the model, called by the law -/
theorem l_callB {v : Option Value} {st' : bS} (As : List Value) (X : aX own p l s m args meth c cc nL x (l0 s)) (Y : aY x (l0 s) s σ H locs kc ks) (B : lB x h ad (l0 s) σ st H) (ok : bOk (lb x h ad)) (hM : bMet l y bytes maxL ret fr lo (lb x h ad) As st v st')
    (h1 : Cond.methodLink own idx y ∈ lw_all) (h2 : Cond.instanceMethod y ∈ lw_all) (h3 : Cond.selects RX2 y y ∈ lw_all) (h5 : Cond.code y bytes maxL ret ∈ lw_all)
    (hd : y.cls = RX2 ∧ y.cls ≠ "java/lang/invoke/MethodHandle" ∧ y.cls ≠ "java/lang/invoke/VarHandle" ∧ (parseMethodDescriptor y.desc).map (fun d => d.parameters.length) = some n) (hR : fr + 1 ≤ R.frames ∧ 8 + (maxL + 11) + lo ≤ R.locals)
    (hn : As.length = n) (hls : ls.size = nL) (hW : (rest.map fun v => v.category).sum ≤ 8) (hdg : decode cc pc = .ok (.invokevirtual idx, 3)) (hf : kc ≤ R.cells ∧ ks ≤ R.slots)
    (kn : ∀ (H1 : Heap) (locs1 : List Loc), aY x (l0 s) s σ H1 locs1 kc ks → lB x h ad (l0 s) σ st' H1 → W p l e R s m args below meth c H1 locs1 kc ks Q (F0 m (pc + 3) ls (v.toList ++ rest))) : W p l e R s m args below meth c H locs kc ks Q (F0 m pc ls (As.reverse ++ .ref h :: rest)) := by
  obtain ⟨hx, hb, hml, hown, hts, hK, -⟩ := X
  have hKb : va_K x.D aCl (btys (lb x h ad)) s := hK.1.sub [0, 1, 2] rfl
  have hr := va_runV (p := p) (e := e) (R := R) (below := below) (meth := meth) (locs := locs) (cells := kc) (slots := ks) (C := RX2) (As := As) (rest := rest) (b := h) (g := F0 m pc ls (As.reverse ++ .ref h :: rest)) ⟨hx, hb, hml, hown, hts⟩ hM
    (cwV n hts (lw_V h1 h2 h3 q123 h5) rfl rfl rfl hd hR)
    ⟨fun a U g mk q => by obtain ⟨q0, qP, qK⟩ := q; exact ⟨q0, qP, va_K.moved (u := U) (U := U.calling g mk a) (Vm.Alike.refl U.vm) qK⟩, va_recv hKb B.1 ok.1 (bcells_0 (lb x h ad) st), fun U hU hW => ⟨rfl, by rw [hU]; exact B.1, va_K.moved hW.alike hKb⟩⟩ rfl hn hls rfl (lv_room hW) hdg ⟨by simpa using hf.1, by simpa using hf.2⟩
  intro T hT Z
  obtain ⟨v', st₀, t, T', L, h0, X', hL, e1, e2, ⟨hv, hB, hz, hk⟩, stp⟩ := hr T hT Z
  cases hv
  rw [h0] at hz hk
  have y4 : kc + s.heap.size = σ.1 := Y.2.2.2.1
  have hsz : T'.heap.size = H.size := by
    have g1 := X'.heapSize
    have g2 : H.size ≤ T'.heap.size := by rw [e1]; exact hz
    have g3 := Y.1.1
    omega
  have hY : aY x (l0 s) s σ T'.heap (locs ++ L) kc ks := by
    refine ⟨⟨hsz.trans Y.1.1, fun q f hq => (Y.1.2 q f hq).kept ?_⟩, ⟨Nat.le_trans Y.2.1.1 (by rw [hsz]; exact Nat.le_refl _), fun q g1 g2 => ?_, fun q hq => ?_⟩, Y.2.2⟩
    · rw [e1]
      exact hk q (Y.1.2 q f hq).lt (fun z => (B.2 q z).1 (Or.inl (by rw [hq]; rfl)))
    · rw [e1, hk q (Nat.lt_of_lt_of_le g1 Y.2.1.1) (fun z => g2 (B.2 q z).2)]
      exact Y.2.1.2.1 q g1 g2
    · rcases List.mem_append.mp hq with g | g
      · exact Y.2.1.2.2 q g
      · exact (B.2 _ (hL q g)).2
  obtain ⟨t2, a1, b1⟩ := kn T'.heap (locs ++ L) hY ⟨by rw [e1]; exact hB.1, B.2⟩ T' rfl X'
  exact ⟨t2, stp t2 a1, b1⟩
end LROWS

/-! rows that name what they find -/
def ptI (st : bS) (k : Nat) (v : Int32) : Option bS := some (sI st k v)
def nm {α : Type} (x : α) : Option α := some x
section BNAMED
variable {p : Program} {l : Launch} {e : Env} {R : Room} {s : State} {m : MethodId} {args : Array Value} {below : List Frame} {meth : Method} {c : Code} {H : Heap} {locs : List Loc} {cells slots : Nat} {Q : State → Prop}
variable {cc : ByteArray} {nL : Nat} {b : bP} {st : bS} {pc : Nat} {ls : Array Slot} {rest : List Value} {idx : Nat}
theorem n_put (X : bX p s m args c cc nL b) (Y : bY b s st H locs) (k : Nat) (hk : bK k = 0) (hk2 : k < 45) {v : Int32} {st1 : bS} (g : ptI st k v = some st1) (hf : (TX2 k).2.2.2 = false) (hn : narrow (tyX2 k) (.int v) = .int v) (hfit : fits (tyX2 k) (.int v) = true) (hl : Cond.fieldLink RX2 idx RX2 (TX2 k).2.1 (TX2 k).2.2.1 ∈ lw_all) (hdg : decode cc pc = .ok (.putfield idx, 3))
    (kk : ∀ (H1 : Heap) (locs1 : List Loc), bY b s st1 H1 locs1 → W p l e R s m args below meth c H1 locs1 cells slots Q (F0 m (pc + 3) ls rest)) : W p l e R s m args below meth c H locs cells slots Q (F0 m pc ls (.int v :: .ref b.h :: rest)) := by
  cases g
  exact b_puti X Y k hk hk2 hf hn hfit hl hdg kk
theorem n_iald (X : bX p s m args c cc nL b) (Y : bY b s st H locs) (j k : Nat) (hj : bArrs[j]? = some k) (hk : bK k = 2) {i v : Int32} (g : ldA st k i = some v) (hdg : decode cc pc = .ok (.iaload, 1))
    (kk : W p l e R s m args below meth c H locs cells slots Q (F0 m (pc + 1) ls (.int v :: rest))) : W p l e R s m args below meth c H locs cells slots Q (F0 m pc ls (.int i :: .ref (b.ad k) :: rest)) := by
  obtain ⟨g1, rfl⟩ := e_ldA g
  exact b_iald X Y j k hj hk g1 hdg kk
theorem n_cald (X : bX p s m args c cc nL b) (Y : bY b s st H locs) (j k : Nat) (hj : bArrs[j]? = some k) (hk : bK k = 1) {i v : Int32} (g : ldA st k i = some v) (hdg : decode cc pc = .ok (.caload, 1))
    (kk : W p l e R s m args below meth c H locs cells slots Q (F0 m (pc + 1) ls (.int v :: rest))) : W p l e R s m args below meth c H locs cells slots Q (F0 m pc ls (.int i :: .ref (b.ad k) :: rest)) := by
  obtain ⟨g1, rfl⟩ := e_ldA g
  exact b_cald X Y j k hj hk g1 hdg kk
theorem n_dald (X : bX p s m args c cc nL b) (Y : bY b s st H locs) (j k : Nat) (hj : bArrs[j]? = some k) (hk : bK k = 3) {i : Int32} {v : UInt64} (g : ldD st k i = some v) (hdg : decode cc pc = .ok (.daload, 1))
    (kk : W p l e R s m args below meth c H locs cells slots Q (F0 m (pc + 1) ls (.double v :: rest))) : W p l e R s m args below meth c H locs cells slots Q (F0 m pc ls (.int i :: .ref (b.ad k) :: rest)) := by
  obtain ⟨g1, rfl⟩ := e_ldD g
  exact b_dald X Y j k hj hk g1 hdg kk
theorem n_iast (X : bX p s m args c cc nL b) (Y : bY b s st H locs) (j k : Nat) (hj : bArrs[j]? = some k) (hk : bK k = 2) {i x : Int32} {st1 : bS} (g : stA st k i x = some st1) (hdg : decode cc pc = .ok (.iastore, 1))
    (kk : ∀ (H1 : Heap) (locs1 : List Loc), bY b s st1 H1 locs1 → W p l e R s m args below meth c H1 locs1 cells slots Q (F0 m (pc + 1) ls rest)) : W p l e R s m args below meth c H locs cells slots Q (F0 m pc ls (.int x :: .int i :: .ref (b.ad k) :: rest)) := by
  obtain ⟨g1, rfl⟩ := e_stA g
  exact b_iast X Y j k hj hk g1 hdg kk
theorem n_cast (X : bX p s m args c cc nL b) (Y : bY b s st H locs) (j k : Nat) (hj : bArrs[j]? = some k) (hk : bK k = 1) {i x : Int32} {st1 : bS} (g : stC st k i x = some st1) (hdg : decode cc pc = .ok (.castore, 1))
    (kk : ∀ (H1 : Heap) (locs1 : List Loc), bY b s st1 H1 locs1 → W p l e R s m args below meth c H1 locs1 cells slots Q (F0 m (pc + 1) ls rest)) : W p l e R s m args below meth c H locs cells slots Q (F0 m pc ls (.int x :: .int i :: .ref (b.ad k) :: rest)) := by
  obtain ⟨g1, rfl⟩ := e_stC g
  exact b_cast X Y j k hj hk g1 hdg kk
theorem n_dast (X : bX p s m args c cc nL b) (Y : bY b s st H locs) (j k : Nat) (hj : bArrs[j]? = some k) (hk : bK k = 3) {i : Int32} {x : UInt64} {st1 : bS} (g : stD st k i x = some st1) (hdg : decode cc pc = .ok (.dastore, 1))
    (kk : ∀ (H1 : Heap) (locs1 : List Loc), bY b s st1 H1 locs1 → W p l e R s m args below meth c H1 locs1 cells slots Q (F0 m (pc + 1) ls rest)) : W p l e R s m args below meth c H locs cells slots Q (F0 m pc ls (.double x :: .int i :: .ref (b.ad k) :: rest)) := by
  obtain ⟨g1, rfl⟩ := e_stD g
  exact b_dast X Y j k hj hk g1 hdg kk
theorem n_dadd (hexec : p.tables.exec = Jvm.exec) (hb : c.code = cc) {x y v : UInt64} (g : nN (FP.dadd x y) = some v) (hdg : decode cc pc = .ok (.dadd, 1)) (k : W p l e R s m args below meth c H locs cells slots Q (F0 m (pc + 1) ls (.double v :: rest))) : W p l e R s m args below meth c H locs cells slots Q (F0 m pc ls (.double y :: .double x :: rest)) := by
  obtain ⟨g1, rfl⟩ := e_nN g
  exact lv_dadd hexec hb hdg g1 k
theorem n_dsub (hexec : p.tables.exec = Jvm.exec) (hb : c.code = cc) {x y v : UInt64} (g : nN (FP.dsub x y) = some v) (hdg : decode cc pc = .ok (.dsub, 1)) (k : W p l e R s m args below meth c H locs cells slots Q (F0 m (pc + 1) ls (.double v :: rest))) : W p l e R s m args below meth c H locs cells slots Q (F0 m pc ls (.double y :: .double x :: rest)) := by
  obtain ⟨g1, rfl⟩ := e_nN g
  exact lv_dsub hexec hb hdg g1 k
theorem n_dmul (hexec : p.tables.exec = Jvm.exec) (hb : c.code = cc) {x y v : UInt64} (g : nN (FP.dmul x y) = some v) (hdg : decode cc pc = .ok (.dmul, 1)) (k : W p l e R s m args below meth c H locs cells slots Q (F0 m (pc + 1) ls (.double v :: rest))) : W p l e R s m args below meth c H locs cells slots Q (F0 m pc ls (.double y :: .double x :: rest)) := by
  obtain ⟨g1, rfl⟩ := e_nN g
  exact lv_dmul hexec hb hdg g1 k
theorem n_ddiv (hexec : p.tables.exec = Jvm.exec) (hb : c.code = cc) {x y v : UInt64} (g : nN (FP.ddiv x y) = some v) (hdg : decode cc pc = .ok (.ddiv, 1)) (k : W p l e R s m args below meth c H locs cells slots Q (F0 m (pc + 1) ls (.double v :: rest))) : W p l e R s m args below meth c H locs cells slots Q (F0 m pc ls (.double y :: .double x :: rest)) := by
  obtain ⟨g1, rfl⟩ := e_nN g
  exact lv_ddiv hexec hb hdg g1 k
theorem n_topi {x v : Int32} (g : nm x = some v) (k : W p l e R s m args below meth c H locs cells slots Q (F0 m pc ls (.int v :: rest))) : W p l e R s m args below meth c H locs cells slots Q (F0 m pc ls (.int x :: rest)) := by cases g; exact k
theorem n_topl {x v : Int64} (g : nm x = some v) (k : W p l e R s m args below meth c H locs cells slots Q (F0 m pc ls (.long v :: rest))) : W p l e R s m args below meth c H locs cells slots Q (F0 m pc ls (.long x :: rest)) := by cases g; exact k
theorem n_topd {x v : UInt64} (g : nm x = some v) (k : W p l e R s m args below meth c H locs cells slots Q (F0 m pc ls (.double v :: rest))) : W p l e R s m args below meth c H locs cells slots Q (F0 m pc ls (.double x :: rest)) := by cases g; exact k
theorem n_call0 {y : MethodName} {bytes : ByteArray} {maxL n fr lo : Nat} {ret : Option FieldType} {st' : bS} (As : List Value) (X : bX p s m args c cc nL b) (Y : bY b s st H locs) (hM : bMet l y bytes maxL ret fr lo b As st none st')
    (h1 : Cond.methodLink RX2 idx y ∈ lw_all) (h2 : Cond.instanceMethod y ∈ lw_all) (h3 : Cond.selects RX2 y y ∈ lw_all) (h5 : Cond.code y bytes maxL ret ∈ lw_all)
    (hd : y.cls = RX2 ∧ y.cls ≠ "java/lang/invoke/MethodHandle" ∧ y.cls ≠ "java/lang/invoke/VarHandle" ∧ (parseMethodDescriptor y.desc).map (fun d => d.parameters.length) = some n) (hR : fr + 1 ≤ R.frames ∧ 8 + (maxL + 11) + lo ≤ R.locals)
    (hn : As.length = n) (hls : ls.size = nL) (hW : (rest.map fun v => v.category).sum ≤ 8) (hdg : decode cc pc = .ok (.invokevirtual idx, 3)) (hf : cells ≤ R.cells ∧ slots ≤ R.slots)
    (kk : ∀ (H1 : Heap) (locs1 : List Loc), bY b s st' H1 locs1 → W p l e R s m args below meth c H1 locs1 cells slots Q (F0 m (pc + 3) ls rest)) : W p l e R s m args below meth c H locs cells slots Q (F0 m pc ls (As.reverse ++ .ref b.h :: rest)) :=
  b_call As X Y hM h1 h2 h3 h5 hd hR hn hls hW hdg hf kk
theorem n_call1 {y : MethodName} {bytes : ByteArray} {maxL n fr lo : Nat} {ret : Option FieldType} {st' : bS} {v : Value} (As : List Value) (X : bX p s m args c cc nL b) (Y : bY b s st H locs) (hM : bMet l y bytes maxL ret fr lo b As st (some v) st')
    (h1 : Cond.methodLink RX2 idx y ∈ lw_all) (h2 : Cond.instanceMethod y ∈ lw_all) (h3 : Cond.selects RX2 y y ∈ lw_all) (h5 : Cond.code y bytes maxL ret ∈ lw_all)
    (hd : y.cls = RX2 ∧ y.cls ≠ "java/lang/invoke/MethodHandle" ∧ y.cls ≠ "java/lang/invoke/VarHandle" ∧ (parseMethodDescriptor y.desc).map (fun d => d.parameters.length) = some n) (hR : fr + 1 ≤ R.frames ∧ 8 + (maxL + 11) + lo ≤ R.locals)
    (hn : As.length = n) (hls : ls.size = nL) (hW : (rest.map fun v => v.category).sum ≤ 8) (hdg : decode cc pc = .ok (.invokevirtual idx, 3)) (hf : cells ≤ R.cells ∧ slots ≤ R.slots)
    (kk : ∀ (H1 : Heap) (locs1 : List Loc), bY b s st' H1 locs1 → W p l e R s m args below meth c H1 locs1 cells slots Q (F0 m (pc + 3) ls (v :: rest))) : W p l e R s m args below meth c H locs cells slots Q (F0 m pc ls (As.reverse ++ .ref b.h :: rest)) :=
  b_call As X Y hM h1 h2 h3 h5 hd hR hn hls hW hdg hf kk
end BNAMED
theorem nz0 : narrow .boolean (.int 0) = .int 0 := by first | rfl | decide +kernel
theorem nz1 : narrow .boolean (.int 1) = .int 1 := by first | rfl | decide +kernel
theorem fz0 : fits .boolean (.int 0) = true := by first | rfl | decide +kernel
theorem fz1 : fits .boolean (.int 1) = true := by first | rfl | decide +kernel

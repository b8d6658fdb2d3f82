/-! references that may be null; interface calls; the pure side's binds -/
section AREF
variable {own : String} {p : Program} {l : Launch} {e : Env} {R : Room} {s : State} {m : MethodId} {args : Array Value} {below : List Frame} {meth : Method} {c : Code} {H : Heap} {locs : List Loc} {kc ks : Nat} {Q : State → Prop}
variable {cc : ByteArray} {nL : Nat} {x : aP} {σ0 σ σ1 σf : aS} {pc : Nat} {ls : Array Slot} {rest st0 : List Value} {idx : Nat} {a : Nat} {o : aO} {As : List Value}
variable {y : MethodName} {bytes : ByteArray} {maxL n fr lo : Nat} {ret : Option FieldType}
theorem r_aload_n (hexec : p.tables.exec = Jvm.exec) (hb : c.code = cc) {k : Fin 4} {i : Nat} {r : Option Nat} (hdg : decode cc pc = .ok (.aload_n k, 1)) (hi : (k : Nat) = i) (hl : ls[i]? = some (.val (va_rf r))) (kk : W p l e R s m args below meth c H locs kc ks Q (F0 m (pc + 1) ls (va_rf r :: rest))) : W p l e R s m args below meth c H locs kc ks Q (F0 m pc ls rest) := by
  cases r with
  | none => exact lv_aload_nN hexec hb hdg hi hl kk
  | some q => exact lv_aload_n hexec hb hdg hi hl kk
theorem r_aload (hexec : p.tables.exec = Jvm.exec) (hb : c.code = cc) {i : Nat} {r : Option Nat} (hdg : decode cc pc = .ok (.aload i, 2)) (hl : ls[i]? = some (.val (va_rf r))) (kk : W p l e R s m args below meth c H locs kc ks Q (F0 m (pc + 2) ls (va_rf r :: rest))) : W p l e R s m args below meth c H locs kc ks Q (F0 m pc ls rest) := by
  cases r with
  | none => exact lv_aloadN hexec hb hdg hl kk
  | some q => exact lv_aload hexec hb hdg hl kk
theorem r_astore_n (hexec : p.tables.exec = Jvm.exec) (hb : c.code = cc) {k : Fin 4} {i nL : Nat} {r : Option Nat} {lv lv' : List (Nat × Value)} (hdg : decode cc pc = .ok (.astore_n k, 1)) (hi : (k : Nat) = i) (h : lv_has ls nL lv) (hn : i < nL) (hl : (i, va_rf r) :: lv.filter (fun q => !(q.1 == i) && !(q.1 + 1 == i && q.2.category == 2)) = lv') (kk : ∀ ls' : Array Slot, lv_has ls' nL lv' → W p l e R s m args below meth c H locs kc ks Q (F0 m (pc + 1) ls' rest)) : W p l e R s m args below meth c H locs kc ks Q (F0 m pc ls (va_rf r :: rest)) := by
  cases r with
  | none => exact lv_astore_nN hexec hb hdg hi h hn hl kk
  | some q => exact lv_astore_n hexec hb hdg hi h hn hl kk
theorem r_astore (hexec : p.tables.exec = Jvm.exec) (hb : c.code = cc) {i nL : Nat} {r : Option Nat} {lv lv' : List (Nat × Value)} (hdg : decode cc pc = .ok (.astore i, 2)) (h : lv_has ls nL lv) (hn : i < nL) (hl : (i, va_rf r) :: lv.filter (fun q => !(q.1 == i) && !(q.1 + 1 == i && q.2.category == 2)) = lv') (kk : ∀ ls' : Array Slot, lv_has ls' nL lv' → W p l e R s m args below meth c H locs kc ks Q (F0 m (pc + 2) ls' rest)) : W p l e R s m args below meth c H locs kc ks Q (F0 m pc ls (va_rf r :: rest)) := by
  cases r with
  | none => exact lv_astoreN hexec hb hdg h hn hl kk
  | some q => exact lv_astore hexec hb hdg h hn hl kk
theorem r_ifnull (hexec : p.tables.exec = Jvm.exec) (hb : c.code = cc) {r : Option Nat} {off : Int} {tgt : Nat} (hdg : decode cc pc = .ok (.ifnull off, 3)) (ht : (pc : Int) + off = (tgt : Int)) (kt : r = none → W p l e R s m args below meth c H locs kc ks Q (F0 m tgt ls rest)) (kf : ¬ r = none → W p l e R s m args below meth c H locs kc ks Q (F0 m (pc + 3) ls rest)) : W p l e R s m args below meth c H locs kc ks Q (F0 m pc ls (va_rf r :: rest)) := by
  cases r with
  | none => exact lv_ifnullN hexec hb hdg ht (kt rfl)
  | some q => exact lv_ifnull hexec hb hdg (kf (by simp))
theorem r_ifnonnull (hexec : p.tables.exec = Jvm.exec) (hb : c.code = cc) {r : Option Nat} {off : Int} {tgt : Nat} (hdg : decode cc pc = .ok (.ifnonnull off, 3)) (ht : (pc : Int) + off = (tgt : Int)) (kt : ¬ r = none → W p l e R s m args below meth c H locs kc ks Q (F0 m tgt ls rest)) (kf : r = none → W p l e R s m args below meth c H locs kc ks Q (F0 m (pc + 3) ls rest)) : W p l e R s m args below meth c H locs kc ks Q (F0 m pc ls (va_rf r :: rest)) := by
  cases r with
  | none => exact lv_ifnonnullN hexec hb hdg (kf rfl)
  | some q => exact lv_ifnonnull hexec hb hdg ht (kt (by simp))
theorem n_gI {ci : Nat} {C : String} {T : u_T} {N : Nat} {ty : Nat → FieldType} (X : aX own p l s m args meth c cc nL x σ0) (Y : aY x σ0 s σ H locs kc ks) (hC : aCls ci C T N ty) (k : Nat) {v : Int32} (g : gI σ a ci k = some v) (hk : k < N) (hl : Cond.fieldLink own idx C (T k).2.1 (T k).2.2.1 ∈ lw_all) (hdg : decode cc pc = .ok (.getfield idx, 3))
    (kk : W p l e R s m args below meth c H locs kc ks Q (F0 m (pc + 3) ls (.int v :: rest))) : W p l e R s m args below meth c H locs kc ks Q (F0 m pc ls (.ref a :: rest)) := by
  obtain ⟨fs, hM, hv⟩ := i_gI g
  exact a_getV X Y hC hM k hk hv hl hdg kk
theorem n_gD {ci : Nat} {C : String} {T : u_T} {N : Nat} {ty : Nat → FieldType} (X : aX own p l s m args meth c cc nL x σ0) (Y : aY x σ0 s σ H locs kc ks) (hC : aCls ci C T N ty) (k : Nat) {v : UInt64} (g : gD σ a ci k = some v) (hk : k < N) (hl : Cond.fieldLink own idx C (T k).2.1 (T k).2.2.1 ∈ lw_all) (hdg : decode cc pc = .ok (.getfield idx, 3))
    (kk : W p l e R s m args below meth c H locs kc ks Q (F0 m (pc + 3) ls (.double v :: rest))) : W p l e R s m args below meth c H locs kc ks Q (F0 m pc ls (.ref a :: rest)) := by
  obtain ⟨fs, hM, hv⟩ := i_gD g
  exact a_getV X Y hC hM k hk hv hl hdg kk
theorem n_gR {ci : Nat} {C : String} {T : u_T} {N : Nat} {ty : Nat → FieldType} (X : aX own p l s m args meth c cc nL x σ0) (Y : aY x σ0 s σ H locs kc ks) (hC : aCls ci C T N ty) (k : Nat) {v : Option Nat} (g : gR σ a ci k = some v) (hk : k < N) (hl : Cond.fieldLink own idx C (T k).2.1 (T k).2.2.1 ∈ lw_all) (hdg : decode cc pc = .ok (.getfield idx, 3))
    (kk : W p l e R s m args below meth c H locs kc ks Q (F0 m (pc + 3) ls (va_rf v :: rest))) : W p l e R s m args below meth c H locs kc ks Q (F0 m pc ls (.ref a :: rest)) := by
  obtain ⟨fs, hM, hv⟩ := i_gR g
  exact a_getV X Y hC hM k hk hv hl hdg kk
theorem n_gIN {ci : Nat} {C host : String} {T : u_T} {N : Nat} {ty : Nat → FieldType} (X : aX own p l s m args meth c cc nL x σ0) (Y : aY x σ0 s σ H locs kc ks) (hC : aCls ci C T N ty) (k : Nat) {v : Int32} (g : gI σ a ci k = some v) (hk : k < N) (hl : (own, idx, C, (T k).2.1, (T k).2.2.1, host) ∈ aNF) (hdg : decode cc pc = .ok (.getfield idx, 3))
    (kk : W p l e R s m args below meth c H locs kc ks Q (F0 m (pc + 3) ls (.int v :: rest))) : W p l e R s m args below meth c H locs kc ks Q (F0 m pc ls (.ref a :: rest)) := by
  obtain ⟨fs, hM, hv⟩ := i_gI g
  exact a_getNV X Y hC hM k hk hv hl hdg kk
theorem n_gRN {ci : Nat} {C host : String} {T : u_T} {N : Nat} {ty : Nat → FieldType} (X : aX own p l s m args meth c cc nL x σ0) (Y : aY x σ0 s σ H locs kc ks) (hC : aCls ci C T N ty) (k : Nat) {v : Option Nat} (g : gR σ a ci k = some v) (hk : k < N) (hl : (own, idx, C, (T k).2.1, (T k).2.2.1, host) ∈ aNF) (hdg : decode cc pc = .ok (.getfield idx, 3))
    (kk : W p l e R s m args below meth c H locs kc ks Q (F0 m (pc + 3) ls (va_rf v :: rest))) : W p l e R s m args below meth c H locs kc ks Q (F0 m pc ls (.ref a :: rest)) := by
  obtain ⟨fs, hM, hv⟩ := i_gR g
  exact a_getNV X Y hC hM k hk hv hl hdg kk
/-- invokeinterface -/
theorem a_callF {C : String} {w : MethodName} {cC : ClassId} {count : Nat} (As : List Value) (X : aX own p l s m args meth c cc nL x σ0) (Y : aY x σ0 s σ H locs kc ks) (hM : aMet l y (ws_ y bytes maxL ret) fr lo x (.ref a :: As) σ o σ1) (hF : aFit R σ0 σ σ1 σf fr lo maxL)
    (hat : ClassAt s C cC) (h1 : Cond.methodLink own idx w ∈ lw_all) (h3 : ∀ z ∈ va_wsF own idx C w y [], z ∈ lw_all) (h5 : Cond.code y bytes maxL ret ∈ lw_all) (h6 : (C, w, y) ∈ aFW)
    (hd : w.cls ≠ "java/lang/invoke/MethodHandle" ∧ w.cls ≠ "java/lang/invoke/VarHandle" ∧ (parseMethodDescriptor w.desc).map (fun d => d.parameters.length) = some n)
    (hv : ∃ cell : Cell, H[a]? = some cell ∧ cell.vm.isStatics = false ∧ s.vm.findClass C = some cell.cls) (hn : As.length = n) (hls : ls.size = nL) (hW : (rest.map fun v => v.category).sum ≤ 8) (hdg : decode cc pc = .ok (.invokeinterface idx count, 5))
    (kn : aKn p l e R s m args below meth c Q x σ0 σ1 o (pc + 5) ls rest) (kx : aKx p l e R s m args below meth c Q x σ0 σ1 o pc ls rest) : W p l e R s m args below meth c H locs kc ks Q (F0 m pc ls (As.reverse ++ .ref a :: rest)) := by
  have hx := X
  obtain ⟨he, hb, hml, hown, hts, hK, -⟩ := X
  refine a_after5 (vx_runF (x := w) (C := C) (b := a) (As := As) (rest := rest) (g := F0 m pc ls (As.reverse ++ .ref a :: rest)) hat ⟨he, hb, hml, hown, hts⟩ (hF.met hM) (va_cwF n hts (lw_app h3 (lw_meth h5)) rfl rfl rfl (hK.2.2.2.2.2.1 _ h6) hd ⟨hF.2.2.2.2.1, hF.2.2.2.2.2⟩) ⟨a_blind, hv, a_pre hx Y⟩ rfl hn hls rfl (lv_room hW) hdg (hF.room Y)) Y hF.1 rfl rfl kn kx
end AREF
/-- a callee that may throw: the rest goes on with its answer, its exception goes on by itself -/
def xb {α β : Type} (z : Option (aS × (α ⊕ Nat))) (f : aS → α → Option (aS × (β ⊕ Nat))) : Option (aS × (β ⊕ Nat)) := match z with
  | none => none
  | some (σ, .inl r) => f σ r
  | some (σ, .inr k) => some (σ, .inr k)
theorem e_xb {α β : Type} {z : Option (aS × (α ⊕ Nat))} {f : aS → α → Option (aS × (β ⊕ Nat))} {q : aS × (β ⊕ Nat)} (h : xb z f = some q) : (∃ σ r, z = some (σ, .inl r) ∧ f σ r = some q) ∨ (∃ σ k, z = some (σ, .inr k) ∧ q = (σ, .inr k)) := by
  unfold xb at h
  split at h
  · cases h
  · rename_i σ r
    exact Or.inl ⟨σ, r, rfl, h⟩
  · rename_i σ k
    cases h
    exact Or.inr ⟨σ, k, rfl, rfl⟩
def aTw {β : Type} (σ : aS) (k : Nat) : Option (aS × (β ⊕ Nat)) := some (aTh σ, .inr k)
/-! stores only grow -/
def Mo {α : Type} (σ : aS) (z : Option (aS × α)) : Prop := ∀ q, z = some q → aLe σ q.1
theorem mo_ret {α : Type} {σ : aS} {r : α} : Mo σ (some (σ, r)) := fun q h => by cases h; exact aLe.rf _
theorem mo_tw {β : Type} {σ : aS} {k : Nat} : Mo (α := β ⊕ Nat) σ (aTw σ k) := fun q h => by cases h; exact ⟨Nat.le_succ _, Nat.le_add_right _ _⟩
theorem mo_if {α : Type} {σ : aS} {c : Prop} {d : Decidable c} {a b : Option (aS × α)} (ha : Mo σ a) (hb : Mo σ b) : Mo σ (@ite _ c d a b) := by
  intro q h
  by_cases g : c
  · rw [if_pos g] at h; exact ha q h
  · rw [if_neg g] at h; exact hb q h
theorem mo_v {α β : Type} {σ : aS} {z : Option β} {f : β → Option (aS × α)} (h : ∀ v, Mo σ (f v)) : Mo σ (z.bind f) := by
  intro q e
  obtain ⟨v, -, e⟩ := e_bind e
  exact h v q e
theorem mo_s {α : Type} {σ : aS} {z : Option aS} {f : aS → Option (aS × α)} (hz : ∀ τ, z = some τ → aLe σ τ) (h : ∀ τ, Mo τ (f τ)) : Mo σ (z.bind f) := by
  intro q e
  obtain ⟨v, g, e⟩ := e_bind e
  exact (hz v g).tr (h v q e)
theorem mo_c {α β : Type} {σ : aS} {z : Option (aS × β)} {f : aS × β → Option (aS × α)} (hz : Mo σ z) (h : ∀ q, Mo q.1 (f q)) : Mo σ (z.bind f) := by
  intro q e
  obtain ⟨v, g, e⟩ := e_bind e
  exact (hz v g).tr (h v q e)
theorem mo_x {α β : Type} {σ : aS} {z : Option (aS × (α ⊕ Nat))} {f : aS → α → Option (aS × (β ⊕ Nat))} (hz : Mo σ z) (h : ∀ τ r, Mo τ (f τ r)) : Mo σ (xb z f) := by
  intro q e
  rcases e_xb e with ⟨τ, r, g, e⟩ | ⟨τ, k, g, e⟩
  · exact (hz _ g).tr (h τ r q e)
  · subst e
    exact hz _ g
theorem le_pF {σ τ : aS} {a ci k : Nat} {v : Value} (h : pF σ a ci k v = some τ) : aLe σ τ := by obtain ⟨fs, -, -, rfl⟩ := i_pF h; exact aLe.rf _
theorem le_wI {σ τ : aS} {a t : Nat} {i v : Int32} (h : wI σ a t i v = some τ) : aLe σ τ := by obtain ⟨n, f, -, -, rfl⟩ := i_wI h; exact aLe.rf _
theorem le_wL {σ τ : aS} {a : Nat} {i : Int32} {v : Int64} (h : wL σ a i v = some τ) : aLe σ τ := by obtain ⟨n, f, -, -, rfl⟩ := i_wL h; exact aLe.rf _
theorem le_wD {σ τ : aS} {a : Nat} {i : Int32} {v : UInt64} (h : wD σ a i v = some τ) : aLe σ τ := by obtain ⟨n, f, -, -, rfl⟩ := i_wD h; exact aLe.rf _
theorem le_wR {σ τ : aS} {a t : Nat} {i : Int32} {v : Option Nat} (h : wR σ a t i v = some τ) : aLe σ τ := by obtain ⟨n, f, -, -, rfl⟩ := i_wR h; exact aLe.rf _
theorem le_nO {σ τ : aS} {ci n : Nat} {fs : List Value} (h : nO σ ci fs n = some τ) : aLe σ τ := by cases h; exact ⟨Nat.le_succ _, Nat.le_add_right _ _⟩
theorem le_nA {σ τ : aS} {t : Nat} {n : Int32} {A : (Nat → Int32) ⊕ (Nat → Int64) ⊕ (Nat → UInt32) ⊕ (Nat → UInt64) ⊕ (Nat → Option Nat)} (h : nA σ t n A = some τ) : aLe σ τ := by obtain ⟨-, -, rfl⟩ := i_nA h; exact ⟨Nat.le_succ _, Nat.le_add_right _ _⟩

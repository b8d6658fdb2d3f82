/-! small things that the machine's printed rows use -/
def cb {α β : Type} (z : Option (aS × α)) (f : aS → α → Option β) : Option β := match z with
  | none => none
  | some (σ, r) => f σ r
theorem e_cb {α β : Type} {z : Option (aS × α)} {f : aS → α → Option β} {q : β} (h : cb z f = some q) : ∃ σ r, z = some (σ, r) ∧ f σ r = some q := by
  unfold cb at h
  split at h
  · cases h
  · rename_i σ r
    exact ⟨σ, r, rfl, h⟩
theorem mo_cb {α β : Type} {σ : aS} {z : Option (aS × α)} {f : aS → α → Option (aS × β)} (hz : Mo σ z) (h : ∀ τ r, Mo τ (f τ r)) : Mo σ (cb z f) := by
  intro q e
  obtain ⟨τ, r, g, e⟩ := e_cb e
  exact (hz _ g).tr (h τ r q e)
theorem mo_none {α : Type} {σ : aS} : Mo (α := α) σ none := fun q h => nomatch h
def bz (v : Int32) : Option Int32 := if v = 0 ∨ v = 1 then some v else none
def cz (v : Int32) : Option Int32 := if (v.toUInt32 % 65536).toInt32 = v then some v else none
theorem i_bz {v z : Int32} (h : bz v = some z) : v = z ∧ narrow .boolean (.int z) = .int z ∧ fits .boolean (.int z) = true := by
  unfold bz at h
  by_cases g : v = 0 ∨ v = 1
  · rw [if_pos g] at h
    cases h
    rcases g with rfl | rfl
    · exact ⟨rfl, nz0, fz0⟩
    · exact ⟨rfl, nz1, fz1⟩
  · rw [if_neg g] at h; cases h
theorem i_cz {v z : Int32} (h : cz v = some z) : v = z ∧ narrow .char (.int z) = .int z ∧ fits .char (.int z) = true := by
  unfold cz at h
  by_cases g : (v.toUInt32 % 65536).toInt32 = v
  · rw [if_pos g] at h
    cases h
    have h1 := pk_nc v
    have h2 := pk_fc v
    rw [g] at h1 h2
    exact ⟨rfl, h1, h2⟩
  · rw [if_neg g] at h; cases h
theorem nr_o {C : String} (r : Option Nat) : narrow (.object C) (va_rf r) = va_rf r := by cases r <;> rfl
theorem fr_o {C : String} (r : Option Nat) : fits (.object C) (va_rf r) = true := by cases r <;> rfl
theorem nr_a {C : FieldType} (r : Option Nat) : narrow (.array C) (va_rf r) = va_rf r := by cases r <;> rfl
theorem fr_a {C : FieldType} (r : Option Nat) : fits (.array C) (va_rf r) = true := by cases r <;> rfl
theorem va_rf_cat (r : Option Nat) : (va_rf r).category = 1 := by cases r <;> rfl
def oI : (Int32 ⊕ Nat) → aO
  | .inl r => .inl (some (.int r))
  | .inr k => .inr k
def oD : (UInt64 ⊕ Nat) → aO
  | .inl r => .inl (some (.double r))
  | .inr k => .inr k
def oJ : (Int64 ⊕ Nat) → aO
  | .inl r => .inl (some (.long r))
  | .inr k => .inr k
def oR : (Option Nat ⊕ Nat) → aO
  | .inl r => .inl (some (va_rf r))
  | .inr k => .inr k
def oV : (Unit ⊕ Nat) → aO
  | .inl _ => .inl none
  | .inr k => .inr k
theorem aRoom1 {x : aP} {σ0 σ σ1 σf : aS} {s : State} {H : Heap} {locs : List Loc} {kc ks mc : Nat} (Y : aY x σ0 s σ H locs kc ks) (h1 : mc + σ0.1 = σf.1) (g : σ1.1 = σ.1 + 1) (m : aLe σ1 σf) : kc + 1 ≤ mc := by
  have := Y.2.2.2.1; have := m.1; omega
theorem aRoom2 {x : aP} {σ0 σ σ1 σf : aS} {s : State} {H : Heap} {locs : List Loc} {kc ks ms n : Nat} (Y : aY x σ0 s σ H locs kc ks) (h1 : ms + σ0.2.1 = σf.2.1) (g : σ1.2.1 = σ.2.1 + n) (m : aLe σ1 σf) : ks + n ≤ ms := by
  have := Y.2.2.2.2; have := m.2; omega
theorem le_nO1 {σ τ : aS} {ci n : Nat} {fs : List Value} (h : nO σ ci fs n = some τ) : τ.1 = σ.1 + 1 := by cases h; rfl
theorem le_nO2 {σ τ : aS} {ci n : Nat} {fs : List Value} (h : nO σ ci fs n = some τ) : τ.2.1 = σ.2.1 + n := by cases h; rfl
theorem le_nA1 {σ τ : aS} {t : Nat} {n : Int32} {A : (Nat → Int32) ⊕ (Nat → Int64) ⊕ (Nat → UInt32) ⊕ (Nat → UInt64) ⊕ (Nat → Option Nat)} (h : nA σ t n A = some τ) : τ.1 = σ.1 + 1 := by obtain ⟨-, -, rfl⟩ := i_nA h; rfl
theorem le_nA2 {σ τ : aS} {t : Nat} {n : Int32} {A : (Nat → Int32) ⊕ (Nat → Int64) ⊕ (Nat → UInt32) ⊕ (Nat → UInt64) ⊕ (Nat → Option Nat)} (h : nA σ t n A = some τ) : τ.2.1 = σ.2.1 + n.toNatClampNeg := by obtain ⟨-, -, rfl⟩ := i_nA h; rfl
/-- the class of an object -/
def aCi (σ : aS) (a : Nat) : Option Nat := match σ.2.2 a with
  | some (.inr o) => some o.1
  | _ => none
theorem i_aCi {σ : aS} {a c : Nat} (h : aCi σ a = some c) : ∃ fs, σ.2.2 a = some (.inr (c, fs)) := by
  unfold aCi at h
  split at h
  · rename_i o hm
    cases h
    exact ⟨o.2, hm⟩
  · cases h
/-- instanceof Data, Next: of a statement -/
def iO (σ : aS) (r : Option Nat) (ci : Nat) : Option Int32 := match r with
  | none => some 0
  | some a => (aCi σ a).bind fun c => if c = ci then some 1 else if 11 ≤ c ∧ c ≤ 26 then some 0 else none
def dV : Nat := 300
def dX : Nat := 12
def aIf (l : Launch) (x : aP) (w : MethodName) (fx lx : Nat) (σ : aS) (a : Nat) (As : List Value) (o : aO) (σ1 : aS) : Prop :=
  ∃ (C : String) (y : MethodName) (bytes : ByteArray) (maxL : Nat) (ret : Option FieldType) (ci : Nat) (fs : List Value) (T : u_T) (N : Nat) (ty : Nat → FieldType), aCls ci C T N ty ∧ σ.2.2 a = some (.inr (ci, fs)) ∧ aMet l y (ws_ y bytes maxL ret) fx lx x (.ref a :: As) σ o σ1 ∧ maxL ≤ 12 ∧ Cond.selects C w y ∈ lw_all ∧ Cond.instanceMethod y ∈ lw_all ∧ Cond.initialized y.cls ∈ lw_all ∧ Cond.code y bytes maxL ret ∈ lw_all ∧ (C, w, y) ∈ aFW
def mnV : MethodName := ⟨"BasicMachine$Expression", "value", "(LBasicMachine;)D"⟩
def mnR : MethodName := ⟨"BasicMachine$Statement", "run", "(LBasicMachine;LBasicMachine$Line;)LBasicMachine$Line;"⟩
def hRV (l : Launch) (x : aP) (rv : aS → Nat → Option Nat → Option (aS × (UInt64 ⊕ Nat))) (fx lx : Nat) : Prop :=
  12 ≤ fx ∧ 400 ≤ lx ∧ (∀ {σ : aS} {a : Nat} {r : Option Nat}, Mo σ (rv σ a r)) ∧ (∀ {σ : aS} {a : Nat} {r : Option Nat} {q : aS × (UInt64 ⊕ Nat)}, rv σ a r = some q → aIf l x mnV fx lx σ a [va_rf r] (oD q.2) q.1)
def hRX (l : Launch) (x : aP) (rx : aS → Nat → Option (aS × (Option Nat ⊕ Nat))) (fx lx : Nat) : Prop :=
  12 ≤ fx ∧ 400 ≤ lx ∧ (∀ {σ : aS} {a : Nat}, Mo σ (rx σ a)) ∧ (∀ {σ : aS} {a : Nat} {q : aS × (Option Nat ⊕ Nat)}, rx σ a = some q → aMet l yX3_expression (ws_ yX3_expression cX3_expression 4 (some (.object "BasicMachine$Expression"))) fx lx x [.ref a] σ (oR q.2) q.1)
theorem q_oi : Cond.instanceMethod Lib.objectInit ∈ lw_all := q180
theorem q_oc : Cond.code Lib.objectInit ⟨#[0xb1]⟩ 1 none ∈ lw_all := q181
section AHELP
variable {own : String} {p : Program} {l : Launch} {e : Env} {R : Room} {s : State} {m : MethodId} {args : Array Value} {below : List Frame} {meth : Method} {c : Code} {H : Heap} {locs : List Loc} {kc ks : Nat} {Q : State → Prop}
variable {cc : ByteArray} {nL : Nat} {x : aP} {σ0 σ σ1 σf : aS} {pc : Nat} {ls : Array Slot} {rest st0 : List Value} {idx : Nat} {a ci : Nat} {o : aO} {As : List Value}
theorem n_eqi {v z : Int32} (g : v = z) (k : W p l e R s m args below meth c H locs kc ks Q (F0 m pc ls (.int z :: rest))) : W p l e R s m args below meth c H locs kc ks Q (F0 m pc ls (.int v :: rest)) := by subst g; exact k
theorem a_callIf {w : MethodName} {fx lx n count : Nat} (As : List Value) (X : aX own p l s m args meth c cc nL x σ0) (Y : aY x σ0 s σ H locs kc ks) (hM : aIf l x w fx lx σ a As o σ1) (hF : aFit R σ0 σ σ1 σf fx lx 12) (h1 : Cond.methodLink own idx w ∈ lw_all)
    (hd : w.cls ≠ "java/lang/invoke/MethodHandle" ∧ w.cls ≠ "java/lang/invoke/VarHandle" ∧ (parseMethodDescriptor w.desc).map (fun d => d.parameters.length) = some n)
    (hn : As.length = n) (hls : ls.size = nL) (hW : (rest.map fun v => v.category).sum ≤ 8) (hdg : decode cc pc = .ok (.invokeinterface idx count, 5))
    (kn : aKn p l e R s m args below meth c Q x σ0 σ1 o (pc + 5) ls rest) (kx : aKx p l e R s m args below meth c Q x σ0 σ1 o pc ls rest) : W p l e R s m args below meth c H locs kc ks Q (F0 m pc ls (As.reverse ++ .ref a :: rest)) := by
  obtain ⟨C, y, bytes, maxL, ret, ci, fs, T, N, ty, hC, hM0, hM, hm, w1, w2, w3, w4, w5⟩ := hM
  refine a_callF (C := C) (w := w) As X Y hM ⟨hF.1, hF.2.1, hF.2.2.1, hF.2.2.2.1, hF.2.2.2.2.1, by have := hF.2.2.2.2.2; omega⟩ (X.2.2.2.2.2.1.1.1 ci _ hC.1).2 h1 ?_ w4 w5 hd (a_recv X Y hC.1 hM0) hn hls hW hdg kn kx
  intro z hz
  simp only [va_wsF, List.append_nil, List.mem_cons, List.not_mem_nil, or_false] at hz
  rcases hz with e | e | e | e
  · rw [e]; exact h1
  · rw [e]; exact w1
  · rw [e]; exact w2
  · rw [e]; exact w3
theorem a_inst {C : String} {T : u_T} {N : Nat} {ty : Nat → FieldType} (X : aX own p l s m args meth c cc nL x σ0) (Y : aY x σ0 s σ H locs kc ks) (hC : aCls ci C T N ty) (hnc : ∀ z, 11 ≤ z → z ≤ 26 → z ≠ ci → ∀ r, aCl[z]? = some r → (r.1, C) ∈ aNC) {r : Option Nat} {v : Int32} (g : iO σ r ci = some v) (hl : Cond.classLink own idx C ∈ lw_all) (hdg : decode cc pc = .ok (.instanceof idx, 3))
    (kk : W p l e R s m args below meth c H locs kc ks Q (F0 m (pc + 3) ls (.int v :: rest))) : W p l e R s m args below meth c H locs kc ks Q (F0 m pc ls (va_rf r :: rest)) := by
  cases r with
  | none =>
    cases g
    exact lv_instN X.1 X.2.1 hdg kk
  | some a =>
    have g : ((aCi σ a).bind fun c => if c = ci then some (1 : Int32) else if 11 ≤ c ∧ c ≤ 26 then some 0 else none) = some v := g
    obtain ⟨z, g1, g⟩ := e_bind g
    obtain ⟨fs, hM⟩ := i_aCi g1
    by_cases h1 : z = ci
    · subst h1
      rw [if_pos rfl] at g
      cases g
      exact va_instE X.1 X.2.1 X.2.2.2.1 (X.2.2.2.2.1 _ hl) (a_recv X Y hC.1 hM) hdg kk
    · rw [if_neg h1] at g
      by_cases h2 : 11 ≤ z ∧ z ≤ 26
      · rw [if_pos h2] at g
        cases g
        have hlt : z < aCl.length := Nat.lt_of_le_of_lt h2.2 (by decide)
        have hr : aCl[z]? = some (aCl[z]'hlt) := List.getElem?_eq_getElem hlt
        exact va_instNo X.1 X.2.1 X.2.2.2.1 (X.2.2.2.2.1 _ hl) (X.2.2.2.2.2.1.2.2.2.2.2.2.1 _ (hnc z h2.1 h2.2 h1 _ hr)) (a_recv X Y hr hM) hdg kk
      · rw [if_neg h2] at g; cases g
theorem s_ldc {i : Nat} (X : aX "BasicMachine$Parser" p l s m args meth c cc nL x σ0) (hi : i < 28) (hdg : decode cc pc = .ok (.ldc (aSx i), 2))
    (kk : W p l e R s m args below meth c H locs kc ks Q (F0 m (pc + 2) ls (.ref (x.sK i) :: rest))) : W p l e R s m args below meth c H locs kc ks Q (F0 m pc ls rest) :=
  va_ldcS X.1 X.2.1 X.2.2.2.1 (X.2.2.2.2.2.1.2.2.2.2.2.2.2.1 i hi) hdg kk
theorem s_ldcw {i : Nat} (X : aX "BasicMachine$Parser" p l s m args meth c cc nL x σ0) (hi : i < 28) (hdg : decode cc pc = .ok (.ldc_w (aSx i), 3))
    (kk : W p l e R s m args below meth c H locs kc ks Q (F0 m (pc + 3) ls (.ref (x.sK i) :: rest))) : W p l e R s m args below meth c H locs kc ks Q (F0 m pc ls rest) := by
  intro T hT Z
  obtain ⟨t, a1, b1⟩ := kk T hT Z
  have hZ := X.2.2.2.2.2.1.2.2.2.2.2.2.2.1 i hi
  exact ⟨t, Z.ldcStringW X.1 X.2.2.2.1 (text := aSt i) (a := x.sK i) hZ.1 hZ.2 (g := F0 m pc ls rest) rfl (by rw [X.2.1]; exact hdg) t a1, b1⟩
/-- new double[6][6] -/
def nM (σ : aS) : Option aS := some (σ.1 + 7, σ.2.1 + 42, fun q => if q = σ.1 then some (.inl (9, 6, .inr (.inr (.inr (.inr (fun i => if i < 6 then some (σ.1 + 1 + i) else none)))))) else if σ.1 < q ∧ q < σ.1 + 7 then some (.inl (2, 6, .inr (.inr (.inr (.inl (fun _ => 0)))))) else σ.2.2 q)
theorem le_nM {σ τ : aS} (h : nM σ = some τ) : aLe σ τ := by cases h; exact ⟨Nat.le_add_right _ _, Nat.le_add_right _ _⟩
theorem mm_cell9 (c : ClassId) (h0 : Nat) : mm_oC c h0 6 = vp_cell c (6, .inr (.inr (.inr (.inr (fun i => if i < 6 then some (h0 + 1 + i) else none))))) := by
  rw [vp_cell_q]
  unfold mm_oC
  have h : (fun j => if j < 6 then Value.ref (h0 + 1 + j) else Value.null) = (fun j => va_rf (if j < 6 then some (h0 + 1 + j) else none)) := by
    funext j
    by_cases hj : j < 6
    · rw [if_pos hj, if_pos hj]; rfl
    · rw [if_neg hj, if_neg hj]; rfl
  rw [h]
theorem aY_newM (Y : aY x σ0 s σ H locs kc ks) {H1 : Heap} (f1 : H1.size = σ.1 + 1 + 6) (f2 : H1[σ.1]? = some (mm_oC (x.tc 9) σ.1 6)) (f5 : ∀ a : Nat, a < σ.1 → H1[a]? = H[a]?) (f6 : ∀ j, j < 6 → H1[σ.1 + 1 + j]? = some (mm_iC (x.tc 2))) :
    aY x σ0 s (σ.1 + 7, σ.2.1 + 42, fun q => if q = σ.1 then some (.inl (9, 6, .inr (.inr (.inr (.inr (fun i => if i < 6 then some (σ.1 + 1 + i) else none)))))) else if σ.1 < q ∧ q < σ.1 + 7 then some (.inl (2, 6, .inr (.inr (.inr (.inl (fun _ => 0)))))) else σ.2.2 q) H1 locs (kc + 7) (ks + 42) := by
  have hz : H.size = σ.1 := Y.1.1
  refine ⟨⟨f1, fun q e1 hq => ?_⟩, ⟨?_, fun q g1 g2 => ?_, Y.2.1.2.2⟩, fun q g => Y.2.2.1 q ?_, ?_, ?_⟩
  · have hq : (if q = σ.1 then some (.inl (9, 6, .inr (.inr (.inr (.inr (fun i => if i < 6 then some (σ.1 + 1 + i) else none)))))) else if σ.1 < q ∧ q < σ.1 + 7 then some (.inl (2, 6, .inr (.inr (.inr (.inl (fun _ => 0)))))) else σ.2.2 q) = some e1 := hq
    by_cases hq1 : q = σ.1
    · rw [if_pos hq1] at hq
      have hq9 := Option.some.inj hq
      rw [hq1, ← hq9]
      show H1[σ.1]? = some (vp_cell _ _)
      rw [f2, mm_cell9]
    · rw [if_neg hq1] at hq
      by_cases hq2 : σ.1 < q ∧ q < σ.1 + 7
      · rw [if_pos hq2] at hq
        have hq9 := Option.some.inj hq
        rw [← hq9]
        have h3 := f6 (q - (σ.1 + 1)) (by omega)
        rw [show σ.1 + 1 + (q - (σ.1 + 1)) = q by omega] at h3
        exact h3
      · rw [if_neg hq2] at hq
        have hlt : q < σ.1 := by rw [← hz]; exact (Y.1.2 q _ hq).lt
        exact (Y.1.2 q _ hq).kept (f5 q hlt)
  · have := Y.2.1.1; omega
  · have h7 : q < σ.1 := by have := Y.2.1.1; omega
    exact (f5 q h7).trans (Y.2.1.2.1 q g1 g2)
  · rcases g with g | g
    · have g : (if q = σ.1 then some (.inl (9, 6, .inr (.inr (.inr (.inr (fun i => if i < 6 then some (σ.1 + 1 + i) else none)))))) else if σ.1 < q ∧ q < σ.1 + 7 then some (.inl (2, 6, .inr (.inr (.inr (.inl (fun _ => 0)))))) else σ.2.2 q).isSome = true := g
      by_cases hq1 : q = σ.1
      · exact Or.inr (by omega)
      · rw [if_neg hq1] at g
        by_cases hq2 : σ.1 < q ∧ q < σ.1 + 7
        · exact Or.inr (by omega)
        · rw [if_neg hq2] at g
          exact Or.inl g
    · have g : σ.1 + 7 ≤ q := g
      exact Or.inr (by omega)
  · have := Y.2.2.2.1; show kc + 7 + σ0.1 = σ.1 + 7; omega
  · have := Y.2.2.2.2; show ks + 42 + σ0.2.1 = σ.2.1 + 42; omega
theorem a_newM {fr lo mc ms : Nat} (X : aX "BasicMachine$Matrix" p l s m args meth c cc nL x σ0) (Y : aY x σ0 s σ H locs kc ks) (g : nM σ = some σ1) (h1 : mc + σ0.1 = σf.1) (h2 : ms + σ0.2.1 = σf.2.1) (M9 : aLe σ1 σf) (hdg : decode cc pc = .ok (.multianewarray 7 2, 4))
    (kk : ∀ (H1 : Heap) (kc1 ks1 : Nat), aY x σ0 s σ1 H1 locs kc1 ks1 → W p l e (aRm fr lo mc ms) s m args below meth c H1 locs kc1 ks1 Q (F0 m (pc + 4) ls (.ref σ.1 :: rest))) : W p l e (aRm fr lo mc ms) s m args below meth c H locs kc ks Q (F0 m pc ls (.int 6 :: .int 6 :: rest)) := by
  cases g
  obtain ⟨hx, hb, hml, hown, hts, hK, -⟩ := X
  have hz : H.size = σ.1 := Y.1.1
  have hc7 : kc + 7 ≤ (aRm fr lo mc ms).cells := by show kc + 7 ≤ mc; have := Y.2.2.2.1; have := M9.1; dsimp only at this; omega
  have hs42 : ks + 42 ≤ (aRm fr lo mc ms).slots := by show ks + 42 ≤ ms; have := Y.2.2.2.2; have := M9.2; dsimp only at this; omega
  intro T hT X9
  subst hT
  subst hb
  obtain ⟨vm₁, cA, comp, hA, hC, X', st⟩ := mm_st_newM X9 hx hown (hts _ q1381) hK.2.2.2.2.2.2.2.2.2 (hts _ q289) (g := F0 m pc ls (.int 6 :: .int 6 :: rest)) rfl hdg rfl hc7 hs42
  obtain ⟨f1, f2, -, -, f5, f6⟩ := mm_mF_facts (T.setVm vm₁) cA comp 6
  have hcA : cA = x.tc 9 := Option.some.inj (hA.symm.trans (hK.1.2 9 _ (aTys_at x (by decide))).2)
  have hcC : comp = x.tc 2 := Option.some.inj (hC.symm.trans (hK.1.2 2 _ (aTys_at x (by decide))).2)
  subst hcA
  subst hcC
  have hsz : (T.setVm vm₁).heap.size = σ.1 := hz
  rw [hsz] at f1 f2 f5 f6
  have hY := aY_newM Y (H1 := (mm_mF (T.setVm vm₁) (x.tc 9) (x.tc 2) 6).heap) f1 f2 f5 f6
  obtain ⟨t, a1, b1⟩ := kk _ (kc + 7) (ks + 42) hY _ rfl X'
  refine ⟨t, st t ?_, b1⟩
  rw [show T.heap.size = σ.1 from hz]
  exact a1
end AHELP
/-! the classes -/
theorem k_X1 : aCls 0 RX1 TX1 24 tyX1 := ⟨rfl, in_X1, tyX1_ok, nmX1, by decide +kernel⟩
theorem b_X1 : ∀ j, j < 24 → defaultValue (tyX1 j) = vp_V [.null, .int 0, .int 0, .null, .int 0, .null, .null, .null, .null, .int 0, .null, .null, .null, .int 0, .null, .int 0, .null, .int 0, .int 0, .int 0, .int 0, .int 0, .int 0, .int 0] j := by
  intro j hj
  match j, hj with
  | 0, _ => rfl
  | 1, _ => rfl
  | 2, _ => rfl
  | 3, _ => rfl
  | 4, _ => rfl
  | 5, _ => rfl
  | 6, _ => rfl
  | 7, _ => rfl
  | 8, _ => rfl
  | 9, _ => rfl
  | 10, _ => rfl
  | 11, _ => rfl
  | 12, _ => rfl
  | 13, _ => rfl
  | 14, _ => rfl
  | 15, _ => rfl
  | 16, _ => rfl
  | 17, _ => rfl
  | 18, _ => rfl
  | 19, _ => rfl
  | 20, _ => rfl
  | 21, _ => rfl
  | 22, _ => rfl
  | 23, _ => rfl
  | n + 24, h => exact absurd h (by omega)
theorem k_X2 : aCls 1 RX2 TX2 45 tyX2 := ⟨rfl, in_X2, tyX2_ok, nmX2, by decide +kernel⟩
theorem k_X3 : aCls 2 RX3 TX3 6 tyX3 := ⟨rfl, in_X3, tyX3_ok, nmX3, by decide +kernel⟩
theorem b_X3 : ∀ j, j < 6 → defaultValue (tyX3 j) = vp_V [.null, .int 0, .int 0, .int 0, .int 0, .null] j := by
  intro j hj
  match j, hj with
  | 0, _ => rfl
  | 1, _ => rfl
  | 2, _ => rfl
  | 3, _ => rfl
  | 4, _ => rfl
  | 5, _ => rfl
  | n + 6, h => exact absurd h (by omega)
theorem k_X4 : aCls 3 RX4 TX4 3 tyX4 := ⟨rfl, in_X4, tyX4_ok, nmX4, by decide +kernel⟩
theorem b_X4 : ∀ j, j < 3 → defaultValue (tyX4 j) = vp_V [.int 0, .null, .null] j := by
  intro j hj
  match j, hj with
  | 0, _ => rfl
  | 1, _ => rfl
  | 2, _ => rfl
  | n + 3, h => exact absurd h (by omega)
theorem k_X5 : aCls 4 RX5 TX5 2 tyX5 := ⟨rfl, in_X5, tyX5_ok, nmX5, by decide +kernel⟩
theorem b_X5 : ∀ j, j < 2 → defaultValue (tyX5 j) = vp_V [.null, .null] j := by
  intro j hj
  match j, hj with
  | 0, _ => rfl
  | 1, _ => rfl
  | n + 2, h => exact absurd h (by omega)
theorem k_X6 : aCls 5 RX6 TX6 1 tyX6 := ⟨rfl, in_X6, tyX6_ok, nmX6, by decide +kernel⟩
theorem b_X6 : ∀ j, j < 1 → defaultValue (tyX6 j) = vp_V [.double 0] j := by
  intro j hj
  match j, hj with
  | 0, _ => rfl
  | n + 1, h => exact absurd h (by omega)
theorem k_X7 : aCls 6 RX7 TX7 2 tyX7 := ⟨rfl, in_X7, tyX7_ok, nmX7, by decide +kernel⟩
theorem b_X7 : ∀ j, j < 2 → defaultValue (tyX7 j) = vp_V [.int 0, .null] j := by
  intro j hj
  match j, hj with
  | 0, _ => rfl
  | 1, _ => rfl
  | n + 2, h => exact absurd h (by omega)
theorem k_X8 : aCls 7 RX8 TX8 2 tyX8 := ⟨rfl, in_X8, tyX8_ok, nmX8, by decide +kernel⟩
theorem b_X8 : ∀ j, j < 2 → defaultValue (tyX8 j) = vp_V [.int 0, .null] j := by
  intro j hj
  match j, hj with
  | 0, _ => rfl
  | 1, _ => rfl
  | n + 2, h => exact absurd h (by omega)
theorem k_X9 : aCls 8 RX9 TX9 1 tyX9 := ⟨rfl, in_X9, tyX9_ok, nmX9, by decide +kernel⟩
theorem b_X9 : ∀ j, j < 1 → defaultValue (tyX9 j) = vp_V [.int 0] j := by
  intro j hj
  match j, hj with
  | 0, _ => rfl
  | n + 1, h => exact absurd h (by omega)
theorem k_X10 : aCls 9 RX10 TX10 3 tyX10 := ⟨rfl, in_X10, tyX10_ok, nmX10, by decide +kernel⟩
theorem b_X10 : ∀ j, j < 3 → defaultValue (tyX10 j) = vp_V [.int 0, .null, .null] j := by
  intro j hj
  match j, hj with
  | 0, _ => rfl
  | 1, _ => rfl
  | 2, _ => rfl
  | n + 3, h => exact absurd h (by omega)
theorem k_X11 : aCls 10 RX11 TX11 3 tyX11 := ⟨rfl, in_X11, tyX11_ok, nmX11, by decide +kernel⟩
theorem b_X11 : ∀ j, j < 3 → defaultValue (tyX11 j) = vp_V [.int 0, .null, .null] j := by
  intro j hj
  match j, hj with
  | 0, _ => rfl
  | 1, _ => rfl
  | 2, _ => rfl
  | n + 3, h => exact absurd h (by omega)
theorem k_X12 : aCls 11 RX12 TX12 2 tyX12 := ⟨rfl, in_X12, tyX12_ok, nmX12, by decide +kernel⟩
theorem b_X12 : ∀ j, j < 2 → defaultValue (tyX12 j) = vp_V [.null, .null] j := by
  intro j hj
  match j, hj with
  | 0, _ => rfl
  | 1, _ => rfl
  | n + 2, h => exact absurd h (by omega)
theorem k_X13 : aCls 12 RX13 TX13 1 tyX13 := ⟨rfl, in_X13, tyX13_ok, nmX13, by decide +kernel⟩
theorem b_X13 : ∀ j, j < 1 → defaultValue (tyX13 j) = vp_V [.null] j := by
  intro j hj
  match j, hj with
  | 0, _ => rfl
  | n + 1, h => exact absurd h (by omega)
theorem k_X14 : aCls 13 RX14 TX14 4 tyX14 := ⟨rfl, in_X14, tyX14_ok, nmX14, by decide +kernel⟩
theorem b_X14 : ∀ j, j < 4 → defaultValue (tyX14 j) = vp_V [.null, .int 0, .null, .int 0] j := by
  intro j hj
  match j, hj with
  | 0, _ => rfl
  | 1, _ => rfl
  | 2, _ => rfl
  | 3, _ => rfl
  | n + 4, h => exact absurd h (by omega)
theorem k_X15 : aCls 14 RX15 TX15 1 tyX15 := ⟨rfl, in_X15, tyX15_ok, nmX15, by decide +kernel⟩
theorem b_X15 : ∀ j, j < 1 → defaultValue (tyX15 j) = vp_V [.int 0] j := by
  intro j hj
  match j, hj with
  | 0, _ => rfl
  | n + 1, h => exact absurd h (by omega)
theorem k_X16 : aCls 15 RX16 TX16 2 tyX16 := ⟨rfl, in_X16, tyX16_ok, nmX16, by decide +kernel⟩
theorem b_X16 : ∀ j, j < 2 → defaultValue (tyX16 j) = vp_V [.null, .null] j := by
  intro j hj
  match j, hj with
  | 0, _ => rfl
  | 1, _ => rfl
  | n + 2, h => exact absurd h (by omega)
theorem k_X17 : aCls 16 RX17 TX17 1 tyX17 := ⟨rfl, in_X17, tyX17_ok, nmX17, by decide +kernel⟩
theorem b_X17 : ∀ j, j < 1 → defaultValue (tyX17 j) = vp_V [.int 0] j := by
  intro j hj
  match j, hj with
  | 0, _ => rfl
  | n + 1, h => exact absurd h (by omega)
theorem k_X18 : aCls 17 RX18 TX18 0 tyX18 := ⟨rfl, (fun w h => nomatch h), fun k h => absurd h (Nat.not_lt_zero k), fun k h => absurd h (Nat.not_lt_zero k), fun k h => absurd h (Nat.not_lt_zero k)⟩
theorem b_X18 : ∀ j, j < 0 → defaultValue (tyX18 j) = vp_V [] j := by
  intro j hj
  match j, hj with
  | n + 0, h => exact absurd h (by omega)
theorem k_X19 : aCls 18 RX19 TX19 4 tyX19 := ⟨rfl, in_X19, tyX19_ok, nmX19, by decide +kernel⟩
theorem b_X19 : ∀ j, j < 4 → defaultValue (tyX19 j) = vp_V [.int 0, .null, .null, .null] j := by
  intro j hj
  match j, hj with
  | 0, _ => rfl
  | 1, _ => rfl
  | 2, _ => rfl
  | 3, _ => rfl
  | n + 4, h => exact absurd h (by omega)
theorem k_X20 : aCls 19 RX20 TX20 1 tyX20 := ⟨rfl, in_X20, tyX20_ok, nmX20, by decide +kernel⟩
theorem b_X20 : ∀ j, j < 1 → defaultValue (tyX20 j) = vp_V [.int 0] j := by
  intro j hj
  match j, hj with
  | 0, _ => rfl
  | n + 1, h => exact absurd h (by omega)
theorem k_X21 : aCls 20 RX21 TX21 1 tyX21 := ⟨rfl, in_X21, tyX21_ok, nmX21, by decide +kernel⟩
theorem b_X21 : ∀ j, j < 1 → defaultValue (tyX21 j) = vp_V [.null] j := by
  intro j hj
  match j, hj with
  | 0, _ => rfl
  | n + 1, h => exact absurd h (by omega)
theorem k_X22 : aCls 21 RX22 TX22 1 tyX22 := ⟨rfl, in_X22, tyX22_ok, nmX22, by decide +kernel⟩
theorem b_X22 : ∀ j, j < 1 → defaultValue (tyX22 j) = vp_V [.null] j := by
  intro j hj
  match j, hj with
  | 0, _ => rfl
  | n + 1, h => exact absurd h (by omega)
theorem k_X23 : aCls 22 RX23 TX23 0 tyX23 := ⟨rfl, (fun w h => nomatch h), fun k h => absurd h (Nat.not_lt_zero k), fun k h => absurd h (Nat.not_lt_zero k), fun k h => absurd h (Nat.not_lt_zero k)⟩
theorem b_X23 : ∀ j, j < 0 → defaultValue (tyX23 j) = vp_V [] j := by
  intro j hj
  match j, hj with
  | n + 0, h => exact absurd h (by omega)
theorem k_X24 : aCls 23 RX24 TX24 3 tyX24 := ⟨rfl, in_X24, tyX24_ok, nmX24, by decide +kernel⟩
theorem b_X24 : ∀ j, j < 3 → defaultValue (tyX24 j) = vp_V [.int 0, .int 0, .int 0] j := by
  intro j hj
  match j, hj with
  | 0, _ => rfl
  | 1, _ => rfl
  | 2, _ => rfl
  | n + 3, h => exact absurd h (by omega)
theorem k_X25 : aCls 24 RX25 TX25 3 tyX25 := ⟨rfl, in_X25, tyX25_ok, nmX25, by decide +kernel⟩
theorem b_X25 : ∀ j, j < 3 → defaultValue (tyX25 j) = vp_V [.int 0, .int 0, .null] j := by
  intro j hj
  match j, hj with
  | 0, _ => rfl
  | 1, _ => rfl
  | 2, _ => rfl
  | n + 3, h => exact absurd h (by omega)
theorem k_X26 : aCls 25 RX26 TX26 5 tyX26 := ⟨rfl, in_X26, tyX26_ok, nmX26, by decide +kernel⟩
theorem b_X26 : ∀ j, j < 5 → defaultValue (tyX26 j) = vp_V [.int 0, .int 0, .int 0, .int 0, .null] j := by
  intro j hj
  match j, hj with
  | 0, _ => rfl
  | 1, _ => rfl
  | 2, _ => rfl
  | 3, _ => rfl
  | 4, _ => rfl
  | n + 5, h => exact absurd h (by omega)
theorem k_X27 : aCls 26 RX27 TX27 1 tyX27 := ⟨rfl, in_X27, tyX27_ok, nmX27, by decide +kernel⟩
theorem b_X27 : ∀ j, j < 1 → defaultValue (tyX27 j) = vp_V [.int 0] j := by
  intro j hj
  match j, hj with
  | 0, _ => rfl
  | n + 1, h => exact absurd h (by omega)
theorem k_X28 : aCls 27 RX28 TX28 3 tyX28 := ⟨rfl, in_X28, tyX28_ok, nmX28, by decide +kernel⟩
theorem b_X28 : ∀ j, j < 3 → defaultValue (tyX28 j) = vp_V [.null, .int 0, .int 0] j := by
  intro j hj
  match j, hj with
  | 0, _ => rfl
  | 1, _ => rfl
  | 2, _ => rfl
  | n + 3, h => exact absurd h (by omega)
theorem k_X29 : aCls 28 RX29 TX29 4 tyX29 := ⟨rfl, in_X29, tyX29_ok, nmX29, by decide +kernel⟩
theorem b_X29 : ∀ j, j < 4 → defaultValue (tyX29 j) = vp_V [.int 0, .double 0, .double 0, .null] j := by
  intro j hj
  match j, hj with
  | 0, _ => rfl
  | 1, _ => rfl
  | 2, _ => rfl
  | 3, _ => rfl
  | n + 4, h => exact absurd h (by omega)
theorem nc_X22 : ∀ z, 11 ≤ z → z ≤ 26 → z ≠ 21 → ∀ r, aCl[z]? = some r → (r.1, RX22) ∈ aNC := by
  intro z h1 h2 h3 r hr
  have h4 : z ∈ [11, 12, 13, 14, 15, 16, 17, 18, 19, 20, 22, 23, 24, 25, 26] := by simp; omega
  simp only [List.mem_cons, List.not_mem_nil, or_false] at h4
  rcases h4 with rfl | rfl | rfl | rfl | rfl | rfl | rfl | rfl | rfl | rfl | rfl | rfl | rfl | rfl | rfl <;> (cases hr; decide)
theorem nc_X20 : ∀ z, 11 ≤ z → z ≤ 26 → z ≠ 19 → ∀ r, aCl[z]? = some r → (r.1, RX20) ∈ aNC := by
  intro z h1 h2 h3 r hr
  have h4 : z ∈ [11, 12, 13, 14, 15, 16, 17, 18, 20, 21, 22, 23, 24, 25, 26] := by simp; omega
  simp only [List.mem_cons, List.not_mem_nil, or_false] at h4
  rcases h4 with rfl | rfl | rfl | rfl | rfl | rfl | rfl | rfl | rfl | rfl | rfl | rfl | rfl | rfl | rfl <;> (cases hr; decide)

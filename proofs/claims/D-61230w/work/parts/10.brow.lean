/-! THE MODEL'S WORLD (BasicMachineModel): one object with 45 fields, 32 arrays; its pure state st: int fields, int (char) arrays, double arrays, each by the field's number. -/
abbrev bP : Type := va_G × List vw_C × Nat × (ClassId × ClassId × ClassId) × Nat × (Nat → Nat)
abbrev bS : Type := (Nat → Int32) × (Nat → Nat → Int32) × (Nat → Nat → UInt64)
abbrev bP.D (b : bP) : va_G := b.1
abbrev bP.cl (b : bP) : List vw_C := b.2.1
abbrev bP.ci (b : bP) : Nat := b.2.2.1
abbrev bP.cC (b : bP) : ClassId := b.2.2.2.1.1
abbrev bP.cI (b : bP) : ClassId := b.2.2.2.1.2.1
abbrev bP.cD (b : bP) : ClassId := b.2.2.2.1.2.2
abbrev bP.h (b : bP) : Nat := b.2.2.2.2.1
abbrev bP.ad (b : bP) : Nat → Nat := b.2.2.2.2.2
/-- a field's kind: 0 a number, 1 char[], 2 int[], 3 double[] -/
def bK (k : Nat) : Nat := if k < 8 then 0 else if k < 10 then 1 else if k < 16 then 2 else if k < 28 then 0 else if k < 37 then 3 else 2
/-- the arrays' lengths -/
def bN (k : Nat) : Nat := match k with
  | 8 => 60
  | 9 => 60
  | 10 => 25
  | 11 => 25
  | 12 => 200
  | 13 => 100
  | 14 => 4000
  | 15 => 64
  | 28 => 40
  | 29 => 26
  | 30 => 200
  | 31 => 144
  | 32 => 6
  | 33 => 6
  | 34 => 4
  | 35 => 108
  | 36 => 36
  | 37 => 3
  | 38 => 3
  | 39 => 3
  | 40 => 8
  | 41 => 6
  | 42 => 6
  | 43 => 4
  | 44 => 4
  | _ => 0
def bArrs : List Nat := [8, 9, 10, 11, 12, 13, 14, 15, 28, 29, 30, 31, 32, 33, 34, 35, 36, 37, 38, 39, 40, 41, 42, 43, 44]
def bFv (b : bP) (st : bS) (k : Nat) : Value := if bK k = 0 then .int (st.1 k) else .ref (b.ad k)
def bFs (b : bP) (st : bS) : List Value := (List.range 45).map (bFv b st)
def bE (b : bP) (st : bS) (k : Nat) : va_E := if bK k = 3 then .inl (b.cD, bN k, .inr (.inr (.inr (.inl (st.2.2 k))))) else if bK k = 1 then .inl (b.cC, bN k, .inl (st.2.1 k)) else .inl (b.cI, bN k, .inl (st.2.1 k))
def bcells (b : bP) (st : bS) : va_W := (b.h, .inr (b.ci, bFs b st)) :: bArrs.map (fun k => (b.ad k, bE b st k))
def sI (st : bS) (k : Nat) (v : Int32) : bS := (upd st.1 k v, st.2.1, st.2.2)
def sA (st : bS) (k i : Nat) (v : Int32) : bS := (st.1, fun q => if q = k then upd (st.2.1 k) i v else st.2.1 q, st.2.2)
def sD (st : bS) (k i : Nat) (v : UInt64) : bS := (st.1, st.2.1, fun q => if q = k then vf_upd (st.2.2 k) i v else st.2.2 q)
theorem bcells_0 (b : bP) (st : bS) : (bcells b st)[0]? = some (b.h, .inr (b.ci, bFs b st)) := rfl
theorem bcells_a (b : bP) (st : bS) {j k : Nat} (h : bArrs[j]? = some k) : (bcells b st)[j + 1]? = some (b.ad k, bE b st k) := by
  show (bArrs.map (fun k => (b.ad k, bE b st k)))[j]? = _
  rw [List.getElem?_map, h]
  rfl
theorem bFs_get (b : bP) (st : bS) {k : Nat} (h : k < 45) : (bFs b st)[k]? = some (bFv b st k) := by
  unfold bFs
  rw [List.getElem?_map, List.getElem?_range h]
  rfl
theorem bFs_set (b : bP) (st : bS) {k : Nat} {v : Int32} (hk : bK k = 0) : (bFs b st).set k (.int v) = bFs b (sI st k v) := by
  apply List.ext_getElem?
  intro i
  rw [List.getElem?_set]
  by_cases hi : i < 45
  · rw [bFs_get b st hi, bFs_get b (sI st k v) hi]
    by_cases e : k = i
    · subst e
      simp [bFs, hi, bFv, hk, sI, upd]
    · simp only [e, if_false]
      have e2 : ¬ i = k := fun z => e z.symm
      simp [bFv, sI, upd, e2]
  · have h1 : (bFs b st)[i]? = none := by simp [bFs]; omega
    have h2 : (bFs b (sI st k v))[i]? = none := by simp [bFs]; omega
    rw [h1, h2]
    by_cases e : k = i
    · subst e
      simp [bFs, hi]
    · simp [e]
theorem bcells_I (b : bP) (st : bS) {k : Nat} {v : Int32} (hk : bK k = 0) : (bcells b st).set 0 (b.h, .inr (b.ci, (bFs b st).set k (.int v))) = bcells b (sI st k v) := by
  rw [bFs_set b st hk]
  rfl
theorem bArrs_inj : ∀ i, i < 25 → ∀ j, j < 25 → bArrs[i]? = bArrs[j]? → i = j := by decide +kernel
theorem bcells_up (b : bP) (st st' : bS) {j k : Nat} {e : va_E} (h : bArrs[j]? = some k) (h1 : st'.1 = st.1) (he : bE b st' k = e) (ho : ∀ q, q ≠ k → bE b st' q = bE b st q) : (bcells b st).set (j + 1) (b.ad k, e) = bcells b st' := by
  unfold bcells
  rw [List.set_cons_succ]
  have hf : bFs b st = bFs b st' := by
    unfold bFs
    apply List.map_congr_left
    intro q _
    simp [bFv, h1]
  rw [hf]
  congr 1
  apply List.ext_getElem?
  intro i
  rw [List.getElem?_set, List.getElem?_map, List.getElem?_map]
  have hj : j < bArrs.length := (List.getElem?_eq_some_iff.mp h).1
  by_cases ei : j = i
  · subst ei
    rw [if_pos rfl, if_pos (by simpa using hj), h]
    simp [he]
  · rw [if_neg ei]
    cases hi : bArrs[i]? with
    | none => rfl
    | some q =>
      have hil : i < bArrs.length := (List.getElem?_eq_some_iff.mp hi).1
      have hq : q ≠ k := by
        intro z
        subst z
        exact ei (bArrs_inj j hj i hil (h.trans hi.symm))
      simp [ho q hq]
theorem bcells_A (b : bP) (st : bS) {j k i : Nat} {v : Int32} (h : bArrs[j]? = some k) (hk : bK k = 2) : (bcells b st).set (j + 1) (b.ad k, .inl (b.cI, bN k, .inl (upd (st.2.1 k) i v))) = bcells b (sA st k i v) := by
  refine bcells_up b st (sA st k i v) h rfl ?_ ?_
  · simp [bE, hk, sA]
  · intro q hq
    simp [bE, sA, hq]
theorem bcells_C (b : bP) (st : bS) {j k i : Nat} {v : Int32} (h : bArrs[j]? = some k) (hk : bK k = 1) : (bcells b st).set (j + 1) (b.ad k, .inl (b.cC, bN k, .inl (upd (st.2.1 k) i v))) = bcells b (sA st k i v) := by
  refine bcells_up b st (sA st k i v) h rfl ?_ ?_
  · simp [bE, hk, sA]
  · intro q hq
    simp [bE, sA, hq]
theorem bcells_D (b : bP) (st : bS) {j k i : Nat} {v : UInt64} (h : bArrs[j]? = some k) (hk : bK k = 3) : (bcells b st).set (j + 1) (b.ad k, .inl (b.cD, bN k, .inr (.inr (.inr (.inl (vf_upd (st.2.2 k) i v)))))) = bcells b (sD st k i v) := by
  refine bcells_up b st (sD st k i v) h rfl ?_ ?_
  · simp [bE, hk, sD]
  · intro q hq
    simp [bE, sD, hq]
/-- the cells that the model may write: its own -/
def bAr (b : bP) (q : Nat) : Prop := q = b.h ∨ ∃ k, k ∈ bArrs ∧ q = b.ad k
def bOk (b : bP) : Prop := b.cl[b.ci]? = some (RX2, TX2, 45) ∧ ∀ st, va_D (bAr b) (bcells b st)
abbrev btys (b : bP) : List (ClassId × FieldType) := [(b.cC, .char), (b.cI, .int), (b.cD, .double)]
def bPre (b : bP) (st : bS) (U : State) : Prop := va_P b.D b.cl (bcells b st) U.heap ∧ va_K b.D b.cl (btys b) U
def bQ (b : bP) (v : Option Value) (st' : bS) : Array Value → State → Outcome → State → Prop := fun _ s0 oc t => oc = .returned v ∧ bPre b st' t ∧ va_F (bAr b) s0 t
abbrev bRm (fr lo : Nat) : Room := { frames := fr, cells := 0, slots := 0, locals := lo }
def bMet (l : Launch) (y : MethodName) (cc : ByteArray) (nL : Nat) (ret : Option FieldType) (fr lo : Nat) (b : bP) (As : List Value) (st : bS) (v : Option Value) (st' : bS) : Prop :=
  Met l y (ws_ y cc nL ret) (bRm fr lo) (va_Pc (.ref b.h :: As) (bPre b st)) (bQ b v st') 0 0 (bAr b)
/-- what stands all through a body: the machine, the code, the tables' words, the classes -/
def bX (p : Program) (s : State) (m : MethodId) (args : Array Value) (c : Code) (cc : ByteArray) (nL : Nat) (b : bP) : Prop :=
  p.tables.exec = Jvm.exec ∧ c.code = cc ∧ c.maxLocals = nL ∧ s.vm.findClass RX2 = some m.cls ∧ (∀ w ∈ lw_all, w.before args s = true) ∧ va_K b.D b.cl (btys b) s ∧ bOk b
/-- where the heap stands: it holds st -/
def bY (b : bP) (s : State) (st : bS) (H : Heap) (locs : List Loc) : Prop := va_P b.D b.cl (bcells b st) H ∧ va_S (bAr b) s.heap H locs
abbrev bG (l : Launch) (fr lo : Nat) (b : bP) (As : List Value) (v : Option Value) (st' : bS) (p : Program) (e : Env) (s : State) (m : MethodId) (below : List Frame) (meth : Method) (c : Code) (H : Heap) (locs : List Loc) (g : JFrame) : Prop :=
  W p l e (bRm fr lo) s m (Value.ref b.h :: As).toArray below meth c H locs 0 0 (MQ below (bQ b v st') (Value.ref b.h :: As).toArray s 0 0 (bAr b)) g
theorem b_ofW {l : Launch} {y : MethodName} {cc : ByteArray} {nL : Nat} {ret : Option FieldType} {fr lo : Nat} {b : bP} {As : List Value} {st st' : bS} {v : Option Value} (hy : plainName y.cls = true) (hyc : y.cls = RX2) (ok : bOk b) (hn : (lg_sl (Value.ref b.h :: As)).length ≤ nL)
    (body : ∀ (p : Program) (e : Env) (s : State) (m : MethodId) (below : List Frame) (meth : Method) (c : Code) (ls : Array Slot), bX p s m (Value.ref b.h :: As).toArray c cc nL b → bY b s st s.heap [] → meth.sig.returnType = ret → meth.locks = false → lv_has ls nL (lv_args 0 (Value.ref b.h :: As)) → bG l fr lo b As v st' p e s m below meth c s.heap [] (F0 m 0 ls [])) :
    bMet l y cc nL ret fr lo b As st v st' := by
  refine Met.ofW (cc := cc) (maxL := nL) (ret := ret) hy rfl ?_
  intro p e s m args below meth c s₁ B hml hv
  obtain ⟨rfl, hP, hK⟩ := hv
  have hts := atoms_spec (ws := ws_ y cc nL ret) B.pre
  have hts : ∀ w ∈ lw_all, w.before _ s = true := fun w h => hts w (List.mem_cons_of_mem _ h)
  have hown : s.vm.findClass RX2 = some m.cls := by rw [← hyc]; exact findClass_of_methodNamed B.named
  have hl := lv_entry (Value.ref b.h :: As) (n := nL) hn
  rw [lg_entry_eq]
  exact body p e s m below meth c _ ⟨B.exec, B.bytes, hml, hown, hts, hK, ok⟩ ⟨hP, va_S.rf⟩ B.returns B.notSynchronized hl
section BROWS
variable {p : Program} {l : Launch} {e : Env} {R : Room} {s : State} {m : MethodId} {args : Array Value} {below : List Frame} {meth : Method} {c : Code} {H : Heap} {locs : List Loc} {cells slots : Nat} {Q : State → Prop}
variable {cc : ByteArray} {nL : Nat} {b : bP} {st : bS} {pc : Nat} {ls : Array Slot} {rest : List Value} {idx : Nat}
theorem b_geti (X : bX p s m args c cc nL b) (Y : bY b s st H locs) (k : Nat) (hk : bK k = 0) (hk2 : k < 45) {v : Int32} (hv : st.1 k = v) (hl : Cond.fieldLink RX2 idx RX2 (TX2 k).2.1 (TX2 k).2.2.1 ∈ lw_all) (hdg : decode cc pc = .ok (.getfield idx, 3))
    (kk : W p l e R s m args below meth c H locs cells slots Q (F0 m (pc + 3) ls (.int v :: rest))) : W p l e R s m args below meth c H locs cells slots Q (F0 m pc ls (.ref b.h :: rest)) := by
  obtain ⟨hx, hb, hml, hown, hts, hK, ok⟩ := X
  have hT : ∀ j, j < 45 → (TX2 j).1 = RX2 := by decide +kernel
  refine va_get (ref := RX2) (C := RX2) (T := TX2) (N := 45) hx hb hts in_X2 hown hK Y.1 0 (bcells_0 b st) ok.1 k hk2 (hts _ hl) (fun x h9 => by rw [hT k hk2] at h9; exact h9) (bFs_get b st hk2) hdg ?_
  simp only [bFv, hk, if_true, hv]
  exact kk
theorem b_geta (X : bX p s m args c cc nL b) (Y : bY b s st H locs) (k : Nat) (hk : ¬ bK k = 0) (hk2 : k < 45) (hl : Cond.fieldLink RX2 idx RX2 (TX2 k).2.1 (TX2 k).2.2.1 ∈ lw_all) (hdg : decode cc pc = .ok (.getfield idx, 3))
    (kk : W p l e R s m args below meth c H locs cells slots Q (F0 m (pc + 3) ls (.ref (b.ad k) :: rest))) : W p l e R s m args below meth c H locs cells slots Q (F0 m pc ls (.ref b.h :: rest)) := by
  obtain ⟨hx, hb, hml, hown, hts, hK, ok⟩ := X
  have hT : ∀ j, j < 45 → (TX2 j).1 = RX2 := by decide +kernel
  refine va_get (ref := RX2) (C := RX2) (T := TX2) (N := 45) hx hb hts in_X2 hown hK Y.1 0 (bcells_0 b st) ok.1 k hk2 (hts _ hl) (fun x h9 => by rw [hT k hk2] at h9; exact h9) (bFs_get b st hk2) hdg ?_
  simp only [bFv, hk, if_false]
  exact kk
theorem b_puti (X : bX p s m args c cc nL b) (Y : bY b s st H locs) (k : Nat) (hk : bK k = 0) (hk2 : k < 45) {v : Int32} (hf : (TX2 k).2.2.2 = false) (hn : narrow (tyX2 k) (.int v) = .int v) (hfit : fits (tyX2 k) (.int v) = true) (hl : Cond.fieldLink RX2 idx RX2 (TX2 k).2.1 (TX2 k).2.2.1 ∈ lw_all) (hdg : decode cc pc = .ok (.putfield idx, 3))
    (kk : ∀ (H1 : Heap) (locs1 : List Loc), bY b s (sI st k v) H1 locs1 → W p l e R s m args below meth c H1 locs1 cells slots Q (F0 m (pc + 3) ls rest)) : W p l e R s m args below meth c H locs cells slots Q (F0 m pc ls (.int v :: .ref b.h :: rest)) := by
  obtain ⟨hx, hb, hml, hown, hts, hK, ok⟩ := X
  have hT : ∀ j, j < 45 → (TX2 j).1 = RX2 := by decide +kernel
  refine va_put (ref := RX2) (C := RX2) (T := TX2) (N := 45) hx hb hts in_X2 tyX2 tyX2_ok nmX2 hown hK Y.1 (ok.2 st) Y.2 0 (bcells_0 b st) ok.1 k hk2 (hts _ hl) (fun x h9 => by rw [hT k hk2] at h9; exact h9) hf (tyX2_ok k hk2) hn hfit (by simp [bFs, hk2]) hdg (fun H1 locs1 hP hD hS => ?_)
  rw [bcells_I b st hk] at hP
  exact kk H1 locs1 ⟨hP, hS⟩
theorem b_iald (X : bX p s m args c cc nL b) (Y : bY b s st H locs) (j k : Nat) (hj : bArrs[j]? = some k) (hk : bK k = 2) {i : Int32} (hin : vp_in i (bN k)) (hdg : decode cc pc = .ok (.iaload, 1))
    (kk : W p l e R s m args below meth c H locs cells slots Q (F0 m (pc + 1) ls (.int (st.2.1 k i.toNatClampNeg) :: rest))) : W p l e R s m args below meth c H locs cells slots Q (F0 m pc ls (.int i :: .ref (b.ad k) :: rest)) := by
  obtain ⟨hx, hb, hml, hown, hts, hK, ok⟩ := X
  exact va_iald hx hb hK Y.1 (j + 1) 1 ((bcells_a b st hj).trans (by simp [bE, hk])) rfl hin hdg kk
theorem b_cald (X : bX p s m args c cc nL b) (Y : bY b s st H locs) (j k : Nat) (hj : bArrs[j]? = some k) (hk : bK k = 1) {i : Int32} (hin : vp_in i (bN k)) (hdg : decode cc pc = .ok (.caload, 1))
    (kk : W p l e R s m args below meth c H locs cells slots Q (F0 m (pc + 1) ls (.int (st.2.1 k i.toNatClampNeg) :: rest))) : W p l e R s m args below meth c H locs cells slots Q (F0 m pc ls (.int i :: .ref (b.ad k) :: rest)) := by
  obtain ⟨hx, hb, hml, hown, hts, hK, ok⟩ := X
  exact va_cald hx hb hK Y.1 (j + 1) 0 ((bcells_a b st hj).trans (by simp [bE, hk])) rfl hin hdg kk
theorem b_dald (X : bX p s m args c cc nL b) (Y : bY b s st H locs) (j k : Nat) (hj : bArrs[j]? = some k) (hk : bK k = 3) {i : Int32} (hin : vp_in i (bN k)) (hdg : decode cc pc = .ok (.daload, 1))
    (kk : W p l e R s m args below meth c H locs cells slots Q (F0 m (pc + 1) ls (.double (st.2.2 k i.toNatClampNeg) :: rest))) : W p l e R s m args below meth c H locs cells slots Q (F0 m pc ls (.int i :: .ref (b.ad k) :: rest)) := by
  obtain ⟨hx, hb, hml, hown, hts, hK, ok⟩ := X
  exact va_dald hx hb hK Y.1 (j + 1) 2 ((bcells_a b st hj).trans (by simp [bE, hk])) rfl hin hdg kk
theorem b_iast (X : bX p s m args c cc nL b) (Y : bY b s st H locs) (j k : Nat) (hj : bArrs[j]? = some k) (hk : bK k = 2) {i x : Int32} (hin : vp_in i (bN k)) (hdg : decode cc pc = .ok (.iastore, 1))
    (kk : ∀ (H1 : Heap) (locs1 : List Loc), bY b s (sA st k i.toNatClampNeg x) H1 locs1 → W p l e R s m args below meth c H1 locs1 cells slots Q (F0 m (pc + 1) ls rest)) : W p l e R s m args below meth c H locs cells slots Q (F0 m pc ls (.int x :: .int i :: .ref (b.ad k) :: rest)) := by
  obtain ⟨hx, hb, hml, hown, hts, hK, ok⟩ := X
  refine va_iast hx hb hK Y.1 (ok.2 st) Y.2 (j + 1) 1 (f := st.2.1 k) ((bcells_a b st hj).trans (by simp [bE, hk])) rfl hin hdg (fun H1 locs1 hP hD hS => ?_)
  rw [bcells_A b st hj hk] at hP
  exact kk H1 locs1 ⟨hP, hS⟩
theorem b_cast (X : bX p s m args c cc nL b) (Y : bY b s st H locs) (j k : Nat) (hj : bArrs[j]? = some k) (hk : bK k = 1) {i x : Int32} (hin : vp_in i (bN k)) (hdg : decode cc pc = .ok (.castore, 1))
    (kk : ∀ (H1 : Heap) (locs1 : List Loc), bY b s (sA st k i.toNatClampNeg (vp_nar .char x)) H1 locs1 → W p l e R s m args below meth c H1 locs1 cells slots Q (F0 m (pc + 1) ls rest)) : W p l e R s m args below meth c H locs cells slots Q (F0 m pc ls (.int x :: .int i :: .ref (b.ad k) :: rest)) := by
  obtain ⟨hx, hb, hml, hown, hts, hK, ok⟩ := X
  refine va_cast hx hb hK Y.1 (ok.2 st) Y.2 (j + 1) 0 (f := st.2.1 k) ((bcells_a b st hj).trans (by simp [bE, hk])) rfl hin hdg (fun H1 locs1 hP hD hS => ?_)
  rw [bcells_C b st hj hk] at hP
  exact kk H1 locs1 ⟨hP, hS⟩
theorem b_dast (X : bX p s m args c cc nL b) (Y : bY b s st H locs) (j k : Nat) (hj : bArrs[j]? = some k) (hk : bK k = 3) {i : Int32} {x : UInt64} (hin : vp_in i (bN k)) (hdg : decode cc pc = .ok (.dastore, 1))
    (kk : ∀ (H1 : Heap) (locs1 : List Loc), bY b s (sD st k i.toNatClampNeg x) H1 locs1 → W p l e R s m args below meth c H1 locs1 cells slots Q (F0 m (pc + 1) ls rest)) : W p l e R s m args below meth c H locs cells slots Q (F0 m pc ls (.double x :: .int i :: .ref (b.ad k) :: rest)) := by
  obtain ⟨hx, hb, hml, hown, hts, hK, ok⟩ := X
  refine va_dast hx hb hK Y.1 (ok.2 st) Y.2 (j + 1) 2 (f := st.2.2 k) ((bcells_a b st hj).trans (by simp [bE, hk])) rfl hin hdg (fun H1 locs1 hP hD hS => ?_)
  rw [bcells_D b st hj hk] at hP
  exact kk H1 locs1 ⟨hP, hS⟩
theorem b_call {y : MethodName} {bytes : ByteArray} {maxL n fr lo : Nat} {ret : Option FieldType} {st' : bS} {v : Option Value} (As : List Value) (X : bX p s m args c cc nL b) (Y : bY b s st H locs) (hM : bMet l y bytes maxL ret fr lo b As st v st')
    (h1 : Cond.methodLink RX2 idx y ∈ lw_all) (h2 : Cond.instanceMethod y ∈ lw_all) (h3 : Cond.selects RX2 y y ∈ lw_all) (h5 : Cond.code y bytes maxL ret ∈ lw_all)
    (hd : y.cls = RX2 ∧ y.cls ≠ "java/lang/invoke/MethodHandle" ∧ y.cls ≠ "java/lang/invoke/VarHandle" ∧ (parseMethodDescriptor y.desc).map (fun d => d.parameters.length) = some n) (hR : fr + 1 ≤ R.frames ∧ 8 + (maxL + 11) + lo ≤ R.locals)
    (hn : As.length = n) (hls : ls.size = nL) (hW : (rest.map fun v => v.category).sum ≤ 8) (hdg : decode cc pc = .ok (.invokevirtual idx, 3)) (hf : cells ≤ R.cells ∧ slots ≤ R.slots)
    (kk : ∀ (H1 : Heap) (locs1 : List Loc), bY b s st' H1 locs1 → W p l e R s m args below meth c H1 locs1 cells slots Q (F0 m (pc + 3) ls (v.toList ++ rest))) : W p l e R s m args below meth c H locs cells slots Q (F0 m pc ls (As.reverse ++ .ref b.h :: rest)) := by
  obtain ⟨hx, hb, hml, hown, hts, hK, ok⟩ := X
  have hr := va_runV (p := p) (e := e) (R := R) (below := below) (meth := meth) (locs := locs) (cells := cells) (slots := slots) (C := RX2) (As := As) (rest := rest) (g := F0 m pc ls (As.reverse ++ .ref b.h :: rest)) ⟨hx, hb, hml, hown, hts⟩ hM
    (cwV n hts (lw_V h1 h2 h3 q123 h5) rfl rfl rfl hd hR)
    ⟨fun a U g mk q => by obtain ⟨q0, qP, qK⟩ := q; exact ⟨q0, qP, va_K.moved (u := U) (U := U.calling g mk a) (Vm.Alike.refl U.vm) qK⟩, va_recv hK Y.1 ok.1 (bcells_0 b st), fun U hU hW => ⟨rfl, by rw [hU]; exact Y.1, va_K.moved hW.alike hK⟩⟩ rfl hn hls rfl (lv_room hW) hdg ⟨by simpa using hf.1, by simpa using hf.2⟩
  intro T hT Z
  obtain ⟨v', st₀, t, T', L, h0, X', hL, e1, e2, ⟨hv, hB, hz, hk⟩, stp⟩ := hr T hT Z
  cases hv
  rw [h0] at hz hk
  obtain ⟨t2, a1, b1⟩ := kk T'.heap (locs ++ L) ⟨by rw [e1]; exact hB.1, Nat.le_trans Y.2.1 (by rw [e1]; exact hz), fun q h1 h2 => by rw [e1, hk q (Nat.lt_of_lt_of_le h1 Y.2.1) h2]; exact Y.2.2.1 q h1 h2, fun q hq => by
      rcases List.mem_append.mp hq with h | h
      · exact Y.2.2.2 q h
      · exact hL q h⟩ T' rfl X'
  exact ⟨t2, stp t2 a1, b1⟩
end BROWS
section BRET
variable {p : Program} {l : Launch} {e : Env} {s : State} {m : MethodId} {below : List Frame} {meth : Method} {c : Code} {H : Heap} {locs : List Loc} {As : List Value} {fr lo : Nat}
variable {cc : ByteArray} {nL : Nat} {b : bP} {st : bS} {pc : Nat} {ls : Array Slot}
theorem b_iret {v : Int32} (X : bX p s m (Value.ref b.h :: As).toArray c cc nL b) (Y : bY b s st H locs) (hr : meth.sig.returnType = some .int) (hk : meth.locks = false) (hdg : decode cc pc = .ok (.ireturn, 1)) : bG l fr lo b As (some (.int v)) st p e s m below meth c H locs (F0 m pc ls [.int v]) :=
  W.iret X.1 X.2.1 hr (fun t ht hW => ⟨rfl, ⟨by rw [ht]; exact Y.1, va_K.moved hW.alike X.2.2.2.2.2.1⟩, Y.2.F ht⟩) Y.2.2.2 hdg hk
theorem b_zret {v : Int32} {ty : FieldType} (X : bX p s m (Value.ref b.h :: As).toArray c cc nL b) (Y : bY b s st H locs) (hr : meth.sig.returnType = some ty) (hk : meth.locks = false) (hn : narrow ty (.int v) = .int v) (hdg : decode cc pc = .ok (.ireturn, 1)) : bG l fr lo b As (some (.int v)) st p e s m below meth c H locs (F0 m pc ls [.int v]) :=
  W.zret X.1 X.2.1 hr hn (fun t ht hW => ⟨rfl, ⟨by rw [ht]; exact Y.1, va_K.moved hW.alike X.2.2.2.2.2.1⟩, Y.2.F ht⟩) Y.2.2.2 hdg hk
theorem b_vret (X : bX p s m (Value.ref b.h :: As).toArray c cc nL b) (Y : bY b s st H locs) (hr : meth.sig.returnType = none) (hk : meth.locks = false) (hdg : decode cc pc = .ok (.return_, 1)) : bG l fr lo b As none st p e s m below meth c H locs (F0 m pc ls []) :=
  W.vret X.1 X.2.1 hr (fun t ht hW => ⟨rfl, ⟨by rw [ht]; exact Y.1, va_K.moved hW.alike X.2.2.2.2.2.1⟩, Y.2.F ht⟩) Y.2.2.2 hdg hk
theorem b_lret {v : Int64} (X : bX p s m (Value.ref b.h :: As).toArray c cc nL b) (Y : bY b s st H locs) (hr : meth.sig.returnType = some .long) (hk : meth.locks = false) (hdg : decode cc pc = .ok (.lreturn, 1)) : bG l fr lo b As (some (.long v)) st p e s m below meth c H locs (F0 m pc ls [.long v]) :=
  W.lret X.1 X.2.1 hr (fun t ht hW => ⟨rfl, ⟨by rw [ht]; exact Y.1, va_K.moved hW.alike X.2.2.2.2.2.1⟩, Y.2.F ht⟩) Y.2.2.2 hdg hk
theorem b_dret {v : UInt64} (X : bX p s m (Value.ref b.h :: As).toArray c cc nL b) (Y : bY b s st H locs) (hr : meth.sig.returnType = some .double) (hk : meth.locks = false) (hdg : decode cc pc = .ok (.dreturn, 1)) : bG l fr lo b As (some (.double v)) st p e s m below meth c H locs (F0 m pc ls [.double v]) :=
  W.dret X.1 X.2.1 hr (fun t ht hW => ⟨rfl, ⟨by rw [ht]; exact Y.1, va_K.moved hW.alike X.2.2.2.2.2.1⟩, Y.2.F ht⟩) Y.2.2.2 hdg hk
end BRET
/-! the pure side's own words -/
abbrev nOk (r : UInt64) : Prop := r &&& 0x7fffffffffffffff ≤ 0x7ff0000000000000
def nN (r : UInt64) : Option UInt64 := if nOk r then some r else none
def ldA (st : bS) (k : Nat) (i : Int32) : Option Int32 := if (i < 0 ∨ bN k ≤ i.toNatClampNeg) then none else some (st.2.1 k i.toNatClampNeg)
def ldD (st : bS) (k : Nat) (i : Int32) : Option UInt64 := if (i < 0 ∨ bN k ≤ i.toNatClampNeg) then none else some (st.2.2 k i.toNatClampNeg)
def stA (st : bS) (k : Nat) (i x : Int32) : Option bS := if (i < 0 ∨ bN k ≤ i.toNatClampNeg) then none else some (sA st k i.toNatClampNeg x)
def stC (st : bS) (k : Nat) (i x : Int32) : Option bS := if (i < 0 ∨ bN k ≤ i.toNatClampNeg) then none else some (sA st k i.toNatClampNeg (vp_nar .char x))
def stD (st : bS) (k : Nat) (i : Int32) (x : UInt64) : Option bS := if (i < 0 ∨ bN k ≤ i.toNatClampNeg) then none else some (sD st k i.toNatClampNeg x)
theorem e_bind {α β : Type} {x : Option α} {f : α → Option β} {r : β} (h : x.bind f = some r) : ∃ a, x = some a ∧ f a = some r := by
  cases x with
  | none => cases h
  | some a => exact ⟨a, rfl, h⟩
theorem e_t {α : Type} {c : Prop} {d : Decidable c} {a b : Option α} {r : α} (h : c) (e : @ite _ c d a b = some r) : a = some r := by rw [if_pos h] at e; exact e
theorem e_f {α : Type} {c : Prop} {d : Decidable c} {a b : Option α} {r : α} (h : ¬ c) (e : @ite _ c d a b = some r) : b = some r := by rw [if_neg h] at e; exact e
theorem e_nN {x v : UInt64} (h : nN x = some v) : vf_n64 x ∧ v = x := by
  unfold nN at h
  by_cases g : nOk x
  · rw [if_pos g] at h; cases h; exact ⟨g, rfl⟩
  · rw [if_neg g] at h; cases h
theorem e_ldA {st : bS} {k : Nat} {i v : Int32} (h : ldA st k i = some v) : vp_in i (bN k) ∧ v = st.2.1 k i.toNatClampNeg := by
  unfold ldA at h
  by_cases g : (i < 0 ∨ bN k ≤ i.toNatClampNeg)
  · rw [if_pos g] at h; cases h
  · rw [if_neg g] at h; cases h; exact ⟨g, rfl⟩
theorem e_ldD {st : bS} {k : Nat} {i : Int32} {v : UInt64} (h : ldD st k i = some v) : vp_in i (bN k) ∧ v = st.2.2 k i.toNatClampNeg := by
  unfold ldD at h
  by_cases g : (i < 0 ∨ bN k ≤ i.toNatClampNeg)
  · rw [if_pos g] at h; cases h
  · rw [if_neg g] at h; cases h; exact ⟨g, rfl⟩
theorem e_stA {st st' : bS} {k : Nat} {i v : Int32} (h : stA st k i v = some st') : vp_in i (bN k) ∧ st' = sA st k i.toNatClampNeg v := by
  unfold stA at h
  by_cases g : (i < 0 ∨ bN k ≤ i.toNatClampNeg)
  · rw [if_pos g] at h; cases h
  · rw [if_neg g] at h; cases h; exact ⟨g, rfl⟩
theorem e_stC {st st' : bS} {k : Nat} {i v : Int32} (h : stC st k i v = some st') : vp_in i (bN k) ∧ st' = sA st k i.toNatClampNeg (vp_nar .char v) := by
  unfold stC at h
  by_cases g : (i < 0 ∨ bN k ≤ i.toNatClampNeg)
  · rw [if_pos g] at h; cases h
  · rw [if_neg g] at h; cases h; exact ⟨g, rfl⟩
theorem e_stD {st st' : bS} {k : Nat} {i : Int32} {v : UInt64} (h : stD st k i v = some st') : vp_in i (bN k) ∧ st' = sD st k i.toNatClampNeg v := by
  unfold stD at h
  by_cases g : (i < 0 ∨ bN k ≤ i.toNatClampNeg)
  · rw [if_pos g] at h; cases h
  · rw [if_neg g] at h; cases h; exact ⟨g, rfl⟩
theorem narrow_i (v : Int32) : narrow .int (.int v) = .int v := rfl
theorem e_sw {x : Int32} {lo hi : Int} (h : ¬ (lo ≤ x.toInt ∧ x.toInt ≤ hi)) : x.toInt < lo ∨ hi < x.toInt := by omega

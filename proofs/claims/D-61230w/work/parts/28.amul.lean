/-! new double[6][6] (multianewarray), by the model's own words: the outer array first, then a row at a time, each hung in -/
section AMUL
def mm_oC (c : ClassId) (h0 i : Nat) : Cell := arrV c 6 (fun j => if j < i then .ref (h0 + 1 + j) else .null)
def mm_iC (d : ClassId) : Cell := arrV d 6 (fun _ => .double 0)
theorem mm_oC_zero (c : ClassId) (h0 : Nat) : ({ cls := c, slots := Array.replicate 6 .null, vm := .none } : Cell) = mm_oC c h0 0 := by
  rw [arrV_new]
  unfold mm_oC
  congr 1
theorem mm_oC_succ (c : ClassId) (h0 i : Nat) : (mm_oC c h0 i).setSlot i (.ref (h0 + 1 + i)) = mm_oC c h0 (i + 1) := by
  unfold mm_oC
  rw [arrV_store]
  congr 1
  funext j
  unfold updV
  by_cases h : j = i
  · subst h; simp
  · rw [if_neg h]
    dsimp only
    by_cases g : j < i
    · rw [if_pos g, if_pos (by omega)]
    · rw [if_neg g, if_neg (by omega)]
/-- the state behind i rows -/
def mm_mF (s : State) (c d : ClassId) : Nat → State
  | 0 => s.pushCell (mm_oC c s.heap.size 0)
  | i + 1 => ((mm_mF s c d i).pushCell (mm_iC d)).setCell s.heap.size (mm_oC c s.heap.size (i + 1))
theorem mm_mF_facts (s : State) (c d : ClassId) : ∀ i, (mm_mF s c d i).heap.size = s.heap.size + 1 + i ∧ (mm_mF s c d i).heap[s.heap.size]? = some (mm_oC c s.heap.size i) ∧ (mm_mF s c d i).vm = s.vm ∧ (mm_mF s c d i).slotsUsed = s.slotsUsed + 6 + i * 6 ∧ (∀ a : Nat, a < s.heap.size → (mm_mF s c d i).heap[a]? = s.heap[a]?) ∧ (∀ j, j < i → (mm_mF s c d i).heap[s.heap.size + 1 + j]? = some (mm_iC d))
  | 0 => ⟨by simp [mm_mF], by simp [mm_mF], rfl, by simp [mm_mF, mm_oC, arrV_size], fun a h => State.heap_pushCell_of_lt _ _ h, fun j h => absurd h (Nat.not_lt_zero _)⟩
  | i + 1 => by
    obtain ⟨f1, f2, f3, f4, f5, f6⟩ := mm_mF_facts s c d i
    have hlt : s.heap.size < (mm_mF s c d i).heap.size := by omega
    have hb : ((mm_mF s c d i).pushCell (mm_iC d)).heap[s.heap.size]? = some (mm_oC c s.heap.size i) := by rw [State.heap_pushCell_of_lt (h := hlt)]; exact f2
    refine ⟨?_, State.heap_setCell_self hb, by simp [mm_mF, f3], ?_, fun a h => ?_, fun j h => ?_⟩
    · simp [mm_mF, State.setCell, f1]; omega
    · simp [mm_mF, f4, mm_iC, arrV_size]; omega
    · show (((mm_mF s c d i).pushCell (mm_iC d)).setCell s.heap.size _).heap[a]? = _
      have hlt2 : a < (mm_mF s c d i).heap.size := by omega
      rw [State.heap_setCell_other (Nat.ne_of_gt h), State.heap_pushCell_of_lt (h := hlt2)]
      exact f5 a h
    · show (((mm_mF s c d i).pushCell (mm_iC d)).setCell s.heap.size _).heap[s.heap.size + 1 + j]? = _
      rw [State.heap_setCell_other (show s.heap.size ≠ s.heap.size + 1 + j by omega)]
      rcases Nat.lt_or_ge j i with hj | hj
      · have hlt2 : s.heap.size + 1 + j < (mm_mF s c d i).heap.size := by omega
        rw [State.heap_pushCell_of_lt (h := hlt2)]
        exact f6 j hj
      · have e : j = i := by omega
        subst e
        rw [← f1]
        exact State.heap_pushCell_size _ _
theorem mm_mF_top (s : State) (f : JFrame) (c d : ClassId) : ∀ i, mm_mF (s.setTop f) c d i = (mm_mF s c d i).setTop f
  | 0 => rfl
  | i + 1 => by simp only [mm_mF, mm_mF_top s f c d i, State.heap_setTop, State.pushCell_setTop, State.setCell_setTop]
section
variable {E : CtlPost} {e : Env} {d : Bool} {acts : List Action} {s : State}
theorem mm_w_new {c comp : ClassId} {k : Class} {type : FieldType} {init : Value} (hk : s.vm.classes[c]? = some k) (hkind : k.kind = .array comp type)
    (hlimit : ¬ 6 > e.platform.arrayLengthLimit) (hheap : ¬ 6 * componentBytes type > e.platform.maxHeapBytes) (hfit : fits type init = true) (hdef : init.isDefault = true) {Q : Addr → Pre}
    (h1 : s.heap.size < e.platform.maxCells) (h2 : s.slotsUsed + 6 ≤ e.platform.maxSlots)
    (hq : Q s.heap.size d acts (s.pushCell { cls := c, slots := Array.replicate 6 init, vm := .none })) :
    wp (Jvm.newArray c 6 init) Q E e d acts s := by
  have hfits : ∀ i v, (Array.replicate 6 init)[i]? = some v → s.fitsSlot c .none i v = true := by
    intro i v hv
    simp only [Array.getElem?_replicate] at hv
    split at hv
    · cases hv; simp [State.fitsSlot, State.slotType?, hk, hkind, hfit]
    · cases hv
  have hda : allocActs (Array.replicate 6 init) s.heap.size acts = acts := by
    have hall : ((Array.replicate 6 init).all (·.isDefault)) = true := by
      rw [Array.all_replicate]; split <;> simp [hdef]
    unfold allocActs; rw [if_pos hall]
  simp only [Jvm.newArray, Jvm.arrayFits, wp_bind', W.ask, W.ite, hlimit, if_false, wp_pure', W.theClass, hk, hkind, hheap, W.alloc, W.stop, Option.some.injEq, exists_eq_left', Array.size_replicate, hda]
  rw [if_neg (by omega)]
  exact ⟨h1, h2, hfits, hq⟩
theorem mm_w_row {comp cc : ClassId} {kc : Class} (hkc : s.vm.classes[comp]? = some kc) (hkindc : kc.kind = .array cc .double)
    (hl : ¬ 6 > e.platform.arrayLengthLimit) (hh : ¬ 6 * 8 > e.platform.maxHeapBytes) (h1 : s.heap.size < e.platform.maxCells) (h2 : s.slotsUsed + 6 ≤ e.platform.maxSlots)
    {Q : Addr → Pre} (hq : Q s.heap.size d acts (s.pushCell (mm_iC comp))) : wp (multianewarray.make comp [6]) Q E e d acts s := by
  rw [multianewarray.make]
  simp only [wp_bind', W.ite, show ¬ ((6 : Int32) < 0) by decide, if_false, wp_pure', W.theClass, hkc, hkindc, Option.some.injEq, exists_eq_left']
  refine mm_w_new (type := .double) hkc hkindc hl hh rfl rfl h1 h2 ?_
  rw [arrV_new]
  exact hq
theorem mm_w_all {c comp cc : ClassId} {k kc : Class} (hk : s.vm.classes[c]? = some k) (hkind : k.kind = .array comp (.array .double))
    (hkc : s.vm.classes[comp]? = some kc) (hkindc : kc.kind = .array cc .double)
    (hl : ¬ 6 > e.platform.arrayLengthLimit) (hh : ¬ 6 * 8 > e.platform.maxHeapBytes)
    (h1 : s.heap.size + 7 ≤ e.platform.maxCells) (h2 : s.slotsUsed + 42 ≤ e.platform.maxSlots)
    {Q : Addr → Pre} (hq : ∀ d' acts', Q s.heap.size d' acts' (mm_mF s c comp 6)) : wp (multianewarray.make c [6, 6]) Q E e d acts s := by
  rw [multianewarray.make]
  simp only [wp_bind', W.ite, show ¬ ((6 : Int32) < 0) by decide, if_false, wp_pure', W.theClass, hk, hkind, Option.some.injEq, exists_eq_left']
  refine mm_w_new (type := .array .double) hk hkind hl (by show ¬ 6 * 4 > _; omega) rfl rfl (by omega) (by omega) ?_
  rw [mm_oC_zero c s.heap.size, if_neg (by decide), wp_bind', Std.Legacy.Range.forIn_eq_forIn_range']
  show wp (forIn (List.range' 0 6 1) PUnit.unit _) _ E e d acts _
  refine wp_forIn_inv (fun rest s' => ∃ i, i ≤ 6 ∧ rest = List.range' i (6 - i) ∧ s' = mm_mF s c comp i) _ _ ⟨0, Nat.zero_le _, rfl, rfl⟩ ?_ ?_
  · rintro x rest s' d' acts' Q' ⟨i, hi, hl9, rfl⟩ hnext
    have hlt : i < 6 := by
      rcases Nat.lt_or_ge i 6 with h | h
      · exact h
      · rw [show 6 - i = 0 from by omega] at hl9; simp at hl9
    obtain ⟨rfl, hrest⟩ : x = i ∧ rest = List.range' (i + 1) (6 - (i + 1)) := by
      rw [show 6 - i = (6 - (i + 1)) + 1 from by omega, List.range'_succ] at hl9
      exact ⟨(List.cons.inj hl9).1, (List.cons.inj hl9).2⟩
    obtain ⟨f1, f2, f3, f4, -, -⟩ := mm_mF_facts s c comp x
    simp only [wp_bind']
    refine mm_w_row (by rw [f3]; exact hkc) hkindc hl hh (by rw [f1]; omega) (by rw [f4]; omega) ?_
    have hlt0 : s.heap.size < (mm_mF s c comp x).heap.size := by rw [f1]; omega
    simp only [wp_bind', W.writeLoc, wp_pure']
    refine ⟨mm_oC c s.heap.size x, by rw [State.heap_pushCell_of_lt (h := hlt0)]; exact f2, by simp [mm_oC, arrV], by rw [mm_oC, arrV_size]; exact hlt, ?_, hnext _ _ _ ⟨x + 1, hlt, hrest, ?_⟩⟩
    · show State.fitsSlot _ c .none _ _ = true
      simp [State.fitsSlot, State.slotType?, f3, hk, hkind]
      rfl
    · rw [f1, mm_oC_succ]; rfl
  · rintro s' d' acts' ⟨i, hi, hl9, rfl⟩
    have hi6 : i = 6 := by
      rcases Nat.lt_or_ge i 6 with h | h
      · rw [show 6 - i = (6 - (i + 1)) + 1 from by omega, List.range'_succ] at hl9; cases hl9
      · omega
    subst hi6
    simp only [wp_pure']
    exact hq _ _
end
variable {p : Program} {l : Launch} {e : Env} {R : Room} {s : State} {m : MethodId} {args : Array Value} {below : List Frame} {meth : Method} {c : Code} {T : State} {locs : List Loc} {cells slots : Nat}
theorem mm_mF_stand (X : Stand p l e R s m args below meth c T locs cells slots) (cA comp : ClassId) : ∀ i, Stand p l e R s m args below meth c (mm_mF T cA comp i) locs (cells + 1 + i) (slots + 6 + i * 6)
  | 0 => by
    have h := X.pushed (mm_oC cA T.heap.size 0)
    rw [show (mm_oC cA T.heap.size 0).slots.size = 6 from arrV_size _ _ _] at h
    exact h
  | i + 1 => by
    have Xi := mm_mF_stand X cA comp i
    obtain ⟨f1, f2, -⟩ := mm_mF_facts T cA comp i
    have hlt : T.heap.size < (mm_mF T cA comp i).heap.size := by rw [f1]; omega
    have hcell : ((mm_mF T cA comp i).pushCell (mm_iC comp)).heap[T.heap.size]? = some (mm_oC cA T.heap.size i) := by rw [State.heap_pushCell_of_lt (h := hlt)]; exact f2
    have h := ((Xi.pushed (mm_iC comp)).stored hcell i (.ref (T.heap.size + 1 + i))).dropFresh (fun w hw => by
      simp only [List.mem_singleton] at hw
      subst hw
      exact X.heapGrown)
    rw [mm_oC_succ, show (mm_iC comp).slots.size = 6 from arrV_size _ _ _] at h
    rw [show slots + 6 + (i + 1) * 6 = slots + 6 + i * 6 + 6 by omega]
    exact h
theorem mm_st_newM (X : Stand p l e R s m args below meth c T locs cells slots) (hexec : p.tables.exec = Jvm.exec) {own : String} {index : Nat}
    (hown : s.vm.findClass own = some m.cls) (hclink : (Cond.classLink own index "[[D").before args s = true)
    (hover : (Cond.arrayOver (.array .double)).before #[] s = true) (harr : (Cond.arrayClass .double).before args s = true)
    {g : JFrame} (hg : g.method = m) (hdg : decode c.code g.pc = .ok (.multianewarray index 2, 4)) {rest : List Value} (hstack : g.stack = .int 6 :: .int 6 :: rest)
    (hcells : cells + 7 ≤ R.cells) (hslots : slots + 42 ≤ R.slots) :
    ∃ (vm₁ : Vm) (cA comp : ClassId), s.vm.findClass "[[D" = some cA ∧ s.vm.findClass "[D" = some comp ∧
      Stand p l e R s m args below meth c (mm_mF (T.setVm vm₁) cA comp 6) locs (cells + 7) (slots + 42) ∧
      ∀ target, Steps p.tables e below ((mm_mF (T.setVm vm₁) cA comp 6).setTop { g with pc := g.pc + 4, stack := .ref T.heap.size :: rest }) target → Steps p.tables e below (T.setTop g) target := by
  subst hg
  have hpl : e.platform.magicAccessors = ({} : Platform).magicAccessors := by rw [X.admits.platform]
  obtain ⟨comp, cA, kA, hcomp, -, hkA, hkindA, hnameA⟩ := arrayOverA_spec hover
  obtain ⟨comp', kC, cc, hcomp', hkC, hkindC⟩ := Cond.arrayClass_spec harr
  have ecomp : comp' = comp := Option.some.inj (hcomp'.symm.trans hcomp)
  subst ecomp
  obtain ⟨c0, hfc0, hcl⟩ := Cond.classLink_spec hown hclink e.platform hpl
  have ec0 : cA = c0 := Option.some.inj (hnameA.symm.trans hfc0)
  subst ec0
  obtain ⟨hg₁, hwarm₁, hready₁⟩ := State.classEntry (e := e) X.warmed hcl
  generalize T.vm.noted g.method.cls index (.cls cA) = vm₁ at hg₁ hwarm₁ hready₁
  have hal : s.vm.Alike vm₁ := hwarm₁.alike
  obtain ⟨kA₁, hkA₁, heA⟩ := hal.2.2 _ _ hkA
  obtain ⟨kC₁, hkC₁, heC⟩ := hal.2.2 _ _ hkC
  have hkindA₁ : kA₁.kind = .array comp' (.array .double) := by rw [heA]; exact hkindA
  have hkindC₁ : kC₁.kind = .array cc .double := by rw [heC]; exact hkindC
  have X₁ := X.noted hwarm₁
  obtain ⟨hr1, hr2⟩ := X.roomAbove hcells hslots
  have XF := mm_mF_stand X₁ cA comp' 6
  refine ⟨vm₁, cA, comp', hnameA, hcomp, XF, fun target hrest => ?_⟩
  have hl : ¬ 6 > e.platform.arrayLengthLimit := by rw [Launch.admits_arrayLengthLimit X.admits]; omega
  have hh : ¬ 6 * 8 > e.platform.maxHeapBytes := by rw [Launch.admits_maxHeapBytes X.admits]; omega
  jvm_step X.here [hexec, hdg]
  simp only [multianewarray.sem, wp_bind', W.resolveClassAt_links (State.method?_setTop g X.here.top) hg₁]
  rw [W.popN, if_neg (by decide)]
  refine ⟨g, State.topJava?_setTop' (s := T.setVm vm₁) g X.here.top, [.int 6, .int 6], rest, rfl, hstack, ?_⟩
  simp only [List.mapM_cons, List.mapM_nil, wp_bind', wp_pure']
  refine mm_w_all (k := kA₁) (kc := kC₁) (comp := comp') (cc := cc) hkA₁ hkindA₁ hkC₁ hkindC₁ hl hh (by show T.heap.size + 7 ≤ _; omega) (by show T.slotsUsed + _ ≤ _; omega) (fun d' acts' => ?_)
  have eS : ((T.setTop g).setVm vm₁).setTop { g with stack := rest } = (T.setVm vm₁).setTop { g with stack := rest } := by
    show ((T.setVm vm₁).setTop g).setTop _ = _
    rw [State.setTop_setTop]
  rw [eS, mm_mF_top]
  simp only [wp_bind', W.mark, W.pushRef, State.topJava?_setTop' _ XF.here.top, Option.some.injEq, exists_eq_left', State.setTop_setTop, State.heap_setTop]
  intro acts
  simp [jvm, XF.here.top]
  exact hrest
end AMUL

/-! contracts of the machine (printed by gena.py) -/
/-! BasicMachine.begin()V -/
set_option maxHeartbeats 4000000 in
set_option maxRecDepth 100000 in
theorem waf_X1_begin_L96 {l : Launch} {x : aP} {As : List Value} {σ0 : aS} {p : Program} {e : Env} {s : State} {m : MethodId} {below : List Frame} {meth : Method} {c : Code} {mc ms : Nat} (X : aX "BasicMachine" p l s m As.toArray meth c cX1_begin 2 x σ0) (hex : ∀ z ∈ c.exceptionTable.toList, False) (hr : meth.sig.returnType = none) (hnm : "begin" = meth.name) {n : Nat} {st : aS} {a0 : Nat} {z96_1 : Int32} {q : aS × Unit} (hE : af_X1_begin_L96 n x.sK st a0 z96_1 = some q) (h1 : mc + σ0.1 = q.1.1) (h2 : ms + σ0.2.1 = q.1.2.1) {H : Heap} {locs : List Loc} {ls : Array Slot} {kc ks : Nat} (Y : aY x σ0 s st H locs kc ks) (hl : lv_has ls 2 [(0, .ref a0)]) : aG l 0 0 mc ms x As σ0 (.inl none) q.1 p e s m below meth c H locs kc ks (F0 m 96 ls [.int z96_1, .ref a0]) := by
  have hx := X.1
  have hb := X.2.1
  have hown := X.2.2.2.1
  have hts := X.2.2.2.2.1
  have hK := X.2.2.2.2.2.1
  have hl0 := X.2.2.2.2.2.2.2.2
  unfold af_X1_begin_L96 at hE
  replace hE := e_bind hE
  obtain ⟨v_1, g, hE⟩ := hE
  obtain ⟨g1, g2, g3⟩ := i_bz g
  refine n_eqi g1 ?_
  replace hE := e_bind hE
  obtain ⟨st_2, g, hE⟩ := hE
  refine a_putV X Y k_X1 20 g (by decide) rfl g2 g3 q235 dX1_begin_96 (fun H locs Y => ?_)
  cases hE
  exact a_vret X Y h1 h2 hr dX1_begin_99
set_option maxHeartbeats 4000000 in
set_option maxRecDepth 100000 in
theorem waf_X1_begin_S23_ {l : Launch} {x : aP} {As : List Value} {σ0 : aS} {p : Program} {e : Env} {s : State} {m : MethodId} {below : List Frame} {meth : Method} {c : Code} {mc ms : Nat} (X : aX "BasicMachine" p l s m As.toArray meth c cX1_begin 2 x σ0) (hex : ∀ z ∈ c.exceptionTable.toList, False) (hr : meth.sig.returnType = none) (hnm : "begin" = meth.name) {n : Nat} {q : aS × Unit} : ∀ k : Nat, (∀ {st : aS} {a0 : Nat} {x1 : Int32}, af_X1_begin_S23 n x.sK k st a0 x1 = some q → (mc + σ0.1 = q.1.1) → (ms + σ0.2.1 = q.1.2.1) → ∀ {H : Heap} {locs : List Loc} {ls : Array Slot} {kc ks : Nat}, aY x σ0 s st H locs kc ks → lv_has ls 2 [(0, .ref a0), (1, .int x1)] → aG l 0 0 mc ms x As σ0 (.inl none) q.1 p e s m below meth c H locs kc ks (F0 m 23 ls [])) := by
  have hx := X.1
  have hb := X.2.1
  have hown := X.2.2.2.1
  have hts := X.2.2.2.2.1
  have hK := X.2.2.2.2.2.1
  have hl0 := X.2.2.2.2.2.2.2.2
  intro k
  induction k with
  | zero => exact fun h => nomatch (show none = some q from h)
  | succ k ih =>
    have mrec := @oaf_X1_begin_S23_ n x.sK k
    intro st a0 x1 hE h1 h2 H locs ls kc ks Y hl
    replace hE : af_X1_begin_B23 n x.sK (af_X1_begin_S23 n x.sK k) st a0 x1 = some q := hE
    unfold af_X1_begin_B23 at hE
    refine lv_iload_n hx hb dX1_begin_23 rfl (lv_at hl 1 rfl) ?_
    refine lv_iconst (v := 3) hx hb dX1_begin_24 (by decide) ?_
    refine lv_icmp_ge (tgt := 48) hx hb dX1_begin_25 (by decide) (fun c_1 => ?_) (fun c_1 => ?_)
    · replace hE := e_t c_1 hE
      refine lv_aload_n hx hb dX1_begin_48 rfl (lv_at hl 0 rfl) ?_
      refine lv_iconst (v := 0) hx hb dX1_begin_49 (by decide) ?_
      replace hE := e_bind hE
      obtain ⟨st_2, g, hE⟩ := hE
      refine a_putV X Y k_X1 9 g (by decide) rfl rfl rfl q210 dX1_begin_50 (fun H locs Y => ?_)
      refine lv_aload_n hx hb dX1_begin_53 rfl (lv_at hl 0 rfl) ?_
      refine lv_iconst (v := 0) hx hb dX1_begin_54 (by decide) ?_
      replace hE := e_bind hE
      obtain ⟨st_3, g, hE⟩ := hE
      refine a_putV X Y k_X1 13 g (by decide) rfl rfl rfl q220 dX1_begin_55 (fun H locs Y => ?_)
      refine lv_aload_n hx hb dX1_begin_58 rfl (lv_at hl 0 rfl) ?_
      refine lv_iconst (v := 0) hx hb dX1_begin_59 (by decide) ?_
      replace hE := e_bind hE
      obtain ⟨st_4, g, hE⟩ := hE
      refine a_putV X Y k_X1 15 g (by decide) rfl rfl rfl q226 dX1_begin_60 (fun H locs Y => ?_)
      refine lv_aload_n hx hb dX1_begin_63 rfl (lv_at hl 0 rfl) ?_
      refine lv_iconst (v := 0) hx hb dX1_begin_64 (by decide) ?_
      replace hE := e_bind hE
      obtain ⟨st_5, g, hE⟩ := hE
      refine a_putV X Y k_X1 17 g (by decide) rfl rfl rfl q230 dX1_begin_65 (fun H locs Y => ?_)
      refine lv_aload_n hx hb dX1_begin_68 rfl (lv_at hl 0 rfl) ?_
      refine lv_iconst (v := 0) hx hb dX1_begin_69 (by decide) ?_
      replace hE := e_bind hE
      obtain ⟨st_6, g, hE⟩ := hE
      refine a_putV X Y k_X1 18 g (by decide) rfl rfl rfl q232 dX1_begin_70 (fun H locs Y => ?_)
      refine lv_aload_n hx hb dX1_begin_73 rfl (lv_at hl 0 rfl) ?_
      refine lv_iconst (v := 0) hx hb dX1_begin_74 (by decide) ?_
      replace hE := e_bind hE
      obtain ⟨st_7, g, hE⟩ := hE
      refine a_putV X Y k_X1 21 g (by decide) rfl rfl rfl q236 dX1_begin_75 (fun H locs Y => ?_)
      refine lv_aload_n hx hb dX1_begin_78 rfl (lv_at hl 0 rfl) ?_
      refine lv_iconst (v := -1) hx hb dX1_begin_79 (by decide) ?_
      replace hE := e_bind hE
      obtain ⟨st_8, g, hE⟩ := hE
      refine a_putV X Y k_X1 22 g (by decide) rfl rfl rfl q237 dX1_begin_80 (fun H locs Y => ?_)
      refine lv_aload_n hx hb dX1_begin_83 rfl (lv_at hl 0 rfl) ?_
      refine lv_aload_n hx hb dX1_begin_84 rfl (lv_at hl 0 rfl) ?_
      replace hE := e_bind hE
      obtain ⟨r_9, g, hE⟩ := hE
      refine n_gR X Y k_X1 3 g (by decide) q193 dX1_begin_85 ?_
      refine r_ifnonnull (tgt := 95) hx hb dX1_begin_88 (by decide) (fun c_10 => ?_) (fun c_10 => ?_)
      · replace hE := e_f c_10 hE
        refine lv_iconst (v := 0) hx hb dX1_begin_95 (by decide) ?_
        exact waf_X1_begin_L96 X hex hr hnm hE h1 h2 Y (lv_sub hl [0] rfl)
      · replace hE := e_t c_10 hE
        refine lv_iconst (v := 1) hx hb dX1_begin_91 (by decide) ?_
        refine lv_goto (tgt := 96) hx hb dX1_begin_92 (by decide) ?_
        exact waf_X1_begin_L96 X hex hr hnm hE h1 h2 Y (lv_sub hl [0] rfl)
    · replace hE := e_f c_1 hE
      refine lv_aload_n hx hb dX1_begin_28 rfl (lv_at hl 0 rfl) ?_
      replace hE := e_bind hE
      obtain ⟨r_11, g, hE⟩ := hE
      refine n_gR X Y k_X1 6 g (by decide) q204 dX1_begin_29 ?_
      refine lv_iload_n hx hb dX1_begin_32 rfl (lv_at hl 1 rfl) ?_
      refine lv_null hx hb dX1_begin_33 ?_
      replace hE := e_bind hE
      obtain ⟨a_12, g, hE⟩ := hE
      subst g
      replace hE := e_bind hE
      obtain ⟨st_13, g, hE⟩ := hE
      refine a_aastN X Y (by decide) rfl g dX1_begin_34 (fun H locs Y => ?_)
      refine lv_aload_n hx hb dX1_begin_35 rfl (lv_at hl 0 rfl) ?_
      replace hE := e_bind hE
      obtain ⟨r_14, g, hE⟩ := hE
      refine n_gR X Y k_X1 8 g (by decide) q208 dX1_begin_36 ?_
      refine lv_iload_n hx hb dX1_begin_39 rfl (lv_at hl 1 rfl) ?_
      refine lv_null hx hb dX1_begin_40 ?_
      replace hE := e_bind hE
      obtain ⟨a_15, g, hE⟩ := hE
      subst g
      replace hE := e_bind hE
      obtain ⟨st_16, g, hE⟩ := hE
      refine a_aastN X Y (by decide) rfl g dX1_begin_41 (fun H locs Y => ?_)
      refine lv_iinc (v := (x1 + (1 : Int32))) (lv' := [(1, .int (x1 + (1 : Int32))), (0, .ref a0)]) hx hb dX1_begin_42 hl (k := 1) rfl rfl (by decide) rfl (fun ls hl => ?_)
      refine lv_goto (tgt := 23) hx hb dX1_begin_45 (by decide) ?_
      exact ih hE h1 h2 Y (lv_sub hl [1, 0] rfl)
set_option maxHeartbeats 4000000 in
set_option maxRecDepth 100000 in
theorem waf_X1_begin_S23 {l : Launch} {x : aP} {As : List Value} {σ0 : aS} {p : Program} {e : Env} {s : State} {m : MethodId} {below : List Frame} {meth : Method} {c : Code} {mc ms : Nat} (X : aX "BasicMachine" p l s m As.toArray meth c cX1_begin 2 x σ0) (hex : ∀ z ∈ c.exceptionTable.toList, False) (hr : meth.sig.returnType = none) (hnm : "begin" = meth.name) {n : Nat} {q : aS × Unit} : (∀ {st : aS} {a0 : Nat} {x1 : Int32}, af_X1_begin_S23 n x.sK n st a0 x1 = some q → (mc + σ0.1 = q.1.1) → (ms + σ0.2.1 = q.1.2.1) → ∀ {H : Heap} {locs : List Loc} {ls : Array Slot} {kc ks : Nat}, aY x σ0 s st H locs kc ks → lv_has ls 2 [(0, .ref a0), (1, .int x1)] → aG l 0 0 mc ms x As σ0 (.inl none) q.1 p e s m below meth c H locs kc ks (F0 m 23 ls [])) := waf_X1_begin_S23_ X hex hr hnm n
set_option maxHeartbeats 4000000 in
set_option maxRecDepth 100000 in
theorem waf_X1_begin_S2_ {l : Launch} {x : aP} {As : List Value} {σ0 : aS} {p : Program} {e : Env} {s : State} {m : MethodId} {below : List Frame} {meth : Method} {c : Code} {mc ms : Nat} (X : aX "BasicMachine" p l s m As.toArray meth c cX1_begin 2 x σ0) (hex : ∀ z ∈ c.exceptionTable.toList, False) (hr : meth.sig.returnType = none) (hnm : "begin" = meth.name) {n : Nat} {q : aS × Unit} : ∀ k : Nat, (∀ {st : aS} {a0 : Nat} {x1 : Int32}, af_X1_begin_S2 n x.sK k st a0 x1 = some q → (mc + σ0.1 = q.1.1) → (ms + σ0.2.1 = q.1.2.1) → ∀ {H : Heap} {locs : List Loc} {ls : Array Slot} {kc ks : Nat}, aY x σ0 s st H locs kc ks → lv_has ls 2 [(0, .ref a0), (1, .int x1)] → aG l 0 0 mc ms x As σ0 (.inl none) q.1 p e s m below meth c H locs kc ks (F0 m 2 ls [])) := by
  have hx := X.1
  have hb := X.2.1
  have hown := X.2.2.2.1
  have hts := X.2.2.2.2.1
  have hK := X.2.2.2.2.2.1
  have hl0 := X.2.2.2.2.2.2.2.2
  intro k
  induction k with
  | zero => exact fun h => nomatch (show none = some q from h)
  | succ k ih =>
    have mrec := @oaf_X1_begin_S2_ n x.sK k
    intro st a0 x1 hE h1 h2 H locs ls kc ks Y hl
    replace hE : af_X1_begin_B2 n x.sK (af_X1_begin_S2 n x.sK k) st a0 x1 = some q := hE
    unfold af_X1_begin_B2 at hE
    refine lv_iload_n hx hb dX1_begin_2 rfl (lv_at hl 1 rfl) ?_
    refine lv_bipush (v := 26) hx hb dX1_begin_3 (by decide) ?_
    refine lv_icmp_ge (tgt := 21) hx hb dX1_begin_5 (by decide) (fun c_1 => ?_) (fun c_1 => ?_)
    · replace hE := e_t c_1 hE
      refine lv_iconst (v := 0) hx hb dX1_begin_21 (by decide) ?_
      refine lv_istore_n (i := 1) (lv' := [(1, .int (0 : Int32)), (0, .ref a0)]) hx hb dX1_begin_22 rfl hl (by decide) rfl (fun ls hl => ?_)
      exact (waf_X1_begin_S23 X hex hr hnm) hE h1 h2 Y (lv_sub hl [1, 0] rfl)
    · replace hE := e_f c_1 hE
      refine lv_aload_n hx hb dX1_begin_8 rfl (lv_at hl 0 rfl) ?_
      replace hE := e_bind hE
      obtain ⟨r_2, g, hE⟩ := hE
      refine n_gR X Y k_X1 5 g (by decide) q200 dX1_begin_9 ?_
      refine lv_iload_n hx hb dX1_begin_12 rfl (lv_at hl 1 rfl) ?_
      refine lv_dconst0 hx hb dX1_begin_13 ?_
      replace hE := e_bind hE
      obtain ⟨a_3, g, hE⟩ := hE
      subst g
      replace hE := e_bind hE
      obtain ⟨st_4, g, hE⟩ := hE
      refine a_dast X Y g dX1_begin_14 (fun H locs Y => ?_)
      refine lv_iinc (v := (x1 + (1 : Int32))) (lv' := [(1, .int (x1 + (1 : Int32))), (0, .ref a0)]) hx hb dX1_begin_15 hl (k := 1) rfl rfl (by decide) rfl (fun ls hl => ?_)
      refine lv_goto (tgt := 2) hx hb dX1_begin_18 (by decide) ?_
      exact ih hE h1 h2 Y (lv_sub hl [1, 0] rfl)
set_option maxHeartbeats 4000000 in
set_option maxRecDepth 100000 in
theorem waf_X1_begin_S2 {l : Launch} {x : aP} {As : List Value} {σ0 : aS} {p : Program} {e : Env} {s : State} {m : MethodId} {below : List Frame} {meth : Method} {c : Code} {mc ms : Nat} (X : aX "BasicMachine" p l s m As.toArray meth c cX1_begin 2 x σ0) (hex : ∀ z ∈ c.exceptionTable.toList, False) (hr : meth.sig.returnType = none) (hnm : "begin" = meth.name) {n : Nat} {q : aS × Unit} : (∀ {st : aS} {a0 : Nat} {x1 : Int32}, af_X1_begin_S2 n x.sK n st a0 x1 = some q → (mc + σ0.1 = q.1.1) → (ms + σ0.2.1 = q.1.2.1) → ∀ {H : Heap} {locs : List Loc} {ls : Array Slot} {kc ks : Nat}, aY x σ0 s st H locs kc ks → lv_has ls 2 [(0, .ref a0), (1, .int x1)] → aG l 0 0 mc ms x As σ0 (.inl none) q.1 p e s m below meth c H locs kc ks (F0 m 2 ls [])) := waf_X1_begin_S2_ X hex hr hnm n
set_option maxHeartbeats 4000000 in
set_option maxRecDepth 100000 in
theorem maf_X1_begin {l : Launch} (hl0 : l.stackTraces = false) (n : Nat) {x : aP} {st : aS} {a0 : Nat} {q : aS × Unit} (hE : af_X1_begin n x.sK st a0 = some q) : aMet l yX1_begin (ws_ yX1_begin cX1_begin 2 none) 0 0 x [.ref a0] st (.inl none) q.1 := by
  refine a_ofW (own := "BasicMachine") hl0 (by decide) rfl (Nat.le_of_ble_eq_true rfl) (fun mc ms p e s m below meth c ls H locs kc ks h1 h2 X hex Y hr hnm hl => ?_)
  have hnm : "begin" = meth.name := hnm
  have hl : lv_has ls 2 [(0, .ref a0)] := hl
  have hx := X.1
  have hb := X.2.1
  have hown := X.2.2.2.1
  have hts := X.2.2.2.2.1
  have hK := X.2.2.2.2.2.1
  have hl0 := X.2.2.2.2.2.2.2.2
  unfold af_X1_begin at hE
  refine lv_iconst (v := 0) hx hb dX1_begin_0 (by decide) ?_
  refine lv_istore_n (i := 1) (lv' := [(1, .int (0 : Int32)), (0, .ref a0)]) hx hb dX1_begin_1 rfl hl (by decide) rfl (fun ls hl => ?_)
  exact (waf_X1_begin_S2 X hex hr hnm) hE h1 h2 Y (lv_sub hl [1, 0] rfl)
/-! BasicMachine$Data.run(LBasicMachine;LBasicMachine$Line;)LBasicMachine$Line; -/
set_option maxHeartbeats 4000000 in
set_option maxRecDepth 100000 in
theorem maf_X22_run {l : Launch} (hl0 : l.stackTraces = false) (n : Nat) {x : aP} {st : aS} {a0 : Nat} {p1 : Option Nat} {p2 : Option Nat} {q : aS × ((Option Nat) ⊕ Nat)} (hE : af_X22_run n x.sK st a0 p1 p2 = some q) : aMet l yX22_run (ws_ yX22_run cX22_run 3 (some (.object "BasicMachine$Line"))) 342 10200 x [.ref a0, va_rf p1, va_rf p2] st (oR q.2) q.1 := by
  refine a_ofW (own := "BasicMachine$Data") hl0 (by decide) rfl (by simp only [lg_sl, List.flatMap_cons, List.flatMap_nil, va_rf_cat]; exact Nat.le_of_ble_eq_true rfl) (fun mc ms p e s m below meth c ls H locs kc ks h1 h2 X hex Y hr hnm hl => ?_)
  have hnm : "run" = meth.name := hnm
  have hl : lv_has ls 3 [(0, .ref a0), (1, va_rf p1), (2, va_rf p2)] := by simp only [lv_args, va_rf_cat] at hl; exact hl
  have hx := X.1
  have hb := X.2.1
  have hown := X.2.2.2.1
  have hts := X.2.2.2.2.1
  have hK := X.2.2.2.2.2.1
  have hl0 := X.2.2.2.2.2.2.2.2
  unfold af_X22_run at hE
  refine lv_null hx hb dX22_run_0 ?_
  cases hE
  exact a_aret (r := (none : Option Nat)) X Y h1 h2 hr (Or.inl ⟨_, rfl⟩) dX22_run_1
/-! BasicMachine$Define.run(LBasicMachine;LBasicMachine$Line;)LBasicMachine$Line; -/
set_option maxHeartbeats 4000000 in
set_option maxRecDepth 100000 in
theorem maf_X25_run {l : Launch} (hl0 : l.stackTraces = false) (n : Nat) {x : aP} {st : aS} {a0 : Nat} {p1 : Option Nat} {p2 : Option Nat} {q : aS × ((Option Nat) ⊕ Nat)} (hE : af_X25_run n x.sK st a0 p1 p2 = some q) : aMet l yX25_run (ws_ yX25_run cX25_run 3 (some (.object "BasicMachine$Line"))) 342 10200 x [.ref a0, va_rf p1, va_rf p2] st (oR q.2) q.1 := by
  refine a_ofW (own := "BasicMachine$Define") hl0 (by decide) rfl (by simp only [lg_sl, List.flatMap_cons, List.flatMap_nil, va_rf_cat]; exact Nat.le_of_ble_eq_true rfl) (fun mc ms p e s m below meth c ls H locs kc ks h1 h2 X hex Y hr hnm hl => ?_)
  have hnm : "run" = meth.name := hnm
  have hl : lv_has ls 3 [(0, .ref a0), (1, va_rf p1), (2, va_rf p2)] := by simp only [lv_args, va_rf_cat] at hl; exact hl
  have hx := X.1
  have hb := X.2.1
  have hown := X.2.2.2.1
  have hts := X.2.2.2.2.1
  have hK := X.2.2.2.2.2.1
  have hl0 := X.2.2.2.2.2.2.2.2
  unfold af_X25_run at hE
  refine r_aload_n hx hb dX25_run_0 rfl (lv_at hl 1 rfl) ?_
  replace hE := e_bind hE
  obtain ⟨a_1, g, hE⟩ := hE
  subst g
  replace hE := e_bind hE
  obtain ⟨r_2, g, hE⟩ := hE
  refine n_gRN (host := "BasicMachine") X Y k_X1 8 g (by decide) (by decide) dX25_run_1 ?_
  refine lv_aload_n hx hb dX25_run_4 rfl (lv_at hl 0 rfl) ?_
  replace hE := e_bind hE
  obtain ⟨v_3, g, hE⟩ := hE
  refine n_gI X Y k_X25 0 g (by decide) q1224 dX25_run_5 ?_
  refine lv_aload_n hx hb dX25_run_8 rfl (lv_at hl 0 rfl) ?_
  replace hE := e_bind hE
  obtain ⟨a_4, g, hE⟩ := hE
  subst g
  replace hE := e_bind hE
  obtain ⟨u_6, g, hE⟩ := hE
  obtain ⟨fs9, g9⟩ := i_gC g
  replace hE := e_bind hE
  obtain ⟨st_5, g, hE⟩ := hE
  refine a_aastC X Y (by decide) rfl g (a_recv X Y k_X25.1 g9) dX25_run_9 (fun H locs Y => ?_)
  refine lv_null hx hb dX25_run_10 ?_
  cases hE
  exact a_aret (r := (none : Option Nat)) X Y h1 h2 hr (Or.inl ⟨_, rfl⟩) dX25_run_11
/-! BasicMachine$Matrix.<init>()V -/
set_option maxHeartbeats 4000000 in
set_option maxRecDepth 100000 in
theorem maf_X28_init {l : Launch} (hl0 : l.stackTraces = false) (n : Nat) {x : aP} {st : aS} {a0 : Nat} {q : aS × Unit} (hE : af_X28_init n x.sK st a0 = some q) : aMet l yX28_init (ws_ yX28_init cX28_init 1 none) 1 20 x [.ref a0] st (.inl none) q.1 := by
  refine a_ofW (own := "BasicMachine$Matrix") hl0 (by decide) rfl (Nat.le_of_ble_eq_true rfl) (fun mc ms p e s m below meth c ls H locs kc ks h1 h2 X hex Y hr hnm hl => ?_)
  have hnm : "<init>" = meth.name := hnm
  have hl : lv_has ls 1 [(0, .ref a0)] := hl
  have hx := X.1
  have hb := X.2.1
  have hown := X.2.2.2.1
  have hts := X.2.2.2.2.1
  have hK := X.2.2.2.2.2.1
  have hl0 := X.2.2.2.2.2.2.2.2
  unfold af_X28_init at hE
  refine lv_aload_n hx hb dX28_init_0 rfl (lv_at hl 0 rfl) ?_
  refine W.objInit hx hb hown (hts _ q1380) (hts _ q_oi) (hts _ q_oc) rfl (by rw [X.2.2.1]; exact hl.1) rfl dX28_init_1 (by show _ ≤ 1; decide) (Nat.le_trans (Nat.add_le_add_right (show _ ≤ 8 from (Nat.le_of_ble_eq_true rfl)) 12) (by show _ ≤ 20; decide)) ?_
  refine W.eq (g2 := F0 m 4 ls []) rfl ?_
  refine lv_aload_n hx hb dX28_init_4 rfl (lv_at hl 0 rfl) ?_
  refine lv_bipush (v := 6) hx hb dX28_init_5 (by decide) ?_
  refine lv_bipush (v := 6) hx hb dX28_init_7 (by decide) ?_
  replace hE := e_bind hE
  obtain ⟨st_1, g, hE⟩ := hE
  have M9 := (mo_s (fun _ => le_pF) fun _ => mo_ret) _ hE
  refine a_newM X Y g h1 h2 M9 dX28_init_9 (fun H kc ks Y => ?_)
  replace hE := e_bind hE
  obtain ⟨st_2, g, hE⟩ := hE
  refine a_putFV X Y k_X28 0 g (by decide) rfl hnm rfl (nr_a (some st.1)) (fr_a (some st.1)) q1383 dX28_init_13 (fun H locs Y => ?_)
  cases hE
  exact a_vret X Y h1 h2 hr dX28_init_16
/-! BasicMachine$Matrix.be(II)LBasicMachine$Matrix; -/
set_option maxHeartbeats 4000000 in
set_option maxRecDepth 100000 in
theorem waf_X28_be_S12_ {l : Launch} {x : aP} {As : List Value} {σ0 : aS} {p : Program} {e : Env} {s : State} {m : MethodId} {below : List Frame} {meth : Method} {c : Code} {mc ms : Nat} (X : aX "BasicMachine$Matrix" p l s m As.toArray meth c cX28_be 5 x σ0) (hex : ∀ z ∈ c.exceptionTable.toList, False) (hr : meth.sig.returnType = (some (.object "BasicMachine$Matrix"))) (hnm : "be" = meth.name) {n : Nat} {q : aS × (Option Nat)} : ∀ k : Nat, (∀ {st : aS} {a0 : Nat} {x1 : Int32} {x2 : Int32} {x3 : Int32} {x4 : Int32}, af_X28_be_S12 n x.sK k 0 st a0 x1 x2 x3 x4 = some q → (mc + σ0.1 = q.1.1) → (ms + σ0.2.1 = q.1.2.1) → ∀ {H : Heap} {locs : List Loc} {ls : Array Slot} {kc ks : Nat}, aY x σ0 s st H locs kc ks → lv_has ls 5 [(0, .ref a0), (1, .int x1), (2, .int x2), (3, .int x3)] → aG l 0 0 mc ms x As σ0 (.inl (some (va_rf q.2))) q.1 p e s m below meth c H locs kc ks (F0 m 12 ls [])) ∧ (∀ {st : aS} {a0 : Nat} {x1 : Int32} {x2 : Int32} {x3 : Int32} {x4 : Int32}, af_X28_be_S12 n x.sK k 1 st a0 x1 x2 x3 x4 = some q → (mc + σ0.1 = q.1.1) → (ms + σ0.2.1 = q.1.2.1) → ∀ {H : Heap} {locs : List Loc} {ls : Array Slot} {kc ks : Nat}, aY x σ0 s st H locs kc ks → lv_has ls 5 [(0, .ref a0), (1, .int x1), (2, .int x2), (3, .int x3), (4, .int x4)] → aG l 0 0 mc ms x As σ0 (.inl (some (va_rf q.2))) q.1 p e s m below meth c H locs kc ks (F0 m 20 ls [])) := by
  have hx := X.1
  have hb := X.2.1
  have hown := X.2.2.2.1
  have hts := X.2.2.2.2.1
  have hK := X.2.2.2.2.2.1
  have hl0 := X.2.2.2.2.2.2.2.2
  intro k
  induction k with
  | zero => exact ⟨(fun h => nomatch (show none = some q from h)), (fun h => nomatch (show none = some q from h))⟩
  | succ k ih =>
    obtain ⟨ih0, ih1⟩ := ih
    have mrec := @oaf_X28_be_S12_ n x.sK k
    obtain ⟨mrec0, mrec1⟩ := mrec
    refine ⟨?_, ?_⟩
    · intro st a0 x1 x2 x3 x4 hE h1 h2 H locs ls kc ks Y hl
      replace hE : af_X28_be_B12 n x.sK (af_X28_be_S12 n x.sK k) st a0 x1 x2 x3 x4 = some q := hE
      unfold af_X28_be_B12 at hE
      refine lv_iload_n hx hb dX28_be_12 rfl (lv_at hl 3 rfl) ?_
      refine lv_iload_n hx hb dX28_be_13 rfl (lv_at hl 1 rfl) ?_
      refine lv_icmp_ge (tgt := 48) hx hb dX28_be_14 (by decide) (fun c_1 => ?_) (fun c_1 => ?_)
      · replace hE := e_t c_1 hE
        refine lv_aload_n hx hb dX28_be_48 rfl (lv_at hl 0 rfl) ?_
        cases hE
        exact a_aret (r := (some a0)) X Y h1 h2 hr (Or.inl ⟨_, rfl⟩) dX28_be_49
      · replace hE := e_f c_1 hE
        refine lv_iconst (v := 0) hx hb dX28_be_17 (by decide) ?_
        refine lv_istore (lv' := [(4, .int (0 : Int32)), (0, .ref a0), (1, .int x1), (2, .int x2), (3, .int x3)]) hx hb dX28_be_18 hl (by decide) rfl (fun ls hl => ?_)
        exact ih1 hE h1 h2 Y (lv_sub hl [1, 2, 3, 4, 0] rfl)
    · intro st a0 x1 x2 x3 x4 hE h1 h2 H locs ls kc ks Y hl
      replace hE : af_X28_be_B20 n x.sK (af_X28_be_S12 n x.sK k) st a0 x1 x2 x3 x4 = some q := hE
      unfold af_X28_be_B20 at hE
      refine lv_iload hx hb dX28_be_20 (lv_at hl 4 rfl) ?_
      refine lv_iload_n hx hb dX28_be_22 rfl (lv_at hl 2 rfl) ?_
      refine lv_icmp_ge (tgt := 42) hx hb dX28_be_23 (by decide) (fun c_1 => ?_) (fun c_1 => ?_)
      · replace hE := e_t c_1 hE
        refine lv_iinc (v := (x3 + (1 : Int32))) (lv' := [(3, .int (x3 + (1 : Int32))), (0, .ref a0), (1, .int x1), (2, .int x2), (4, .int x4)]) hx hb dX28_be_42 hl (k := 3) rfl rfl (by decide) rfl (fun ls hl => ?_)
        refine lv_goto (tgt := 12) hx hb dX28_be_45 (by decide) ?_
        exact ih0 hE h1 h2 Y (lv_sub hl [1, 2, 3, 0] rfl)
      · replace hE := e_f c_1 hE
        refine lv_aload_n hx hb dX28_be_26 rfl (lv_at hl 0 rfl) ?_
        replace hE := e_bind hE
        obtain ⟨r_2, g, hE⟩ := hE
        refine n_gR X Y k_X28 0 g (by decide) q1383 dX28_be_27 ?_
        refine lv_iload_n hx hb dX28_be_30 rfl (lv_at hl 3 rfl) ?_
        replace hE := e_bind hE
        obtain ⟨a_3, g, hE⟩ := hE
        subst g
        replace hE := e_bind hE
        obtain ⟨r_4, g, hE⟩ := hE
        refine a_aald X Y (by decide) rfl g dX28_be_31 ?_
        refine lv_iload hx hb dX28_be_32 (lv_at hl 4 rfl) ?_
        refine lv_dconst0 hx hb dX28_be_34 ?_
        replace hE := e_bind hE
        obtain ⟨a_5, g, hE⟩ := hE
        subst g
        replace hE := e_bind hE
        obtain ⟨st_6, g, hE⟩ := hE
        refine a_dast X Y g dX28_be_35 (fun H locs Y => ?_)
        refine lv_iinc (v := (x4 + (1 : Int32))) (lv' := [(4, .int (x4 + (1 : Int32))), (0, .ref a0), (1, .int x1), (2, .int x2), (3, .int x3)]) hx hb dX28_be_36 hl (k := 4) rfl rfl (by decide) rfl (fun ls hl => ?_)
        refine lv_goto (tgt := 20) hx hb dX28_be_39 (by decide) ?_
        exact ih1 hE h1 h2 Y (lv_sub hl [1, 2, 3, 4, 0] rfl)
set_option maxHeartbeats 4000000 in
set_option maxRecDepth 100000 in
theorem waf_X28_be_S12 {l : Launch} {x : aP} {As : List Value} {σ0 : aS} {p : Program} {e : Env} {s : State} {m : MethodId} {below : List Frame} {meth : Method} {c : Code} {mc ms : Nat} (X : aX "BasicMachine$Matrix" p l s m As.toArray meth c cX28_be 5 x σ0) (hex : ∀ z ∈ c.exceptionTable.toList, False) (hr : meth.sig.returnType = (some (.object "BasicMachine$Matrix"))) (hnm : "be" = meth.name) {n : Nat} {q : aS × (Option Nat)} : (∀ {st : aS} {a0 : Nat} {x1 : Int32} {x2 : Int32} {x3 : Int32} {x4 : Int32}, af_X28_be_S12 n x.sK n 0 st a0 x1 x2 x3 x4 = some q → (mc + σ0.1 = q.1.1) → (ms + σ0.2.1 = q.1.2.1) → ∀ {H : Heap} {locs : List Loc} {ls : Array Slot} {kc ks : Nat}, aY x σ0 s st H locs kc ks → lv_has ls 5 [(0, .ref a0), (1, .int x1), (2, .int x2), (3, .int x3)] → aG l 0 0 mc ms x As σ0 (.inl (some (va_rf q.2))) q.1 p e s m below meth c H locs kc ks (F0 m 12 ls [])) ∧ (∀ {st : aS} {a0 : Nat} {x1 : Int32} {x2 : Int32} {x3 : Int32} {x4 : Int32}, af_X28_be_S12 n x.sK n 1 st a0 x1 x2 x3 x4 = some q → (mc + σ0.1 = q.1.1) → (ms + σ0.2.1 = q.1.2.1) → ∀ {H : Heap} {locs : List Loc} {ls : Array Slot} {kc ks : Nat}, aY x σ0 s st H locs kc ks → lv_has ls 5 [(0, .ref a0), (1, .int x1), (2, .int x2), (3, .int x3), (4, .int x4)] → aG l 0 0 mc ms x As σ0 (.inl (some (va_rf q.2))) q.1 p e s m below meth c H locs kc ks (F0 m 20 ls [])) := waf_X28_be_S12_ X hex hr hnm n
set_option maxHeartbeats 4000000 in
set_option maxRecDepth 100000 in
theorem maf_X28_be {l : Launch} (hl0 : l.stackTraces = false) (n : Nat) {x : aP} {st : aS} {a0 : Nat} {p1 : Int32} {p2 : Int32} {q : aS × (Option Nat)} (hE : af_X28_be n x.sK st a0 p1 p2 = some q) : aMet l yX28_be (ws_ yX28_be cX28_be 5 (some (.object "BasicMachine$Matrix"))) 0 0 x [.ref a0, .int p1, .int p2] st (.inl (some (va_rf q.2))) q.1 := by
  refine a_ofW (own := "BasicMachine$Matrix") hl0 (by decide) rfl (Nat.le_of_ble_eq_true rfl) (fun mc ms p e s m below meth c ls H locs kc ks h1 h2 X hex Y hr hnm hl => ?_)
  have hnm : "be" = meth.name := hnm
  have hl : lv_has ls 5 [(0, .ref a0), (1, .int p1), (2, .int p2)] := hl
  have hx := X.1
  have hb := X.2.1
  have hown := X.2.2.2.1
  have hts := X.2.2.2.2.1
  have hK := X.2.2.2.2.2.1
  have hl0 := X.2.2.2.2.2.2.2.2
  unfold af_X28_be at hE
  refine lv_aload_n hx hb dX28_be_0 rfl (lv_at hl 0 rfl) ?_
  refine lv_iload_n hx hb dX28_be_1 rfl (lv_at hl 1 rfl) ?_
  replace hE := e_bind hE
  obtain ⟨st_1, g, hE⟩ := hE
  refine a_putV X Y k_X28 1 g (by decide) rfl rfl rfl q1386 dX28_be_2 (fun H locs Y => ?_)
  refine lv_aload_n hx hb dX28_be_5 rfl (lv_at hl 0 rfl) ?_
  refine lv_iload_n hx hb dX28_be_6 rfl (lv_at hl 2 rfl) ?_
  replace hE := e_bind hE
  obtain ⟨st_2, g, hE⟩ := hE
  refine a_putV X Y k_X28 2 g (by decide) rfl rfl rfl q1388 dX28_be_7 (fun H locs Y => ?_)
  refine lv_iconst (v := 0) hx hb dX28_be_10 (by decide) ?_
  refine lv_istore_n (i := 3) (lv' := [(3, .int (0 : Int32)), (0, .ref a0), (1, .int p1), (2, .int p2)]) hx hb dX28_be_11 rfl hl (by decide) rfl (fun ls hl => ?_)
  exact (waf_X28_be_S12 X hex hr hnm).1 hE h1 h2 Y (lv_sub hl [1, 2, 3, 0] rfl)
/-! BasicMachine$Dim.run(LBasicMachine;LBasicMachine$Line;)LBasicMachine$Line; -/
set_option maxHeartbeats 4000000 in
set_option maxRecDepth 100000 in
theorem waf_X24_run_L28 {l : Launch} {x : aP} {As : List Value} {σ0 : aS} {p : Program} {e : Env} {s : State} {m : MethodId} {below : List Frame} {meth : Method} {c : Code} {mc ms : Nat} (X : aX "BasicMachine$Dim" p l s m As.toArray meth c cX24_run 3 x σ0) (hex : ∀ z ∈ c.exceptionTable.toList, False) (hr : meth.sig.returnType = (some (.object "BasicMachine$Line"))) (hnm : "run" = meth.name) {n : Nat} {st : aS} {a0 : Nat} {x1 : Option Nat} {q : aS × ((Option Nat) ⊕ Nat)} (hE : af_X24_run_L28 n x.sK st a0 x1 = some q) (h1 : mc + σ0.1 = q.1.1) (h2 : ms + σ0.2.1 = q.1.2.1) {H : Heap} {locs : List Loc} {ls : Array Slot} {kc ks : Nat} (Y : aY x σ0 s st H locs kc ks) (hl : lv_has ls 3 [(0, .ref a0), (1, va_rf x1)]) : aG l 342 10200 mc ms x As σ0 (oR q.2) q.1 p e s m below meth c H locs kc ks (F0 m 28 ls []) := by
  have hx := X.1
  have hb := X.2.1
  have hown := X.2.2.2.1
  have hts := X.2.2.2.2.1
  have hK := X.2.2.2.2.2.1
  have hl0 := X.2.2.2.2.2.2.2.2
  unfold af_X24_run_L28 at hE
  refine r_aload_n hx hb dX24_run_28 rfl (lv_at hl 1 rfl) ?_
  replace hE := e_bind hE
  obtain ⟨a_1, g, hE⟩ := hE
  subst g
  replace hE := e_bind hE
  obtain ⟨r_2, g, hE⟩ := hE
  refine n_gRN (host := "BasicMachine") X Y k_X1 6 g (by decide) (by decide) dX24_run_29 ?_
  refine lv_aload_n hx hb dX24_run_32 rfl (lv_at hl 0 rfl) ?_
  replace hE := e_bind hE
  obtain ⟨v_3, g, hE⟩ := hE
  refine n_gI X Y k_X24 0 g (by decide) q1204 dX24_run_33 ?_
  replace hE := e_bind hE
  obtain ⟨a_4, g, hE⟩ := hE
  subst g
  replace hE := e_bind hE
  obtain ⟨r_5, g, hE⟩ := hE
  refine a_aald X Y (by decide) rfl g dX24_run_36 ?_
  refine lv_aload_n hx hb dX24_run_37 rfl (lv_at hl 0 rfl) ?_
  replace hE := e_bind hE
  obtain ⟨v_6, g, hE⟩ := hE
  refine n_gI X Y k_X24 1 g (by decide) q1205 dX24_run_38 ?_
  refine lv_aload_n hx hb dX24_run_41 rfl (lv_at hl 0 rfl) ?_
  replace hE := e_bind hE
  obtain ⟨v_7, g, hE⟩ := hE
  refine n_gI X Y k_X24 2 g (by decide) q1206 dX24_run_42 ?_
  replace hE := e_bind hE
  obtain ⟨a_8, g, hE⟩ := hE
  subst g
  replace hE := e_bind hE
  obtain ⟨u_11, g, hE⟩ := hE
  obtain ⟨fs9, g9⟩ := i_gC g
  have g7 := a_recv X Y k_X28.1 g9
  replace hE := e_cb hE
  obtain ⟨st_9, r_10, g, hE⟩ := hE
  have M9 := mo_ret _ hE
  refine a_callV (n := 2) (C := "BasicMachine$Matrix") (σ1 := st_9) (σf := q.1) [.int v_6, .int v_7] X Y (maf_X28_be hl0 n g) ⟨oaf_X28_be _ g, M9, h1, h2, (by show _ ≤ 342; decide), (by show _ ≤ 10200; decide)⟩ q1397 q1398 q1399 q171 q1400 (by decide +kernel) g7 rfl hl.1 (Nat.le_of_ble_eq_true rfl) dX24_run_45 (fun v hv H locs kc ks Y => ?_) (fun k hk => by cases hk)
  cases hv
  refine lv_pop hx hb dX24_run_48 (va_rf_cat _) ?_
  refine lv_null hx hb dX24_run_49 ?_
  cases hE
  exact a_aret (r := (none : Option Nat)) X Y h1 h2 hr (Or.inl ⟨_, rfl⟩) dX24_run_50
set_option maxHeartbeats 4000000 in
set_option maxRecDepth 100000 in
theorem maf_X24_run {l : Launch} (hl0 : l.stackTraces = false) (n : Nat) {x : aP} {st : aS} {a0 : Nat} {p1 : Option Nat} {p2 : Option Nat} {q : aS × ((Option Nat) ⊕ Nat)} (hE : af_X24_run n x.sK st a0 p1 p2 = some q) : aMet l yX24_run (ws_ yX24_run cX24_run 3 (some (.object "BasicMachine$Line"))) 342 10200 x [.ref a0, va_rf p1, va_rf p2] st (oR q.2) q.1 := by
  refine a_ofW (own := "BasicMachine$Dim") hl0 (by decide) rfl (by simp only [lg_sl, List.flatMap_cons, List.flatMap_nil, va_rf_cat]; exact Nat.le_of_ble_eq_true rfl) (fun mc ms p e s m below meth c ls H locs kc ks h1 h2 X hex Y hr hnm hl => ?_)
  have hnm : "run" = meth.name := hnm
  have hl : lv_has ls 3 [(0, .ref a0), (1, va_rf p1), (2, va_rf p2)] := by simp only [lv_args, va_rf_cat] at hl; exact hl
  have hx := X.1
  have hb := X.2.1
  have hown := X.2.2.2.1
  have hts := X.2.2.2.2.1
  have hK := X.2.2.2.2.2.1
  have hl0 := X.2.2.2.2.2.2.2.2
  unfold af_X24_run at hE
  refine r_aload_n hx hb dX24_run_0 rfl (lv_at hl 1 rfl) ?_
  replace hE := e_bind hE
  obtain ⟨a_1, g, hE⟩ := hE
  subst g
  replace hE := e_bind hE
  obtain ⟨r_2, g, hE⟩ := hE
  refine n_gRN (host := "BasicMachine") X Y k_X1 6 g (by decide) (by decide) dX24_run_1 ?_
  refine lv_aload_n hx hb dX24_run_4 rfl (lv_at hl 0 rfl) ?_
  replace hE := e_bind hE
  obtain ⟨v_3, g, hE⟩ := hE
  refine n_gI X Y k_X24 0 g (by decide) q1204 dX24_run_5 ?_
  replace hE := e_bind hE
  obtain ⟨a_4, g, hE⟩ := hE
  subst g
  replace hE := e_bind hE
  obtain ⟨r_5, g, hE⟩ := hE
  refine a_aald X Y (by decide) rfl g dX24_run_8 ?_
  refine r_ifnonnull (tgt := 28) hx hb dX24_run_9 (by decide) (fun c_6 => ?_) (fun c_6 => ?_)
  · replace hE := e_f c_6 hE
    exact waf_X24_run_L28 X hex hr hnm hE h1 h2 Y (lv_sub hl [0, 1] rfl)
  · replace hE := e_t c_6 hE
    refine lv_aload_n hx hb dX24_run_12 rfl (lv_at hl 1 rfl) ?_
    replace hE := e_bind hE
    obtain ⟨r_7, g, hE⟩ := hE
    refine n_gRN (host := "BasicMachine") X Y k_X1 6 g (by decide) (by decide) dX24_run_13 ?_
    refine lv_aload_n hx hb dX24_run_16 rfl (lv_at hl 0 rfl) ?_
    replace hE := e_bind hE
    obtain ⟨v_8, g, hE⟩ := hE
    refine n_gI X Y k_X24 0 g (by decide) q1204 dX24_run_17 ?_
    replace hE := e_bind hE
    obtain ⟨st_9, g, hE⟩ := hE
    have M9 := (mo_cb oaf_X28_init fun _ _ => (mo_v fun _ => (mo_v fun _ => (mo_s (fun _ => le_wR) fun _ => (oaf_X24_run_L28 ))))) _ hE
    refine a_new X Y k_X28 g b_X28 q1375 q1376 q171 (aRoom1 Y h1 (le_nO1 g) M9) (aRoom2 Y h2 (le_nO2 g) M9) dX24_run_20 (fun H Y => ?_)
    generalize kc + 1 = kc at Y ⊢
    generalize ks + 3 = ks at Y ⊢
    refine lv_dup hx hb dX24_run_23 rfl ?_
    replace hE := e_cb hE
    obtain ⟨st_10, u_11, g, hE⟩ := hE
    have M9 := (mo_v fun _ => (mo_v fun _ => (mo_s (fun _ => le_wR) fun _ => (oaf_X24_run_L28 )))) _ hE
    refine a_callIN (host := "BasicMachine") (n := 0) (σ1 := st_10) (σf := q.1) [] X Y (maf_X28_init hl0 n g) ⟨oaf_X28_init _ g, M9, h1, h2, (by show _ ≤ 342; decide), (by show _ ≤ 10200; decide)⟩ (by decide) q1378 q171 q1379 rfl (by decide +kernel) rfl hl.1 (by simp only [List.map_cons, List.map_nil, va_rf_cat]; exact Nat.le_of_ble_eq_true rfl) dX24_run_24 (fun v hv H locs kc ks Y => ?_) (fun k hk => by cases hk)
    cases hv
    replace hE := e_bind hE
    obtain ⟨a_12, g, hE⟩ := hE
    subst g
    replace hE := e_bind hE
    obtain ⟨u_14, g, hE⟩ := hE
    obtain ⟨fs9, g9⟩ := i_gC g
    replace hE := e_bind hE
    obtain ⟨st_13, g, hE⟩ := hE
    refine a_aastC X Y (by decide) rfl g (a_recv X Y k_X28.1 g9) dX24_run_27 (fun H locs Y => ?_)
    exact waf_X24_run_L28 X hex hr hnm hE h1 h2 Y (lv_sub hl [0, 1] rfl)
/-! BasicMachine$Define.s()I -/
set_option maxHeartbeats 4000000 in
set_option maxRecDepth 100000 in
theorem maf_X25_s {l : Launch} (hl0 : l.stackTraces = false) (n : Nat) {x : aP} {st : aS} {a0 : Nat} {q : aS × (Int32)} (hE : af_X25_s n x.sK st a0 = some q) : aMet l yX25_s (ws_ yX25_s cX25_s 1 (some .int)) 0 0 x [.ref a0] st (.inl (some (.int q.2))) q.1 := by
  refine a_ofW (own := "BasicMachine$Define") hl0 (by decide) rfl (Nat.le_of_ble_eq_true rfl) (fun mc ms p e s m below meth c ls H locs kc ks h1 h2 X hex Y hr hnm hl => ?_)
  have hnm : "s" = meth.name := hnm
  have hl : lv_has ls 1 [(0, .ref a0)] := hl
  have hx := X.1
  have hb := X.2.1
  have hown := X.2.2.2.1
  have hts := X.2.2.2.2.1
  have hK := X.2.2.2.2.2.1
  have hl0 := X.2.2.2.2.2.2.2.2
  unfold af_X25_s at hE
  refine lv_aload_n hx hb dX25_s_0 rfl (lv_at hl 0 rfl) ?_
  replace hE := e_bind hE
  obtain ⟨v_1, g, hE⟩ := hE
  refine n_gI X Y k_X25 1 g (by decide) q1225 dX25_s_1 ?_
  cases hE
  exact a_iret X Y h1 h2 hr dX25_s_4
/-! BasicMachine$Define.body()LBasicMachine$Expression; -/
set_option maxHeartbeats 4000000 in
set_option maxRecDepth 100000 in
theorem maf_X25_body {l : Launch} (hl0 : l.stackTraces = false) (n : Nat) {x : aP} {st : aS} {a0 : Nat} {q : aS × (Option Nat)} (hE : af_X25_body n x.sK st a0 = some q) : aMet l yX25_body (ws_ yX25_body cX25_body 1 (some (.object "BasicMachine$Expression"))) 0 0 x [.ref a0] st (.inl (some (va_rf q.2))) q.1 := by
  refine a_ofW (own := "BasicMachine$Define") hl0 (by decide) rfl (Nat.le_of_ble_eq_true rfl) (fun mc ms p e s m below meth c ls H locs kc ks h1 h2 X hex Y hr hnm hl => ?_)
  have hnm : "body" = meth.name := hnm
  have hl : lv_has ls 1 [(0, .ref a0)] := hl
  have hx := X.1
  have hb := X.2.1
  have hown := X.2.2.2.1
  have hts := X.2.2.2.2.1
  have hK := X.2.2.2.2.2.1
  have hl0 := X.2.2.2.2.2.2.2.2
  unfold af_X25_body at hE
  refine lv_aload_n hx hb dX25_body_0 rfl (lv_at hl 0 rfl) ?_
  replace hE := e_bind hE
  obtain ⟨r_1, g, hE⟩ := hE
  refine n_gR X Y k_X25 2 g (by decide) q1226 dX25_body_1 ?_
  cases hE
  exact a_aret (r := r_1) X Y h1 h2 hr (Or.inl ⟨_, rfl⟩) dX25_body_4
/-! BasicMachine.leave()V -/
set_option maxHeartbeats 4000000 in
set_option maxRecDepth 100000 in
theorem maf_X1_leave {l : Launch} (hl0 : l.stackTraces = false) (n : Nat) {x : aP} {st : aS} {a0 : Nat} {q : aS × Unit} (hE : af_X1_leave n x.sK st a0 = some q) : aMet l yX1_leave (ws_ yX1_leave cX1_leave 1 none) 0 0 x [.ref a0] st (.inl none) q.1 := by
  refine a_ofW (own := "BasicMachine") hl0 (by decide) rfl (Nat.le_of_ble_eq_true rfl) (fun mc ms p e s m below meth c ls H locs kc ks h1 h2 X hex Y hr hnm hl => ?_)
  have hnm : "leave" = meth.name := hnm
  have hl : lv_has ls 1 [(0, .ref a0)] := hl
  have hx := X.1
  have hb := X.2.1
  have hown := X.2.2.2.1
  have hts := X.2.2.2.2.1
  have hK := X.2.2.2.2.2.1
  have hl0 := X.2.2.2.2.2.2.2.2
  unfold af_X1_leave at hE
  refine lv_aload_n hx hb dX1_leave_0 rfl (lv_at hl 0 rfl) ?_
  refine lv_dup hx hb dX1_leave_1 rfl ?_
  replace hE := e_bind hE
  obtain ⟨v_1, g, hE⟩ := hE
  refine n_gI X Y k_X1 9 g (by decide) q210 dX1_leave_2 ?_
  refine lv_iconst (v := 1) hx hb dX1_leave_5 (by decide) ?_
  refine lv_isub hx hb dX1_leave_6 ?_
  replace hE := e_bind hE
  obtain ⟨st_2, g, hE⟩ := hE
  refine a_putV X Y k_X1 9 g (by decide) rfl rfl rfl q210 dX1_leave_7 (fun H locs Y => ?_)
  refine lv_aload_n hx hb dX1_leave_10 rfl (lv_at hl 0 rfl) ?_
  replace hE := e_bind hE
  obtain ⟨r_3, g, hE⟩ := hE
  refine n_gR X Y k_X1 5 g (by decide) q200 dX1_leave_11 ?_
  refine lv_aload_n hx hb dX1_leave_14 rfl (lv_at hl 0 rfl) ?_
  replace hE := e_bind hE
  obtain ⟨r_4, g, hE⟩ := hE
  refine n_gR X Y k_X1 10 g (by decide) q212 dX1_leave_15 ?_
  refine lv_aload_n hx hb dX1_leave_18 rfl (lv_at hl 0 rfl) ?_
  replace hE := e_bind hE
  obtain ⟨v_5, g, hE⟩ := hE
  refine n_gI X Y k_X1 9 g (by decide) q210 dX1_leave_19 ?_
  replace hE := e_bind hE
  obtain ⟨a_6, g, hE⟩ := hE
  subst g
  replace hE := e_bind hE
  obtain ⟨v_7, g, hE⟩ := hE
  refine a_iald X Y g dX1_leave_22 ?_
  refine lv_aload_n hx hb dX1_leave_23 rfl (lv_at hl 0 rfl) ?_
  replace hE := e_bind hE
  obtain ⟨r_8, g, hE⟩ := hE
  refine n_gR X Y k_X1 11 g (by decide) q214 dX1_leave_24 ?_
  refine lv_aload_n hx hb dX1_leave_27 rfl (lv_at hl 0 rfl) ?_
  replace hE := e_bind hE
  obtain ⟨v_9, g, hE⟩ := hE
  refine n_gI X Y k_X1 9 g (by decide) q210 dX1_leave_28 ?_
  replace hE := e_bind hE
  obtain ⟨a_10, g, hE⟩ := hE
  subst g
  replace hE := e_bind hE
  obtain ⟨v_11, g, hE⟩ := hE
  refine a_dald X Y g dX1_leave_31 ?_
  replace hE := e_bind hE
  obtain ⟨a_12, g, hE⟩ := hE
  subst g
  replace hE := e_bind hE
  obtain ⟨st_13, g, hE⟩ := hE
  refine a_dast X Y g dX1_leave_32 (fun H locs Y => ?_)
  cases hE
  exact a_vret X Y h1 h2 hr dX1_leave_33
/-! BasicMachine$Call.value(LBasicMachine;)D -/
set_option maxHeartbeats 4000000 in
set_option maxRecDepth 100000 in
theorem maf_X8_value {l : Launch} (hl0 : l.stackTraces = false) (n : Nat) {x : aP} {rv : aS → Nat → Option Nat → Option (aS × (UInt64 ⊕ Nat))} {fx lx : Nat} (hrv : hRV l x rv fx lx) {st : aS} {a0 : Nat} {p1 : Option Nat} {q : aS × ((UInt64) ⊕ Nat)} (hE : af_X8_value n x.sK rv st a0 p1 = some q) : aMet l yX8_value (ws_ yX8_value cX8_value 7 (some .double)) (fx + 1) (lx + 31) x [.ref a0, va_rf p1] st (oD q.2) q.1 := by
  refine a_ofW (own := "BasicMachine$Call") hl0 (by decide) rfl (by simp only [lg_sl, List.flatMap_cons, List.flatMap_nil, va_rf_cat]; exact Nat.le_of_ble_eq_true rfl) (fun mc ms p e s m below meth c ls H locs kc ks h1 h2 X hex Y hr hnm hl => ?_)
  have hnm : "value" = meth.name := hnm
  have hl : lv_has ls 7 [(0, .ref a0), (1, va_rf p1)] := by simp only [lv_args, va_rf_cat] at hl; exact hl
  have hx := X.1
  have hb := X.2.1
  have hown := X.2.2.2.1
  have hts := X.2.2.2.2.1
  have hK := X.2.2.2.2.2.1
  have hl0 := X.2.2.2.2.2.2.2.2
  obtain ⟨hfx, hlx, mrv, -⟩ := id hrv
  unfold af_X8_value at hE
  refine r_aload_n hx hb dX8_value_0 rfl (lv_at hl 1 rfl) ?_
  replace hE := e_bind hE
  obtain ⟨a_1, g, hE⟩ := hE
  subst g
  replace hE := e_bind hE
  obtain ⟨r_2, g, hE⟩ := hE
  refine n_gRN (host := "BasicMachine") X Y k_X1 8 g (by decide) (by decide) dX8_value_1 ?_
  refine lv_aload_n hx hb dX8_value_4 rfl (lv_at hl 0 rfl) ?_
  replace hE := e_bind hE
  obtain ⟨v_3, g, hE⟩ := hE
  refine n_gI X Y k_X8 0 g (by decide) q966 dX8_value_5 ?_
  replace hE := e_bind hE
  obtain ⟨a_4, g, hE⟩ := hE
  subst g
  replace hE := e_bind hE
  obtain ⟨r_5, g, hE⟩ := hE
  refine a_aald X Y (by decide) rfl g dX8_value_8 ?_
  refine r_astore_n (i := 2) (lv' := [(2, va_rf r_5), (0, .ref a0), (1, .ref a_1)]) hx hb dX8_value_9 rfl hl (by decide) rfl (fun ls hl => ?_)
  refine r_aload_n hx hb dX8_value_10 rfl (lv_at hl 0 rfl) ?_
  refine r_ifnonnull (tgt := 22) hx hb dX8_value_11 (by decide) (fun c_6 => ?_) (fun c_6 => ?_)
  · replace hE := e_f c_6 hE
    refine lv_aload_n hx hb dX8_value_22 rfl (lv_at hl 1 rfl) ?_
    replace hE := e_bind hE
    obtain ⟨r_7, g, hE⟩ := hE
    refine n_gR X Y k_X8 1 g (by decide) q967 dX8_value_23 ?_
    refine lv_aload_n hx hb dX8_value_26 rfl (lv_at hl 2 rfl) ?_
    replace hE := e_bind hE
    obtain ⟨a_8, g, hE⟩ := hE
    subst g
    replace hE := e_xb hE
    rcases hE with ⟨st_9, v_10, g, hE⟩ | ⟨st_9, k9, g, hE⟩
    rotate_left
    · subst hE
      refine a_callIf (n := 1) (σ1 := st_9) (σf := st_9) [.ref a_1] X Y (hrv.2.2.2 g) ⟨mrv _ g, aLe.rf _, h1, h2, (by show _ ≤ fx + 1; omega), (by show _ ≤ lx + 31; omega)⟩ q1420 (by decide +kernel) rfl hl.1 (Nat.le_of_ble_eq_true rfl) dX8_value_27 (fun v hv => by cases hv) (fun k hk H locs kc ks q9 ce Y e1 e2 e3 => ?_)
      cases hk
      exact a_out X Y h1 h2 (fun z hz => (hex z hz).elim) e1 e2 e3
    have M9 := (mo_v fun _ => (mo_if mo_tw (mo_v fun _ => (mo_v fun _ => (mo_v fun _ => (mo_v fun _ => (mo_cb oaf_X25_s fun _ _ => (mo_v fun _ => (mo_s (fun _ => le_wI) fun _ => (mo_v fun _ => (mo_v fun _ => (mo_v fun _ => (mo_v fun _ => (mo_cb oaf_X25_s fun _ _ => (mo_v fun _ => (mo_v fun _ => (mo_v fun _ => (mo_s (fun _ => le_wD) fun _ => (mo_v fun _ => (mo_v fun _ => (mo_cb oaf_X25_s fun _ _ => (mo_v fun _ => (mo_s (fun _ => le_wD) fun _ => (mo_v fun _ => (mo_s (fun _ => le_pF) fun _ => (mo_v fun _ => (mo_cb oaf_X25_body fun _ _ => (mo_v fun _ => (mo_x mrv fun _ _ => (mo_v fun _ => (mo_cb oaf_X1_leave fun _ _ => mo_ret))))))))))))))))))))))))))))))) _ hE
    refine a_callIf (n := 1) (σ1 := st_9) (σf := q.1) [.ref a_1] X Y (hrv.2.2.2 g) ⟨mrv _ g, M9, h1, h2, (by show _ ≤ fx + 1; omega), (by show _ ≤ lx + 31; omega)⟩ q1420 (by decide +kernel) rfl hl.1 (Nat.le_of_ble_eq_true rfl) dX8_value_27 (fun v hv H locs kc ks Y => ?_) (fun k hk => by cases hk)
    cases hv
    refine lv_dstore_n (i := 3) (lv' := [(3, .double v_10), (2, va_rf r_5), (0, .ref a0), (1, .ref a_1)]) hx hb dX8_value_32 rfl hl (by decide) (by cases r_5 <;> rfl) (fun ls hl => ?_)
    refine lv_aload_n hx hb dX8_value_33 rfl (lv_at hl 3 rfl) ?_
    replace hE := e_bind hE
    obtain ⟨v_11, g, hE⟩ := hE
    refine n_gIN (host := "BasicMachine") X Y k_X1 9 g (by decide) (by decide) dX8_value_34 ?_
    refine lv_iconst (v := 3) hx hb dX8_value_37 (by decide) ?_
    refine lv_icmp_ne (tgt := 49) hx hb dX8_value_38 (by decide) (fun c_12 => ?_) (fun c_12 => ?_)
    · replace hE := e_f c_12 hE
      refine lv_aload_n hx hb dX8_value_49 rfl (lv_at hl 3 rfl) ?_
      replace hE := e_bind hE
      obtain ⟨r_13, g, hE⟩ := hE
      refine n_gRN (host := "BasicMachine") X Y k_X1 10 g (by decide) (by decide) dX8_value_50 ?_
      refine lv_aload_n hx hb dX8_value_53 rfl (lv_at hl 3 rfl) ?_
      replace hE := e_bind hE
      obtain ⟨v_14, g, hE⟩ := hE
      refine n_gIN (host := "BasicMachine") X Y k_X1 9 g (by decide) (by decide) dX8_value_54 ?_
      refine r_aload_n hx hb dX8_value_57 rfl (lv_at hl 1 rfl) ?_
      replace hE := e_bind hE
      obtain ⟨a_15, g, hE⟩ := hE
      subst g
      replace hE := e_bind hE
      obtain ⟨u_18, g, hE⟩ := hE
      obtain ⟨fs9, g9⟩ := i_gC g
      have g7 := a_recv X Y k_X25.1 g9
      replace hE := e_cb hE
      obtain ⟨st_16, v_17, g, hE⟩ := hE
      have M9 := (mo_v fun _ => (mo_s (fun _ => le_wI) fun _ => (mo_v fun _ => (mo_v fun _ => (mo_v fun _ => (mo_v fun _ => (mo_cb oaf_X25_s fun _ _ => (mo_v fun _ => (mo_v fun _ => (mo_v fun _ => (mo_s (fun _ => le_wD) fun _ => (mo_v fun _ => (mo_v fun _ => (mo_cb oaf_X25_s fun _ _ => (mo_v fun _ => (mo_s (fun _ => le_wD) fun _ => (mo_v fun _ => (mo_s (fun _ => le_pF) fun _ => (mo_v fun _ => (mo_cb oaf_X25_body fun _ _ => (mo_v fun _ => (mo_x mrv fun _ _ => (mo_v fun _ => (mo_cb oaf_X1_leave fun _ _ => mo_ret)))))))))))))))))))))))) _ hE
      refine a_callV (n := 0) (C := "BasicMachine$Define") (σ1 := st_16) (σf := q.1) [] X Y (maf_X25_s hl0 n g) ⟨oaf_X25_s _ g, M9, h1, h2, (by show _ ≤ fx + 1; omega), (by show _ ≤ lx + 31; omega)⟩ q1515 q1516 q1517 q164 q1518 (by decide +kernel) g7 rfl hl.1 (by simp only [List.map_cons, List.map_nil, va_rf_cat]; exact Nat.le_of_ble_eq_true rfl) dX8_value_58 (fun v hv H locs kc ks Y => ?_) (fun k hk => by cases hk)
      cases hv
      replace hE := e_bind hE
      obtain ⟨a_19, g, hE⟩ := hE
      subst g
      replace hE := e_bind hE
      obtain ⟨st_20, g, hE⟩ := hE
      refine a_iast X Y g dX8_value_61 (fun H locs Y => ?_)
      refine lv_aload_n hx hb dX8_value_62 rfl (lv_at hl 3 rfl) ?_
      replace hE := e_bind hE
      obtain ⟨r_21, g, hE⟩ := hE
      refine n_gRN (host := "BasicMachine") X Y k_X1 11 g (by decide) (by decide) dX8_value_63 ?_
      refine lv_aload_n hx hb dX8_value_66 rfl (lv_at hl 3 rfl) ?_
      replace hE := e_bind hE
      obtain ⟨v_22, g, hE⟩ := hE
      refine n_gIN (host := "BasicMachine") X Y k_X1 9 g (by decide) (by decide) dX8_value_67 ?_
      refine lv_aload_n hx hb dX8_value_70 rfl (lv_at hl 3 rfl) ?_
      replace hE := e_bind hE
      obtain ⟨r_23, g, hE⟩ := hE
      refine n_gRN (host := "BasicMachine") X Y k_X1 5 g (by decide) (by decide) dX8_value_71 ?_
      refine lv_aload_n hx hb dX8_value_74 rfl (lv_at hl 1 rfl) ?_
      replace hE := e_bind hE
      obtain ⟨u_26, g, hE⟩ := hE
      obtain ⟨fs9, g9⟩ := i_gC g
      have g7 := a_recv X Y k_X25.1 g9
      replace hE := e_cb hE
      obtain ⟨st_24, v_25, g, hE⟩ := hE
      have M9 := (mo_v fun _ => (mo_v fun _ => (mo_v fun _ => (mo_s (fun _ => le_wD) fun _ => (mo_v fun _ => (mo_v fun _ => (mo_cb oaf_X25_s fun _ _ => (mo_v fun _ => (mo_s (fun _ => le_wD) fun _ => (mo_v fun _ => (mo_s (fun _ => le_pF) fun _ => (mo_v fun _ => (mo_cb oaf_X25_body fun _ _ => (mo_v fun _ => (mo_x mrv fun _ _ => (mo_v fun _ => (mo_cb oaf_X1_leave fun _ _ => mo_ret))))))))))))))))) _ hE
      refine a_callV (n := 0) (C := "BasicMachine$Define") (σ1 := st_24) (σf := q.1) [] X Y (maf_X25_s hl0 n g) ⟨oaf_X25_s _ g, M9, h1, h2, (by show _ ≤ fx + 1; omega), (by show _ ≤ lx + 31; omega)⟩ q1515 q1516 q1517 q164 q1518 (by decide +kernel) g7 rfl hl.1 (by simp only [List.map_cons, List.map_nil, va_rf_cat]; exact Nat.le_of_ble_eq_true rfl) dX8_value_75 (fun v hv H locs kc ks Y => ?_) (fun k hk => by cases hk)
      cases hv
      replace hE := e_bind hE
      obtain ⟨a_27, g, hE⟩ := hE
      subst g
      replace hE := e_bind hE
      obtain ⟨v_28, g, hE⟩ := hE
      refine a_dald X Y g dX8_value_78 ?_
      replace hE := e_bind hE
      obtain ⟨a_29, g, hE⟩ := hE
      subst g
      replace hE := e_bind hE
      obtain ⟨st_30, g, hE⟩ := hE
      refine a_dast X Y g dX8_value_79 (fun H locs Y => ?_)
      refine lv_aload_n hx hb dX8_value_80 rfl (lv_at hl 3 rfl) ?_
      replace hE := e_bind hE
      obtain ⟨r_31, g, hE⟩ := hE
      refine n_gRN (host := "BasicMachine") X Y k_X1 5 g (by decide) (by decide) dX8_value_81 ?_
      refine lv_aload_n hx hb dX8_value_84 rfl (lv_at hl 1 rfl) ?_
      replace hE := e_bind hE
      obtain ⟨u_34, g, hE⟩ := hE
      obtain ⟨fs9, g9⟩ := i_gC g
      have g7 := a_recv X Y k_X25.1 g9
      replace hE := e_cb hE
      obtain ⟨st_32, v_33, g, hE⟩ := hE
      have M9 := (mo_v fun _ => (mo_s (fun _ => le_wD) fun _ => (mo_v fun _ => (mo_s (fun _ => le_pF) fun _ => (mo_v fun _ => (mo_cb oaf_X25_body fun _ _ => (mo_v fun _ => (mo_x mrv fun _ _ => (mo_v fun _ => (mo_cb oaf_X1_leave fun _ _ => mo_ret)))))))))) _ hE
      refine a_callV (n := 0) (C := "BasicMachine$Define") (σ1 := st_32) (σf := q.1) [] X Y (maf_X25_s hl0 n g) ⟨oaf_X25_s _ g, M9, h1, h2, (by show _ ≤ fx + 1; omega), (by show _ ≤ lx + 31; omega)⟩ q1515 q1516 q1517 q164 q1518 (by decide +kernel) g7 rfl hl.1 (by simp only [List.map_cons, List.map_nil, va_rf_cat]; exact Nat.le_of_ble_eq_true rfl) dX8_value_85 (fun v hv H locs kc ks Y => ?_) (fun k hk => by cases hk)
      cases hv
      refine lv_dload_n hx hb dX8_value_88 rfl (lv_at hl 0 rfl) ?_
      replace hE := e_bind hE
      obtain ⟨a_35, g, hE⟩ := hE
      subst g
      replace hE := e_bind hE
      obtain ⟨st_36, g, hE⟩ := hE
      refine a_dast X Y g dX8_value_89 (fun H locs Y => ?_)
      refine lv_aload_n hx hb dX8_value_90 rfl (lv_at hl 3 rfl) ?_
      refine lv_dup hx hb dX8_value_91 rfl ?_
      replace hE := e_bind hE
      obtain ⟨v_37, g, hE⟩ := hE
      refine n_gIN (host := "BasicMachine") X Y k_X1 9 g (by decide) (by decide) dX8_value_92 ?_
      refine lv_iconst (v := 1) hx hb dX8_value_95 (by decide) ?_
      refine lv_iadd hx hb dX8_value_96 ?_
      replace hE := e_bind hE
      obtain ⟨st_38, g, hE⟩ := hE
      refine a_putNV (host := "BasicMachine") X Y k_X1 9 g (by decide) rfl rfl rfl (by decide) dX8_value_97 (fun H locs Y => ?_)
      refine lv_aload_n hx hb dX8_value_100 rfl (lv_at hl 1 rfl) ?_
      replace hE := e_bind hE
      obtain ⟨u_41, g, hE⟩ := hE
      obtain ⟨fs9, g9⟩ := i_gC g
      have g7 := a_recv X Y k_X25.1 g9
      replace hE := e_cb hE
      obtain ⟨st_39, r_40, g, hE⟩ := hE
      have M9 := (mo_v fun _ => (mo_x mrv fun _ _ => (mo_v fun _ => (mo_cb oaf_X1_leave fun _ _ => mo_ret)))) _ hE
      refine a_callV (n := 0) (C := "BasicMachine$Define") (σ1 := st_39) (σf := q.1) [] X Y (maf_X25_body hl0 n g) ⟨oaf_X25_body _ g, M9, h1, h2, (by show _ ≤ fx + 1; omega), (by show _ ≤ lx + 31; omega)⟩ q1519 q1520 q1521 q164 q1522 (by decide +kernel) g7 rfl hl.1 (Nat.le_of_ble_eq_true rfl) dX8_value_101 (fun v hv H locs kc ks Y => ?_) (fun k hk => by cases hk)
      cases hv
      refine lv_aload_n hx hb dX8_value_104 rfl (lv_at hl 3 rfl) ?_
      replace hE := e_bind hE
      obtain ⟨a_42, g, hE⟩ := hE
      subst g
      replace hE := e_xb hE
      rcases hE with ⟨st_43, v_44, g, hE⟩ | ⟨st_43, k9, g, hE⟩
      rotate_left
      · subst hE
        refine a_callIf (n := 1) (σ1 := st_43) (σf := st_43) [.ref a_1] X Y (hrv.2.2.2 g) ⟨mrv _ g, aLe.rf _, h1, h2, (by show _ ≤ fx + 1; omega), (by show _ ≤ lx + 31; omega)⟩ q1420 (by decide +kernel) rfl hl.1 (Nat.le_of_ble_eq_true rfl) dX8_value_105 (fun v hv => by cases hv) (fun k hk H locs kc ks q9 ce Y e1 e2 e3 => ?_)
        cases hk
        exact a_out X Y h1 h2 (fun z hz => (hex z hz).elim) e1 e2 e3
      have M9 := (mo_v fun _ => (mo_cb oaf_X1_leave fun _ _ => mo_ret)) _ hE
      refine a_callIf (n := 1) (σ1 := st_43) (σf := q.1) [.ref a_1] X Y (hrv.2.2.2 g) ⟨mrv _ g, M9, h1, h2, (by show _ ≤ fx + 1; omega), (by show _ ≤ lx + 31; omega)⟩ q1420 (by decide +kernel) rfl hl.1 (Nat.le_of_ble_eq_true rfl) dX8_value_105 (fun v hv H locs kc ks Y => ?_) (fun k hk => by cases hk)
      cases hv
      refine lv_dstore (lv' := [(5, .double v_44), (3, .double v_10), (2, .ref a_15), (0, .ref a0), (1, .ref a_1)]) hx hb dX8_value_110 hl (by decide) rfl (fun ls hl => ?_)
      refine lv_aload_n hx hb dX8_value_112 rfl (lv_at hl 4 rfl) ?_
      replace hE := e_bind hE
      obtain ⟨u_47, g, hE⟩ := hE
      obtain ⟨fs9, g9⟩ := i_gC g
      have g7 := a_recv X Y k_X1.1 g9
      replace hE := e_cb hE
      obtain ⟨st_45, u_46, g, hE⟩ := hE
      have M9 := mo_ret _ hE
      refine a_callVN (host := "BasicMachine") (n := 0) (C := "BasicMachine") (σ1 := st_45) (σf := q.1) [] X Y (maf_X1_leave hl0 n g) ⟨oaf_X1_leave _ g, M9, h1, h2, (by show _ ≤ fx + 1; omega), (by show _ ≤ lx + 31; omega)⟩ (by decide) q1525 qs41 q122 q1526 (by decide +kernel) g7 rfl hl.1 (Nat.le_of_ble_eq_true rfl) dX8_value_113 (fun v hv H locs kc ks Y => ?_) (fun k hk => by cases hk)
      cases hv
      refine lv_dload hx hb dX8_value_116 (lv_at hl 0 rfl) ?_
      cases hE
      exact a_dret X Y h1 h2 hr dX8_value_118
    · replace hE := e_t c_12 hE
      cases hE
      exact a_throw X Y h1 h2 rfl (by decide +kernel) q1513 q128 (at_B_Call_1 hts hK) at_B_Call_1_o (fun z hz => (hex z hz).elim) hl.1 (by show _ ≤ fx + 1; omega) (Nat.le_trans (Nat.add_le_add_right (show _ ≤ 8 from (Nat.le_of_ble_eq_true rfl)) 81) (by show _ ≤ lx + 31; omega)) dX8_value_41 dX8_value_44 dX8_value_45 dX8_value_48
  · replace hE := e_t c_6 hE
    cases hE
    exact a_throw X Y h1 h2 rfl (by decide +kernel) q1417 q167 (at_B_Call_2 hts hK) at_B_Call_2_o (fun z hz => (hex z hz).elim) hl.1 (by show _ ≤ fx + 1; omega) (Nat.le_trans (Nat.add_le_add_right (show _ ≤ 8 from (Nat.le_of_ble_eq_true rfl)) 81) (by show _ ≤ lx + 31; omega)) dX8_value_14 dX8_value_17 dX8_value_18 dX8_value_21
/-! BasicMachine$Matrix.check(JJ)V -/
set_option maxHeartbeats 4000000 in
set_option maxRecDepth 100000 in
theorem maf_X28_check {l : Launch} (hl0 : l.stackTraces = false) (n : Nat) {x : aP} {st : aS} {a0 : Nat} {p1 : Int64} {p3 : Int64} {q : aS × (Unit ⊕ Nat)} (hE : af_X28_check n x.sK st a0 p1 p3 = some q) : aMet l yX28_check (ws_ yX28_check cX28_check 5 none) 6 90 x [.ref a0, .long p1, .long p3] st (oV q.2) q.1 := by
  refine a_ofW (own := "BasicMachine$Matrix") hl0 (by decide) rfl (Nat.le_of_ble_eq_true rfl) (fun mc ms p e s m below meth c ls H locs kc ks h1 h2 X hex Y hr hnm hl => ?_)
  have hnm : "check" = meth.name := hnm
  have hl : lv_has ls 5 [(0, .ref a0), (1, .long p1), (3, .long p3)] := hl
  have hx := X.1
  have hb := X.2.1
  have hown := X.2.2.2.1
  have hts := X.2.2.2.2.1
  have hK := X.2.2.2.2.2.1
  have hl0 := X.2.2.2.2.2.2.2.2
  unfold af_X28_check at hE
  refine lv_lload_n hx hb dX28_check_0 rfl (lv_at hl 1 rfl) ?_
  refine lv_lconst (v := 1) hx hb dX28_check_1 (by decide) ?_
  refine W.lcmp hx hb dX28_check_2 ?_
  refine lv_if_lt (tgt := 32) hx hb dX28_check_3 (by decide) (fun c_1 => ?_) (fun c_1 => ?_)
  · replace hE := e_t c_1 hE
    cases hE
    exact a_throw X Y h1 h2 rfl (by decide +kernel) q1511 q169 (at_B_Matrix_4 hts hK) at_B_Matrix_4_o (fun z hz => (hex z hz).elim) hl.1 (by show _ ≤ 6; decide) (Nat.le_trans (Nat.add_le_add_right (show _ ≤ 8 from (Nat.le_of_ble_eq_true rfl)) 81) (by show _ ≤ 90; decide)) dX28_check_32 dX28_check_35 dX28_check_36 dX28_check_39
  · replace hE := e_f c_1 hE
    refine lv_lload_n hx hb dX28_check_6 rfl (lv_at hl 1 rfl) ?_
    refine lv_aload_n hx hb dX28_check_7 rfl (lv_at hl 0 rfl) ?_
    replace hE := e_bind hE
    obtain ⟨v_2, g, hE⟩ := hE
    refine n_gI X Y k_X28 1 g (by decide) q1386 dX28_check_8 ?_
    refine lv_i2l hx hb dX28_check_11 rfl ?_
    refine W.lcmp hx hb dX28_check_12 ?_
    refine lv_if_gt (tgt := 32) hx hb dX28_check_13 (by decide) (fun c_3 => ?_) (fun c_3 => ?_)
    · replace hE := e_t c_3 hE
      cases hE
      exact a_throw X Y h1 h2 rfl (by decide +kernel) q1511 q169 (at_B_Matrix_4 hts hK) at_B_Matrix_4_o (fun z hz => (hex z hz).elim) hl.1 (by show _ ≤ 6; decide) (Nat.le_trans (Nat.add_le_add_right (show _ ≤ 8 from (Nat.le_of_ble_eq_true rfl)) 81) (by show _ ≤ 90; decide)) dX28_check_32 dX28_check_35 dX28_check_36 dX28_check_39
    · replace hE := e_f c_3 hE
      refine lv_lload_n hx hb dX28_check_16 rfl (lv_at hl 2 rfl) ?_
      refine lv_lconst (v := 1) hx hb dX28_check_17 (by decide) ?_
      refine W.lcmp hx hb dX28_check_18 ?_
      refine lv_if_lt (tgt := 32) hx hb dX28_check_19 (by decide) (fun c_4 => ?_) (fun c_4 => ?_)
      · replace hE := e_t c_4 hE
        cases hE
        exact a_throw X Y h1 h2 rfl (by decide +kernel) q1511 q169 (at_B_Matrix_4 hts hK) at_B_Matrix_4_o (fun z hz => (hex z hz).elim) hl.1 (by show _ ≤ 6; decide) (Nat.le_trans (Nat.add_le_add_right (show _ ≤ 8 from (Nat.le_of_ble_eq_true rfl)) 81) (by show _ ≤ 90; decide)) dX28_check_32 dX28_check_35 dX28_check_36 dX28_check_39
      · replace hE := e_f c_4 hE
        refine lv_lload_n hx hb dX28_check_22 rfl (lv_at hl 2 rfl) ?_
        refine lv_aload_n hx hb dX28_check_23 rfl (lv_at hl 0 rfl) ?_
        replace hE := e_bind hE
        obtain ⟨v_5, g, hE⟩ := hE
        refine n_gI X Y k_X28 2 g (by decide) q1388 dX28_check_24 ?_
        refine lv_i2l hx hb dX28_check_27 rfl ?_
        refine W.lcmp hx hb dX28_check_28 ?_
        refine lv_if_le (tgt := 40) hx hb dX28_check_29 (by decide) (fun c_6 => ?_) (fun c_6 => ?_)
        · replace hE := e_t c_6 hE
          cases hE
          exact a_vret X Y h1 h2 hr dX28_check_40
        · replace hE := e_f c_6 hE
          cases hE
          exact a_throw X Y h1 h2 rfl (by decide +kernel) q1511 q169 (at_B_Matrix_4 hts hK) at_B_Matrix_4_o (fun z hz => (hex z hz).elim) hl.1 (by show _ ≤ 6; decide) (Nat.le_trans (Nat.add_le_add_right (show _ ≤ 8 from (Nat.le_of_ble_eq_true rfl)) 81) (by show _ ≤ 90; decide)) dX28_check_32 dX28_check_35 dX28_check_36 dX28_check_39
/-! BasicMachine$Matrix.at(JJ)D -/
set_option maxHeartbeats 4000000 in
set_option maxRecDepth 100000 in
theorem maf_X28_at {l : Launch} (hl0 : l.stackTraces = false) (n : Nat) {x : aP} {st : aS} {a0 : Nat} {p1 : Int64} {p3 : Int64} {q : aS × ((UInt64) ⊕ Nat)} (hE : af_X28_at n x.sK st a0 p1 p3 = some q) : aMet l yX28_at (ws_ yX28_at cX28_at 5 (some .double)) 7 114 x [.ref a0, .long p1, .long p3] st (oD q.2) q.1 := by
  refine a_ofW (own := "BasicMachine$Matrix") hl0 (by decide) rfl (Nat.le_of_ble_eq_true rfl) (fun mc ms p e s m below meth c ls H locs kc ks h1 h2 X hex Y hr hnm hl => ?_)
  have hnm : "at" = meth.name := hnm
  have hl : lv_has ls 5 [(0, .ref a0), (1, .long p1), (3, .long p3)] := hl
  have hx := X.1
  have hb := X.2.1
  have hown := X.2.2.2.1
  have hts := X.2.2.2.2.1
  have hK := X.2.2.2.2.2.1
  have hl0 := X.2.2.2.2.2.2.2.2
  unfold af_X28_at at hE
  refine lv_aload_n hx hb dX28_at_0 rfl (lv_at hl 0 rfl) ?_
  refine lv_lload_n hx hb dX28_at_1 rfl (lv_at hl 1 rfl) ?_
  refine lv_lload_n hx hb dX28_at_2 rfl (lv_at hl 2 rfl) ?_
  replace hE := e_bind hE
  obtain ⟨u_3, g, hE⟩ := hE
  obtain ⟨fs9, g9⟩ := i_gC g
  have g7 := a_recv X Y k_X28.1 g9
  replace hE := e_xb hE
  rcases hE with ⟨st_1, u_2, g, hE⟩ | ⟨st_1, k9, g, hE⟩
  rotate_left
  · subst hE
    refine a_callV (n := 2) (C := "BasicMachine$Matrix") (σ1 := st_1) (σf := st_1) [.long p1, .long p3] X Y (maf_X28_check hl0 n g) ⟨oaf_X28_check _ g, aLe.rf _, h1, h2, (by show _ ≤ 7; decide), (by show _ ≤ 114; decide)⟩ q1507 q1509 qs40 q171 q1510 (by decide +kernel) g7 rfl hl.1 (Nat.le_of_ble_eq_true rfl) dX28_at_3 (fun v hv => by cases hv) (fun k hk H locs kc ks q9 ce Y e1 e2 e3 => ?_)
    cases hk
    exact a_out X Y h1 h2 (fun z hz => (hex z hz).elim) e1 e2 e3
  have M9 := (mo_v fun _ => (mo_v fun _ => (mo_v fun _ => (mo_v fun _ => (mo_v fun _ => mo_ret))))) _ hE
  refine a_callV (n := 2) (C := "BasicMachine$Matrix") (σ1 := st_1) (σf := q.1) [.long p1, .long p3] X Y (maf_X28_check hl0 n g) ⟨oaf_X28_check _ g, M9, h1, h2, (by show _ ≤ 7; decide), (by show _ ≤ 114; decide)⟩ q1507 q1509 qs40 q171 q1510 (by decide +kernel) g7 rfl hl.1 (Nat.le_of_ble_eq_true rfl) dX28_at_3 (fun v hv H locs kc ks Y => ?_) (fun k hk => by cases hk)
  cases hv
  refine lv_aload_n hx hb dX28_at_6 rfl (lv_at hl 0 rfl) ?_
  replace hE := e_bind hE
  obtain ⟨r_4, g, hE⟩ := hE
  refine n_gR X Y k_X28 0 g (by decide) q1383 dX28_at_7 ?_
  refine lv_lload_n hx hb dX28_at_10 rfl (lv_at hl 1 rfl) ?_
  refine lv_l2i hx hb dX28_at_11 rfl ?_
  refine lv_iconst (v := 1) hx hb dX28_at_12 (by decide) ?_
  refine lv_isub hx hb dX28_at_13 ?_
  replace hE := e_bind hE
  obtain ⟨a_5, g, hE⟩ := hE
  subst g
  replace hE := e_bind hE
  obtain ⟨r_6, g, hE⟩ := hE
  refine a_aald X Y (by decide) rfl g dX28_at_14 ?_
  refine lv_lload_n hx hb dX28_at_15 rfl (lv_at hl 2 rfl) ?_
  refine lv_l2i hx hb dX28_at_16 rfl ?_
  refine lv_iconst (v := 1) hx hb dX28_at_17 (by decide) ?_
  refine lv_isub hx hb dX28_at_18 ?_
  replace hE := e_bind hE
  obtain ⟨a_7, g, hE⟩ := hE
  subst g
  replace hE := e_bind hE
  obtain ⟨v_8, g, hE⟩ := hE
  refine a_dald X Y g dX28_at_19 ?_
  cases hE
  exact a_dret X Y h1 h2 hr dX28_at_20
/-! BasicMachine$Element.value(LBasicMachine;)D -/
set_option maxHeartbeats 4000000 in
set_option maxRecDepth 100000 in
theorem maf_X11_value {l : Launch} (hl0 : l.stackTraces = false) (n : Nat) {x : aP} {rv : aS → Nat → Option Nat → Option (aS × (UInt64 ⊕ Nat))} {fx lx : Nat} (hrv : hRV l x rv fx lx) {st : aS} {a0 : Nat} {p1 : Option Nat} {q : aS × ((UInt64) ⊕ Nat)} (hE : af_X11_value n x.sK rv st a0 p1 = some q) : aMet l yX11_value (ws_ yX11_value cX11_value 6 (some .double)) (fx + 1) (lx + 31) x [.ref a0, va_rf p1] st (oD q.2) q.1 := by
  refine a_ofW (own := "BasicMachine$Element") hl0 (by decide) rfl (by simp only [lg_sl, List.flatMap_cons, List.flatMap_nil, va_rf_cat]; exact Nat.le_of_ble_eq_true rfl) (fun mc ms p e s m below meth c ls H locs kc ks h1 h2 X hex Y hr hnm hl => ?_)
  have hnm : "value" = meth.name := hnm
  have hl : lv_has ls 6 [(0, .ref a0), (1, va_rf p1)] := by simp only [lv_args, va_rf_cat] at hl; exact hl
  have hx := X.1
  have hb := X.2.1
  have hown := X.2.2.2.1
  have hts := X.2.2.2.2.1
  have hK := X.2.2.2.2.2.1
  have hl0 := X.2.2.2.2.2.2.2.2
  obtain ⟨hfx, hlx, mrv, -⟩ := id hrv
  unfold af_X11_value at hE
  refine lv_aload_n hx hb dX11_value_0 rfl (lv_at hl 0 rfl) ?_
  replace hE := e_bind hE
  obtain ⟨r_1, g, hE⟩ := hE
  refine n_gR X Y k_X11 1 g (by decide) q1013 dX11_value_1 ?_
  refine r_aload_n hx hb dX11_value_4 rfl (lv_at hl 1 rfl) ?_
  replace hE := e_bind hE
  obtain ⟨a_2, g, hE⟩ := hE
  subst g
  replace hE := e_xb hE
  rcases hE with ⟨st_3, v_4, g, hE⟩ | ⟨st_3, k9, g, hE⟩
  rotate_left
  · subst hE
    refine a_callIf (n := 1) (σ1 := st_3) (σf := st_3) [va_rf p1] X Y (hrv.2.2.2 g) ⟨mrv _ g, aLe.rf _, h1, h2, (by show _ ≤ fx + 1; omega), (by show _ ≤ lx + 31; omega)⟩ q1428 (by decide +kernel) rfl hl.1 (Nat.le_of_ble_eq_true rfl) dX11_value_5 (fun v hv => by cases hv) (fun k hk H locs kc ks q9 ce Y e1 e2 e3 => ?_)
    cases hk
    exact a_out X Y h1 h2 (fun z hz => (hex z hz).elim) e1 e2 e3
  have M9 := (mo_cb oaf_X1_whole fun _ _ => (mo_v fun _ => (mo_v fun _ => (mo_x mrv fun _ _ => (mo_cb oaf_X1_whole fun _ _ => (mo_v fun _ => (mo_v fun _ => (mo_v fun _ => (mo_x oaf_X1_matrix fun _ _ => (mo_v fun _ => (mo_v fun _ => (mo_x oaf_X28_at fun _ _ => mo_ret)))))))))))) _ hE
  refine a_callIf (n := 1) (σ1 := st_3) (σf := q.1) [va_rf p1] X Y (hrv.2.2.2 g) ⟨mrv _ g, M9, h1, h2, (by show _ ≤ fx + 1; omega), (by show _ ≤ lx + 31; omega)⟩ q1428 (by decide +kernel) rfl hl.1 (Nat.le_of_ble_eq_true rfl) dX11_value_5 (fun v hv H locs kc ks Y => ?_) (fun k hk => by cases hk)
  cases hv
  replace hE := e_cb hE
  obtain ⟨st_5, v_6, g, hE⟩ := hE
  have M9 := (mo_v fun _ => (mo_v fun _ => (mo_x mrv fun _ _ => (mo_cb oaf_X1_whole fun _ _ => (mo_v fun _ => (mo_v fun _ => (mo_v fun _ => (mo_x oaf_X1_matrix fun _ _ => (mo_v fun _ => (mo_v fun _ => (mo_x oaf_X28_at fun _ _ => mo_ret))))))))))) _ hE
  refine a_callSN (host := "BasicMachine") (n := 1) (σ1 := st_5) (σf := q.1) [.double v_4] X Y (maf_X1_whole hl0 n g) ⟨oaf_X1_whole _ g, M9, h1, h2, (by show _ ≤ fx + 1; omega), (by show _ ≤ lx + 31; omega)⟩ (by decide) q1461 q122 q1462 (by decide +kernel) rfl hl.1 (Nat.le_of_ble_eq_true rfl) dX11_value_10 (fun v hv H locs kc ks Y => ?_) (fun k hk => by cases hk)
  cases hv
  refine lv_lstore_n (i := 2) (lv' := [(2, .long v_6), (0, .ref a0), (1, va_rf p1)]) hx hb dX11_value_13 rfl hl (by decide) (by cases p1 <;> rfl) (fun ls hl => ?_)
  refine lv_aload_n hx hb dX11_value_14 rfl (lv_at hl 1 rfl) ?_
  replace hE := e_bind hE
  obtain ⟨r_7, g, hE⟩ := hE
  refine n_gR X Y k_X11 2 g (by decide) q1014 dX11_value_15 ?_
  refine r_aload_n hx hb dX11_value_18 rfl (lv_at hl 2 rfl) ?_
  replace hE := e_bind hE
  obtain ⟨a_8, g, hE⟩ := hE
  subst g
  replace hE := e_xb hE
  rcases hE with ⟨st_9, v_10, g, hE⟩ | ⟨st_9, k9, g, hE⟩
  rotate_left
  · subst hE
    refine a_callIf (n := 1) (σ1 := st_9) (σf := st_9) [va_rf p1] X Y (hrv.2.2.2 g) ⟨mrv _ g, aLe.rf _, h1, h2, (by show _ ≤ fx + 1; omega), (by show _ ≤ lx + 31; omega)⟩ q1428 (by decide +kernel) rfl hl.1 (Nat.le_of_ble_eq_true rfl) dX11_value_19 (fun v hv => by cases hv) (fun k hk H locs kc ks q9 ce Y e1 e2 e3 => ?_)
    cases hk
    exact a_out X Y h1 h2 (fun z hz => (hex z hz).elim) e1 e2 e3
  have M9 := (mo_cb oaf_X1_whole fun _ _ => (mo_v fun _ => (mo_v fun _ => (mo_v fun _ => (mo_x oaf_X1_matrix fun _ _ => (mo_v fun _ => (mo_v fun _ => (mo_x oaf_X28_at fun _ _ => mo_ret)))))))) _ hE
  refine a_callIf (n := 1) (σ1 := st_9) (σf := q.1) [va_rf p1] X Y (hrv.2.2.2 g) ⟨mrv _ g, M9, h1, h2, (by show _ ≤ fx + 1; omega), (by show _ ≤ lx + 31; omega)⟩ q1428 (by decide +kernel) rfl hl.1 (Nat.le_of_ble_eq_true rfl) dX11_value_19 (fun v hv H locs kc ks Y => ?_) (fun k hk => by cases hk)
  cases hv
  replace hE := e_cb hE
  obtain ⟨st_11, v_12, g, hE⟩ := hE
  have M9 := (mo_v fun _ => (mo_v fun _ => (mo_v fun _ => (mo_x oaf_X1_matrix fun _ _ => (mo_v fun _ => (mo_v fun _ => (mo_x oaf_X28_at fun _ _ => mo_ret))))))) _ hE
  refine a_callSN (host := "BasicMachine") (n := 1) (σ1 := st_11) (σf := q.1) [.double v_10] X Y (maf_X1_whole hl0 n g) ⟨oaf_X1_whole _ g, M9, h1, h2, (by show _ ≤ fx + 1; omega), (by show _ ≤ lx + 31; omega)⟩ (by decide) q1461 q122 q1462 (by decide +kernel) rfl hl.1 (Nat.le_of_ble_eq_true rfl) dX11_value_24 (fun v hv H locs kc ks Y => ?_) (fun k hk => by cases hk)
  cases hv
  refine lv_lstore (lv' := [(4, .long v_12), (2, .long v_6), (0, .ref a0), (1, va_rf p1)]) hx hb dX11_value_27 hl (by decide) rfl (fun ls hl => ?_)
  refine r_aload_n hx hb dX11_value_29 rfl (lv_at hl 3 rfl) ?_
  refine lv_aload_n hx hb dX11_value_30 rfl (lv_at hl 2 rfl) ?_
  replace hE := e_bind hE
  obtain ⟨v_13, g, hE⟩ := hE
  refine n_gI X Y k_X11 0 g (by decide) q1012 dX11_value_31 ?_
  replace hE := e_bind hE
  obtain ⟨a_14, g, hE⟩ := hE
  subst g
  replace hE := e_bind hE
  obtain ⟨u_17, g, hE⟩ := hE
  obtain ⟨fs9, g9⟩ := i_gC g
  have g7 := a_recv X Y k_X1.1 g9
  replace hE := e_xb hE
  rcases hE with ⟨st_15, r_16, g, hE⟩ | ⟨st_15, k9, g, hE⟩
  rotate_left
  · subst hE
    refine a_callVN (host := "BasicMachine") (n := 1) (C := "BasicMachine") (σ1 := st_15) (σf := st_15) [.int v_13] X Y (maf_X1_matrix hl0 n g) ⟨oaf_X1_matrix _ g, aLe.rf _, h1, h2, (by show _ ≤ fx + 1; omega), (by show _ ≤ lx + 31; omega)⟩ (by decide) q1487 qs39 q122 q1488 (by decide +kernel) g7 rfl hl.1 (Nat.le_of_ble_eq_true rfl) dX11_value_34 (fun v hv => by cases hv) (fun k hk H locs kc ks q9 ce Y e1 e2 e3 => ?_)
    cases hk
    exact a_out X Y h1 h2 (fun z hz => (hex z hz).elim) e1 e2 e3
  have M9 := (mo_v fun _ => (mo_v fun _ => (mo_x oaf_X28_at fun _ _ => mo_ret))) _ hE
  refine a_callVN (host := "BasicMachine") (n := 1) (C := "BasicMachine") (σ1 := st_15) (σf := q.1) [.int v_13] X Y (maf_X1_matrix hl0 n g) ⟨oaf_X1_matrix _ g, M9, h1, h2, (by show _ ≤ fx + 1; omega), (by show _ ≤ lx + 31; omega)⟩ (by decide) q1487 qs39 q122 q1488 (by decide +kernel) g7 rfl hl.1 (Nat.le_of_ble_eq_true rfl) dX11_value_34 (fun v hv H locs kc ks Y => ?_) (fun k hk => by cases hk)
  cases hv
  refine lv_lload_n hx hb dX11_value_37 rfl (lv_at hl 1 rfl) ?_
  refine lv_lload hx hb dX11_value_38 (lv_at hl 0 rfl) ?_
  replace hE := e_bind hE
  obtain ⟨a_18, g, hE⟩ := hE
  subst g
  replace hE := e_bind hE
  obtain ⟨u_21, g, hE⟩ := hE
  obtain ⟨fs9, g9⟩ := i_gC g
  have g7 := a_recv X Y k_X28.1 g9
  replace hE := e_xb hE
  rcases hE with ⟨st_19, v_20, g, hE⟩ | ⟨st_19, k9, g, hE⟩
  rotate_left
  · subst hE
    refine a_callV (n := 2) (C := "BasicMachine$Matrix") (σ1 := st_19) (σf := st_19) [.long v_6, .long v_12] X Y (maf_X28_at hl0 n g) ⟨oaf_X28_at _ g, aLe.rf _, h1, h2, (by show _ ≤ fx + 1; omega), (by show _ ≤ lx + 31; omega)⟩ q1503 q1504 q1505 q171 q1506 (by decide +kernel) g7 rfl hl.1 (Nat.le_of_ble_eq_true rfl) dX11_value_40 (fun v hv => by cases hv) (fun k hk H locs kc ks q9 ce Y e1 e2 e3 => ?_)
    cases hk
    exact a_out X Y h1 h2 (fun z hz => (hex z hz).elim) e1 e2 e3
  have M9 := mo_ret _ hE
  refine a_callV (n := 2) (C := "BasicMachine$Matrix") (σ1 := st_19) (σf := q.1) [.long v_6, .long v_12] X Y (maf_X28_at hl0 n g) ⟨oaf_X28_at _ g, M9, h1, h2, (by show _ ≤ fx + 1; omega), (by show _ ≤ lx + 31; omega)⟩ q1503 q1504 q1505 q171 q1506 (by decide +kernel) g7 rfl hl.1 (Nat.le_of_ble_eq_true rfl) dX11_value_40 (fun v hv H locs kc ks Y => ?_) (fun k hk => by cases hk)
  cases hv
  cases hE
  exact a_dret X Y h1 h2 hr dX11_value_43
/-! BasicMachine$Numeral.value(LBasicMachine;)D -/
set_option maxHeartbeats 4000000 in
set_option maxRecDepth 100000 in
theorem maf_X6_value {l : Launch} (hl0 : l.stackTraces = false) (n : Nat) {x : aP} {rv : aS → Nat → Option Nat → Option (aS × (UInt64 ⊕ Nat))} {fx lx : Nat} (hrv : hRV l x rv fx lx) {st : aS} {a0 : Nat} {p1 : Option Nat} {q : aS × ((UInt64) ⊕ Nat)} (hE : af_X6_value n x.sK rv st a0 p1 = some q) : aMet l yX6_value (ws_ yX6_value cX6_value 2 (some .double)) (fx + 1) (lx + 31) x [.ref a0, va_rf p1] st (oD q.2) q.1 := by
  refine a_ofW (own := "BasicMachine$Numeral") hl0 (by decide) rfl (by simp only [lg_sl, List.flatMap_cons, List.flatMap_nil, va_rf_cat]; exact Nat.le_of_ble_eq_true rfl) (fun mc ms p e s m below meth c ls H locs kc ks h1 h2 X hex Y hr hnm hl => ?_)
  have hnm : "value" = meth.name := hnm
  have hl : lv_has ls 2 [(0, .ref a0), (1, va_rf p1)] := by simp only [lv_args, va_rf_cat] at hl; exact hl
  have hx := X.1
  have hb := X.2.1
  have hown := X.2.2.2.1
  have hts := X.2.2.2.2.1
  have hK := X.2.2.2.2.2.1
  have hl0 := X.2.2.2.2.2.2.2.2
  obtain ⟨hfx, hlx, mrv, -⟩ := id hrv
  unfold af_X6_value at hE
  refine lv_aload_n hx hb dX6_value_0 rfl (lv_at hl 0 rfl) ?_
  replace hE := e_bind hE
  obtain ⟨v_1, g, hE⟩ := hE
  refine n_gD X Y k_X6 0 g (by decide) q915 dX6_value_1 ?_
  cases hE
  exact a_dret X Y h1 h2 hr dX6_value_4
/-! BasicMachine$Pair.divided(DD)D -/
set_option maxHeartbeats 4000000 in
set_option maxRecDepth 100000 in
theorem maf_X10_divided {l : Launch} (hl0 : l.stackTraces = false) (n : Nat) {x : aP} {st : aS} {p0 : UInt64} {p2 : UInt64} {q : aS × ((UInt64) ⊕ Nat)} (hE : af_X10_divided n x.sK st p0 p2 = some q) : aMet l yX10_divided (ws_ yX10_divided cX10_divided 4 (some .double)) 7 111 x [.double p0, .double p2] st (oD q.2) q.1 := by
  refine a_ofW (own := "BasicMachine$Pair") hl0 (by decide) rfl (Nat.le_of_ble_eq_true rfl) (fun mc ms p e s m below meth c ls H locs kc ks h1 h2 X hex Y hr hnm hl => ?_)
  have hnm : "divided" = meth.name := hnm
  have hl : lv_has ls 4 [(0, .double p0), (2, .double p2)] := hl
  have hx := X.1
  have hb := X.2.1
  have hown := X.2.2.2.1
  have hts := X.2.2.2.2.1
  have hK := X.2.2.2.2.2.1
  have hl0 := X.2.2.2.2.2.2.2.2
  unfold af_X10_divided at hE
  refine lv_dload_n hx hb dX10_divided_0 rfl (lv_at hl 1 rfl) ?_
  refine lv_dconst0 hx hb dX10_divided_1 ?_
  refine lv_dcmp hx hb dX10_divided_2 ?_
  refine lv_if_ne (tgt := 14) hx hb dX10_divided_3 (by decide) (fun c_1 => ?_) (fun c_1 => ?_)
  · replace hE := e_f c_1 hE
    refine lv_dload_n hx hb dX10_divided_14 rfl (lv_at hl 0 rfl) ?_
    refine lv_dload_n hx hb dX10_divided_15 rfl (lv_at hl 1 rfl) ?_
    replace hE := e_bind hE
    obtain ⟨v_2, g, hE⟩ := hE
    refine n_ddiv hx hb g dX10_divided_16 ?_
    replace hE := e_xb hE
    rcases hE with ⟨st_3, v_4, g, hE⟩ | ⟨st_3, k9, g, hE⟩
    rotate_left
    · subst hE
      refine a_callSN (host := "BasicMachine") (n := 1) (σ1 := st_3) (σf := st_3) [.double v_2] X Y (maf_X1_checked hl0 n g) ⟨oaf_X1_checked _ g, aLe.rf _, h1, h2, (by show _ ≤ 7; decide), (by show _ ≤ 111; decide)⟩ (by decide) q1465 q122 q1466 (by decide +kernel) rfl hl.1 (Nat.le_of_ble_eq_true rfl) dX10_divided_17 (fun v hv => by cases hv) (fun k hk H locs kc ks q9 ce Y e1 e2 e3 => ?_)
      cases hk
      exact a_out X Y h1 h2 (fun z hz => (hex z hz).elim) e1 e2 e3
    have M9 := mo_ret _ hE
    refine a_callSN (host := "BasicMachine") (n := 1) (σ1 := st_3) (σf := q.1) [.double v_2] X Y (maf_X1_checked hl0 n g) ⟨oaf_X1_checked _ g, M9, h1, h2, (by show _ ≤ 7; decide), (by show _ ≤ 111; decide)⟩ (by decide) q1465 q122 q1466 (by decide +kernel) rfl hl.1 (Nat.le_of_ble_eq_true rfl) dX10_divided_17 (fun v hv H locs kc ks Y => ?_) (fun k hk => by cases hk)
    cases hv
    cases hE
    exact a_dret X Y h1 h2 hr dX10_divided_20
  · replace hE := e_t c_1 hE
    cases hE
    exact a_throw X Y h1 h2 rfl (by decide +kernel) q1476 q168 (at_B_Pair_3 hts hK) at_B_Pair_3_o (fun z hz => (hex z hz).elim) hl.1 (by show _ ≤ 7; decide) (Nat.le_trans (Nat.add_le_add_right (show _ ≤ 8 from (Nat.le_of_ble_eq_true rfl)) 81) (by show _ ≤ 111; decide)) dX10_divided_6 dX10_divided_9 dX10_divided_10 dX10_divided_13
/-! BasicMachine$Pair.power(DD)D -/
set_option maxHeartbeats 4000000 in
set_option maxRecDepth 100000 in
theorem waf_X10_power_S54_ {l : Launch} {x : aP} {As : List Value} {σ0 : aS} {p : Program} {e : Env} {s : State} {m : MethodId} {below : List Frame} {meth : Method} {c : Code} {mc ms : Nat} (X : aX "BasicMachine$Pair" p l s m As.toArray meth c cX10_power 9 x σ0) (hex : ∀ z ∈ c.exceptionTable.toList, False) (hr : meth.sig.returnType = (some .double)) (hnm : "power" = meth.name) {n : Nat} {q : aS × ((UInt64) ⊕ Nat)} : ∀ k : Nat, (∀ {st : aS} {x0 : UInt64} {x2 : UInt64} {x4 : UInt64} {x6 : UInt64} {x8 : Int32}, af_X10_power_S54 n x.sK k st x0 x2 x4 x6 x8 = some q → (mc + σ0.1 = q.1.1) → (ms + σ0.2.1 = q.1.2.1) → ∀ {H : Heap} {locs : List Loc} {ls : Array Slot} {kc ks : Nat}, aY x σ0 s st H locs kc ks → lv_has ls 9 [(0, .double x0), (2, .double x2), (4, .double x4), (6, .double x6), (8, .int x8)] → aG l 8 134 mc ms x As σ0 (oD q.2) q.1 p e s m below meth c H locs kc ks (F0 m 54 ls [])) := by
  have hx := X.1
  have hb := X.2.1
  have hown := X.2.2.2.1
  have hts := X.2.2.2.2.1
  have hK := X.2.2.2.2.2.1
  have hl0 := X.2.2.2.2.2.2.2.2
  intro k
  induction k with
  | zero => exact fun h => nomatch (show none = some q from h)
  | succ k ih =>
    have mrec := @oaf_X10_power_S54_ n x.sK k
    intro st x0 x2 x4 x6 x8 hE h1 h2 H locs ls kc ks Y hl
    replace hE : af_X10_power_B54 n x.sK (af_X10_power_S54 n x.sK k) st x0 x2 x4 x6 x8 = some q := hE
    unfold af_X10_power_B54 at hE
    refine lv_iload hx hb dX10_power_54 (lv_at hl 4 rfl) ?_
    refine lv_i2d hx hb dX10_power_56 ?_
    refine lv_dload hx hb dX10_power_57 (lv_at hl 3 rfl) ?_
    refine lv_dcmp hx hb dX10_power_59 ?_
    refine lv_if_ge (tgt := 78) hx hb dX10_power_60 (by decide) (fun c_1 => ?_) (fun c_1 => ?_)
    · replace hE := e_t c_1 hE
      refine lv_dload_n hx hb dX10_power_78 rfl (lv_at hl 1 rfl) ?_
      refine lv_dconst0 hx hb dX10_power_79 ?_
      refine lv_dcmp hx hb dX10_power_80 ?_
      refine lv_if_ge (tgt := 93) hx hb dX10_power_81 (by decide) (fun c_2 => ?_) (fun c_2 => ?_)
      · replace hE := e_t c_2 hE
        refine lv_dload hx hb dX10_power_93 (lv_at hl 2 rfl) ?_
        cases hE
        exact a_dret X Y h1 h2 hr dX10_power_95
      · replace hE := e_f c_2 hE
        refine lv_dconst1 hx hb dX10_power_84 ?_
        refine lv_dload hx hb dX10_power_85 (lv_at hl 2 rfl) ?_
        replace hE := e_xb hE
        rcases hE with ⟨st_3, v_4, g, hE⟩ | ⟨st_3, k9, g, hE⟩
        rotate_left
        · subst hE
          refine a_callS (n := 2) (σ1 := st_3) (σf := st_3) [.double FP.dconst1, .double x4] X Y (maf_X10_divided hl0 n g) ⟨oaf_X10_divided _ g, aLe.rf _, h1, h2, (by show _ ≤ 8; decide), (by show _ ≤ 134; decide)⟩ q1473 q1474 q149 q1475 (by decide +kernel) rfl hl.1 (Nat.le_of_ble_eq_true rfl) dX10_power_87 (fun v hv => by cases hv) (fun k hk H locs kc ks q9 ce Y e1 e2 e3 => ?_)
          cases hk
          exact a_out X Y h1 h2 (fun z hz => (hex z hz).elim) e1 e2 e3
        have M9 := mo_ret _ hE
        refine a_callS (n := 2) (σ1 := st_3) (σf := q.1) [.double FP.dconst1, .double x4] X Y (maf_X10_divided hl0 n g) ⟨oaf_X10_divided _ g, M9, h1, h2, (by show _ ≤ 8; decide), (by show _ ≤ 134; decide)⟩ q1473 q1474 q149 q1475 (by decide +kernel) rfl hl.1 (Nat.le_of_ble_eq_true rfl) dX10_power_87 (fun v hv H locs kc ks Y => ?_) (fun k hk => by cases hk)
        cases hv
        refine lv_goto (tgt := 95) hx hb dX10_power_90 (by decide) ?_
        cases hE
        exact a_dret X Y h1 h2 hr dX10_power_95
    · replace hE := e_f c_1 hE
      refine lv_dload hx hb dX10_power_63 (lv_at hl 2 rfl) ?_
      refine lv_dload_n hx hb dX10_power_65 rfl (lv_at hl 0 rfl) ?_
      replace hE := e_bind hE
      obtain ⟨v_5, g, hE⟩ := hE
      refine n_dmul hx hb g dX10_power_66 ?_
      replace hE := e_xb hE
      rcases hE with ⟨st_6, v_7, g, hE⟩ | ⟨st_6, k9, g, hE⟩
      rotate_left
      · subst hE
        refine a_callSN (host := "BasicMachine") (n := 1) (σ1 := st_6) (σf := st_6) [.double v_5] X Y (maf_X1_checked hl0 n g) ⟨oaf_X1_checked _ g, aLe.rf _, h1, h2, (by show _ ≤ 8; decide), (by show _ ≤ 134; decide)⟩ (by decide) q1465 q122 q1466 (by decide +kernel) rfl hl.1 (Nat.le_of_ble_eq_true rfl) dX10_power_67 (fun v hv => by cases hv) (fun k hk H locs kc ks q9 ce Y e1 e2 e3 => ?_)
        cases hk
        exact a_out X Y h1 h2 (fun z hz => (hex z hz).elim) e1 e2 e3
      have M9 := (mrec) _ hE
      refine a_callSN (host := "BasicMachine") (n := 1) (σ1 := st_6) (σf := q.1) [.double v_5] X Y (maf_X1_checked hl0 n g) ⟨oaf_X1_checked _ g, M9, h1, h2, (by show _ ≤ 8; decide), (by show _ ≤ 134; decide)⟩ (by decide) q1465 q122 q1466 (by decide +kernel) rfl hl.1 (Nat.le_of_ble_eq_true rfl) dX10_power_67 (fun v hv H locs kc ks Y => ?_) (fun k hk => by cases hk)
      cases hv
      refine lv_dstore (lv' := [(4, .double v_7), (0, .double x0), (2, .double x2), (6, .double x6), (8, .int x8)]) hx hb dX10_power_70 hl (by decide) rfl (fun ls hl => ?_)
      refine lv_iinc (v := (x8 + (1 : Int32))) (lv' := [(8, .int (x8 + (1 : Int32))), (4, .double v_7), (0, .double x0), (2, .double x2), (6, .double x6)]) hx hb dX10_power_72 hl (k := 4) rfl rfl (by decide) rfl (fun ls hl => ?_)
      refine lv_goto (tgt := 54) hx hb dX10_power_75 (by decide) ?_
      exact ih hE h1 h2 Y (lv_sub hl [2, 3, 1, 4, 0] rfl)
set_option maxHeartbeats 4000000 in
set_option maxRecDepth 100000 in
theorem waf_X10_power_S54 {l : Launch} {x : aP} {As : List Value} {σ0 : aS} {p : Program} {e : Env} {s : State} {m : MethodId} {below : List Frame} {meth : Method} {c : Code} {mc ms : Nat} (X : aX "BasicMachine$Pair" p l s m As.toArray meth c cX10_power 9 x σ0) (hex : ∀ z ∈ c.exceptionTable.toList, False) (hr : meth.sig.returnType = (some .double)) (hnm : "power" = meth.name) {n : Nat} {q : aS × ((UInt64) ⊕ Nat)} : (∀ {st : aS} {x0 : UInt64} {x2 : UInt64} {x4 : UInt64} {x6 : UInt64} {x8 : Int32}, af_X10_power_S54 n x.sK n st x0 x2 x4 x6 x8 = some q → (mc + σ0.1 = q.1.1) → (ms + σ0.2.1 = q.1.2.1) → ∀ {H : Heap} {locs : List Loc} {ls : Array Slot} {kc ks : Nat}, aY x σ0 s st H locs kc ks → lv_has ls 9 [(0, .double x0), (2, .double x2), (4, .double x4), (6, .double x6), (8, .int x8)] → aG l 8 134 mc ms x As σ0 (oD q.2) q.1 p e s m below meth c H locs kc ks (F0 m 54 ls [])) := waf_X10_power_S54_ X hex hr hnm n
set_option maxHeartbeats 4000000 in
set_option maxRecDepth 100000 in
theorem waf_X10_power_L49 {l : Launch} {x : aP} {As : List Value} {σ0 : aS} {p : Program} {e : Env} {s : State} {m : MethodId} {below : List Frame} {meth : Method} {c : Code} {mc ms : Nat} (X : aX "BasicMachine$Pair" p l s m As.toArray meth c cX10_power 9 x σ0) (hex : ∀ z ∈ c.exceptionTable.toList, False) (hr : meth.sig.returnType = (some .double)) (hnm : "power" = meth.name) {n : Nat} {st : aS} {x0 : UInt64} {x2 : UInt64} {x4 : UInt64} {z49_0 : UInt64} {q : aS × ((UInt64) ⊕ Nat)} (hE : af_X10_power_L49 n x.sK st x0 x2 x4 z49_0 = some q) (h1 : mc + σ0.1 = q.1.1) (h2 : ms + σ0.2.1 = q.1.2.1) {H : Heap} {locs : List Loc} {ls : Array Slot} {kc ks : Nat} (Y : aY x σ0 s st H locs kc ks) (hl : lv_has ls 9 [(0, .double x0), (2, .double x2), (4, .double x4)]) : aG l 8 134 mc ms x As σ0 (oD q.2) q.1 p e s m below meth c H locs kc ks (F0 m 49 ls [.double z49_0]) := by
  have hx := X.1
  have hb := X.2.1
  have hown := X.2.2.2.1
  have hts := X.2.2.2.2.1
  have hK := X.2.2.2.2.2.1
  have hl0 := X.2.2.2.2.2.2.2.2
  unfold af_X10_power_L49 at hE
  refine lv_dstore (lv' := [(6, .double z49_0), (0, .double x0), (2, .double x2), (4, .double x4)]) hx hb dX10_power_49 hl (by decide) rfl (fun ls hl => ?_)
  refine lv_iconst (v := 0) hx hb dX10_power_51 (by decide) ?_
  refine lv_istore (lv' := [(8, .int (0 : Int32)), (6, .double z49_0), (0, .double x0), (2, .double x2), (4, .double x4)]) hx hb dX10_power_52 hl (by decide) rfl (fun ls hl => ?_)
  exact (waf_X10_power_S54 X hex hr hnm) hE h1 h2 Y (lv_sub hl [2, 3, 4, 1, 0] rfl)
set_option maxHeartbeats 4000000 in
set_option maxRecDepth 100000 in
theorem maf_X10_power {l : Launch} (hl0 : l.stackTraces = false) (n : Nat) {x : aP} {st : aS} {p0 : UInt64} {p2 : UInt64} {q : aS × ((UInt64) ⊕ Nat)} (hE : af_X10_power n x.sK st p0 p2 = some q) : aMet l yX10_power (ws_ yX10_power cX10_power 9 (some .double)) 8 134 x [.double p0, .double p2] st (oD q.2) q.1 := by
  refine a_ofW (own := "BasicMachine$Pair") hl0 (by decide) rfl (Nat.le_of_ble_eq_true rfl) (fun mc ms p e s m below meth c ls H locs kc ks h1 h2 X hex Y hr hnm hl => ?_)
  have hnm : "power" = meth.name := hnm
  have hl : lv_has ls 9 [(0, .double p0), (2, .double p2)] := hl
  have hx := X.1
  have hb := X.2.1
  have hown := X.2.2.2.1
  have hts := X.2.2.2.2.1
  have hK := X.2.2.2.2.2.1
  have hl0 := X.2.2.2.2.2.2.2.2
  unfold af_X10_power at hE
  refine lv_dload_n hx hb dX10_power_0 rfl (lv_at hl 1 rfl) ?_
  refine lv_ldc2d (v := (13849694754071117824 : UInt64)) hx hb hown (hts _ q1481) dX10_power_1 ?_
  refine lv_dcmp hx hb dX10_power_4 ?_
  refine lv_if_lt (tgt := 26) hx hb dX10_power_5 (by decide) (fun c_1 => ?_) (fun c_1 => ?_)
  · replace hE := e_t c_1 hE
    cases hE
    exact a_throw X Y h1 h2 rfl (by decide +kernel) q1476 q168 (at_B_Pair_3 hts hK) at_B_Pair_3_o (fun z hz => (hex z hz).elim) hl.1 (by show _ ≤ 8; decide) (Nat.le_trans (Nat.add_le_add_right (show _ ≤ 8 from (Nat.le_of_ble_eq_true rfl)) 81) (by show _ ≤ 134; decide)) dX10_power_26 dX10_power_29 dX10_power_30 dX10_power_33
  · replace hE := e_f c_1 hE
    refine lv_dload_n hx hb dX10_power_8 rfl (lv_at hl 1 rfl) ?_
    refine lv_ldc2d (v := (4626322717216342016 : UInt64)) hx hb hown (hts _ q1482) dX10_power_9 ?_
    refine lv_dcmp hx hb dX10_power_12 ?_
    refine lv_if_gt (tgt := 26) hx hb dX10_power_13 (by decide) (fun c_2 => ?_) (fun c_2 => ?_)
    · replace hE := e_t c_2 hE
      cases hE
      exact a_throw X Y h1 h2 rfl (by decide +kernel) q1476 q168 (at_B_Pair_3 hts hK) at_B_Pair_3_o (fun z hz => (hex z hz).elim) hl.1 (by show _ ≤ 8; decide) (Nat.le_trans (Nat.add_le_add_right (show _ ≤ 8 from (Nat.le_of_ble_eq_true rfl)) 81) (by show _ ≤ 134; decide)) dX10_power_26 dX10_power_29 dX10_power_30 dX10_power_33
    · replace hE := e_f c_2 hE
      refine lv_dload_n hx hb dX10_power_16 rfl (lv_at hl 1 rfl) ?_
      refine lv_dload_n hx hb dX10_power_17 rfl (lv_at hl 1 rfl) ?_
      replace hE := e_cb hE
      obtain ⟨st_3, v_4, g, hE⟩ := hE
      have M9 := (mo_if (mo_if (oaf_X10_power_L49 ) (oaf_X10_power_L49 )) mo_tw) _ hE
      refine a_callSN (host := "BasicMachine") (n := 1) (σ1 := st_3) (σf := q.1) [.double p2] X Y (maf_X1_whole hl0 n g) ⟨oaf_X1_whole _ g, M9, h1, h2, (by show _ ≤ 8; decide), (by show _ ≤ 134; decide)⟩ (by decide) q1461 q122 q1462 (by decide +kernel) rfl hl.1 (Nat.le_of_ble_eq_true rfl) dX10_power_18 (fun v hv H locs kc ks Y => ?_) (fun k hk => by cases hk)
      cases hv
      refine lv_l2d hx hb dX10_power_21 ?_
      refine lv_dcmp hx hb dX10_power_22 ?_
      refine lv_if_eq (tgt := 34) hx hb dX10_power_23 (by decide) (fun c_5 => ?_) (fun c_5 => ?_)
      · replace hE := e_t c_5 hE
        refine lv_dconst1 hx hb dX10_power_34 ?_
        refine lv_dstore (lv' := [(4, .double FP.dconst1), (0, .double p0), (2, .double p2)]) hx hb dX10_power_35 hl (by decide) rfl (fun ls hl => ?_)
        refine lv_dload_n hx hb dX10_power_37 rfl (lv_at hl 2 rfl) ?_
        refine lv_dconst0 hx hb dX10_power_38 ?_
        refine lv_dcmp hx hb dX10_power_39 ?_
        refine lv_if_ge (tgt := 48) hx hb dX10_power_40 (by decide) (fun c_6 => ?_) (fun c_6 => ?_)
        · replace hE := e_t c_6 hE
          refine lv_dload_n hx hb dX10_power_48 rfl (lv_at hl 2 rfl) ?_
          exact waf_X10_power_L49 X hex hr hnm hE h1 h2 Y (lv_sub hl [1, 2, 0] rfl)
        · replace hE := e_f c_6 hE
          refine lv_dload_n hx hb dX10_power_43 rfl (lv_at hl 2 rfl) ?_
          refine lv_dneg hx hb dX10_power_44 ?_
          refine lv_goto (tgt := 49) hx hb dX10_power_45 (by decide) ?_
          exact waf_X10_power_L49 X hex hr hnm hE h1 h2 Y (lv_sub hl [1, 2, 0] rfl)
      · replace hE := e_f c_5 hE
        cases hE
        exact a_throw X Y h1 h2 rfl (by decide +kernel) q1476 q168 (at_B_Pair_3 hts hK) at_B_Pair_3_o (fun z hz => (hex z hz).elim) hl.1 (by show _ ≤ 8; decide) (Nat.le_trans (Nat.add_le_add_right (show _ ≤ 8 from (Nat.le_of_ble_eq_true rfl)) 81) (by show _ ≤ 134; decide)) dX10_power_26 dX10_power_29 dX10_power_30 dX10_power_33
/-! BasicMachine$Pair.value(LBasicMachine;)D -/
set_option maxHeartbeats 4000000 in
set_option maxRecDepth 100000 in
theorem waf_X10_value_L95 {l : Launch} {x : aP} {As : List Value} {σ0 : aS} {p : Program} {e : Env} {s : State} {m : MethodId} {below : List Frame} {meth : Method} {c : Code} {mc ms : Nat} (X : aX "BasicMachine$Pair" p l s m As.toArray meth c cX10_value 6 x σ0) (hex : ∀ z ∈ c.exceptionTable.toList, False) (hr : meth.sig.returnType = (some .double)) (hnm : "value" = meth.name) {rv : aS → Nat → Option Nat → Option (aS × (UInt64 ⊕ Nat))} {fx lx : Nat} (hrv : hRV l x rv fx lx) {n : Nat} {st : aS} {a0 : Nat} {x2 : UInt64} {x4 : UInt64} {q : aS × ((UInt64) ⊕ Nat)} (hE : af_X10_value_L95 n x.sK rv st a0 x2 x4 = some q) (h1 : mc + σ0.1 = q.1.1) (h2 : ms + σ0.2.1 = q.1.2.1) {H : Heap} {locs : List Loc} {ls : Array Slot} {kc ks : Nat} (Y : aY x σ0 s st H locs kc ks) (hl : lv_has ls 6 [(0, .ref a0), (2, .double x2), (4, .double x4)]) : aG l (fx + 1) (lx + 31) mc ms x As σ0 (oD q.2) q.1 p e s m below meth c H locs kc ks (F0 m 95 ls []) := by
  have hx := X.1
  have hb := X.2.1
  have hown := X.2.2.2.1
  have hts := X.2.2.2.2.1
  have hK := X.2.2.2.2.2.1
  have hl0 := X.2.2.2.2.2.2.2.2
  obtain ⟨hfx, hlx, mrv, -⟩ := id hrv
  unfold af_X10_value_L95 at hE
  refine lv_dload_n hx hb dX10_value_95 rfl (lv_at hl 1 rfl) ?_
  refine lv_dload hx hb dX10_value_96 (lv_at hl 2 rfl) ?_
  replace hE := e_xb hE
  rcases hE with ⟨st_1, v_2, g, hE⟩ | ⟨st_1, k9, g, hE⟩
  rotate_left
  · subst hE
    refine a_callS (n := 2) (σ1 := st_1) (σf := st_1) [.double x2, .double x4] X Y (maf_X10_power hl0 n g) ⟨oaf_X10_power _ g, aLe.rf _, h1, h2, (by show _ ≤ fx + 1; omega), (by show _ ≤ lx + 31; omega)⟩ q1478 q1479 q149 q1480 (by decide +kernel) rfl hl.1 (Nat.le_of_ble_eq_true rfl) dX10_value_98 (fun v hv => by cases hv) (fun k hk H locs kc ks q9 ce Y e1 e2 e3 => ?_)
    cases hk
    exact a_out X Y h1 h2 (fun z hz => (hex z hz).elim) e1 e2 e3
  have M9 := mo_ret _ hE
  refine a_callS (n := 2) (σ1 := st_1) (σf := q.1) [.double x2, .double x4] X Y (maf_X10_power hl0 n g) ⟨oaf_X10_power _ g, M9, h1, h2, (by show _ ≤ fx + 1; omega), (by show _ ≤ lx + 31; omega)⟩ q1478 q1479 q149 q1480 (by decide +kernel) rfl hl.1 (Nat.le_of_ble_eq_true rfl) dX10_value_98 (fun v hv H locs kc ks Y => ?_) (fun k hk => by cases hk)
  cases hv
  cases hE
  exact a_dret X Y h1 h2 hr dX10_value_101
set_option maxHeartbeats 4000000 in
set_option maxRecDepth 100000 in
theorem maf_X10_value {l : Launch} (hl0 : l.stackTraces = false) (n : Nat) {x : aP} {rv : aS → Nat → Option Nat → Option (aS × (UInt64 ⊕ Nat))} {fx lx : Nat} (hrv : hRV l x rv fx lx) {st : aS} {a0 : Nat} {p1 : Option Nat} {q : aS × ((UInt64) ⊕ Nat)} (hE : af_X10_value n x.sK rv st a0 p1 = some q) : aMet l yX10_value (ws_ yX10_value cX10_value 6 (some .double)) (fx + 1) (lx + 31) x [.ref a0, va_rf p1] st (oD q.2) q.1 := by
  refine a_ofW (own := "BasicMachine$Pair") hl0 (by decide) rfl (by simp only [lg_sl, List.flatMap_cons, List.flatMap_nil, va_rf_cat]; exact Nat.le_of_ble_eq_true rfl) (fun mc ms p e s m below meth c ls H locs kc ks h1 h2 X hex Y hr hnm hl => ?_)
  have hnm : "value" = meth.name := hnm
  have hl : lv_has ls 6 [(0, .ref a0), (1, va_rf p1)] := by simp only [lv_args, va_rf_cat] at hl; exact hl
  have hx := X.1
  have hb := X.2.1
  have hown := X.2.2.2.1
  have hts := X.2.2.2.2.1
  have hK := X.2.2.2.2.2.1
  have hl0 := X.2.2.2.2.2.2.2.2
  obtain ⟨hfx, hlx, mrv, -⟩ := id hrv
  unfold af_X10_value at hE
  refine lv_aload_n hx hb dX10_value_0 rfl (lv_at hl 0 rfl) ?_
  replace hE := e_bind hE
  obtain ⟨r_1, g, hE⟩ := hE
  refine n_gR X Y k_X10 1 g (by decide) q997 dX10_value_1 ?_
  refine r_aload_n hx hb dX10_value_4 rfl (lv_at hl 1 rfl) ?_
  replace hE := e_bind hE
  obtain ⟨a_2, g, hE⟩ := hE
  subst g
  replace hE := e_xb hE
  rcases hE with ⟨st_3, v_4, g, hE⟩ | ⟨st_3, k9, g, hE⟩
  rotate_left
  · subst hE
    refine a_callIf (n := 1) (σ1 := st_3) (σf := st_3) [va_rf p1] X Y (hrv.2.2.2 g) ⟨mrv _ g, aLe.rf _, h1, h2, (by show _ ≤ fx + 1; omega), (by show _ ≤ lx + 31; omega)⟩ q1442 (by decide +kernel) rfl hl.1 (Nat.le_of_ble_eq_true rfl) dX10_value_5 (fun v hv => by cases hv) (fun k hk H locs kc ks q9 ce Y e1 e2 e3 => ?_)
    cases hk
    exact a_out X Y h1 h2 (fun z hz => (hex z hz).elim) e1 e2 e3
  have M9 := (mo_v fun _ => (mo_v fun _ => (mo_x mrv fun _ _ => (mo_v fun _ => (mo_if (mo_v fun _ => (mo_x oaf_X1_checked fun _ _ => mo_ret)) (mo_if (mo_v fun _ => (mo_x oaf_X1_checked fun _ _ => mo_ret)) (mo_if (oaf_X10_value_L95 mrv) (mo_if (mo_v fun _ => (mo_x oaf_X1_checked fun _ _ => mo_ret)) (mo_if (oaf_X10_value_L95 mrv) (mo_if (mo_x oaf_X10_divided fun _ _ => mo_ret) (oaf_X10_value_L95 mrv))))))))))) _ hE
  refine a_callIf (n := 1) (σ1 := st_3) (σf := q.1) [va_rf p1] X Y (hrv.2.2.2 g) ⟨mrv _ g, M9, h1, h2, (by show _ ≤ fx + 1; omega), (by show _ ≤ lx + 31; omega)⟩ q1442 (by decide +kernel) rfl hl.1 (Nat.le_of_ble_eq_true rfl) dX10_value_5 (fun v hv H locs kc ks Y => ?_) (fun k hk => by cases hk)
  cases hv
  refine lv_dstore_n (i := 2) (lv' := [(2, .double v_4), (0, .ref a0), (1, va_rf p1)]) hx hb dX10_value_10 rfl hl (by decide) (by cases p1 <;> rfl) (fun ls hl => ?_)
  refine lv_aload_n hx hb dX10_value_11 rfl (lv_at hl 1 rfl) ?_
  replace hE := e_bind hE
  obtain ⟨r_5, g, hE⟩ := hE
  refine n_gR X Y k_X10 2 g (by decide) q998 dX10_value_12 ?_
  refine r_aload_n hx hb dX10_value_15 rfl (lv_at hl 2 rfl) ?_
  replace hE := e_bind hE
  obtain ⟨a_6, g, hE⟩ := hE
  subst g
  replace hE := e_xb hE
  rcases hE with ⟨st_7, v_8, g, hE⟩ | ⟨st_7, k9, g, hE⟩
  rotate_left
  · subst hE
    refine a_callIf (n := 1) (σ1 := st_7) (σf := st_7) [va_rf p1] X Y (hrv.2.2.2 g) ⟨mrv _ g, aLe.rf _, h1, h2, (by show _ ≤ fx + 1; omega), (by show _ ≤ lx + 31; omega)⟩ q1442 (by decide +kernel) rfl hl.1 (Nat.le_of_ble_eq_true rfl) dX10_value_16 (fun v hv => by cases hv) (fun k hk H locs kc ks q9 ce Y e1 e2 e3 => ?_)
    cases hk
    exact a_out X Y h1 h2 (fun z hz => (hex z hz).elim) e1 e2 e3
  have M9 := (mo_v fun _ => (mo_if (mo_v fun _ => (mo_x oaf_X1_checked fun _ _ => mo_ret)) (mo_if (mo_v fun _ => (mo_x oaf_X1_checked fun _ _ => mo_ret)) (mo_if (oaf_X10_value_L95 mrv) (mo_if (mo_v fun _ => (mo_x oaf_X1_checked fun _ _ => mo_ret)) (mo_if (oaf_X10_value_L95 mrv) (mo_if (mo_x oaf_X10_divided fun _ _ => mo_ret) (oaf_X10_value_L95 mrv)))))))) _ hE
  refine a_callIf (n := 1) (σ1 := st_7) (σf := q.1) [va_rf p1] X Y (hrv.2.2.2 g) ⟨mrv _ g, M9, h1, h2, (by show _ ≤ fx + 1; omega), (by show _ ≤ lx + 31; omega)⟩ q1442 (by decide +kernel) rfl hl.1 (Nat.le_of_ble_eq_true rfl) dX10_value_16 (fun v hv H locs kc ks Y => ?_) (fun k hk => by cases hk)
  cases hv
  refine lv_dstore (lv' := [(4, .double v_8), (2, .double v_4), (0, .ref a0), (1, va_rf p1)]) hx hb dX10_value_21 hl (by decide) rfl (fun ls hl => ?_)
  refine lv_aload_n hx hb dX10_value_23 rfl (lv_at hl 2 rfl) ?_
  replace hE := e_bind hE
  obtain ⟨v_9, g, hE⟩ := hE
  refine n_gI X Y k_X10 0 g (by decide) q996 dX10_value_24 ?_
  by_cases c_10 : v_9 = (42 : Int32)
  · replace hE := e_t c_10 hE
    refine lv_tableIn (off := 53) (tgt := 80) hx hb dX10_value_27 (by rw [c_10]; decide) (by rw [c_10]; decide) (by rw [c_10]; rfl) (by decide) ?_
    refine lv_dload_n hx hb dX10_value_80 rfl (lv_at hl 1 rfl) ?_
    refine lv_dload hx hb dX10_value_81 (lv_at hl 0 rfl) ?_
    replace hE := e_bind hE
    obtain ⟨v_11, g, hE⟩ := hE
    refine n_dmul hx hb g dX10_value_83 ?_
    replace hE := e_xb hE
    rcases hE with ⟨st_12, v_13, g, hE⟩ | ⟨st_12, k9, g, hE⟩
    rotate_left
    · subst hE
      refine a_callSN (host := "BasicMachine") (n := 1) (σ1 := st_12) (σf := st_12) [.double v_11] X Y (maf_X1_checked hl0 n g) ⟨oaf_X1_checked _ g, aLe.rf _, h1, h2, (by show _ ≤ fx + 1; omega), (by show _ ≤ lx + 31; omega)⟩ (by decide) q1465 q122 q1466 (by decide +kernel) rfl hl.1 (Nat.le_of_ble_eq_true rfl) dX10_value_84 (fun v hv => by cases hv) (fun k hk H locs kc ks q9 ce Y e1 e2 e3 => ?_)
      cases hk
      exact a_out X Y h1 h2 (fun z hz => (hex z hz).elim) e1 e2 e3
    have M9 := mo_ret _ hE
    refine a_callSN (host := "BasicMachine") (n := 1) (σ1 := st_12) (σf := q.1) [.double v_11] X Y (maf_X1_checked hl0 n g) ⟨oaf_X1_checked _ g, M9, h1, h2, (by show _ ≤ fx + 1; omega), (by show _ ≤ lx + 31; omega)⟩ (by decide) q1465 q122 q1466 (by decide +kernel) rfl hl.1 (Nat.le_of_ble_eq_true rfl) dX10_value_84 (fun v hv H locs kc ks Y => ?_) (fun k hk => by cases hk)
    cases hv
    cases hE
    exact a_dret X Y h1 h2 hr dX10_value_87
  replace hE := e_f c_10 hE
  by_cases c_14 : v_9 = (43 : Int32)
  · replace hE := e_t c_14 hE
    refine lv_tableIn (off := 37) (tgt := 64) hx hb dX10_value_27 (by rw [c_14]; decide) (by rw [c_14]; decide) (by rw [c_14]; rfl) (by decide) ?_
    refine lv_dload_n hx hb dX10_value_64 rfl (lv_at hl 1 rfl) ?_
    refine lv_dload hx hb dX10_value_65 (lv_at hl 0 rfl) ?_
    replace hE := e_bind hE
    obtain ⟨v_15, g, hE⟩ := hE
    refine n_dadd hx hb g dX10_value_67 ?_
    replace hE := e_xb hE
    rcases hE with ⟨st_16, v_17, g, hE⟩ | ⟨st_16, k9, g, hE⟩
    rotate_left
    · subst hE
      refine a_callSN (host := "BasicMachine") (n := 1) (σ1 := st_16) (σf := st_16) [.double v_15] X Y (maf_X1_checked hl0 n g) ⟨oaf_X1_checked _ g, aLe.rf _, h1, h2, (by show _ ≤ fx + 1; omega), (by show _ ≤ lx + 31; omega)⟩ (by decide) q1465 q122 q1466 (by decide +kernel) rfl hl.1 (Nat.le_of_ble_eq_true rfl) dX10_value_68 (fun v hv => by cases hv) (fun k hk H locs kc ks q9 ce Y e1 e2 e3 => ?_)
      cases hk
      exact a_out X Y h1 h2 (fun z hz => (hex z hz).elim) e1 e2 e3
    have M9 := mo_ret _ hE
    refine a_callSN (host := "BasicMachine") (n := 1) (σ1 := st_16) (σf := q.1) [.double v_15] X Y (maf_X1_checked hl0 n g) ⟨oaf_X1_checked _ g, M9, h1, h2, (by show _ ≤ fx + 1; omega), (by show _ ≤ lx + 31; omega)⟩ (by decide) q1465 q122 q1466 (by decide +kernel) rfl hl.1 (Nat.le_of_ble_eq_true rfl) dX10_value_68 (fun v hv H locs kc ks Y => ?_) (fun k hk => by cases hk)
    cases hv
    cases hE
    exact a_dret X Y h1 h2 hr dX10_value_71
  replace hE := e_f c_14 hE
  by_cases c_18 : v_9 = (44 : Int32)
  · replace hE := e_t c_18 hE
    refine lv_tableIn (off := 68) (tgt := 95) hx hb dX10_value_27 (by rw [c_18]; decide) (by rw [c_18]; decide) (by rw [c_18]; rfl) (by decide) ?_
    exact waf_X10_value_L95 X hex hr hnm hrv hE h1 h2 Y (lv_sub hl [2, 1, 0] rfl)
  replace hE := e_f c_18 hE
  by_cases c_19 : v_9 = (45 : Int32)
  · replace hE := e_t c_19 hE
    refine lv_tableIn (off := 45) (tgt := 72) hx hb dX10_value_27 (by rw [c_19]; decide) (by rw [c_19]; decide) (by rw [c_19]; rfl) (by decide) ?_
    refine lv_dload_n hx hb dX10_value_72 rfl (lv_at hl 1 rfl) ?_
    refine lv_dload hx hb dX10_value_73 (lv_at hl 0 rfl) ?_
    replace hE := e_bind hE
    obtain ⟨v_20, g, hE⟩ := hE
    refine n_dsub hx hb g dX10_value_75 ?_
    replace hE := e_xb hE
    rcases hE with ⟨st_21, v_22, g, hE⟩ | ⟨st_21, k9, g, hE⟩
    rotate_left
    · subst hE
      refine a_callSN (host := "BasicMachine") (n := 1) (σ1 := st_21) (σf := st_21) [.double v_20] X Y (maf_X1_checked hl0 n g) ⟨oaf_X1_checked _ g, aLe.rf _, h1, h2, (by show _ ≤ fx + 1; omega), (by show _ ≤ lx + 31; omega)⟩ (by decide) q1465 q122 q1466 (by decide +kernel) rfl hl.1 (Nat.le_of_ble_eq_true rfl) dX10_value_76 (fun v hv => by cases hv) (fun k hk H locs kc ks q9 ce Y e1 e2 e3 => ?_)
      cases hk
      exact a_out X Y h1 h2 (fun z hz => (hex z hz).elim) e1 e2 e3
    have M9 := mo_ret _ hE
    refine a_callSN (host := "BasicMachine") (n := 1) (σ1 := st_21) (σf := q.1) [.double v_20] X Y (maf_X1_checked hl0 n g) ⟨oaf_X1_checked _ g, M9, h1, h2, (by show _ ≤ fx + 1; omega), (by show _ ≤ lx + 31; omega)⟩ (by decide) q1465 q122 q1466 (by decide +kernel) rfl hl.1 (Nat.le_of_ble_eq_true rfl) dX10_value_76 (fun v hv H locs kc ks Y => ?_) (fun k hk => by cases hk)
    cases hv
    cases hE
    exact a_dret X Y h1 h2 hr dX10_value_79
  replace hE := e_f c_19 hE
  by_cases c_23 : v_9 = (46 : Int32)
  · replace hE := e_t c_23 hE
    refine lv_tableIn (off := 68) (tgt := 95) hx hb dX10_value_27 (by rw [c_23]; decide) (by rw [c_23]; decide) (by rw [c_23]; rfl) (by decide) ?_
    exact waf_X10_value_L95 X hex hr hnm hrv hE h1 h2 Y (lv_sub hl [2, 1, 0] rfl)
  replace hE := e_f c_23 hE
  by_cases c_24 : v_9 = (47 : Int32)
  · replace hE := e_t c_24 hE
    refine lv_tableIn (off := 61) (tgt := 88) hx hb dX10_value_27 (by rw [c_24]; decide) (by rw [c_24]; decide) (by rw [c_24]; rfl) (by decide) ?_
    refine lv_dload_n hx hb dX10_value_88 rfl (lv_at hl 1 rfl) ?_
    refine lv_dload hx hb dX10_value_89 (lv_at hl 0 rfl) ?_
    replace hE := e_xb hE
    rcases hE with ⟨st_25, v_26, g, hE⟩ | ⟨st_25, k9, g, hE⟩
    rotate_left
    · subst hE
      refine a_callS (n := 2) (σ1 := st_25) (σf := st_25) [.double v_4, .double v_8] X Y (maf_X10_divided hl0 n g) ⟨oaf_X10_divided _ g, aLe.rf _, h1, h2, (by show _ ≤ fx + 1; omega), (by show _ ≤ lx + 31; omega)⟩ q1473 q1474 q149 q1475 (by decide +kernel) rfl hl.1 (Nat.le_of_ble_eq_true rfl) dX10_value_91 (fun v hv => by cases hv) (fun k hk H locs kc ks q9 ce Y e1 e2 e3 => ?_)
      cases hk
      exact a_out X Y h1 h2 (fun z hz => (hex z hz).elim) e1 e2 e3
    have M9 := mo_ret _ hE
    refine a_callS (n := 2) (σ1 := st_25) (σf := q.1) [.double v_4, .double v_8] X Y (maf_X10_divided hl0 n g) ⟨oaf_X10_divided _ g, M9, h1, h2, (by show _ ≤ fx + 1; omega), (by show _ ≤ lx + 31; omega)⟩ q1473 q1474 q149 q1475 (by decide +kernel) rfl hl.1 (Nat.le_of_ble_eq_true rfl) dX10_value_91 (fun v hv H locs kc ks Y => ?_) (fun k hk => by cases hk)
    cases hv
    cases hE
    exact a_dret X Y h1 h2 hr dX10_value_94
  replace hE := e_f c_24 hE
  refine lv_tableOut (tgt := 95) hx hb dX10_value_27 (by have h0 := lv_neT c_10 (a := 42) (by decide); have h1 := lv_neT c_14 (a := 43) (by decide); have h2 := lv_neT c_18 (a := 44) (by decide); have h3 := lv_neT c_19 (a := 45) (by decide); have h4 := lv_neT c_23 (a := 46) (by decide); have h5 := lv_neT c_24 (a := 47) (by decide); omega) (by decide) ?_
  exact waf_X10_value_L95 X hex hr hnm hrv hE h1 h2 Y (lv_sub hl [2, 1, 0] rfl)
/-! BasicMachine$Single.floor(D)D -/
set_option maxHeartbeats 4000000 in
set_option maxRecDepth 100000 in
theorem maf_X7_floor {l : Launch} (hl0 : l.stackTraces = false) (n : Nat) {x : aP} {st : aS} {p0 : UInt64} {q : aS × (UInt64)} (hE : af_X7_floor n x.sK st p0 = some q) : aMet l yX7_floor (ws_ yX7_floor cX7_floor 4 (some .double)) 1 21 x [.double p0] st (.inl (some (.double q.2))) q.1 := by
  refine a_ofW (own := "BasicMachine$Single") hl0 (by decide) rfl (Nat.le_of_ble_eq_true rfl) (fun mc ms p e s m below meth c ls H locs kc ks h1 h2 X hex Y hr hnm hl => ?_)
  have hnm : "floor" = meth.name := hnm
  have hl : lv_has ls 4 [(0, .double p0)] := hl
  have hx := X.1
  have hb := X.2.1
  have hown := X.2.2.2.1
  have hts := X.2.2.2.2.1
  have hK := X.2.2.2.2.2.1
  have hl0 := X.2.2.2.2.2.2.2.2
  unfold af_X7_floor at hE
  refine lv_dload_n hx hb dX7_floor_0 rfl (lv_at hl 0 rfl) ?_
  replace hE := e_cb hE
  obtain ⟨st_1, v_2, g, hE⟩ := hE
  have M9 := (mo_v fun _ => (mo_if mo_ret (mo_v fun _ => mo_ret))) _ hE
  refine a_callSN (host := "BasicMachine") (n := 1) (σ1 := st_1) (σf := q.1) [.double p0] X Y (maf_X1_whole hl0 n g) ⟨oaf_X1_whole _ g, M9, h1, h2, (by show _ ≤ 1; decide), (by show _ ≤ 21; decide)⟩ (by decide) q1461 q122 q1462 (by decide +kernel) rfl hl.1 (Nat.le_of_ble_eq_true rfl) dX7_floor_1 (fun v hv H locs kc ks Y => ?_) (fun k hk => by cases hk)
  cases hv
  refine lv_l2d hx hb dX7_floor_4 ?_
  replace hE := e_bind hE
  obtain ⟨x2_3, g, hE⟩ := hE
  refine n_topd g ?_
  refine lv_dstore_n (i := 2) (lv' := [(2, .double x2_3), (0, .double p0)]) hx hb dX7_floor_5 rfl hl (by decide) rfl (fun ls hl => ?_)
  refine lv_dload_n hx hb dX7_floor_6 rfl (lv_at hl 0 rfl) ?_
  refine lv_dload_n hx hb dX7_floor_7 rfl (lv_at hl 1 rfl) ?_
  refine lv_dcmp hx hb dX7_floor_8 ?_
  refine lv_if_le (tgt := 18) hx hb dX7_floor_9 (by decide) (fun c_4 => ?_) (fun c_4 => ?_)
  · replace hE := e_t c_4 hE
    refine lv_dload_n hx hb dX7_floor_18 rfl (lv_at hl 0 rfl) ?_
    cases hE
    exact a_dret X Y h1 h2 hr dX7_floor_19
  · replace hE := e_f c_4 hE
    refine lv_dload_n hx hb dX7_floor_12 rfl (lv_at hl 0 rfl) ?_
    refine lv_dconst1 hx hb dX7_floor_13 ?_
    replace hE := e_bind hE
    obtain ⟨v_5, g, hE⟩ := hE
    refine n_dsub hx hb g dX7_floor_14 ?_
    refine lv_goto (tgt := 19) hx hb dX7_floor_15 (by decide) ?_
    cases hE
    exact a_dret X Y h1 h2 hr dX7_floor_19
/-! BasicMachine$Single.value(LBasicMachine;)D -/
set_option maxHeartbeats 4000000 in
set_option maxRecDepth 100000 in
theorem maf_X7_value {l : Launch} (hl0 : l.stackTraces = false) (n : Nat) {x : aP} {rv : aS → Nat → Option Nat → Option (aS × (UInt64 ⊕ Nat))} {fx lx : Nat} (hrv : hRV l x rv fx lx) {st : aS} {a0 : Nat} {p1 : Option Nat} {q : aS × ((UInt64) ⊕ Nat)} (hE : af_X7_value n x.sK rv st a0 p1 = some q) : aMet l yX7_value (ws_ yX7_value cX7_value 4 (some .double)) (fx + 1) (lx + 31) x [.ref a0, va_rf p1] st (oD q.2) q.1 := by
  refine a_ofW (own := "BasicMachine$Single") hl0 (by decide) rfl (by simp only [lg_sl, List.flatMap_cons, List.flatMap_nil, va_rf_cat]; exact Nat.le_of_ble_eq_true rfl) (fun mc ms p e s m below meth c ls H locs kc ks h1 h2 X hex Y hr hnm hl => ?_)
  have hnm : "value" = meth.name := hnm
  have hl : lv_has ls 4 [(0, .ref a0), (1, va_rf p1)] := by simp only [lv_args, va_rf_cat] at hl; exact hl
  have hx := X.1
  have hb := X.2.1
  have hown := X.2.2.2.1
  have hts := X.2.2.2.2.1
  have hK := X.2.2.2.2.2.1
  have hl0 := X.2.2.2.2.2.2.2.2
  obtain ⟨hfx, hlx, mrv, -⟩ := id hrv
  unfold af_X7_value at hE
  refine lv_aload_n hx hb dX7_value_0 rfl (lv_at hl 0 rfl) ?_
  replace hE := e_bind hE
  obtain ⟨r_1, g, hE⟩ := hE
  refine n_gR X Y k_X7 1 g (by decide) q949 dX7_value_1 ?_
  refine r_aload_n hx hb dX7_value_4 rfl (lv_at hl 1 rfl) ?_
  replace hE := e_bind hE
  obtain ⟨a_2, g, hE⟩ := hE
  subst g
  replace hE := e_xb hE
  rcases hE with ⟨st_3, v_4, g, hE⟩ | ⟨st_3, k9, g, hE⟩
  rotate_left
  · subst hE
    refine a_callIf (n := 1) (σ1 := st_3) (σf := st_3) [va_rf p1] X Y (hrv.2.2.2 g) ⟨mrv _ g, aLe.rf _, h1, h2, (by show _ ≤ fx + 1; omega), (by show _ ≤ lx + 31; omega)⟩ q1450 (by decide +kernel) rfl hl.1 (Nat.le_of_ble_eq_true rfl) dX7_value_5 (fun v hv => by cases hv) (fun k hk H locs kc ks q9 ce Y e1 e2 e3 => ?_)
    cases hk
    exact a_out X Y h1 h2 (fun z hz => (hex z hz).elim) e1 e2 e3
  have M9 := (mo_v fun _ => (mo_if mo_ret (mo_if (mo_if mo_ret mo_ret) (mo_if (mo_cb oaf_X7_floor fun _ _ => mo_ret) (mo_if (mo_if mo_ret mo_ret) mo_ret))))) _ hE
  refine a_callIf (n := 1) (σ1 := st_3) (σf := q.1) [va_rf p1] X Y (hrv.2.2.2 g) ⟨mrv _ g, M9, h1, h2, (by show _ ≤ fx + 1; omega), (by show _ ≤ lx + 31; omega)⟩ q1450 (by decide +kernel) rfl hl.1 (Nat.le_of_ble_eq_true rfl) dX7_value_5 (fun v hv H locs kc ks Y => ?_) (fun k hk => by cases hk)
  cases hv
  refine lv_dstore_n (i := 2) (lv' := [(2, .double v_4), (0, .ref a0), (1, va_rf p1)]) hx hb dX7_value_10 rfl hl (by decide) (by cases p1 <;> rfl) (fun ls hl => ?_)
  refine lv_aload_n hx hb dX7_value_11 rfl (lv_at hl 1 rfl) ?_
  replace hE := e_bind hE
  obtain ⟨v_5, g, hE⟩ := hE
  refine n_gI X Y k_X7 0 g (by decide) q948 dX7_value_12 ?_
  by_cases c_6 : v_5 = (45 : Int32)
  · replace hE := e_t c_6 hE
    refine lv_lookup (off := 33) (tgt := 48) hx hb dX7_value_15 (by decide +kernel) (by rw [c_6]; decide +kernel) (by decide) ?_
    refine lv_dload_n hx hb dX7_value_48 rfl (lv_at hl 0 rfl) ?_
    refine lv_dneg hx hb dX7_value_49 ?_
    cases hE
    exact a_dret X Y h1 h2 hr dX7_value_50
  replace hE := e_f c_6 hE
  by_cases c_7 : v_5 = (65 : Int32)
  · replace hE := e_t c_7 hE
    refine lv_lookup (off := 36) (tgt := 51) hx hb dX7_value_15 (by decide +kernel) (by rw [c_7]; decide +kernel) (by decide) ?_
    refine lv_dload_n hx hb dX7_value_51 rfl (lv_at hl 0 rfl) ?_
    refine lv_dconst0 hx hb dX7_value_52 ?_
    refine lv_dcmp hx hb dX7_value_53 ?_
    refine lv_if_ge (tgt := 62) hx hb dX7_value_54 (by decide) (fun c_8 => ?_) (fun c_8 => ?_)
    · replace hE := e_t c_8 hE
      refine lv_dload_n hx hb dX7_value_62 rfl (lv_at hl 0 rfl) ?_
      cases hE
      exact a_dret X Y h1 h2 hr dX7_value_63
    · replace hE := e_f c_8 hE
      refine lv_dload_n hx hb dX7_value_57 rfl (lv_at hl 0 rfl) ?_
      refine lv_dneg hx hb dX7_value_58 ?_
      refine lv_goto (tgt := 63) hx hb dX7_value_59 (by decide) ?_
      cases hE
      exact a_dret X Y h1 h2 hr dX7_value_63
  replace hE := e_f c_7 hE
  by_cases c_9 : v_5 = (73 : Int32)
  · replace hE := e_t c_9 hE
    refine lv_lookup (off := 49) (tgt := 64) hx hb dX7_value_15 (by decide +kernel) (by rw [c_9]; decide +kernel) (by decide) ?_
    refine lv_dload_n hx hb dX7_value_64 rfl (lv_at hl 0 rfl) ?_
    replace hE := e_cb hE
    obtain ⟨st_10, v_11, g, hE⟩ := hE
    have M9 := mo_ret _ hE
    refine a_callS (n := 1) (σ1 := st_10) (σf := q.1) [.double v_4] X Y (maf_X7_floor hl0 n g) ⟨oaf_X7_floor _ g, M9, h1, h2, (by show _ ≤ fx + 1; omega), (by show _ ≤ lx + 31; omega)⟩ q1457 q1458 q146 q1459 (by decide +kernel) rfl hl.1 (Nat.le_of_ble_eq_true rfl) dX7_value_65 (fun v hv H locs kc ks Y => ?_) (fun k hk => by cases hk)
    cases hv
    cases hE
    exact a_dret X Y h1 h2 hr dX7_value_68
  replace hE := e_f c_9 hE
  refine lv_lookup (off := 54) (tgt := 69) hx hb dX7_value_15 (by decide +kernel) (by rw [lv_osw c_6 (by decide), lv_osw c_7 (by decide), lv_osw c_9 (by decide)]; rfl) (by decide) ?_
  refine lv_dload_n hx hb dX7_value_69 rfl (lv_at hl 0 rfl) ?_
  refine lv_dconst0 hx hb dX7_value_70 ?_
  refine lv_dcmp hx hb dX7_value_71 ?_
  refine lv_if_le (tgt := 79) hx hb dX7_value_72 (by decide) (fun c_12 => ?_) (fun c_12 => ?_)
  · replace hE := e_t c_12 hE
    refine lv_dload_n hx hb dX7_value_79 rfl (lv_at hl 0 rfl) ?_
    refine lv_dconst0 hx hb dX7_value_80 ?_
    refine lv_dcmp hx hb dX7_value_81 ?_
    refine lv_if_ge (tgt := 91) hx hb dX7_value_82 (by decide) (fun c_13 => ?_) (fun c_13 => ?_)
    · replace hE := e_t c_13 hE
      refine lv_dconst0 hx hb dX7_value_91 ?_
      cases hE
      exact a_dret X Y h1 h2 hr dX7_value_92
    · replace hE := e_f c_13 hE
      refine lv_ldc2d (v := (13830554455654793216 : UInt64)) hx hb hown (hts _ q1463) dX7_value_85 ?_
      refine lv_goto (tgt := 92) hx hb dX7_value_88 (by decide) ?_
      cases hE
      exact a_dret X Y h1 h2 hr dX7_value_92
  · replace hE := e_f c_12 hE
    refine lv_dconst1 hx hb dX7_value_75 ?_
    refine lv_goto (tgt := 92) hx hb dX7_value_76 (by decide) ?_
    cases hE
    exact a_dret X Y h1 h2 hr dX7_value_92
/-! BasicMachine$Variable.value(LBasicMachine;)D -/
set_option maxHeartbeats 4000000 in
set_option maxRecDepth 100000 in
theorem maf_X9_value {l : Launch} (hl0 : l.stackTraces = false) (n : Nat) {x : aP} {rv : aS → Nat → Option Nat → Option (aS × (UInt64 ⊕ Nat))} {fx lx : Nat} (hrv : hRV l x rv fx lx) {st : aS} {a0 : Nat} {p1 : Option Nat} {q : aS × ((UInt64) ⊕ Nat)} (hE : af_X9_value n x.sK rv st a0 p1 = some q) : aMet l yX9_value (ws_ yX9_value cX9_value 2 (some .double)) (fx + 1) (lx + 31) x [.ref a0, va_rf p1] st (oD q.2) q.1 := by
  refine a_ofW (own := "BasicMachine$Variable") hl0 (by decide) rfl (by simp only [lg_sl, List.flatMap_cons, List.flatMap_nil, va_rf_cat]; exact Nat.le_of_ble_eq_true rfl) (fun mc ms p e s m below meth c ls H locs kc ks h1 h2 X hex Y hr hnm hl => ?_)
  have hnm : "value" = meth.name := hnm
  have hl : lv_has ls 2 [(0, .ref a0), (1, va_rf p1)] := by simp only [lv_args, va_rf_cat] at hl; exact hl
  have hx := X.1
  have hb := X.2.1
  have hown := X.2.2.2.1
  have hts := X.2.2.2.2.1
  have hK := X.2.2.2.2.2.1
  have hl0 := X.2.2.2.2.2.2.2.2
  obtain ⟨hfx, hlx, mrv, -⟩ := id hrv
  unfold af_X9_value at hE
  refine r_aload_n hx hb dX9_value_0 rfl (lv_at hl 1 rfl) ?_
  replace hE := e_bind hE
  obtain ⟨a_1, g, hE⟩ := hE
  subst g
  replace hE := e_bind hE
  obtain ⟨r_2, g, hE⟩ := hE
  refine n_gRN (host := "BasicMachine") X Y k_X1 5 g (by decide) (by decide) dX9_value_1 ?_
  refine lv_aload_n hx hb dX9_value_4 rfl (lv_at hl 0 rfl) ?_
  replace hE := e_bind hE
  obtain ⟨v_3, g, hE⟩ := hE
  refine n_gI X Y k_X9 0 g (by decide) q986 dX9_value_5 ?_
  replace hE := e_bind hE
  obtain ⟨a_4, g, hE⟩ := hE
  subst g
  replace hE := e_bind hE
  obtain ⟨v_5, g, hE⟩ := hE
  refine a_dald X Y g dX9_value_8 ?_
  cases hE
  exact a_dret X Y h1 h2 hr dX9_value_9
/-! dispatch.value -/
set_option maxHeartbeats 4000000 in
set_option maxRecDepth 100000 in
theorem mf_value_ {l : Launch} (hl0 : l.stackTraces = false) (n : Nat) {x : aP} : ∀ d : Nat, hRV l x (af_value n x.sK d) (d + 12) (31 * d + 400) := by
  intro d
  induction d with
  | zero => exact ⟨by omega, by omega, (fun q h => nomatch (show none = some q from h)), (fun h => nomatch (show none = some _ from h))⟩
  | succ d ih =>
    refine ⟨by omega, by omega, of_value n x.sK (d + 1), ?_⟩
    intro st a r q h
    replace h : ((aCi st a).bind fun c => if c = 7 then af_X8_value n x.sK (af_value n x.sK d) st a r else if c = 10 then af_X11_value n x.sK (af_value n x.sK d) st a r else if c = 5 then af_X6_value n x.sK (af_value n x.sK d) st a r else if c = 9 then af_X10_value n x.sK (af_value n x.sK d) st a r else if c = 6 then af_X7_value n x.sK (af_value n x.sK d) st a r else if c = 8 then af_X9_value n x.sK (af_value n x.sK d) st a r else none) = some q := h
    obtain ⟨c, g, h⟩ := e_bind h
    obtain ⟨fs, g⟩ := i_aCi g
    have e1 : d + 1 + 12 = d + 12 + 1 := by omega
    have e2 : 31 * (d + 1) + 400 = 31 * d + 400 + 31 := by omega
    rw [e1, e2]
    by_cases c1 : c = 7
    · subst c1
      replace h := e_t rfl h
      exact ⟨_, _, _, _, _, _, _, _, _, _, k_X8, g, maf_X8_value hl0 n ih h, by decide, q1412, q1414, q147, q1416, by decide⟩
    replace h := e_f c1 h
    by_cases c1 : c = 10
    · subst c1
      replace h := e_t rfl h
      exact ⟨_, _, _, _, _, _, _, _, _, _, k_X11, g, maf_X11_value hl0 n ih h, by decide, q1422, q1424, q150, q1426, by decide⟩
    replace h := e_f c1 h
    by_cases c1 : c = 5
    · subst c1
      replace h := e_t rfl h
      exact ⟨_, _, _, _, _, _, _, _, _, _, k_X6, g, maf_X6_value hl0 n ih h, by decide, q1430, q1432, q145, q1434, by decide⟩
    replace h := e_f c1 h
    by_cases c1 : c = 9
    · subst c1
      replace h := e_t rfl h
      exact ⟨_, _, _, _, _, _, _, _, _, _, k_X10, g, maf_X10_value hl0 n ih h, by decide, q1436, q1438, q149, q1440, by decide⟩
    replace h := e_f c1 h
    by_cases c1 : c = 6
    · subst c1
      replace h := e_t rfl h
      exact ⟨_, _, _, _, _, _, _, _, _, _, k_X7, g, maf_X7_value hl0 n ih h, by decide, q1444, q1446, q146, q1448, by decide⟩
    replace h := e_f c1 h
    by_cases c1 : c = 8
    · subst c1
      replace h := e_t rfl h
      exact ⟨_, _, _, _, _, _, _, _, _, _, k_X9, g, maf_X9_value hl0 n ih h, by decide, q1452, q1454, q148, q1456, by decide⟩
    replace h := e_f c1 h
    cases h
set_option maxHeartbeats 4000000 in
set_option maxRecDepth 100000 in
theorem mf_value {l : Launch} (hl0 : l.stackTraces = false) (n : Nat) {x : aP} {st : aS} {a : Nat} {r : Option Nat} {q : aS × (UInt64 ⊕ Nat)} (h : af_value n x.sK dV st a r = some q) : aIf l x mnV 312 9700 st a [va_rf r] (oD q.2) q.1 := (mf_value_ hl0 n dV).2.2.2 h
/-! BasicMachine$Loop.over(DDD)Z -/
set_option maxHeartbeats 4000000 in
set_option maxRecDepth 100000 in
theorem maf_X29_over {l : Launch} (hl0 : l.stackTraces = false) (n : Nat) {x : aP} {st : aS} {p0 : UInt64} {p2 : UInt64} {p4 : UInt64} {q : aS × (Int32)} (hE : af_X29_over n x.sK st p0 p2 p4 = some q) : aMet l yX29_over (ws_ yX29_over cX29_over 6 (some .boolean)) 0 0 x [.double p0, .double p2, .double p4] st (.inl (some (.int q.2))) q.1 := by
  refine a_ofW (own := "BasicMachine$Loop") hl0 (by decide) rfl (Nat.le_of_ble_eq_true rfl) (fun mc ms p e s m below meth c ls H locs kc ks h1 h2 X hex Y hr hnm hl => ?_)
  have hnm : "over" = meth.name := hnm
  have hl : lv_has ls 6 [(0, .double p0), (2, .double p2), (4, .double p4)] := hl
  have hx := X.1
  have hb := X.2.1
  have hown := X.2.2.2.1
  have hts := X.2.2.2.2.1
  have hK := X.2.2.2.2.2.1
  have hl0 := X.2.2.2.2.2.2.2.2
  unfold af_X29_over at hE
  refine lv_dload hx hb dX29_over_0 (lv_at hl 2 rfl) ?_
  refine lv_dconst0 hx hb dX29_over_2 ?_
  refine lv_dcmp hx hb dX29_over_3 ?_
  refine lv_if_ge (tgt := 21) hx hb dX29_over_4 (by decide) (fun c_1 => ?_) (fun c_1 => ?_)
  · replace hE := e_t c_1 hE
    refine lv_dload_n hx hb dX29_over_21 rfl (lv_at hl 0 rfl) ?_
    refine lv_dload_n hx hb dX29_over_22 rfl (lv_at hl 1 rfl) ?_
    refine lv_dcmp hx hb dX29_over_23 ?_
    refine lv_if_le (tgt := 31) hx hb dX29_over_24 (by decide) (fun c_2 => ?_) (fun c_2 => ?_)
    · replace hE := e_t c_2 hE
      refine lv_iconst (v := 0) hx hb dX29_over_31 (by decide) ?_
      cases hE
      exact a_zret (v := 0) X Y h1 h2 hr nz0 dX29_over_32
    · replace hE := e_f c_2 hE
      refine lv_iconst (v := 1) hx hb dX29_over_27 (by decide) ?_
      refine lv_goto (tgt := 32) hx hb dX29_over_28 (by decide) ?_
      cases hE
      exact a_zret (v := 1) X Y h1 h2 hr nz1 dX29_over_32
  · replace hE := e_f c_1 hE
    refine lv_dload_n hx hb dX29_over_7 rfl (lv_at hl 0 rfl) ?_
    refine lv_dload_n hx hb dX29_over_8 rfl (lv_at hl 1 rfl) ?_
    refine lv_dcmp hx hb dX29_over_9 ?_
    refine lv_if_ge (tgt := 17) hx hb dX29_over_10 (by decide) (fun c_3 => ?_) (fun c_3 => ?_)
    · replace hE := e_t c_3 hE
      refine lv_iconst (v := 0) hx hb dX29_over_17 (by decide) ?_
      refine lv_goto (tgt := 32) hx hb dX29_over_18 (by decide) ?_
      cases hE
      exact a_zret (v := 0) X Y h1 h2 hr nz0 dX29_over_32
    · replace hE := e_f c_3 hE
      refine lv_iconst (v := 1) hx hb dX29_over_13 (by decide) ?_
      refine lv_goto (tgt := 32) hx hb dX29_over_14 (by decide) ?_
      cases hE
      exact a_zret (v := 1) X Y h1 h2 hr nz1 dX29_over_32
/-! BasicMachine$Loop.<init>(IDDLBasicMachine$Line;)V -/
set_option maxHeartbeats 4000000 in
set_option maxRecDepth 100000 in
theorem maf_X29_init {l : Launch} (hl0 : l.stackTraces = false) (n : Nat) {x : aP} {st : aS} {a0 : Nat} {p1 : Int32} {p2 : UInt64} {p4 : UInt64} {p6 : Option Nat} {q : aS × Unit} (hE : af_X29_init n x.sK st a0 p1 p2 p4 p6 = some q) : aMet l yX29_init (ws_ yX29_init cX29_init 7 none) 2 40 x [.ref a0, .int p1, .double p2, .double p4, va_rf p6] st (.inl none) q.1 := by
  refine a_ofW (own := "BasicMachine$Loop") hl0 (by decide) rfl (by simp only [lg_sl, List.flatMap_cons, List.flatMap_nil, va_rf_cat]; exact Nat.le_of_ble_eq_true rfl) (fun mc ms p e s m below meth c ls H locs kc ks h1 h2 X hex Y hr hnm hl => ?_)
  have hnm : "<init>" = meth.name := hnm
  have hl : lv_has ls 7 [(0, .ref a0), (1, .int p1), (2, .double p2), (4, .double p4), (6, va_rf p6)] := by simp only [lv_args, va_rf_cat] at hl; exact hl
  have hx := X.1
  have hb := X.2.1
  have hown := X.2.2.2.1
  have hts := X.2.2.2.2.1
  have hK := X.2.2.2.2.2.1
  have hl0 := X.2.2.2.2.2.2.2.2
  unfold af_X29_init at hE
  refine lv_aload_n hx hb dX29_init_0 rfl (lv_at hl 0 rfl) ?_
  replace hE := e_cb hE
  obtain ⟨st_1, u_2, g, hE⟩ := hE
  have M9 := (mo_s (fun _ => le_pF) fun _ => (mo_s (fun _ => le_pF) fun _ => (mo_s (fun _ => le_pF) fun _ => (mo_s (fun _ => le_pF) fun _ => mo_ret)))) _ hE
  refine a_callI (n := 0) (σ1 := st_1) (σf := q.1) [] X Y (maf_J15_init hl0 n g) ⟨oaf_J15_init _ g, M9, h1, h2, (by show _ ≤ 2; decide), (by show _ ≤ 40; decide)⟩ q1558 q912 q143 q913 rfl (by decide +kernel) rfl hl.1 (Nat.le_of_ble_eq_true rfl) dX29_init_1 (fun v hv H locs kc ks Y => ?_) (fun k hk => by cases hk)
  cases hv
  refine lv_aload_n hx hb dX29_init_4 rfl (lv_at hl 0 rfl) ?_
  refine lv_iload_n hx hb dX29_init_5 rfl (lv_at hl 1 rfl) ?_
  replace hE := e_bind hE
  obtain ⟨st_3, g, hE⟩ := hE
  refine a_putFV X Y k_X29 0 g (by decide) rfl hnm rfl rfl rfl q1559 dX29_init_6 (fun H locs Y => ?_)
  refine lv_aload_n hx hb dX29_init_9 rfl (lv_at hl 0 rfl) ?_
  refine lv_dload_n hx hb dX29_init_10 rfl (lv_at hl 2 rfl) ?_
  replace hE := e_bind hE
  obtain ⟨st_4, g, hE⟩ := hE
  refine a_putFV X Y k_X29 1 g (by decide) rfl hnm rfl rfl rfl q1560 dX29_init_11 (fun H locs Y => ?_)
  refine lv_aload_n hx hb dX29_init_14 rfl (lv_at hl 0 rfl) ?_
  refine lv_dload hx hb dX29_init_15 (lv_at hl 3 rfl) ?_
  replace hE := e_bind hE
  obtain ⟨st_5, g, hE⟩ := hE
  refine a_putFV X Y k_X29 2 g (by decide) rfl hnm rfl rfl rfl q1561 dX29_init_17 (fun H locs Y => ?_)
  refine lv_aload_n hx hb dX29_init_20 rfl (lv_at hl 0 rfl) ?_
  refine r_aload hx hb dX29_init_21 (lv_at hl 4 rfl) ?_
  replace hE := e_bind hE
  obtain ⟨st_6, g, hE⟩ := hE
  refine a_putFV X Y k_X29 3 g (by decide) rfl hnm rfl (nr_o p6) (fr_o p6) q1562 dX29_init_23 (fun H locs Y => ?_)
  cases hE
  exact a_vret X Y h1 h2 hr dX29_init_26
/-! BasicMachine$For.run(LBasicMachine;LBasicMachine$Line;)LBasicMachine$Line; -/
set_option maxHeartbeats 4000000 in
set_option maxRecDepth 100000 in
theorem waf_X19_run_L67 {l : Launch} {x : aP} {As : List Value} {σ0 : aS} {p : Program} {e : Env} {s : State} {m : MethodId} {below : List Frame} {meth : Method} {c : Code} {mc ms : Nat} (X : aX "BasicMachine$For" p l s m As.toArray meth c cX19_run 10 x σ0) (hex : ∀ z ∈ c.exceptionTable.toList, False) (hr : meth.sig.returnType = (some (.object "BasicMachine$Line"))) (hnm : "run" = meth.name) {n : Nat} {st : aS} {a0 : Nat} {x1 : Option Nat} {x2 : Option Nat} {x3 : UInt64} {x5 : UInt64} {x7 : UInt64} {q : aS × ((Option Nat) ⊕ Nat)} (hE : af_X19_run_L67 n x.sK st a0 x1 x2 x3 x5 x7 = some q) (h1 : mc + σ0.1 = q.1.1) (h2 : ms + σ0.2.1 = q.1.2.1) {H : Heap} {locs : List Loc} {ls : Array Slot} {kc ks : Nat} (Y : aY x σ0 s st H locs kc ks) (hl : lv_has ls 10 [(0, .ref a0), (1, va_rf x1), (2, va_rf x2), (3, .double x3), (5, .double x5), (7, .double x7)]) : aG l 342 10200 mc ms x As σ0 (oR q.2) q.1 p e s m below meth c H locs kc ks (F0 m 67 ls []) := by
  have hx := X.1
  have hb := X.2.1
  have hown := X.2.2.2.1
  have hts := X.2.2.2.2.1
  have hK := X.2.2.2.2.2.1
  have hl0 := X.2.2.2.2.2.2.2.2
  unfold af_X19_run_L67 at hE
  refine r_aload_n hx hb dX19_run_67 rfl (lv_at hl 1 rfl) ?_
  replace hE := e_bind hE
  obtain ⟨a_1, g, hE⟩ := hE
  subst g
  replace hE := e_bind hE
  obtain ⟨r_2, g, hE⟩ := hE
  refine n_gRN (host := "BasicMachine") X Y k_X1 5 g (by decide) (by decide) dX19_run_68 ?_
  refine lv_aload_n hx hb dX19_run_71 rfl (lv_at hl 0 rfl) ?_
  replace hE := e_bind hE
  obtain ⟨v_3, g, hE⟩ := hE
  refine n_gI X Y k_X19 0 g (by decide) q1135 dX19_run_72 ?_
  refine lv_dload_n hx hb dX19_run_75 rfl (lv_at hl 3 rfl) ?_
  replace hE := e_bind hE
  obtain ⟨a_4, g, hE⟩ := hE
  subst g
  replace hE := e_bind hE
  obtain ⟨st_5, g, hE⟩ := hE
  refine a_dast X Y g dX19_run_76 (fun H locs Y => ?_)
  refine lv_dload_n hx hb dX19_run_77 rfl (lv_at hl 3 rfl) ?_
  refine lv_dload hx hb dX19_run_78 (lv_at hl 4 rfl) ?_
  refine lv_dload hx hb dX19_run_80 (lv_at hl 5 rfl) ?_
  replace hE := e_cb hE
  obtain ⟨st_6, v_7, g, hE⟩ := hE
  have M9 := (mo_if (mo_v fun _ => (mo_if mo_tw (mo_v fun _ => (mo_v fun _ => (mo_s (fun _ => le_nO) fun _ => (mo_v fun _ => (mo_cb oaf_X29_init fun _ _ => (mo_v fun _ => (mo_v fun _ => (mo_s (fun _ => le_wR) fun _ => (mo_v fun _ => (mo_s (fun _ => le_pF) fun _ => mo_ret)))))))))))) (mo_v fun _ => (mo_v fun _ => (mo_x oaf_X1_nextOf fun _ _ => (mo_v fun _ => (mo_cb oaf_X1_after fun _ _ => mo_ret)))))) _ hE
  refine a_callS (n := 3) (σ1 := st_6) (σf := q.1) [.double x3, .double x5, .double x7] X Y (maf_X29_over hl0 n g) ⟨oaf_X29_over _ g, M9, h1, h2, (by show _ ≤ 342; decide), (by show _ ≤ 10200; decide)⟩ q1535 q1536 q172 q1537 (by decide +kernel) rfl hl.1 (Nat.le_of_ble_eq_true rfl) dX19_run_82 (fun v hv H locs kc ks Y => ?_) (fun k hk => by cases hk)
  cases hv
  refine lv_if_eq (tgt := 102) hx hb dX19_run_85 (by decide) (fun c_8 => ?_) (fun c_8 => ?_)
  · replace hE := e_t c_8 hE
    refine lv_aload_n hx hb dX19_run_102 rfl (lv_at hl 1 rfl) ?_
    replace hE := e_bind hE
    obtain ⟨v_9, g, hE⟩ := hE
    refine n_gIN (host := "BasicMachine") X Y k_X1 15 g (by decide) (by decide) dX19_run_103 ?_
    refine lv_bipush (v := 6) hx hb dX19_run_106 (by decide) ?_
    refine lv_icmp_ne (tgt := 119) hx hb dX19_run_108 (by decide) (fun c_10 => ?_) (fun c_10 => ?_)
    · replace hE := e_f c_10 hE
      refine lv_aload_n hx hb dX19_run_119 rfl (lv_at hl 1 rfl) ?_
      replace hE := e_bind hE
      obtain ⟨r_11, g, hE⟩ := hE
      refine n_gRN (host := "BasicMachine") X Y k_X1 14 g (by decide) (by decide) dX19_run_120 ?_
      refine lv_aload_n hx hb dX19_run_123 rfl (lv_at hl 1 rfl) ?_
      replace hE := e_bind hE
      obtain ⟨v_12, g, hE⟩ := hE
      refine n_gIN (host := "BasicMachine") X Y k_X1 15 g (by decide) (by decide) dX19_run_124 ?_
      replace hE := e_bind hE
      obtain ⟨st_13, g, hE⟩ := hE
      have M9 := (mo_v fun _ => (mo_cb oaf_X29_init fun _ _ => (mo_v fun _ => (mo_v fun _ => (mo_s (fun _ => le_wR) fun _ => (mo_v fun _ => (mo_s (fun _ => le_pF) fun _ => mo_ret))))))) _ hE
      refine a_new X Y k_X29 g b_X29 q1553 q1554 q172 (aRoom1 Y h1 (le_nO1 g) M9) (aRoom2 Y h2 (le_nO2 g) M9) dX19_run_127 (fun H Y => ?_)
      generalize kc + 1 = kc at Y ⊢
      generalize ks + 4 = ks at Y ⊢
      refine lv_dup hx hb dX19_run_130 rfl ?_
      refine lv_aload_n hx hb dX19_run_131 rfl (lv_at hl 0 rfl) ?_
      replace hE := e_bind hE
      obtain ⟨v_14, g, hE⟩ := hE
      refine n_gI X Y k_X19 0 g (by decide) q1135 dX19_run_132 ?_
      refine lv_dload hx hb dX19_run_135 (lv_at hl 4 rfl) ?_
      refine lv_dload hx hb dX19_run_137 (lv_at hl 5 rfl) ?_
      refine r_aload_n hx hb dX19_run_139 rfl (lv_at hl 2 rfl) ?_
      replace hE := e_cb hE
      obtain ⟨st_15, u_16, g, hE⟩ := hE
      have M9 := (mo_v fun _ => (mo_v fun _ => (mo_s (fun _ => le_wR) fun _ => (mo_v fun _ => (mo_s (fun _ => le_pF) fun _ => mo_ret))))) _ hE
      refine a_callIN (host := "BasicMachine") (n := 4) (σ1 := st_15) (σf := q.1) [.int v_14, .double x5, .double x7, va_rf x2] X Y (maf_X29_init hl0 n g) ⟨oaf_X29_init _ g, M9, h1, h2, (by show _ ≤ 342; decide), (by show _ ≤ 10200; decide)⟩ (by decide) q1556 q172 q1557 rfl (by decide +kernel) rfl hl.1 (by simp only [List.map_cons, List.map_nil, va_rf_cat]; exact Nat.le_of_ble_eq_true rfl) dX19_run_140 (fun v hv H locs kc ks Y => ?_) (fun k hk => by cases hk)
      cases hv
      replace hE := e_bind hE
      obtain ⟨a_17, g, hE⟩ := hE
      subst g
      replace hE := e_bind hE
      obtain ⟨u_19, g, hE⟩ := hE
      obtain ⟨fs9, g9⟩ := i_gC g
      replace hE := e_bind hE
      obtain ⟨st_18, g, hE⟩ := hE
      refine a_aastC X Y (by decide) rfl g (a_recv X Y k_X29.1 g9) dX19_run_143 (fun H locs Y => ?_)
      refine lv_aload_n hx hb dX19_run_144 rfl (lv_at hl 1 rfl) ?_
      refine lv_dup hx hb dX19_run_145 rfl ?_
      replace hE := e_bind hE
      obtain ⟨v_20, g, hE⟩ := hE
      refine n_gIN (host := "BasicMachine") X Y k_X1 15 g (by decide) (by decide) dX19_run_146 ?_
      refine lv_iconst (v := 1) hx hb dX19_run_149 (by decide) ?_
      refine lv_iadd hx hb dX19_run_150 ?_
      replace hE := e_bind hE
      obtain ⟨st_21, g, hE⟩ := hE
      refine a_putNV (host := "BasicMachine") X Y k_X1 15 g (by decide) rfl rfl rfl (by decide) dX19_run_151 (fun H locs Y => ?_)
      refine lv_null hx hb dX19_run_154 ?_
      cases hE
      exact a_aret (r := (none : Option Nat)) X Y h1 h2 hr (Or.inl ⟨_, rfl⟩) dX19_run_155
    · replace hE := e_t c_10 hE
      cases hE
      exact a_throw X Y h1 h2 rfl (by decide +kernel) q1551 q128 (at_B_For_1 hts hK) at_B_For_1_o (fun z hz => (hex z hz).elim) hl.1 (by show _ ≤ 342; decide) (Nat.le_trans (Nat.add_le_add_right (show _ ≤ 8 from (Nat.le_of_ble_eq_true rfl)) 81) (by show _ ≤ 10200; decide)) dX19_run_111 dX19_run_114 dX19_run_115 dX19_run_118
  · replace hE := e_f c_8 hE
    refine lv_aload_n hx hb dX19_run_88 rfl (lv_at hl 1 rfl) ?_
    refine lv_aload_n hx hb dX19_run_89 rfl (lv_at hl 1 rfl) ?_
    refine lv_aload_n hx hb dX19_run_90 rfl (lv_at hl 0 rfl) ?_
    replace hE := e_bind hE
    obtain ⟨v_22, g, hE⟩ := hE
    refine n_gI X Y k_X19 0 g (by decide) q1135 dX19_run_91 ?_
    refine r_aload_n hx hb dX19_run_94 rfl (lv_at hl 2 rfl) ?_
    replace hE := e_bind hE
    obtain ⟨u_25, g, hE⟩ := hE
    obtain ⟨fs9, g9⟩ := i_gC g
    have g7 := a_recv X Y k_X1.1 g9
    replace hE := e_xb hE
    rcases hE with ⟨st_23, r_24, g, hE⟩ | ⟨st_23, k9, g, hE⟩
    rotate_left
    · subst hE
      refine a_callVN (host := "BasicMachine") (n := 2) (C := "BasicMachine") (σ1 := st_23) (σf := st_23) [.int v_22, va_rf x2] X Y (maf_X1_nextOf hl0 n g) ⟨oaf_X1_nextOf _ g, aLe.rf _, h1, h2, (by show _ ≤ 342; decide), (by show _ ≤ 10200; decide)⟩ (by decide) q1540 qs43 q122 q1541 (by decide +kernel) g7 rfl hl.1 (Nat.le_of_ble_eq_true rfl) dX19_run_95 (fun v hv => by cases hv) (fun k hk H locs kc ks q9 ce Y e1 e2 e3 => ?_)
      cases hk
      exact a_out X Y h1 h2 (fun z hz => (hex z hz).elim) e1 e2 e3
    have M9 := (mo_v fun _ => (mo_cb oaf_X1_after fun _ _ => mo_ret)) _ hE
    refine a_callVN (host := "BasicMachine") (n := 2) (C := "BasicMachine") (σ1 := st_23) (σf := q.1) [.int v_22, va_rf x2] X Y (maf_X1_nextOf hl0 n g) ⟨oaf_X1_nextOf _ g, M9, h1, h2, (by show _ ≤ 342; decide), (by show _ ≤ 10200; decide)⟩ (by decide) q1540 qs43 q122 q1541 (by decide +kernel) g7 rfl hl.1 (Nat.le_of_ble_eq_true rfl) dX19_run_95 (fun v hv H locs kc ks Y => ?_) (fun k hk => by cases hk)
    cases hv
    replace hE := e_bind hE
    obtain ⟨u_28, g, hE⟩ := hE
    obtain ⟨fs9, g9⟩ := i_gC g
    have g7 := a_recv X Y k_X1.1 g9
    replace hE := e_cb hE
    obtain ⟨st_26, r_27, g, hE⟩ := hE
    have M9 := mo_ret _ hE
    refine a_callVN (host := "BasicMachine") (n := 1) (C := "BasicMachine") (σ1 := st_26) (σf := q.1) [va_rf r_24] X Y (maf_X1_after hl0 n g) ⟨oaf_X1_after _ g, M9, h1, h2, (by show _ ≤ 342; decide), (by show _ ≤ 10200; decide)⟩ (by decide) q1549 qs44 q122 q1550 (by decide +kernel) g7 rfl hl.1 (Nat.le_of_ble_eq_true rfl) dX19_run_98 (fun v hv H locs kc ks Y => ?_) (fun k hk => by cases hk)
    cases hv
    cases hE
    exact a_aret (r := r_27) X Y h1 h2 hr (Or.inl ⟨_, rfl⟩) dX19_run_101
set_option maxHeartbeats 4000000 in
set_option maxRecDepth 100000 in
theorem waf_X19_run_L44 {l : Launch} {x : aP} {As : List Value} {σ0 : aS} {p : Program} {e : Env} {s : State} {m : MethodId} {below : List Frame} {meth : Method} {c : Code} {mc ms : Nat} (X : aX "BasicMachine$For" p l s m As.toArray meth c cX19_run 10 x σ0) (hex : ∀ z ∈ c.exceptionTable.toList, False) (hr : meth.sig.returnType = (some (.object "BasicMachine$Line"))) (hnm : "run" = meth.name) {n : Nat} {st : aS} {a0 : Nat} {x1 : Option Nat} {x2 : Option Nat} {x3 : UInt64} {x5 : UInt64} {z44_0 : UInt64} {q : aS × ((Option Nat) ⊕ Nat)} (hE : af_X19_run_L44 n x.sK st a0 x1 x2 x3 x5 z44_0 = some q) (h1 : mc + σ0.1 = q.1.1) (h2 : ms + σ0.2.1 = q.1.2.1) {H : Heap} {locs : List Loc} {ls : Array Slot} {kc ks : Nat} (Y : aY x σ0 s st H locs kc ks) (hl : lv_has ls 10 [(0, .ref a0), (1, va_rf x1), (2, va_rf x2), (3, .double x3), (5, .double x5)]) : aG l 342 10200 mc ms x As σ0 (oR q.2) q.1 p e s m below meth c H locs kc ks (F0 m 44 ls [.double z44_0]) := by
  have hx := X.1
  have hb := X.2.1
  have hown := X.2.2.2.1
  have hts := X.2.2.2.2.1
  have hK := X.2.2.2.2.2.1
  have hl0 := X.2.2.2.2.2.2.2.2
  unfold af_X19_run_L44 at hE
  refine lv_dstore (lv' := [(7, .double z44_0), (0, .ref a0), (1, va_rf x1), (2, va_rf x2), (3, .double x3), (5, .double x5)]) hx hb dX19_run_44 hl (by decide) rfl (fun ls hl => ?_)
  refine r_aload_n hx hb dX19_run_46 rfl (lv_at hl 2 rfl) ?_
  refine lv_aload_n hx hb dX19_run_47 rfl (lv_at hl 1 rfl) ?_
  replace hE := e_bind hE
  obtain ⟨v_1, g, hE⟩ := hE
  refine n_gI X Y k_X19 0 g (by decide) q1135 dX19_run_48 ?_
  replace hE := e_bind hE
  obtain ⟨a_2, g, hE⟩ := hE
  subst g
  replace hE := e_bind hE
  obtain ⟨u_5, g, hE⟩ := hE
  obtain ⟨fs9, g9⟩ := i_gC g
  have g7 := a_recv X Y k_X1.1 g9
  replace hE := e_cb hE
  obtain ⟨st_3, v_4, g, hE⟩ := hE
  have M9 := (mo_if (oaf_X19_run_L67 ) (mo_s (fun _ => le_pF) fun _ => (oaf_X19_run_L67 ))) _ hE
  refine a_callVN (host := "BasicMachine") (n := 1) (C := "BasicMachine") (σ1 := st_3) (σf := q.1) [.int v_1] X Y (maf_X1_loop hl0 n g) ⟨oaf_X1_loop _ g, M9, h1, h2, (by show _ ≤ 342; decide), (by show _ ≤ 10200; decide)⟩ (by decide) q1529 qs42 q122 q1530 (by decide +kernel) g7 rfl hl.1 (Nat.le_of_ble_eq_true rfl) dX19_run_51 (fun v hv H locs kc ks Y => ?_) (fun k hk => by cases hk)
  cases hv
  refine lv_istore (lv' := [(9, .int v_4), (7, .double z44_0), (0, .ref a0), (1, .ref a_2), (2, va_rf x2), (3, .double x3), (5, .double x5)]) hx hb dX19_run_54 hl (by decide) rfl (fun ls hl => ?_)
  refine lv_iload hx hb dX19_run_56 (lv_at hl 0 rfl) ?_
  refine lv_if_lt (tgt := 67) hx hb dX19_run_58 (by decide) (fun c_6 => ?_) (fun c_6 => ?_)
  · replace hE := e_t c_6 hE
    exact waf_X19_run_L67 X hex hr hnm hE h1 h2 Y (lv_sub hl [2, 3, 4, 5, 6, 1] rfl)
  · replace hE := e_f c_6 hE
    refine lv_aload_n hx hb dX19_run_61 rfl (lv_at hl 3 rfl) ?_
    refine lv_iload hx hb dX19_run_62 (lv_at hl 0 rfl) ?_
    replace hE := e_bind hE
    obtain ⟨st_7, g, hE⟩ := hE
    refine a_putNV (host := "BasicMachine") X Y k_X1 15 g (by decide) rfl rfl rfl (by decide) dX19_run_64 (fun H locs Y => ?_)
    exact waf_X19_run_L67 X hex hr hnm hE h1 h2 Y (lv_sub hl [2, 3, 4, 5, 6, 1] rfl)
set_option maxHeartbeats 4000000 in
set_option maxRecDepth 100000 in
theorem maf_X19_run {l : Launch} (hl0 : l.stackTraces = false) (n : Nat) {x : aP} {st : aS} {a0 : Nat} {p1 : Option Nat} {p2 : Option Nat} {q : aS × ((Option Nat) ⊕ Nat)} (hE : af_X19_run n x.sK st a0 p1 p2 = some q) : aMet l yX19_run (ws_ yX19_run cX19_run 10 (some (.object "BasicMachine$Line"))) 342 10200 x [.ref a0, va_rf p1, va_rf p2] st (oR q.2) q.1 := by
  refine a_ofW (own := "BasicMachine$For") hl0 (by decide) rfl (by simp only [lg_sl, List.flatMap_cons, List.flatMap_nil, va_rf_cat]; exact Nat.le_of_ble_eq_true rfl) (fun mc ms p e s m below meth c ls H locs kc ks h1 h2 X hex Y hr hnm hl => ?_)
  have hnm : "run" = meth.name := hnm
  have hl : lv_has ls 10 [(0, .ref a0), (1, va_rf p1), (2, va_rf p2)] := by simp only [lv_args, va_rf_cat] at hl; exact hl
  have hx := X.1
  have hb := X.2.1
  have hown := X.2.2.2.1
  have hts := X.2.2.2.2.1
  have hK := X.2.2.2.2.2.1
  have hl0 := X.2.2.2.2.2.2.2.2
  unfold af_X19_run at hE
  refine lv_aload_n hx hb dX19_run_0 rfl (lv_at hl 0 rfl) ?_
  replace hE := e_bind hE
  obtain ⟨r_1, g, hE⟩ := hE
  refine n_gR X Y k_X19 1 g (by decide) q1136 dX19_run_1 ?_
  refine r_aload_n hx hb dX19_run_4 rfl (lv_at hl 1 rfl) ?_
  replace hE := e_bind hE
  obtain ⟨a_2, g, hE⟩ := hE
  subst g
  replace hE := e_xb hE
  rcases hE with ⟨st_3, v_4, g, hE⟩ | ⟨st_3, k9, g, hE⟩
  rotate_left
  · subst hE
    refine a_callIf (n := 1) (σ1 := st_3) (σf := st_3) [va_rf p1] X Y (mf_value hl0 n g) ⟨(of_value _ _ _) _ g, aLe.rf _, h1, h2, (by show _ ≤ 342; decide), (by show _ ≤ 10200; decide)⟩ q1408 (by decide +kernel) rfl hl.1 (Nat.le_of_ble_eq_true rfl) dX19_run_5 (fun v hv => by cases hv) (fun k hk H locs kc ks q9 ce Y e1 e2 e3 => ?_)
    cases hk
    exact a_out X Y h1 h2 (fun z hz => (hex z hz).elim) e1 e2 e3
  have M9 := (mo_v fun _ => (mo_v fun _ => (mo_x (of_value _ _ _) fun _ _ => (mo_v fun _ => (mo_if (oaf_X19_run_L44 ) (mo_v fun _ => (mo_v fun _ => (mo_x (of_value _ _ _) fun _ _ => (oaf_X19_run_L44 ))))))))) _ hE
  refine a_callIf (n := 1) (σ1 := st_3) (σf := q.1) [va_rf p1] X Y (mf_value hl0 n g) ⟨(of_value _ _ _) _ g, M9, h1, h2, (by show _ ≤ 342; decide), (by show _ ≤ 10200; decide)⟩ q1408 (by decide +kernel) rfl hl.1 (Nat.le_of_ble_eq_true rfl) dX19_run_5 (fun v hv H locs kc ks Y => ?_) (fun k hk => by cases hk)
  cases hv
  refine lv_dstore_n (i := 3) (lv' := [(3, .double v_4), (0, .ref a0), (1, va_rf p1), (2, va_rf p2)]) hx hb dX19_run_10 rfl hl (by decide) (by cases p2 <;> rfl) (fun ls hl => ?_)
  refine lv_aload_n hx hb dX19_run_11 rfl (lv_at hl 1 rfl) ?_
  replace hE := e_bind hE
  obtain ⟨r_5, g, hE⟩ := hE
  refine n_gR X Y k_X19 2 g (by decide) q1137 dX19_run_12 ?_
  refine r_aload_n hx hb dX19_run_15 rfl (lv_at hl 2 rfl) ?_
  replace hE := e_bind hE
  obtain ⟨a_6, g, hE⟩ := hE
  subst g
  replace hE := e_xb hE
  rcases hE with ⟨st_7, v_8, g, hE⟩ | ⟨st_7, k9, g, hE⟩
  rotate_left
  · subst hE
    refine a_callIf (n := 1) (σ1 := st_7) (σf := st_7) [va_rf p1] X Y (mf_value hl0 n g) ⟨(of_value _ _ _) _ g, aLe.rf _, h1, h2, (by show _ ≤ 342; decide), (by show _ ≤ 10200; decide)⟩ q1408 (by decide +kernel) rfl hl.1 (Nat.le_of_ble_eq_true rfl) dX19_run_16 (fun v hv => by cases hv) (fun k hk H locs kc ks q9 ce Y e1 e2 e3 => ?_)
    cases hk
    exact a_out X Y h1 h2 (fun z hz => (hex z hz).elim) e1 e2 e3
  have M9 := (mo_v fun _ => (mo_if (oaf_X19_run_L44 ) (mo_v fun _ => (mo_v fun _ => (mo_x (of_value _ _ _) fun _ _ => (oaf_X19_run_L44 )))))) _ hE
  refine a_callIf (n := 1) (σ1 := st_7) (σf := q.1) [va_rf p1] X Y (mf_value hl0 n g) ⟨(of_value _ _ _) _ g, M9, h1, h2, (by show _ ≤ 342; decide), (by show _ ≤ 10200; decide)⟩ q1408 (by decide +kernel) rfl hl.1 (Nat.le_of_ble_eq_true rfl) dX19_run_16 (fun v hv H locs kc ks Y => ?_) (fun k hk => by cases hk)
  cases hv
  refine lv_dstore (lv' := [(5, .double v_8), (3, .double v_4), (0, .ref a0), (1, va_rf p1), (2, va_rf p2)]) hx hb dX19_run_21 hl (by decide) rfl (fun ls hl => ?_)
  refine lv_aload_n hx hb dX19_run_23 rfl (lv_at hl 2 rfl) ?_
  replace hE := e_bind hE
  obtain ⟨r_9, g, hE⟩ := hE
  refine n_gR X Y k_X19 3 g (by decide) q1138 dX19_run_24 ?_
  refine r_ifnonnull (tgt := 34) hx hb dX19_run_27 (by decide) (fun c_10 => ?_) (fun c_10 => ?_)
  · replace hE := e_f c_10 hE
    refine lv_aload_n hx hb dX19_run_34 rfl (lv_at hl 2 rfl) ?_
    replace hE := e_bind hE
    obtain ⟨r_11, g, hE⟩ := hE
    refine n_gR X Y k_X19 3 g (by decide) q1138 dX19_run_35 ?_
    refine r_aload_n hx hb dX19_run_38 rfl (lv_at hl 3 rfl) ?_
    replace hE := e_bind hE
    obtain ⟨a_12, g, hE⟩ := hE
    subst g
    replace hE := e_xb hE
    rcases hE with ⟨st_13, v_14, g, hE⟩ | ⟨st_13, k9, g, hE⟩
    rotate_left
    · subst hE
      refine a_callIf (n := 1) (σ1 := st_13) (σf := st_13) [va_rf p1] X Y (mf_value hl0 n g) ⟨(of_value _ _ _) _ g, aLe.rf _, h1, h2, (by show _ ≤ 342; decide), (by show _ ≤ 10200; decide)⟩ q1408 (by decide +kernel) rfl hl.1 (Nat.le_of_ble_eq_true rfl) dX19_run_39 (fun v hv => by cases hv) (fun k hk H locs kc ks q9 ce Y e1 e2 e3 => ?_)
      cases hk
      exact a_out X Y h1 h2 (fun z hz => (hex z hz).elim) e1 e2 e3
    have M9 := (oaf_X19_run_L44 ) _ hE
    refine a_callIf (n := 1) (σ1 := st_13) (σf := q.1) [va_rf p1] X Y (mf_value hl0 n g) ⟨(of_value _ _ _) _ g, M9, h1, h2, (by show _ ≤ 342; decide), (by show _ ≤ 10200; decide)⟩ q1408 (by decide +kernel) rfl hl.1 (Nat.le_of_ble_eq_true rfl) dX19_run_39 (fun v hv H locs kc ks Y => ?_) (fun k hk => by cases hk)
    cases hv
    exact waf_X19_run_L44 X hex hr hnm hE h1 h2 Y (lv_sub hl [2, 3, 4, 1, 0] rfl)
  · replace hE := e_t c_10 hE
    refine lv_dconst1 hx hb dX19_run_30 ?_
    refine lv_goto (tgt := 44) hx hb dX19_run_31 (by decide) ?_
    exact waf_X19_run_L44 X hex hr hnm hE h1 h2 Y (lv_sub hl [2, 3, 4, 1, 0] rfl)
/-! BasicMachine$Gosub.run(LBasicMachine;LBasicMachine$Line;)LBasicMachine$Line; -/
set_option maxHeartbeats 4000000 in
set_option maxRecDepth 100000 in
theorem maf_X17_run {l : Launch} (hl0 : l.stackTraces = false) (n : Nat) {x : aP} {st : aS} {a0 : Nat} {p1 : Option Nat} {p2 : Option Nat} {q : aS × ((Option Nat) ⊕ Nat)} (hE : af_X17_run n x.sK st a0 p1 p2 = some q) : aMet l yX17_run (ws_ yX17_run cX17_run 4 (some (.object "BasicMachine$Line"))) 342 10200 x [.ref a0, va_rf p1, va_rf p2] st (oR q.2) q.1 := by
  refine a_ofW (own := "BasicMachine$Gosub") hl0 (by decide) rfl (by simp only [lg_sl, List.flatMap_cons, List.flatMap_nil, va_rf_cat]; exact Nat.le_of_ble_eq_true rfl) (fun mc ms p e s m below meth c ls H locs kc ks h1 h2 X hex Y hr hnm hl => ?_)
  have hnm : "run" = meth.name := hnm
  have hl : lv_has ls 4 [(0, .ref a0), (1, va_rf p1), (2, va_rf p2)] := by simp only [lv_args, va_rf_cat] at hl; exact hl
  have hx := X.1
  have hb := X.2.1
  have hown := X.2.2.2.1
  have hts := X.2.2.2.2.1
  have hK := X.2.2.2.2.2.1
  have hl0 := X.2.2.2.2.2.2.2.2
  unfold af_X17_run at hE
  refine r_aload_n hx hb dX17_run_0 rfl (lv_at hl 1 rfl) ?_
  replace hE := e_bind hE
  obtain ⟨a_1, g, hE⟩ := hE
  subst g
  replace hE := e_bind hE
  obtain ⟨v_2, g, hE⟩ := hE
  refine n_gIN (host := "BasicMachine") X Y k_X1 13 g (by decide) (by decide) dX17_run_1 ?_
  refine lv_bipush (v := 8) hx hb dX17_run_4 (by decide) ?_
  refine lv_icmp_ne (tgt := 17) hx hb dX17_run_6 (by decide) (fun c_3 => ?_) (fun c_3 => ?_)
  · replace hE := e_f c_3 hE
    refine lv_aload_n hx hb dX17_run_17 rfl (lv_at hl 1 rfl) ?_
    refine lv_aload_n hx hb dX17_run_18 rfl (lv_at hl 0 rfl) ?_
    replace hE := e_bind hE
    obtain ⟨v_4, g, hE⟩ := hE
    refine n_gI X Y k_X17 0 g (by decide) q1113 dX17_run_19 ?_
    replace hE := e_bind hE
    obtain ⟨u_7, g, hE⟩ := hE
    obtain ⟨fs9, g9⟩ := i_gC g
    have g7 := a_recv X Y k_X1.1 g9
    replace hE := e_xb hE
    rcases hE with ⟨st_5, r_6, g, hE⟩ | ⟨st_5, k9, g, hE⟩
    rotate_left
    · subst hE
      refine a_callVN (host := "BasicMachine") (n := 1) (C := "BasicMachine") (σ1 := st_5) (σf := st_5) [.int v_4] X Y (maf_X1_line hl0 n g) ⟨oaf_X1_line _ g, aLe.rf _, h1, h2, (by show _ ≤ 342; decide), (by show _ ≤ 10200; decide)⟩ (by decide) q1582 qs45 q122 q1583 (by decide +kernel) g7 rfl hl.1 (Nat.le_of_ble_eq_true rfl) dX17_run_22 (fun v hv => by cases hv) (fun k hk H locs kc ks q9 ce Y e1 e2 e3 => ?_)
      cases hk
      exact a_out X Y h1 h2 (fun z hz => (hex z hz).elim) e1 e2 e3
    have M9 := (mo_v fun _ => (mo_v fun _ => (mo_v fun _ => (mo_v fun _ => (mo_v fun _ => (mo_s (fun _ => le_wR) fun _ => (mo_v fun _ => (mo_s (fun _ => le_pF) fun _ => mo_ret)))))))) _ hE
    refine a_callVN (host := "BasicMachine") (n := 1) (C := "BasicMachine") (σ1 := st_5) (σf := q.1) [.int v_4] X Y (maf_X1_line hl0 n g) ⟨oaf_X1_line _ g, M9, h1, h2, (by show _ ≤ 342; decide), (by show _ ≤ 10200; decide)⟩ (by decide) q1582 qs45 q122 q1583 (by decide +kernel) g7 rfl hl.1 (Nat.le_of_ble_eq_true rfl) dX17_run_22 (fun v hv H locs kc ks Y => ?_) (fun k hk => by cases hk)
    cases hv
    refine r_astore_n (i := 3) (lv' := [(3, va_rf r_6), (0, .ref a0), (1, .ref a_1), (2, va_rf p2)]) hx hb dX17_run_25 rfl hl (by decide) (by cases p2 <;> rfl) (fun ls hl => ?_)
    refine lv_aload_n hx hb dX17_run_26 rfl (lv_at hl 2 rfl) ?_
    replace hE := e_bind hE
    obtain ⟨r_8, g, hE⟩ := hE
    refine n_gRN (host := "BasicMachine") X Y k_X1 12 g (by decide) (by decide) dX17_run_27 ?_
    refine lv_aload_n hx hb dX17_run_30 rfl (lv_at hl 2 rfl) ?_
    replace hE := e_bind hE
    obtain ⟨v_9, g, hE⟩ := hE
    refine n_gIN (host := "BasicMachine") X Y k_X1 13 g (by decide) (by decide) dX17_run_31 ?_
    refine r_aload_n hx hb dX17_run_34 rfl (lv_at hl 3 rfl) ?_
    replace hE := e_bind hE
    obtain ⟨a_10, g, hE⟩ := hE
    subst g
    replace hE := e_bind hE
    obtain ⟨a_12, g, hE⟩ := hE
    subst g
    replace hE := e_bind hE
    obtain ⟨u_13, g, hE⟩ := hE
    obtain ⟨fs9, g9⟩ := i_gC g
    replace hE := e_bind hE
    obtain ⟨st_11, g, hE⟩ := hE
    refine a_aastC X Y (by decide) rfl g (a_recv X Y k_X4.1 g9) dX17_run_35 (fun H locs Y => ?_)
    refine lv_aload_n hx hb dX17_run_36 rfl (lv_at hl 2 rfl) ?_
    refine lv_dup hx hb dX17_run_37 rfl ?_
    replace hE := e_bind hE
    obtain ⟨v_14, g, hE⟩ := hE
    refine n_gIN (host := "BasicMachine") X Y k_X1 13 g (by decide) (by decide) dX17_run_38 ?_
    refine lv_iconst (v := 1) hx hb dX17_run_41 (by decide) ?_
    refine lv_iadd hx hb dX17_run_42 ?_
    replace hE := e_bind hE
    obtain ⟨st_15, g, hE⟩ := hE
    refine a_putNV (host := "BasicMachine") X Y k_X1 13 g (by decide) rfl rfl rfl (by decide) dX17_run_43 (fun H locs Y => ?_)
    refine r_aload_n hx hb dX17_run_46 rfl (lv_at hl 0 rfl) ?_
    cases hE
    exact a_aret (r := r_6) X Y h1 h2 hr (Or.inl ⟨_, rfl⟩) dX17_run_47
  · replace hE := e_t c_3 hE
    cases hE
    exact a_throw X Y h1 h2 rfl (by decide +kernel) q1578 q128 (at_B_Gosub_1 hts hK) at_B_Gosub_1_o (fun z hz => (hex z hz).elim) hl.1 (by show _ ≤ 342; decide) (Nat.le_trans (Nat.add_le_add_right (show _ ≤ 8 from (Nat.le_of_ble_eq_true rfl)) 81) (by show _ ≤ 10200; decide)) dX17_run_9 dX17_run_12 dX17_run_13 dX17_run_16
/-! BasicMachine$Goto.run(LBasicMachine;LBasicMachine$Line;)LBasicMachine$Line; -/
set_option maxHeartbeats 4000000 in
set_option maxRecDepth 100000 in
theorem maf_X15_run {l : Launch} (hl0 : l.stackTraces = false) (n : Nat) {x : aP} {st : aS} {a0 : Nat} {p1 : Option Nat} {p2 : Option Nat} {q : aS × ((Option Nat) ⊕ Nat)} (hE : af_X15_run n x.sK st a0 p1 p2 = some q) : aMet l yX15_run (ws_ yX15_run cX15_run 3 (some (.object "BasicMachine$Line"))) 342 10200 x [.ref a0, va_rf p1, va_rf p2] st (oR q.2) q.1 := by
  refine a_ofW (own := "BasicMachine$Goto") hl0 (by decide) rfl (by simp only [lg_sl, List.flatMap_cons, List.flatMap_nil, va_rf_cat]; exact Nat.le_of_ble_eq_true rfl) (fun mc ms p e s m below meth c ls H locs kc ks h1 h2 X hex Y hr hnm hl => ?_)
  have hnm : "run" = meth.name := hnm
  have hl : lv_has ls 3 [(0, .ref a0), (1, va_rf p1), (2, va_rf p2)] := by simp only [lv_args, va_rf_cat] at hl; exact hl
  have hx := X.1
  have hb := X.2.1
  have hown := X.2.2.2.1
  have hts := X.2.2.2.2.1
  have hK := X.2.2.2.2.2.1
  have hl0 := X.2.2.2.2.2.2.2.2
  unfold af_X15_run at hE
  refine r_aload_n hx hb dX15_run_0 rfl (lv_at hl 1 rfl) ?_
  refine lv_aload_n hx hb dX15_run_1 rfl (lv_at hl 0 rfl) ?_
  replace hE := e_bind hE
  obtain ⟨v_1, g, hE⟩ := hE
  refine n_gI X Y k_X15 0 g (by decide) q1086 dX15_run_2 ?_
  replace hE := e_bind hE
  obtain ⟨a_2, g, hE⟩ := hE
  subst g
  replace hE := e_bind hE
  obtain ⟨u_5, g, hE⟩ := hE
  obtain ⟨fs9, g9⟩ := i_gC g
  have g7 := a_recv X Y k_X1.1 g9
  replace hE := e_xb hE
  rcases hE with ⟨st_3, r_4, g, hE⟩ | ⟨st_3, k9, g, hE⟩
  rotate_left
  · subst hE
    refine a_callVN (host := "BasicMachine") (n := 1) (C := "BasicMachine") (σ1 := st_3) (σf := st_3) [.int v_1] X Y (maf_X1_line hl0 n g) ⟨oaf_X1_line _ g, aLe.rf _, h1, h2, (by show _ ≤ 342; decide), (by show _ ≤ 10200; decide)⟩ (by decide) q1582 qs45 q122 q1583 (by decide +kernel) g7 rfl hl.1 (Nat.le_of_ble_eq_true rfl) dX15_run_5 (fun v hv => by cases hv) (fun k hk H locs kc ks q9 ce Y e1 e2 e3 => ?_)
    cases hk
    exact a_out X Y h1 h2 (fun z hz => (hex z hz).elim) e1 e2 e3
  have M9 := mo_ret _ hE
  refine a_callVN (host := "BasicMachine") (n := 1) (C := "BasicMachine") (σ1 := st_3) (σf := q.1) [.int v_1] X Y (maf_X1_line hl0 n g) ⟨oaf_X1_line _ g, M9, h1, h2, (by show _ ≤ 342; decide), (by show _ ≤ 10200; decide)⟩ (by decide) q1582 qs45 q122 q1583 (by decide +kernel) g7 rfl hl.1 (Nat.le_of_ble_eq_true rfl) dX15_run_5 (fun v hv H locs kc ks Y => ?_) (fun k hk => by cases hk)
  cases hv
  cases hE
  exact a_aret (r := r_4) X Y h1 h2 hr (Or.inl ⟨_, rfl⟩) dX15_run_8
/-! BasicMachine$If.run(LBasicMachine;LBasicMachine$Line;)LBasicMachine$Line; -/
set_option maxHeartbeats 4000000 in
set_option maxRecDepth 100000 in
theorem waf_X14_run_L46 {l : Launch} {x : aP} {As : List Value} {σ0 : aS} {p : Program} {e : Env} {s : State} {m : MethodId} {below : List Frame} {meth : Method} {c : Code} {mc ms : Nat} (X : aX "BasicMachine$If" p l s m As.toArray meth c cX14_run 8 x σ0) (hex : ∀ z ∈ c.exceptionTable.toList, False) (hr : meth.sig.returnType = (some (.object "BasicMachine$Line"))) (hnm : "run" = meth.name) {n : Nat} {st : aS} {a0 : Nat} {x1 : Option Nat} {z46_0 : Int32} {q : aS × ((Option Nat) ⊕ Nat)} (hE : af_X14_run_L46 n x.sK st a0 x1 z46_0 = some q) (h1 : mc + σ0.1 = q.1.1) (h2 : ms + σ0.2.1 = q.1.2.1) {H : Heap} {locs : List Loc} {ls : Array Slot} {kc ks : Nat} (Y : aY x σ0 s st H locs kc ks) (hl : lv_has ls 8 [(0, .ref a0), (1, va_rf x1)]) : aG l 342 10200 mc ms x As σ0 (oR q.2) q.1 p e s m below meth c H locs kc ks (F0 m 46 ls [.int z46_0]) := by
  have hx := X.1
  have hb := X.2.1
  have hown := X.2.2.2.1
  have hts := X.2.2.2.2.1
  have hK := X.2.2.2.2.2.1
  have hl0 := X.2.2.2.2.2.2.2.2
  unfold af_X14_run_L46 at hE
  refine lv_istore (lv' := [(7, .int z46_0), (0, .ref a0), (1, va_rf x1)]) hx hb dX14_run_46 hl (by decide) rfl (fun ls hl => ?_)
  refine lv_aload_n hx hb dX14_run_48 rfl (lv_at hl 1 rfl) ?_
  replace hE := e_bind hE
  obtain ⟨v_1, g, hE⟩ := hE
  refine n_gI X Y k_X14 1 g (by decide) q1068 dX14_run_49 ?_
  refine lv_iload hx hb dX14_run_52 (lv_at hl 0 rfl) ?_
  refine lv_iand hx hb dX14_run_54 ?_
  refine lv_if_eq (tgt := 69) hx hb dX14_run_55 (by decide) (fun c_2 => ?_) (fun c_2 => ?_)
  · replace hE := e_t c_2 hE
    refine lv_null hx hb dX14_run_69 ?_
    cases hE
    exact a_aret (r := (none : Option Nat)) X Y h1 h2 hr (Or.inl ⟨_, rfl⟩) dX14_run_70
  · replace hE := e_f c_2 hE
    refine r_aload_n hx hb dX14_run_58 rfl (lv_at hl 2 rfl) ?_
    refine lv_aload_n hx hb dX14_run_59 rfl (lv_at hl 1 rfl) ?_
    replace hE := e_bind hE
    obtain ⟨v_3, g, hE⟩ := hE
    refine n_gI X Y k_X14 3 g (by decide) q1070 dX14_run_60 ?_
    replace hE := e_bind hE
    obtain ⟨a_4, g, hE⟩ := hE
    subst g
    replace hE := e_bind hE
    obtain ⟨u_7, g, hE⟩ := hE
    obtain ⟨fs9, g9⟩ := i_gC g
    have g7 := a_recv X Y k_X1.1 g9
    replace hE := e_xb hE
    rcases hE with ⟨st_5, r_6, g, hE⟩ | ⟨st_5, k9, g, hE⟩
    rotate_left
    · subst hE
      refine a_callVN (host := "BasicMachine") (n := 1) (C := "BasicMachine") (σ1 := st_5) (σf := st_5) [.int v_3] X Y (maf_X1_line hl0 n g) ⟨oaf_X1_line _ g, aLe.rf _, h1, h2, (by show _ ≤ 342; decide), (by show _ ≤ 10200; decide)⟩ (by decide) q1582 qs45 q122 q1583 (by decide +kernel) g7 rfl hl.1 (Nat.le_of_ble_eq_true rfl) dX14_run_63 (fun v hv => by cases hv) (fun k hk H locs kc ks q9 ce Y e1 e2 e3 => ?_)
      cases hk
      exact a_out X Y h1 h2 (fun z hz => (hex z hz).elim) e1 e2 e3
    have M9 := mo_ret _ hE
    refine a_callVN (host := "BasicMachine") (n := 1) (C := "BasicMachine") (σ1 := st_5) (σf := q.1) [.int v_3] X Y (maf_X1_line hl0 n g) ⟨oaf_X1_line _ g, M9, h1, h2, (by show _ ≤ 342; decide), (by show _ ≤ 10200; decide)⟩ (by decide) q1582 qs45 q122 q1583 (by decide +kernel) g7 rfl hl.1 (Nat.le_of_ble_eq_true rfl) dX14_run_63 (fun v hv H locs kc ks Y => ?_) (fun k hk => by cases hk)
    cases hv
    refine lv_goto (tgt := 70) hx hb dX14_run_66 (by decide) ?_
    cases hE
    exact a_aret (r := r_6) X Y h1 h2 hr (Or.inl ⟨_, rfl⟩) dX14_run_70
set_option maxHeartbeats 4000000 in
set_option maxRecDepth 100000 in
theorem maf_X14_run {l : Launch} (hl0 : l.stackTraces = false) (n : Nat) {x : aP} {st : aS} {a0 : Nat} {p1 : Option Nat} {p2 : Option Nat} {q : aS × ((Option Nat) ⊕ Nat)} (hE : af_X14_run n x.sK st a0 p1 p2 = some q) : aMet l yX14_run (ws_ yX14_run cX14_run 8 (some (.object "BasicMachine$Line"))) 342 10200 x [.ref a0, va_rf p1, va_rf p2] st (oR q.2) q.1 := by
  refine a_ofW (own := "BasicMachine$If") hl0 (by decide) rfl (by simp only [lg_sl, List.flatMap_cons, List.flatMap_nil, va_rf_cat]; exact Nat.le_of_ble_eq_true rfl) (fun mc ms p e s m below meth c ls H locs kc ks h1 h2 X hex Y hr hnm hl => ?_)
  have hnm : "run" = meth.name := hnm
  have hl : lv_has ls 8 [(0, .ref a0), (1, va_rf p1), (2, va_rf p2)] := by simp only [lv_args, va_rf_cat] at hl; exact hl
  have hx := X.1
  have hb := X.2.1
  have hown := X.2.2.2.1
  have hts := X.2.2.2.2.1
  have hK := X.2.2.2.2.2.1
  have hl0 := X.2.2.2.2.2.2.2.2
  unfold af_X14_run at hE
  refine lv_aload_n hx hb dX14_run_0 rfl (lv_at hl 0 rfl) ?_
  replace hE := e_bind hE
  obtain ⟨r_1, g, hE⟩ := hE
  refine n_gR X Y k_X14 0 g (by decide) q1067 dX14_run_1 ?_
  refine r_aload_n hx hb dX14_run_4 rfl (lv_at hl 1 rfl) ?_
  replace hE := e_bind hE
  obtain ⟨a_2, g, hE⟩ := hE
  subst g
  replace hE := e_xb hE
  rcases hE with ⟨st_3, v_4, g, hE⟩ | ⟨st_3, k9, g, hE⟩
  rotate_left
  · subst hE
    refine a_callIf (n := 1) (σ1 := st_3) (σf := st_3) [va_rf p1] X Y (mf_value hl0 n g) ⟨(of_value _ _ _) _ g, aLe.rf _, h1, h2, (by show _ ≤ 342; decide), (by show _ ≤ 10200; decide)⟩ q1598 (by decide +kernel) rfl hl.1 (Nat.le_of_ble_eq_true rfl) dX14_run_5 (fun v hv => by cases hv) (fun k hk H locs kc ks q9 ce Y e1 e2 e3 => ?_)
    cases hk
    exact a_out X Y h1 h2 (fun z hz => (hex z hz).elim) e1 e2 e3
  have M9 := (mo_v fun _ => (mo_v fun _ => (mo_x (of_value _ _ _) fun _ _ => (mo_if (mo_if (oaf_X14_run_L46 ) (oaf_X14_run_L46 )) (oaf_X14_run_L46 ))))) _ hE
  refine a_callIf (n := 1) (σ1 := st_3) (σf := q.1) [va_rf p1] X Y (mf_value hl0 n g) ⟨(of_value _ _ _) _ g, M9, h1, h2, (by show _ ≤ 342; decide), (by show _ ≤ 10200; decide)⟩ q1598 (by decide +kernel) rfl hl.1 (Nat.le_of_ble_eq_true rfl) dX14_run_5 (fun v hv H locs kc ks Y => ?_) (fun k hk => by cases hk)
  cases hv
  refine lv_dstore_n (i := 3) (lv' := [(3, .double v_4), (0, .ref a0), (1, va_rf p1), (2, va_rf p2)]) hx hb dX14_run_10 rfl hl (by decide) (by cases p2 <;> rfl) (fun ls hl => ?_)
  refine lv_aload_n hx hb dX14_run_11 rfl (lv_at hl 1 rfl) ?_
  replace hE := e_bind hE
  obtain ⟨r_5, g, hE⟩ := hE
  refine n_gR X Y k_X14 2 g (by decide) q1069 dX14_run_12 ?_
  refine r_aload_n hx hb dX14_run_15 rfl (lv_at hl 2 rfl) ?_
  replace hE := e_bind hE
  obtain ⟨a_6, g, hE⟩ := hE
  subst g
  replace hE := e_xb hE
  rcases hE with ⟨st_7, v_8, g, hE⟩ | ⟨st_7, k9, g, hE⟩
  rotate_left
  · subst hE
    refine a_callIf (n := 1) (σ1 := st_7) (σf := st_7) [va_rf p1] X Y (mf_value hl0 n g) ⟨(of_value _ _ _) _ g, aLe.rf _, h1, h2, (by show _ ≤ 342; decide), (by show _ ≤ 10200; decide)⟩ q1598 (by decide +kernel) rfl hl.1 (Nat.le_of_ble_eq_true rfl) dX14_run_16 (fun v hv => by cases hv) (fun k hk H locs kc ks q9 ce Y e1 e2 e3 => ?_)
    cases hk
    exact a_out X Y h1 h2 (fun z hz => (hex z hz).elim) e1 e2 e3
  have M9 := (mo_if (mo_if (oaf_X14_run_L46 ) (oaf_X14_run_L46 )) (oaf_X14_run_L46 )) _ hE
  refine a_callIf (n := 1) (σ1 := st_7) (σf := q.1) [va_rf p1] X Y (mf_value hl0 n g) ⟨(of_value _ _ _) _ g, M9, h1, h2, (by show _ ≤ 342; decide), (by show _ ≤ 10200; decide)⟩ q1598 (by decide +kernel) rfl hl.1 (Nat.le_of_ble_eq_true rfl) dX14_run_16 (fun v hv H locs kc ks Y => ?_) (fun k hk => by cases hk)
  cases hv
  refine lv_dstore (lv' := [(5, .double v_8), (3, .double v_4), (0, .ref a0), (1, va_rf p1), (2, va_rf p2)]) hx hb dX14_run_21 hl (by decide) rfl (fun ls hl => ?_)
  refine lv_dload_n hx hb dX14_run_23 rfl (lv_at hl 1 rfl) ?_
  refine lv_dload hx hb dX14_run_24 (lv_at hl 0 rfl) ?_
  refine lv_dcmp hx hb dX14_run_26 ?_
  refine lv_if_ge (tgt := 34) hx hb dX14_run_27 (by decide) (fun c_9 => ?_) (fun c_9 => ?_)
  · replace hE := e_t c_9 hE
    refine lv_dload_n hx hb dX14_run_34 rfl (lv_at hl 1 rfl) ?_
    refine lv_dload hx hb dX14_run_35 (lv_at hl 0 rfl) ?_
    refine lv_dcmp hx hb dX14_run_37 ?_
    refine lv_if_ne (tgt := 45) hx hb dX14_run_38 (by decide) (fun c_10 => ?_) (fun c_10 => ?_)
    · replace hE := e_f c_10 hE
      refine lv_iconst (v := 4) hx hb dX14_run_45 (by decide) ?_
      exact waf_X14_run_L46 X hex hr hnm hE h1 h2 Y (lv_sub hl [2, 3] rfl)
    · replace hE := e_t c_10 hE
      refine lv_iconst (v := 2) hx hb dX14_run_41 (by decide) ?_
      refine lv_goto (tgt := 46) hx hb dX14_run_42 (by decide) ?_
      exact waf_X14_run_L46 X hex hr hnm hE h1 h2 Y (lv_sub hl [2, 3] rfl)
  · replace hE := e_f c_9 hE
    refine lv_iconst (v := 1) hx hb dX14_run_30 (by decide) ?_
    refine lv_goto (tgt := 46) hx hb dX14_run_31 (by decide) ?_
    exact waf_X14_run_L46 X hex hr hnm hE h1 h2 Y (lv_sub hl [2, 3] rfl)
/-! BasicMachine$Element.i()LBasicMachine$Expression; -/
set_option maxHeartbeats 4000000 in
set_option maxRecDepth 100000 in
theorem maf_X11_i {l : Launch} (hl0 : l.stackTraces = false) (n : Nat) {x : aP} {st : aS} {a0 : Nat} {q : aS × (Option Nat)} (hE : af_X11_i n x.sK st a0 = some q) : aMet l yX11_i (ws_ yX11_i cX11_i 1 (some (.object "BasicMachine$Expression"))) 0 0 x [.ref a0] st (.inl (some (va_rf q.2))) q.1 := by
  refine a_ofW (own := "BasicMachine$Element") hl0 (by decide) rfl (Nat.le_of_ble_eq_true rfl) (fun mc ms p e s m below meth c ls H locs kc ks h1 h2 X hex Y hr hnm hl => ?_)
  have hnm : "i" = meth.name := hnm
  have hl : lv_has ls 1 [(0, .ref a0)] := hl
  have hx := X.1
  have hb := X.2.1
  have hown := X.2.2.2.1
  have hts := X.2.2.2.2.1
  have hK := X.2.2.2.2.2.1
  have hl0 := X.2.2.2.2.2.2.2.2
  unfold af_X11_i at hE
  refine lv_aload_n hx hb dX11_i_0 rfl (lv_at hl 0 rfl) ?_
  replace hE := e_bind hE
  obtain ⟨r_1, g, hE⟩ := hE
  refine n_gR X Y k_X11 1 g (by decide) q1013 dX11_i_1 ?_
  cases hE
  exact a_aret (r := r_1) X Y h1 h2 hr (Or.inl ⟨_, rfl⟩) dX11_i_4
/-! BasicMachine$Element.j()LBasicMachine$Expression; -/
set_option maxHeartbeats 4000000 in
set_option maxRecDepth 100000 in
theorem maf_X11_j {l : Launch} (hl0 : l.stackTraces = false) (n : Nat) {x : aP} {st : aS} {a0 : Nat} {q : aS × (Option Nat)} (hE : af_X11_j n x.sK st a0 = some q) : aMet l yX11_j (ws_ yX11_j cX11_j 1 (some (.object "BasicMachine$Expression"))) 0 0 x [.ref a0] st (.inl (some (va_rf q.2))) q.1 := by
  refine a_ofW (own := "BasicMachine$Element") hl0 (by decide) rfl (Nat.le_of_ble_eq_true rfl) (fun mc ms p e s m below meth c ls H locs kc ks h1 h2 X hex Y hr hnm hl => ?_)
  have hnm : "j" = meth.name := hnm
  have hl : lv_has ls 1 [(0, .ref a0)] := hl
  have hx := X.1
  have hb := X.2.1
  have hown := X.2.2.2.1
  have hts := X.2.2.2.2.1
  have hK := X.2.2.2.2.2.1
  have hl0 := X.2.2.2.2.2.2.2.2
  unfold af_X11_j at hE
  refine lv_aload_n hx hb dX11_j_0 rfl (lv_at hl 0 rfl) ?_
  replace hE := e_bind hE
  obtain ⟨r_1, g, hE⟩ := hE
  refine n_gR X Y k_X11 2 g (by decide) q1014 dX11_j_1 ?_
  cases hE
  exact a_aret (r := r_1) X Y h1 h2 hr (Or.inl ⟨_, rfl⟩) dX11_j_4
/-! BasicMachine$Element.matrix()I -/
set_option maxHeartbeats 4000000 in
set_option maxRecDepth 100000 in
theorem maf_X11_matrix {l : Launch} (hl0 : l.stackTraces = false) (n : Nat) {x : aP} {st : aS} {a0 : Nat} {q : aS × (Int32)} (hE : af_X11_matrix n x.sK st a0 = some q) : aMet l yX11_matrix (ws_ yX11_matrix cX11_matrix 1 (some .int)) 0 0 x [.ref a0] st (.inl (some (.int q.2))) q.1 := by
  refine a_ofW (own := "BasicMachine$Element") hl0 (by decide) rfl (Nat.le_of_ble_eq_true rfl) (fun mc ms p e s m below meth c ls H locs kc ks h1 h2 X hex Y hr hnm hl => ?_)
  have hnm : "matrix" = meth.name := hnm
  have hl : lv_has ls 1 [(0, .ref a0)] := hl
  have hx := X.1
  have hb := X.2.1
  have hown := X.2.2.2.1
  have hts := X.2.2.2.2.1
  have hK := X.2.2.2.2.2.1
  have hl0 := X.2.2.2.2.2.2.2.2
  unfold af_X11_matrix at hE
  refine lv_aload_n hx hb dX11_matrix_0 rfl (lv_at hl 0 rfl) ?_
  replace hE := e_bind hE
  obtain ⟨v_1, g, hE⟩ := hE
  refine n_gI X Y k_X11 0 g (by decide) q1012 dX11_matrix_1 ?_
  cases hE
  exact a_iret X Y h1 h2 hr dX11_matrix_4
/-! BasicMachine$Place.find(LBasicMachine;)J -/
set_option maxHeartbeats 4000000 in
set_option maxRecDepth 100000 in
theorem maf_X5_find {l : Launch} (hl0 : l.stackTraces = false) (n : Nat) {x : aP} {st : aS} {a0 : Nat} {p1 : Option Nat} {q : aS × ((Int64) ⊕ Nat)} (hE : af_X5_find n x.sK st a0 p1 = some q) : aMet l yX5_find (ws_ yX5_find cX5_find 6 (some .long)) 313 9731 x [.ref a0, va_rf p1] st (oJ q.2) q.1 := by
  refine a_ofW (own := "BasicMachine$Place") hl0 (by decide) rfl (by simp only [lg_sl, List.flatMap_cons, List.flatMap_nil, va_rf_cat]; exact Nat.le_of_ble_eq_true rfl) (fun mc ms p e s m below meth c ls H locs kc ks h1 h2 X hex Y hr hnm hl => ?_)
  have hnm : "find" = meth.name := hnm
  have hl : lv_has ls 6 [(0, .ref a0), (1, va_rf p1)] := by simp only [lv_args, va_rf_cat] at hl; exact hl
  have hx := X.1
  have hb := X.2.1
  have hown := X.2.2.2.1
  have hts := X.2.2.2.2.1
  have hK := X.2.2.2.2.2.1
  have hl0 := X.2.2.2.2.2.2.2.2
  unfold af_X5_find at hE
  refine lv_aload_n hx hb dX5_find_0 rfl (lv_at hl 0 rfl) ?_
  replace hE := e_bind hE
  obtain ⟨r_1, g, hE⟩ := hE
  refine n_gR X Y k_X5 1 g (by decide) q1027 dX5_find_1 ?_
  refine r_ifnonnull (tgt := 9) hx hb dX5_find_4 (by decide) (fun c_2 => ?_) (fun c_2 => ?_)
  · replace hE := e_f c_2 hE
    refine lv_aload_n hx hb dX5_find_9 rfl (lv_at hl 0 rfl) ?_
    replace hE := e_bind hE
    obtain ⟨r_3, g, hE⟩ := hE
    refine n_gR X Y k_X5 1 g (by decide) q1027 dX5_find_10 ?_
    replace hE := e_bind hE
    obtain ⟨a_4, g, hE⟩ := hE
    subst g
    replace hE := e_bind hE
    obtain ⟨u_7, g, hE⟩ := hE
    obtain ⟨fs9, g9⟩ := i_gC g
    have g7 := a_recv X Y k_X11.1 g9
    replace hE := e_cb hE
    obtain ⟨st_5, r_6, g, hE⟩ := hE
    have M9 := (mo_v fun _ => (mo_x (of_value _ _ _) fun _ _ => (mo_cb oaf_X1_whole fun _ _ => (mo_v fun _ => (mo_v fun _ => (mo_v fun _ => (mo_cb oaf_X11_j fun _ _ => (mo_v fun _ => (mo_x (of_value _ _ _) fun _ _ => (mo_cb oaf_X1_whole fun _ _ => (mo_v fun _ => (mo_v fun _ => (mo_v fun _ => (mo_cb oaf_X11_matrix fun _ _ => (mo_v fun _ => (mo_v fun _ => (mo_x oaf_X1_matrix fun _ _ => (mo_v fun _ => (mo_v fun _ => (mo_x oaf_X28_check fun _ _ => mo_ret)))))))))))))))))))) _ hE
    refine a_callV (n := 0) (C := "BasicMachine$Element") (σ1 := st_5) (σf := q.1) [] X Y (maf_X11_i hl0 n g) ⟨oaf_X11_i _ g, M9, h1, h2, (by show _ ≤ 313; decide), (by show _ ≤ 9731; decide)⟩ q1610 q1611 q1612 q150 q1613 (by decide +kernel) g7 rfl hl.1 (Nat.le_of_ble_eq_true rfl) dX5_find_13 (fun v hv H locs kc ks Y => ?_) (fun k hk => by cases hk)
    cases hv
    refine r_aload_n hx hb dX5_find_16 rfl (lv_at hl 1 rfl) ?_
    replace hE := e_bind hE
    obtain ⟨a_8, g, hE⟩ := hE
    subst g
    replace hE := e_xb hE
    rcases hE with ⟨st_9, v_10, g, hE⟩ | ⟨st_9, k9, g, hE⟩
    rotate_left
    · subst hE
      refine a_callIf (n := 1) (σ1 := st_9) (σf := st_9) [va_rf p1] X Y (mf_value hl0 n g) ⟨(of_value _ _ _) _ g, aLe.rf _, h1, h2, (by show _ ≤ 313; decide), (by show _ ≤ 9731; decide)⟩ q1615 (by decide +kernel) rfl hl.1 (Nat.le_of_ble_eq_true rfl) dX5_find_17 (fun v hv => by cases hv) (fun k hk H locs kc ks q9 ce Y e1 e2 e3 => ?_)
      cases hk
      exact a_out X Y h1 h2 (fun z hz => (hex z hz).elim) e1 e2 e3
    have M9 := (mo_cb oaf_X1_whole fun _ _ => (mo_v fun _ => (mo_v fun _ => (mo_v fun _ => (mo_cb oaf_X11_j fun _ _ => (mo_v fun _ => (mo_x (of_value _ _ _) fun _ _ => (mo_cb oaf_X1_whole fun _ _ => (mo_v fun _ => (mo_v fun _ => (mo_v fun _ => (mo_cb oaf_X11_matrix fun _ _ => (mo_v fun _ => (mo_v fun _ => (mo_x oaf_X1_matrix fun _ _ => (mo_v fun _ => (mo_v fun _ => (mo_x oaf_X28_check fun _ _ => mo_ret)))))))))))))))))) _ hE
    refine a_callIf (n := 1) (σ1 := st_9) (σf := q.1) [va_rf p1] X Y (mf_value hl0 n g) ⟨(of_value _ _ _) _ g, M9, h1, h2, (by show _ ≤ 313; decide), (by show _ ≤ 9731; decide)⟩ q1615 (by decide +kernel) rfl hl.1 (Nat.le_of_ble_eq_true rfl) dX5_find_17 (fun v hv H locs kc ks Y => ?_) (fun k hk => by cases hk)
    cases hv
    replace hE := e_cb hE
    obtain ⟨st_11, v_12, g, hE⟩ := hE
    have M9 := (mo_v fun _ => (mo_v fun _ => (mo_v fun _ => (mo_cb oaf_X11_j fun _ _ => (mo_v fun _ => (mo_x (of_value _ _ _) fun _ _ => (mo_cb oaf_X1_whole fun _ _ => (mo_v fun _ => (mo_v fun _ => (mo_v fun _ => (mo_cb oaf_X11_matrix fun _ _ => (mo_v fun _ => (mo_v fun _ => (mo_x oaf_X1_matrix fun _ _ => (mo_v fun _ => (mo_v fun _ => (mo_x oaf_X28_check fun _ _ => mo_ret))))))))))))))))) _ hE
    refine a_callSN (host := "BasicMachine") (n := 1) (σ1 := st_11) (σf := q.1) [.double v_10] X Y (maf_X1_whole hl0 n g) ⟨oaf_X1_whole _ g, M9, h1, h2, (by show _ ≤ 313; decide), (by show _ ≤ 9731; decide)⟩ (by decide) q1461 q122 q1462 (by decide +kernel) rfl hl.1 (Nat.le_of_ble_eq_true rfl) dX5_find_22 (fun v hv H locs kc ks Y => ?_) (fun k hk => by cases hk)
    cases hv
    refine lv_lstore_n (i := 2) (lv' := [(2, .long v_12), (0, .ref a0), (1, va_rf p1)]) hx hb dX5_find_25 rfl hl (by decide) (by cases p1 <;> rfl) (fun ls hl => ?_)
    refine lv_aload_n hx hb dX5_find_26 rfl (lv_at hl 1 rfl) ?_
    replace hE := e_bind hE
    obtain ⟨r_13, g, hE⟩ := hE
    refine n_gR X Y k_X5 1 g (by decide) q1027 dX5_find_27 ?_
    replace hE := e_bind hE
    obtain ⟨a_14, g, hE⟩ := hE
    subst g
    replace hE := e_bind hE
    obtain ⟨u_17, g, hE⟩ := hE
    obtain ⟨fs9, g9⟩ := i_gC g
    have g7 := a_recv X Y k_X11.1 g9
    replace hE := e_cb hE
    obtain ⟨st_15, r_16, g, hE⟩ := hE
    have M9 := (mo_v fun _ => (mo_x (of_value _ _ _) fun _ _ => (mo_cb oaf_X1_whole fun _ _ => (mo_v fun _ => (mo_v fun _ => (mo_v fun _ => (mo_cb oaf_X11_matrix fun _ _ => (mo_v fun _ => (mo_v fun _ => (mo_x oaf_X1_matrix fun _ _ => (mo_v fun _ => (mo_v fun _ => (mo_x oaf_X28_check fun _ _ => mo_ret))))))))))))) _ hE
    refine a_callV (n := 0) (C := "BasicMachine$Element") (σ1 := st_15) (σf := q.1) [] X Y (maf_X11_j hl0 n g) ⟨oaf_X11_j _ g, M9, h1, h2, (by show _ ≤ 313; decide), (by show _ ≤ 9731; decide)⟩ q1617 q1618 q1619 q150 q1620 (by decide +kernel) g7 rfl hl.1 (Nat.le_of_ble_eq_true rfl) dX5_find_30 (fun v hv H locs kc ks Y => ?_) (fun k hk => by cases hk)
    cases hv
    refine r_aload_n hx hb dX5_find_33 rfl (lv_at hl 2 rfl) ?_
    replace hE := e_bind hE
    obtain ⟨a_18, g, hE⟩ := hE
    subst g
    replace hE := e_xb hE
    rcases hE with ⟨st_19, v_20, g, hE⟩ | ⟨st_19, k9, g, hE⟩
    rotate_left
    · subst hE
      refine a_callIf (n := 1) (σ1 := st_19) (σf := st_19) [va_rf p1] X Y (mf_value hl0 n g) ⟨(of_value _ _ _) _ g, aLe.rf _, h1, h2, (by show _ ≤ 313; decide), (by show _ ≤ 9731; decide)⟩ q1615 (by decide +kernel) rfl hl.1 (Nat.le_of_ble_eq_true rfl) dX5_find_34 (fun v hv => by cases hv) (fun k hk H locs kc ks q9 ce Y e1 e2 e3 => ?_)
      cases hk
      exact a_out X Y h1 h2 (fun z hz => (hex z hz).elim) e1 e2 e3
    have M9 := (mo_cb oaf_X1_whole fun _ _ => (mo_v fun _ => (mo_v fun _ => (mo_v fun _ => (mo_cb oaf_X11_matrix fun _ _ => (mo_v fun _ => (mo_v fun _ => (mo_x oaf_X1_matrix fun _ _ => (mo_v fun _ => (mo_v fun _ => (mo_x oaf_X28_check fun _ _ => mo_ret))))))))))) _ hE
    refine a_callIf (n := 1) (σ1 := st_19) (σf := q.1) [va_rf p1] X Y (mf_value hl0 n g) ⟨(of_value _ _ _) _ g, M9, h1, h2, (by show _ ≤ 313; decide), (by show _ ≤ 9731; decide)⟩ q1615 (by decide +kernel) rfl hl.1 (Nat.le_of_ble_eq_true rfl) dX5_find_34 (fun v hv H locs kc ks Y => ?_) (fun k hk => by cases hk)
    cases hv
    replace hE := e_cb hE
    obtain ⟨st_21, v_22, g, hE⟩ := hE
    have M9 := (mo_v fun _ => (mo_v fun _ => (mo_v fun _ => (mo_cb oaf_X11_matrix fun _ _ => (mo_v fun _ => (mo_v fun _ => (mo_x oaf_X1_matrix fun _ _ => (mo_v fun _ => (mo_v fun _ => (mo_x oaf_X28_check fun _ _ => mo_ret)))))))))) _ hE
    refine a_callSN (host := "BasicMachine") (n := 1) (σ1 := st_21) (σf := q.1) [.double v_20] X Y (maf_X1_whole hl0 n g) ⟨oaf_X1_whole _ g, M9, h1, h2, (by show _ ≤ 313; decide), (by show _ ≤ 9731; decide)⟩ (by decide) q1461 q122 q1462 (by decide +kernel) rfl hl.1 (Nat.le_of_ble_eq_true rfl) dX5_find_39 (fun v hv H locs kc ks Y => ?_) (fun k hk => by cases hk)
    cases hv
    refine lv_lstore (lv' := [(4, .long v_22), (2, .long v_12), (0, .ref a0), (1, va_rf p1)]) hx hb dX5_find_42 hl (by decide) rfl (fun ls hl => ?_)
    refine r_aload_n hx hb dX5_find_44 rfl (lv_at hl 3 rfl) ?_
    refine lv_aload_n hx hb dX5_find_45 rfl (lv_at hl 2 rfl) ?_
    replace hE := e_bind hE
    obtain ⟨r_23, g, hE⟩ := hE
    refine n_gR X Y k_X5 1 g (by decide) q1027 dX5_find_46 ?_
    replace hE := e_bind hE
    obtain ⟨a_24, g, hE⟩ := hE
    subst g
    replace hE := e_bind hE
    obtain ⟨u_27, g, hE⟩ := hE
    obtain ⟨fs9, g9⟩ := i_gC g
    have g7 := a_recv X Y k_X11.1 g9
    replace hE := e_cb hE
    obtain ⟨st_25, v_26, g, hE⟩ := hE
    have M9 := (mo_v fun _ => (mo_v fun _ => (mo_x oaf_X1_matrix fun _ _ => (mo_v fun _ => (mo_v fun _ => (mo_x oaf_X28_check fun _ _ => mo_ret)))))) _ hE
    refine a_callV (n := 0) (C := "BasicMachine$Element") (σ1 := st_25) (σf := q.1) [] X Y (maf_X11_matrix hl0 n g) ⟨oaf_X11_matrix _ g, M9, h1, h2, (by show _ ≤ 313; decide), (by show _ ≤ 9731; decide)⟩ q1621 q1622 q1623 q150 q1624 (by decide +kernel) g7 rfl hl.1 (by simp only [List.map_cons, List.map_nil, va_rf_cat]; exact Nat.le_of_ble_eq_true rfl) dX5_find_49 (fun v hv H locs kc ks Y => ?_) (fun k hk => by cases hk)
    cases hv
    replace hE := e_bind hE
    obtain ⟨a_28, g, hE⟩ := hE
    subst g
    replace hE := e_bind hE
    obtain ⟨u_31, g, hE⟩ := hE
    obtain ⟨fs9, g9⟩ := i_gC g
    have g7 := a_recv X Y k_X1.1 g9
    replace hE := e_xb hE
    rcases hE with ⟨st_29, r_30, g, hE⟩ | ⟨st_29, k9, g, hE⟩
    rotate_left
    · subst hE
      refine a_callVN (host := "BasicMachine") (n := 1) (C := "BasicMachine") (σ1 := st_29) (σf := st_29) [.int v_26] X Y (maf_X1_matrix hl0 n g) ⟨oaf_X1_matrix _ g, aLe.rf _, h1, h2, (by show _ ≤ 313; decide), (by show _ ≤ 9731; decide)⟩ (by decide) q1487 qs39 q122 q1488 (by decide +kernel) g7 rfl hl.1 (Nat.le_of_ble_eq_true rfl) dX5_find_52 (fun v hv => by cases hv) (fun k hk H locs kc ks q9 ce Y e1 e2 e3 => ?_)
      cases hk
      exact a_out X Y h1 h2 (fun z hz => (hex z hz).elim) e1 e2 e3
    have M9 := (mo_v fun _ => (mo_v fun _ => (mo_x oaf_X28_check fun _ _ => mo_ret))) _ hE
    refine a_callVN (host := "BasicMachine") (n := 1) (C := "BasicMachine") (σ1 := st_29) (σf := q.1) [.int v_26] X Y (maf_X1_matrix hl0 n g) ⟨oaf_X1_matrix _ g, M9, h1, h2, (by show _ ≤ 313; decide), (by show _ ≤ 9731; decide)⟩ (by decide) q1487 qs39 q122 q1488 (by decide +kernel) g7 rfl hl.1 (Nat.le_of_ble_eq_true rfl) dX5_find_52 (fun v hv H locs kc ks Y => ?_) (fun k hk => by cases hk)
    cases hv
    refine lv_lload_n hx hb dX5_find_55 rfl (lv_at hl 1 rfl) ?_
    refine lv_lload hx hb dX5_find_56 (lv_at hl 0 rfl) ?_
    replace hE := e_bind hE
    obtain ⟨a_32, g, hE⟩ := hE
    subst g
    replace hE := e_bind hE
    obtain ⟨u_35, g, hE⟩ := hE
    obtain ⟨fs9, g9⟩ := i_gC g
    have g7 := a_recv X Y k_X28.1 g9
    replace hE := e_xb hE
    rcases hE with ⟨st_33, u_34, g, hE⟩ | ⟨st_33, k9, g, hE⟩
    rotate_left
    · subst hE
      refine a_callVN (host := "BasicMachine") (n := 2) (C := "BasicMachine$Matrix") (σ1 := st_33) (σf := st_33) [.long v_12, .long v_22] X Y (maf_X28_check hl0 n g) ⟨oaf_X28_check _ g, aLe.rf _, h1, h2, (by show _ ≤ 313; decide), (by show _ ≤ 9731; decide)⟩ (by decide) q1509 qs40 q171 q1510 (by decide +kernel) g7 rfl hl.1 (Nat.le_of_ble_eq_true rfl) dX5_find_58 (fun v hv => by cases hv) (fun k hk H locs kc ks q9 ce Y e1 e2 e3 => ?_)
      cases hk
      exact a_out X Y h1 h2 (fun z hz => (hex z hz).elim) e1 e2 e3
    have M9 := mo_ret _ hE
    refine a_callVN (host := "BasicMachine") (n := 2) (C := "BasicMachine$Matrix") (σ1 := st_33) (σf := q.1) [.long v_12, .long v_22] X Y (maf_X28_check hl0 n g) ⟨oaf_X28_check _ g, M9, h1, h2, (by show _ ≤ 313; decide), (by show _ ≤ 9731; decide)⟩ (by decide) q1509 qs40 q171 q1510 (by decide +kernel) g7 rfl hl.1 (Nat.le_of_ble_eq_true rfl) dX5_find_58 (fun v hv H locs kc ks Y => ?_) (fun k hk => by cases hk)
    cases hv
    refine lv_ldc2 (v := (8 : Int64)) hx hb hown (hts _ q1627) dX5_find_61 ?_
    refine lv_lload_n hx hb dX5_find_64 rfl (lv_at hl 1 rfl) ?_
    refine lv_lmul hx hb dX5_find_65 ?_
    refine lv_lload hx hb dX5_find_66 (lv_at hl 0 rfl) ?_
    refine lv_ladd hx hb dX5_find_68 ?_
    cases hE
    exact a_lret X Y h1 h2 hr dX5_find_69
  · replace hE := e_t c_2 hE
    refine lv_lconst (v := 0) hx hb dX5_find_7 (by decide) ?_
    cases hE
    exact a_lret X Y h1 h2 hr dX5_find_8
/-! BasicMachine$Variable.s()I -/
set_option maxHeartbeats 4000000 in
set_option maxRecDepth 100000 in
theorem maf_X9_s {l : Launch} (hl0 : l.stackTraces = false) (n : Nat) {x : aP} {st : aS} {a0 : Nat} {q : aS × (Int32)} (hE : af_X9_s n x.sK st a0 = some q) : aMet l yX9_s (ws_ yX9_s cX9_s 1 (some .int)) 0 0 x [.ref a0] st (.inl (some (.int q.2))) q.1 := by
  refine a_ofW (own := "BasicMachine$Variable") hl0 (by decide) rfl (Nat.le_of_ble_eq_true rfl) (fun mc ms p e s m below meth c ls H locs kc ks h1 h2 X hex Y hr hnm hl => ?_)
  have hnm : "s" = meth.name := hnm
  have hl : lv_has ls 1 [(0, .ref a0)] := hl
  have hx := X.1
  have hb := X.2.1
  have hown := X.2.2.2.1
  have hts := X.2.2.2.2.1
  have hK := X.2.2.2.2.2.1
  have hl0 := X.2.2.2.2.2.2.2.2
  unfold af_X9_s at hE
  refine lv_aload_n hx hb dX9_s_0 rfl (lv_at hl 0 rfl) ?_
  replace hE := e_bind hE
  obtain ⟨v_1, g, hE⟩ := hE
  refine n_gI X Y k_X9 0 g (by decide) q986 dX9_s_1 ?_
  cases hE
  exact a_iret X Y h1 h2 hr dX9_s_4
/-! BasicMachine$Place.put(LBasicMachine;JD)V -/
set_option maxHeartbeats 4000000 in
set_option maxRecDepth 100000 in
theorem maf_X5_put {l : Launch} (hl0 : l.stackTraces = false) (n : Nat) {x : aP} {st : aS} {a0 : Nat} {p1 : Option Nat} {p2 : Int64} {p4 : UInt64} {q : aS × Unit} (hE : af_X5_put n x.sK st a0 p1 p2 p4 = some q) : aMet l yX5_put (ws_ yX5_put cX5_put 6 none) 1 20 x [.ref a0, va_rf p1, .long p2, .double p4] st (.inl none) q.1 := by
  refine a_ofW (own := "BasicMachine$Place") hl0 (by decide) rfl (by simp only [lg_sl, List.flatMap_cons, List.flatMap_nil, va_rf_cat]; exact Nat.le_of_ble_eq_true rfl) (fun mc ms p e s m below meth c ls H locs kc ks h1 h2 X hex Y hr hnm hl => ?_)
  have hnm : "put" = meth.name := hnm
  have hl : lv_has ls 6 [(0, .ref a0), (1, va_rf p1), (2, .long p2), (4, .double p4)] := by simp only [lv_args, va_rf_cat] at hl; exact hl
  have hx := X.1
  have hb := X.2.1
  have hown := X.2.2.2.1
  have hts := X.2.2.2.2.1
  have hK := X.2.2.2.2.2.1
  have hl0 := X.2.2.2.2.2.2.2.2
  unfold af_X5_put at hE
  refine lv_aload_n hx hb dX5_put_0 rfl (lv_at hl 0 rfl) ?_
  replace hE := e_bind hE
  obtain ⟨r_1, g, hE⟩ := hE
  refine n_gR X Y k_X5 1 g (by decide) q1027 dX5_put_1 ?_
  refine r_ifnonnull (tgt := 24) hx hb dX5_put_4 (by decide) (fun c_2 => ?_) (fun c_2 => ?_)
  · replace hE := e_f c_2 hE
    refine r_aload_n hx hb dX5_put_24 rfl (lv_at hl 1 rfl) ?_
    replace hE := e_bind hE
    obtain ⟨a_3, g, hE⟩ := hE
    subst g
    replace hE := e_bind hE
    obtain ⟨r_4, g, hE⟩ := hE
    refine n_gRN (host := "BasicMachine") X Y k_X1 6 g (by decide) (by decide) dX5_put_25 ?_
    refine lv_aload_n hx hb dX5_put_28 rfl (lv_at hl 0 rfl) ?_
    replace hE := e_bind hE
    obtain ⟨r_5, g, hE⟩ := hE
    refine n_gR X Y k_X5 1 g (by decide) q1027 dX5_put_29 ?_
    replace hE := e_bind hE
    obtain ⟨a_6, g, hE⟩ := hE
    subst g
    replace hE := e_bind hE
    obtain ⟨u_9, g, hE⟩ := hE
    obtain ⟨fs9, g9⟩ := i_gC g
    have g7 := a_recv X Y k_X11.1 g9
    replace hE := e_cb hE
    obtain ⟨st_7, v_8, g, hE⟩ := hE
    have M9 := (mo_v fun _ => (mo_v fun _ => (mo_v fun _ => (mo_v fun _ => (mo_v fun _ => (mo_v fun _ => (mo_v fun _ => (mo_s (fun _ => le_wD) fun _ => mo_ret)))))))) _ hE
    refine a_callV (n := 0) (C := "BasicMachine$Element") (σ1 := st_7) (σf := q.1) [] X Y (maf_X11_matrix hl0 n g) ⟨oaf_X11_matrix _ g, M9, h1, h2, (by show _ ≤ 1; decide), (by show _ ≤ 20; decide)⟩ q1621 q1622 q1623 q150 q1624 (by decide +kernel) g7 rfl hl.1 (by simp only [List.map_cons, List.map_nil, va_rf_cat]; exact Nat.le_of_ble_eq_true rfl) dX5_put_32 (fun v hv H locs kc ks Y => ?_) (fun k hk => by cases hk)
    cases hv
    replace hE := e_bind hE
    obtain ⟨a_10, g, hE⟩ := hE
    subst g
    replace hE := e_bind hE
    obtain ⟨r_11, g, hE⟩ := hE
    refine a_aald X Y (by decide) rfl g dX5_put_35 ?_
    replace hE := e_bind hE
    obtain ⟨a_12, g, hE⟩ := hE
    subst g
    replace hE := e_bind hE
    obtain ⟨r_13, g, hE⟩ := hE
    refine n_gR X Y k_X28 0 g (by decide) q1384 dX5_put_36 ?_
    refine lv_lload_n hx hb dX5_put_39 rfl (lv_at hl 2 rfl) ?_
    refine lv_ldc2 (v := (8 : Int64)) hx hb hown (hts _ q1627) dX5_put_40 ?_
    refine lv_ldiv hx hb dX5_put_43 (by decide) ?_
    refine lv_l2i hx hb dX5_put_44 rfl ?_
    refine lv_iconst (v := 1) hx hb dX5_put_45 (by decide) ?_
    refine lv_isub hx hb dX5_put_46 ?_
    replace hE := e_bind hE
    obtain ⟨a_14, g, hE⟩ := hE
    subst g
    replace hE := e_bind hE
    obtain ⟨r_15, g, hE⟩ := hE
    refine a_aald X Y (by decide) rfl g dX5_put_47 ?_
    refine lv_lload_n hx hb dX5_put_48 rfl (lv_at hl 2 rfl) ?_
    refine lv_ldc2 (v := (8 : Int64)) hx hb hown (hts _ q1627) dX5_put_49 ?_
    refine lv_lrem hx hb dX5_put_52 (by decide) ?_
    refine lv_l2i hx hb dX5_put_53 rfl ?_
    refine lv_iconst (v := 1) hx hb dX5_put_54 (by decide) ?_
    refine lv_isub hx hb dX5_put_55 ?_
    refine lv_dload hx hb dX5_put_56 (lv_at hl 3 rfl) ?_
    replace hE := e_bind hE
    obtain ⟨a_16, g, hE⟩ := hE
    subst g
    replace hE := e_bind hE
    obtain ⟨st_17, g, hE⟩ := hE
    refine a_dast X Y g dX5_put_58 (fun H locs Y => ?_)
    cases hE
    exact a_vret X Y h1 h2 hr dX5_put_59
  · replace hE := e_t c_2 hE
    refine r_aload_n hx hb dX5_put_7 rfl (lv_at hl 1 rfl) ?_
    replace hE := e_bind hE
    obtain ⟨a_18, g, hE⟩ := hE
    subst g
    replace hE := e_bind hE
    obtain ⟨r_19, g, hE⟩ := hE
    refine n_gRN (host := "BasicMachine") X Y k_X1 5 g (by decide) (by decide) dX5_put_8 ?_
    refine lv_aload_n hx hb dX5_put_11 rfl (lv_at hl 0 rfl) ?_
    replace hE := e_bind hE
    obtain ⟨r_20, g, hE⟩ := hE
    refine n_gR X Y k_X5 0 g (by decide) q1026 dX5_put_12 ?_
    replace hE := e_bind hE
    obtain ⟨a_21, g, hE⟩ := hE
    subst g
    replace hE := e_bind hE
    obtain ⟨u_24, g, hE⟩ := hE
    obtain ⟨fs9, g9⟩ := i_gC g
    have g7 := a_recv X Y k_X9.1 g9
    replace hE := e_cb hE
    obtain ⟨st_22, v_23, g, hE⟩ := hE
    have M9 := (mo_v fun _ => (mo_s (fun _ => le_wD) fun _ => mo_ret)) _ hE
    refine a_callV (n := 0) (C := "BasicMachine$Variable") (σ1 := st_22) (σf := q.1) [] X Y (maf_X9_s hl0 n g) ⟨oaf_X9_s _ g, M9, h1, h2, (by show _ ≤ 1; decide), (by show _ ≤ 20; decide)⟩ q1634 q1635 q1636 q148 q1637 (by decide +kernel) g7 rfl hl.1 (by simp only [List.map_cons, List.map_nil, va_rf_cat]; exact Nat.le_of_ble_eq_true rfl) dX5_put_15 (fun v hv H locs kc ks Y => ?_) (fun k hk => by cases hk)
    cases hv
    refine lv_dload hx hb dX5_put_18 (lv_at hl 3 rfl) ?_
    replace hE := e_bind hE
    obtain ⟨a_25, g, hE⟩ := hE
    subst g
    replace hE := e_bind hE
    obtain ⟨st_26, g, hE⟩ := hE
    refine a_dast X Y g dX5_put_20 (fun H locs Y => ?_)
    refine lv_goto (tgt := 59) hx hb dX5_put_21 (by decide) ?_
    cases hE
    exact a_vret X Y h1 h2 hr dX5_put_59
/-! BasicMachine$Let.run(LBasicMachine;LBasicMachine$Line;)LBasicMachine$Line; -/
set_option maxHeartbeats 4000000 in
set_option maxRecDepth 100000 in
theorem maf_X12_run {l : Launch} (hl0 : l.stackTraces = false) (n : Nat) {x : aP} {st : aS} {a0 : Nat} {p1 : Option Nat} {p2 : Option Nat} {q : aS × ((Option Nat) ⊕ Nat)} (hE : af_X12_run n x.sK st a0 p1 p2 = some q) : aMet l yX12_run (ws_ yX12_run cX12_run 5 (some (.object "BasicMachine$Line"))) 342 10200 x [.ref a0, va_rf p1, va_rf p2] st (oR q.2) q.1 := by
  refine a_ofW (own := "BasicMachine$Let") hl0 (by decide) rfl (by simp only [lg_sl, List.flatMap_cons, List.flatMap_nil, va_rf_cat]; exact Nat.le_of_ble_eq_true rfl) (fun mc ms p e s m below meth c ls H locs kc ks h1 h2 X hex Y hr hnm hl => ?_)
  have hnm : "run" = meth.name := hnm
  have hl : lv_has ls 5 [(0, .ref a0), (1, va_rf p1), (2, va_rf p2)] := by simp only [lv_args, va_rf_cat] at hl; exact hl
  have hx := X.1
  have hb := X.2.1
  have hown := X.2.2.2.1
  have hts := X.2.2.2.2.1
  have hK := X.2.2.2.2.2.1
  have hl0 := X.2.2.2.2.2.2.2.2
  unfold af_X12_run at hE
  refine lv_aload_n hx hb dX12_run_0 rfl (lv_at hl 0 rfl) ?_
  replace hE := e_bind hE
  obtain ⟨r_1, g, hE⟩ := hE
  refine n_gR X Y k_X12 0 g (by decide) q1039 dX12_run_1 ?_
  refine r_aload_n hx hb dX12_run_4 rfl (lv_at hl 1 rfl) ?_
  replace hE := e_bind hE
  obtain ⟨a_2, g, hE⟩ := hE
  subst g
  replace hE := e_bind hE
  obtain ⟨u_5, g, hE⟩ := hE
  obtain ⟨fs9, g9⟩ := i_gC g
  have g7 := a_recv X Y k_X5.1 g9
  replace hE := e_xb hE
  rcases hE with ⟨st_3, v_4, g, hE⟩ | ⟨st_3, k9, g, hE⟩
  rotate_left
  · subst hE
    refine a_callV (n := 1) (C := "BasicMachine$Place") (σ1 := st_3) (σf := st_3) [va_rf p1] X Y (maf_X5_find hl0 n g) ⟨oaf_X5_find _ g, aLe.rf _, h1, h2, (by show _ ≤ 342; decide), (by show _ ≤ 10200; decide)⟩ q1606 q1607 q1608 q144 q1609 (by decide +kernel) g7 rfl hl.1 (Nat.le_of_ble_eq_true rfl) dX12_run_5 (fun v hv => by cases hv) (fun k hk H locs kc ks q9 ce Y e1 e2 e3 => ?_)
    cases hk
    exact a_out X Y h1 h2 (fun z hz => (hex z hz).elim) e1 e2 e3
  have M9 := (mo_v fun _ => (mo_v fun _ => (mo_v fun _ => (mo_x (of_value _ _ _) fun _ _ => (mo_v fun _ => (mo_v fun _ => (mo_cb oaf_X5_put fun _ _ => mo_ret))))))) _ hE
  refine a_callV (n := 1) (C := "BasicMachine$Place") (σ1 := st_3) (σf := q.1) [va_rf p1] X Y (maf_X5_find hl0 n g) ⟨oaf_X5_find _ g, M9, h1, h2, (by show _ ≤ 342; decide), (by show _ ≤ 10200; decide)⟩ q1606 q1607 q1608 q144 q1609 (by decide +kernel) g7 rfl hl.1 (Nat.le_of_ble_eq_true rfl) dX12_run_5 (fun v hv H locs kc ks Y => ?_) (fun k hk => by cases hk)
  cases hv
  refine lv_lstore_n (i := 3) (lv' := [(3, .long v_4), (0, .ref a0), (1, va_rf p1), (2, va_rf p2)]) hx hb dX12_run_8 rfl hl (by decide) (by cases p2 <;> rfl) (fun ls hl => ?_)
  refine lv_aload_n hx hb dX12_run_9 rfl (lv_at hl 1 rfl) ?_
  replace hE := e_bind hE
  obtain ⟨r_6, g, hE⟩ := hE
  refine n_gR X Y k_X12 0 g (by decide) q1039 dX12_run_10 ?_
  refine r_aload_n hx hb dX12_run_13 rfl (lv_at hl 2 rfl) ?_
  refine lv_lload_n hx hb dX12_run_14 rfl (lv_at hl 0 rfl) ?_
  refine lv_aload_n hx hb dX12_run_15 rfl (lv_at hl 1 rfl) ?_
  replace hE := e_bind hE
  obtain ⟨r_7, g, hE⟩ := hE
  refine n_gR X Y k_X12 1 g (by decide) q1040 dX12_run_16 ?_
  refine r_aload_n hx hb dX12_run_19 rfl (lv_at hl 2 rfl) ?_
  replace hE := e_bind hE
  obtain ⟨a_8, g, hE⟩ := hE
  subst g
  replace hE := e_xb hE
  rcases hE with ⟨st_9, v_10, g, hE⟩ | ⟨st_9, k9, g, hE⟩
  rotate_left
  · subst hE
    refine a_callIf (n := 1) (σ1 := st_9) (σf := st_9) [va_rf p1] X Y (mf_value hl0 n g) ⟨(of_value _ _ _) _ g, aLe.rf _, h1, h2, (by show _ ≤ 342; decide), (by show _ ≤ 10200; decide)⟩ q1629 (by decide +kernel) rfl hl.1 (by simp only [List.map_cons, List.map_nil, va_rf_cat]; exact Nat.le_of_ble_eq_true rfl) dX12_run_20 (fun v hv => by cases hv) (fun k hk H locs kc ks q9 ce Y e1 e2 e3 => ?_)
    cases hk
    exact a_out X Y h1 h2 (fun z hz => (hex z hz).elim) e1 e2 e3
  have M9 := (mo_v fun _ => (mo_v fun _ => (mo_cb oaf_X5_put fun _ _ => mo_ret))) _ hE
  refine a_callIf (n := 1) (σ1 := st_9) (σf := q.1) [va_rf p1] X Y (mf_value hl0 n g) ⟨(of_value _ _ _) _ g, M9, h1, h2, (by show _ ≤ 342; decide), (by show _ ≤ 10200; decide)⟩ q1629 (by decide +kernel) rfl hl.1 (by simp only [List.map_cons, List.map_nil, va_rf_cat]; exact Nat.le_of_ble_eq_true rfl) dX12_run_20 (fun v hv H locs kc ks Y => ?_) (fun k hk => by cases hk)
  cases hv
  replace hE := e_bind hE
  obtain ⟨a_11, g, hE⟩ := hE
  subst g
  replace hE := e_bind hE
  obtain ⟨u_14, g, hE⟩ := hE
  obtain ⟨fs9, g9⟩ := i_gC g
  have g7 := a_recv X Y k_X5.1 g9
  replace hE := e_cb hE
  obtain ⟨st_12, u_13, g, hE⟩ := hE
  have M9 := mo_ret _ hE
  refine a_callV (n := 3) (C := "BasicMachine$Place") (σ1 := st_12) (σf := q.1) [va_rf p1, .long v_4, .double v_10] X Y (maf_X5_put hl0 n g) ⟨oaf_X5_put _ g, M9, h1, h2, (by show _ ≤ 342; decide), (by show _ ≤ 10200; decide)⟩ q1630 q1631 q1632 q144 q1633 (by decide +kernel) g7 rfl hl.1 (Nat.le_of_ble_eq_true rfl) dX12_run_25 (fun v hv H locs kc ks Y => ?_) (fun k hk => by cases hk)
  cases hv
  refine lv_null hx hb dX12_run_28 ?_
  cases hE
  exact a_aret (r := (none : Option Nat)) X Y h1 h2 hr (Or.inl ⟨_, rfl⟩) dX12_run_29
/-! BasicMachine$Matrix.sameSize(LBasicMachine$Matrix;)Z -/
set_option maxHeartbeats 4000000 in
set_option maxRecDepth 100000 in
theorem maf_X28_sameSize {l : Launch} (hl0 : l.stackTraces = false) (n : Nat) {x : aP} {st : aS} {a0 : Nat} {p1 : Option Nat} {q : aS × (Int32)} (hE : af_X28_sameSize n x.sK st a0 p1 = some q) : aMet l yX28_sameSize (ws_ yX28_sameSize cX28_sameSize 2 (some .boolean)) 0 0 x [.ref a0, va_rf p1] st (.inl (some (.int q.2))) q.1 := by
  refine a_ofW (own := "BasicMachine$Matrix") hl0 (by decide) rfl (by simp only [lg_sl, List.flatMap_cons, List.flatMap_nil, va_rf_cat]; exact Nat.le_of_ble_eq_true rfl) (fun mc ms p e s m below meth c ls H locs kc ks h1 h2 X hex Y hr hnm hl => ?_)
  have hnm : "sameSize" = meth.name := hnm
  have hl : lv_has ls 2 [(0, .ref a0), (1, va_rf p1)] := by simp only [lv_args, va_rf_cat] at hl; exact hl
  have hx := X.1
  have hb := X.2.1
  have hown := X.2.2.2.1
  have hts := X.2.2.2.2.1
  have hK := X.2.2.2.2.2.1
  have hl0 := X.2.2.2.2.2.2.2.2
  unfold af_X28_sameSize at hE
  refine lv_aload_n hx hb dX28_sameSize_0 rfl (lv_at hl 0 rfl) ?_
  replace hE := e_bind hE
  obtain ⟨v_1, g, hE⟩ := hE
  refine n_gI X Y k_X28 1 g (by decide) q1386 dX28_sameSize_1 ?_
  refine r_aload_n hx hb dX28_sameSize_4 rfl (lv_at hl 1 rfl) ?_
  replace hE := e_bind hE
  obtain ⟨a_2, g, hE⟩ := hE
  subst g
  replace hE := e_bind hE
  obtain ⟨v_3, g, hE⟩ := hE
  refine n_gI X Y k_X28 1 g (by decide) q1386 dX28_sameSize_5 ?_
  refine lv_icmp_ne (tgt := 26) hx hb dX28_sameSize_8 (by decide) (fun c_4 => ?_) (fun c_4 => ?_)
  · replace hE := e_f c_4 hE
    refine lv_iconst (v := 0) hx hb dX28_sameSize_26 (by decide) ?_
    cases hE
    exact a_zret (v := 0) X Y h1 h2 hr nz0 dX28_sameSize_27
  · replace hE := e_t c_4 hE
    refine lv_aload_n hx hb dX28_sameSize_11 rfl (lv_at hl 0 rfl) ?_
    replace hE := e_bind hE
    obtain ⟨v_5, g, hE⟩ := hE
    refine n_gI X Y k_X28 2 g (by decide) q1388 dX28_sameSize_12 ?_
    refine lv_aload_n hx hb dX28_sameSize_15 rfl (lv_at hl 1 rfl) ?_
    replace hE := e_bind hE
    obtain ⟨v_6, g, hE⟩ := hE
    refine n_gI X Y k_X28 2 g (by decide) q1388 dX28_sameSize_16 ?_
    refine lv_icmp_ne (tgt := 26) hx hb dX28_sameSize_19 (by decide) (fun c_7 => ?_) (fun c_7 => ?_)
    · replace hE := e_f c_7 hE
      refine lv_iconst (v := 0) hx hb dX28_sameSize_26 (by decide) ?_
      cases hE
      exact a_zret (v := 0) X Y h1 h2 hr nz0 dX28_sameSize_27
    · replace hE := e_t c_7 hE
      refine lv_iconst (v := 1) hx hb dX28_sameSize_22 (by decide) ?_
      refine lv_goto (tgt := 27) hx hb dX28_sameSize_23 (by decide) ?_
      cases hE
      exact a_zret (v := 1) X Y h1 h2 hr nz1 dX28_sameSize_27
/-! BasicMachine$Mat.cell(LBasicMachine$Matrix;LBasicMachine$Matrix;DII)D -/
set_option maxHeartbeats 4000000 in
set_option maxRecDepth 100000 in
theorem waf_X26_cell_S212_ {l : Launch} {x : aP} {As : List Value} {σ0 : aS} {p : Program} {e : Env} {s : State} {m : MethodId} {below : List Frame} {meth : Method} {c : Code} {mc ms : Nat} (X : aX "BasicMachine$Mat" p l s m As.toArray meth c cX26_cell 10 x σ0) (hex : ∀ z ∈ c.exceptionTable.toList, False) (hr : meth.sig.returnType = (some .double)) (hnm : "cell" = meth.name) {n : Nat} {q : aS × ((UInt64) ⊕ Nat)} : ∀ k : Nat, (∀ {st : aS} {a0 : Nat} {x1 : Option Nat} {x2 : Option Nat} {x5 : Int32} {x6 : Int32} {x7 : UInt64} {x9 : Int32}, af_X26_cell_S212 n x.sK k st a0 x1 x2 x5 x6 x7 x9 = some q → (mc + σ0.1 = q.1.1) → (ms + σ0.2.1 = q.1.2.1) → ∀ {H : Heap} {locs : List Loc} {ls : Array Slot} {kc ks : Nat}, aY x σ0 s st H locs kc ks → lv_has ls 10 [(0, .ref a0), (1, va_rf x1), (2, va_rf x2), (5, .int x5), (6, .int x6), (7, .double x7), (9, .int x9)] → aG l 7 111 mc ms x As σ0 (oD q.2) q.1 p e s m below meth c H locs kc ks (F0 m 212 ls [])) := by
  have hx := X.1
  have hb := X.2.1
  have hown := X.2.2.2.1
  have hts := X.2.2.2.2.1
  have hK := X.2.2.2.2.2.1
  have hl0 := X.2.2.2.2.2.2.2.2
  intro k
  induction k with
  | zero => exact fun h => nomatch (show none = some q from h)
  | succ k ih =>
    have mrec := @oaf_X26_cell_S212_ n x.sK k
    intro st a0 x1 x2 x5 x6 x7 x9 hE h1 h2 H locs ls kc ks Y hl
    replace hE : af_X26_cell_B212 n x.sK (af_X26_cell_S212 n x.sK k) st a0 x1 x2 x5 x6 x7 x9 = some q := hE
    unfold af_X26_cell_B212 at hE
    refine lv_iload hx hb dX26_cell_212 (lv_at hl 6 rfl) ?_
    refine r_aload_n hx hb dX26_cell_214 rfl (lv_at hl 1 rfl) ?_
    replace hE := e_bind hE
    obtain ⟨a_1, g, hE⟩ := hE
    subst g
    replace hE := e_bind hE
    obtain ⟨v_2, g, hE⟩ := hE
    refine n_gI X Y k_X28 2 g (by decide) q1389 dX26_cell_215 ?_
    refine lv_icmp_ge (tgt := 259) hx hb dX26_cell_218 (by decide) (fun c_3 => ?_) (fun c_3 => ?_)
    · replace hE := e_t c_3 hE
      refine lv_dload hx hb dX26_cell_259 (lv_at hl 5 rfl) ?_
      cases hE
      exact a_dret X Y h1 h2 hr dX26_cell_261
    · replace hE := e_f c_3 hE
      refine lv_dload hx hb dX26_cell_221 (lv_at hl 5 rfl) ?_
      refine lv_aload_n hx hb dX26_cell_223 rfl (lv_at hl 1 rfl) ?_
      replace hE := e_bind hE
      obtain ⟨r_4, g, hE⟩ := hE
      refine n_gR X Y k_X28 0 g (by decide) q1385 dX26_cell_224 ?_
      refine lv_iload hx hb dX26_cell_227 (lv_at hl 3 rfl) ?_
      replace hE := e_bind hE
      obtain ⟨a_5, g, hE⟩ := hE
      subst g
      replace hE := e_bind hE
      obtain ⟨r_6, g, hE⟩ := hE
      refine a_aald X Y (by decide) rfl g dX26_cell_229 ?_
      refine lv_iload hx hb dX26_cell_230 (lv_at hl 6 rfl) ?_
      replace hE := e_bind hE
      obtain ⟨a_7, g, hE⟩ := hE
      subst g
      replace hE := e_bind hE
      obtain ⟨v_8, g, hE⟩ := hE
      refine a_dald X Y g dX26_cell_232 ?_
      refine r_aload_n hx hb dX26_cell_233 rfl (lv_at hl 2 rfl) ?_
      replace hE := e_bind hE
      obtain ⟨a_9, g, hE⟩ := hE
      subst g
      replace hE := e_bind hE
      obtain ⟨r_10, g, hE⟩ := hE
      refine n_gR X Y k_X28 0 g (by decide) q1385 dX26_cell_234 ?_
      refine lv_iload hx hb dX26_cell_237 (lv_at hl 6 rfl) ?_
      replace hE := e_bind hE
      obtain ⟨a_11, g, hE⟩ := hE
      subst g
      replace hE := e_bind hE
      obtain ⟨r_12, g, hE⟩ := hE
      refine a_aald X Y (by decide) rfl g dX26_cell_239 ?_
      refine lv_iload hx hb dX26_cell_240 (lv_at hl 4 rfl) ?_
      replace hE := e_bind hE
      obtain ⟨a_13, g, hE⟩ := hE
      subst g
      replace hE := e_bind hE
      obtain ⟨v_14, g, hE⟩ := hE
      refine a_dald X Y g dX26_cell_242 ?_
      replace hE := e_bind hE
      obtain ⟨v_15, g, hE⟩ := hE
      refine n_dmul hx hb g dX26_cell_243 ?_
      replace hE := e_xb hE
      rcases hE with ⟨st_16, v_17, g, hE⟩ | ⟨st_16, k9, g, hE⟩
      rotate_left
      · subst hE
        refine a_callSN (host := "BasicMachine") (n := 1) (σ1 := st_16) (σf := st_16) [.double v_15] X Y (maf_X1_checked hl0 n g) ⟨oaf_X1_checked _ g, aLe.rf _, h1, h2, (by show _ ≤ 7; decide), (by show _ ≤ 111; decide)⟩ (by decide) q1465 q122 q1466 (by decide +kernel) rfl hl.1 (Nat.le_of_ble_eq_true rfl) dX26_cell_244 (fun v hv => by cases hv) (fun k hk H locs kc ks q9 ce Y e1 e2 e3 => ?_)
        cases hk
        exact a_out X Y h1 h2 (fun z hz => (hex z hz).elim) e1 e2 e3
      have M9 := (mo_v fun _ => (mo_x oaf_X1_checked fun _ _ => (mrec))) _ hE
      refine a_callSN (host := "BasicMachine") (n := 1) (σ1 := st_16) (σf := q.1) [.double v_15] X Y (maf_X1_checked hl0 n g) ⟨oaf_X1_checked _ g, M9, h1, h2, (by show _ ≤ 7; decide), (by show _ ≤ 111; decide)⟩ (by decide) q1465 q122 q1466 (by decide +kernel) rfl hl.1 (Nat.le_of_ble_eq_true rfl) dX26_cell_244 (fun v hv H locs kc ks Y => ?_) (fun k hk => by cases hk)
      cases hv
      replace hE := e_bind hE
      obtain ⟨v_18, g, hE⟩ := hE
      refine n_dadd hx hb g dX26_cell_247 ?_
      replace hE := e_xb hE
      rcases hE with ⟨st_19, v_20, g, hE⟩ | ⟨st_19, k9, g, hE⟩
      rotate_left
      · subst hE
        refine a_callSN (host := "BasicMachine") (n := 1) (σ1 := st_19) (σf := st_19) [.double v_18] X Y (maf_X1_checked hl0 n g) ⟨oaf_X1_checked _ g, aLe.rf _, h1, h2, (by show _ ≤ 7; decide), (by show _ ≤ 111; decide)⟩ (by decide) q1465 q122 q1466 (by decide +kernel) rfl hl.1 (Nat.le_of_ble_eq_true rfl) dX26_cell_248 (fun v hv => by cases hv) (fun k hk H locs kc ks q9 ce Y e1 e2 e3 => ?_)
        cases hk
        exact a_out X Y h1 h2 (fun z hz => (hex z hz).elim) e1 e2 e3
      have M9 := (mrec) _ hE
      refine a_callSN (host := "BasicMachine") (n := 1) (σ1 := st_19) (σf := q.1) [.double v_18] X Y (maf_X1_checked hl0 n g) ⟨oaf_X1_checked _ g, M9, h1, h2, (by show _ ≤ 7; decide), (by show _ ≤ 111; decide)⟩ (by decide) q1465 q122 q1466 (by decide +kernel) rfl hl.1 (Nat.le_of_ble_eq_true rfl) dX26_cell_248 (fun v hv H locs kc ks Y => ?_) (fun k hk => by cases hk)
      cases hv
      refine lv_dstore (lv' := [(7, .double v_20), (0, .ref a0), (1, .ref a_1), (2, .ref a_9), (5, .int x5), (6, .int x6), (9, .int x9)]) hx hb dX26_cell_251 hl (by decide) rfl (fun ls hl => ?_)
      refine lv_iinc (v := (x9 + (1 : Int32))) (lv' := [(9, .int (x9 + (1 : Int32))), (7, .double v_20), (0, .ref a0), (1, .ref a_1), (2, .ref a_9), (5, .int x5), (6, .int x6)]) hx hb dX26_cell_253 hl (k := 6) rfl rfl (by decide) rfl (fun ls hl => ?_)
      refine lv_goto (tgt := 212) hx hb dX26_cell_256 (by decide) ?_
      exact ih hE h1 h2 Y (lv_sub hl [2, 3, 4, 5, 6, 1, 0] rfl)
set_option maxHeartbeats 4000000 in
set_option maxRecDepth 100000 in
theorem waf_X26_cell_S212 {l : Launch} {x : aP} {As : List Value} {σ0 : aS} {p : Program} {e : Env} {s : State} {m : MethodId} {below : List Frame} {meth : Method} {c : Code} {mc ms : Nat} (X : aX "BasicMachine$Mat" p l s m As.toArray meth c cX26_cell 10 x σ0) (hex : ∀ z ∈ c.exceptionTable.toList, False) (hr : meth.sig.returnType = (some .double)) (hnm : "cell" = meth.name) {n : Nat} {q : aS × ((UInt64) ⊕ Nat)} : (∀ {st : aS} {a0 : Nat} {x1 : Option Nat} {x2 : Option Nat} {x5 : Int32} {x6 : Int32} {x7 : UInt64} {x9 : Int32}, af_X26_cell_S212 n x.sK n st a0 x1 x2 x5 x6 x7 x9 = some q → (mc + σ0.1 = q.1.1) → (ms + σ0.2.1 = q.1.2.1) → ∀ {H : Heap} {locs : List Loc} {ls : Array Slot} {kc ks : Nat}, aY x σ0 s st H locs kc ks → lv_has ls 10 [(0, .ref a0), (1, va_rf x1), (2, va_rf x2), (5, .int x5), (6, .int x6), (7, .double x7), (9, .int x9)] → aG l 7 111 mc ms x As σ0 (oD q.2) q.1 p e s m below meth c H locs kc ks (F0 m 212 ls [])) := waf_X26_cell_S212_ X hex hr hnm n
set_option maxHeartbeats 4000000 in
set_option maxRecDepth 100000 in
theorem maf_X26_cell {l : Launch} (hl0 : l.stackTraces = false) (n : Nat) {x : aP} {st : aS} {a0 : Nat} {p1 : Option Nat} {p2 : Option Nat} {p3 : UInt64} {p5 : Int32} {p6 : Int32} {q : aS × ((UInt64) ⊕ Nat)} (hE : af_X26_cell n x.sK st a0 p1 p2 p3 p5 p6 = some q) : aMet l yX26_cell (ws_ yX26_cell cX26_cell 10 (some .double)) 7 111 x [.ref a0, va_rf p1, va_rf p2, .double p3, .int p5, .int p6] st (oD q.2) q.1 := by
  refine a_ofW (own := "BasicMachine$Mat") hl0 (by decide) rfl (by simp only [lg_sl, List.flatMap_cons, List.flatMap_nil, va_rf_cat]; exact Nat.le_of_ble_eq_true rfl) (fun mc ms p e s m below meth c ls H locs kc ks h1 h2 X hex Y hr hnm hl => ?_)
  have hnm : "cell" = meth.name := hnm
  have hl : lv_has ls 10 [(0, .ref a0), (1, va_rf p1), (2, va_rf p2), (3, .double p3), (5, .int p5), (6, .int p6)] := by simp only [lv_args, va_rf_cat] at hl; exact hl
  have hx := X.1
  have hb := X.2.1
  have hown := X.2.2.2.1
  have hts := X.2.2.2.2.1
  have hK := X.2.2.2.2.2.1
  have hl0 := X.2.2.2.2.2.2.2.2
  unfold af_X26_cell at hE
  refine lv_aload_n hx hb dX26_cell_0 rfl (lv_at hl 0 rfl) ?_
  replace hE := e_bind hE
  obtain ⟨v_1, g, hE⟩ := hE
  refine n_gI X Y k_X26 1 g (by decide) q1248 dX26_cell_1 ?_
  by_cases c_2 : v_1 = (43 : Int32)
  · replace hE := e_t c_2 hE
    refine lv_lookup (off := 104) (tgt := 108) hx hb dX26_cell_4 (by decide +kernel) (by rw [c_2]; decide +kernel) (by decide) ?_
    refine r_aload_n hx hb dX26_cell_108 rfl (lv_at hl 1 rfl) ?_
    replace hE := e_bind hE
    obtain ⟨a_3, g, hE⟩ := hE
    subst g
    replace hE := e_bind hE
    obtain ⟨r_4, g, hE⟩ := hE
    refine n_gR X Y k_X28 0 g (by decide) q1385 dX26_cell_109 ?_
    refine lv_iload hx hb dX26_cell_112 (lv_at hl 4 rfl) ?_
    replace hE := e_bind hE
    obtain ⟨a_5, g, hE⟩ := hE
    subst g
    replace hE := e_bind hE
    obtain ⟨r_6, g, hE⟩ := hE
    refine a_aald X Y (by decide) rfl g dX26_cell_114 ?_
    refine lv_iload hx hb dX26_cell_115 (lv_at hl 5 rfl) ?_
    replace hE := e_bind hE
    obtain ⟨a_7, g, hE⟩ := hE
    subst g
    replace hE := e_bind hE
    obtain ⟨v_8, g, hE⟩ := hE
    refine a_dald X Y g dX26_cell_117 ?_
    refine r_aload_n hx hb dX26_cell_118 rfl (lv_at hl 2 rfl) ?_
    replace hE := e_bind hE
    obtain ⟨a_9, g, hE⟩ := hE
    subst g
    replace hE := e_bind hE
    obtain ⟨r_10, g, hE⟩ := hE
    refine n_gR X Y k_X28 0 g (by decide) q1385 dX26_cell_119 ?_
    refine lv_iload hx hb dX26_cell_122 (lv_at hl 4 rfl) ?_
    replace hE := e_bind hE
    obtain ⟨a_11, g, hE⟩ := hE
    subst g
    replace hE := e_bind hE
    obtain ⟨r_12, g, hE⟩ := hE
    refine a_aald X Y (by decide) rfl g dX26_cell_124 ?_
    refine lv_iload hx hb dX26_cell_125 (lv_at hl 5 rfl) ?_
    replace hE := e_bind hE
    obtain ⟨a_13, g, hE⟩ := hE
    subst g
    replace hE := e_bind hE
    obtain ⟨v_14, g, hE⟩ := hE
    refine a_dald X Y g dX26_cell_127 ?_
    replace hE := e_bind hE
    obtain ⟨v_15, g, hE⟩ := hE
    refine n_dadd hx hb g dX26_cell_128 ?_
    replace hE := e_xb hE
    rcases hE with ⟨st_16, v_17, g, hE⟩ | ⟨st_16, k9, g, hE⟩
    rotate_left
    · subst hE
      refine a_callSN (host := "BasicMachine") (n := 1) (σ1 := st_16) (σf := st_16) [.double v_15] X Y (maf_X1_checked hl0 n g) ⟨oaf_X1_checked _ g, aLe.rf _, h1, h2, (by show _ ≤ 7; decide), (by show _ ≤ 111; decide)⟩ (by decide) q1465 q122 q1466 (by decide +kernel) rfl hl.1 (Nat.le_of_ble_eq_true rfl) dX26_cell_129 (fun v hv => by cases hv) (fun k hk H locs kc ks q9 ce Y e1 e2 e3 => ?_)
      cases hk
      exact a_out X Y h1 h2 (fun z hz => (hex z hz).elim) e1 e2 e3
    have M9 := mo_ret _ hE
    refine a_callSN (host := "BasicMachine") (n := 1) (σ1 := st_16) (σf := q.1) [.double v_15] X Y (maf_X1_checked hl0 n g) ⟨oaf_X1_checked _ g, M9, h1, h2, (by show _ ≤ 7; decide), (by show _ ≤ 111; decide)⟩ (by decide) q1465 q122 q1466 (by decide +kernel) rfl hl.1 (Nat.le_of_ble_eq_true rfl) dX26_cell_129 (fun v hv H locs kc ks Y => ?_) (fun k hk => by cases hk)
    cases hv
    cases hE
    exact a_dret X Y h1 h2 hr dX26_cell_132
  replace hE := e_f c_2 hE
  by_cases c_18 : v_1 = (45 : Int32)
  · replace hE := e_t c_18 hE
    refine lv_lookup (off := 129) (tgt := 133) hx hb dX26_cell_4 (by decide +kernel) (by rw [c_18]; decide +kernel) (by decide) ?_
    refine r_aload_n hx hb dX26_cell_133 rfl (lv_at hl 1 rfl) ?_
    replace hE := e_bind hE
    obtain ⟨a_19, g, hE⟩ := hE
    subst g
    replace hE := e_bind hE
    obtain ⟨r_20, g, hE⟩ := hE
    refine n_gR X Y k_X28 0 g (by decide) q1385 dX26_cell_134 ?_
    refine lv_iload hx hb dX26_cell_137 (lv_at hl 4 rfl) ?_
    replace hE := e_bind hE
    obtain ⟨a_21, g, hE⟩ := hE
    subst g
    replace hE := e_bind hE
    obtain ⟨r_22, g, hE⟩ := hE
    refine a_aald X Y (by decide) rfl g dX26_cell_139 ?_
    refine lv_iload hx hb dX26_cell_140 (lv_at hl 5 rfl) ?_
    replace hE := e_bind hE
    obtain ⟨a_23, g, hE⟩ := hE
    subst g
    replace hE := e_bind hE
    obtain ⟨v_24, g, hE⟩ := hE
    refine a_dald X Y g dX26_cell_142 ?_
    refine r_aload_n hx hb dX26_cell_143 rfl (lv_at hl 2 rfl) ?_
    replace hE := e_bind hE
    obtain ⟨a_25, g, hE⟩ := hE
    subst g
    replace hE := e_bind hE
    obtain ⟨r_26, g, hE⟩ := hE
    refine n_gR X Y k_X28 0 g (by decide) q1385 dX26_cell_144 ?_
    refine lv_iload hx hb dX26_cell_147 (lv_at hl 4 rfl) ?_
    replace hE := e_bind hE
    obtain ⟨a_27, g, hE⟩ := hE
    subst g
    replace hE := e_bind hE
    obtain ⟨r_28, g, hE⟩ := hE
    refine a_aald X Y (by decide) rfl g dX26_cell_149 ?_
    refine lv_iload hx hb dX26_cell_150 (lv_at hl 5 rfl) ?_
    replace hE := e_bind hE
    obtain ⟨a_29, g, hE⟩ := hE
    subst g
    replace hE := e_bind hE
    obtain ⟨v_30, g, hE⟩ := hE
    refine a_dald X Y g dX26_cell_152 ?_
    replace hE := e_bind hE
    obtain ⟨v_31, g, hE⟩ := hE
    refine n_dsub hx hb g dX26_cell_153 ?_
    replace hE := e_xb hE
    rcases hE with ⟨st_32, v_33, g, hE⟩ | ⟨st_32, k9, g, hE⟩
    rotate_left
    · subst hE
      refine a_callSN (host := "BasicMachine") (n := 1) (σ1 := st_32) (σf := st_32) [.double v_31] X Y (maf_X1_checked hl0 n g) ⟨oaf_X1_checked _ g, aLe.rf _, h1, h2, (by show _ ≤ 7; decide), (by show _ ≤ 111; decide)⟩ (by decide) q1465 q122 q1466 (by decide +kernel) rfl hl.1 (Nat.le_of_ble_eq_true rfl) dX26_cell_154 (fun v hv => by cases hv) (fun k hk H locs kc ks q9 ce Y e1 e2 e3 => ?_)
      cases hk
      exact a_out X Y h1 h2 (fun z hz => (hex z hz).elim) e1 e2 e3
    have M9 := mo_ret _ hE
    refine a_callSN (host := "BasicMachine") (n := 1) (σ1 := st_32) (σf := q.1) [.double v_31] X Y (maf_X1_checked hl0 n g) ⟨oaf_X1_checked _ g, M9, h1, h2, (by show _ ≤ 7; decide), (by show _ ≤ 111; decide)⟩ (by decide) q1465 q122 q1466 (by decide +kernel) rfl hl.1 (Nat.le_of_ble_eq_true rfl) dX26_cell_154 (fun v hv H locs kc ks Y => ?_) (fun k hk => by cases hk)
    cases hv
    cases hE
    exact a_dret X Y h1 h2 hr dX26_cell_157
  replace hE := e_f c_18 hE
  by_cases c_34 : v_1 = (61 : Int32)
  · replace hE := e_t c_34 hE
    refine lv_lookup (off := 93) (tgt := 97) hx hb dX26_cell_4 (by decide +kernel) (by rw [c_34]; decide +kernel) (by decide) ?_
    refine r_aload_n hx hb dX26_cell_97 rfl (lv_at hl 1 rfl) ?_
    replace hE := e_bind hE
    obtain ⟨a_35, g, hE⟩ := hE
    subst g
    replace hE := e_bind hE
    obtain ⟨r_36, g, hE⟩ := hE
    refine n_gR X Y k_X28 0 g (by decide) q1385 dX26_cell_98 ?_
    refine lv_iload hx hb dX26_cell_101 (lv_at hl 4 rfl) ?_
    replace hE := e_bind hE
    obtain ⟨a_37, g, hE⟩ := hE
    subst g
    replace hE := e_bind hE
    obtain ⟨r_38, g, hE⟩ := hE
    refine a_aald X Y (by decide) rfl g dX26_cell_103 ?_
    refine lv_iload hx hb dX26_cell_104 (lv_at hl 5 rfl) ?_
    replace hE := e_bind hE
    obtain ⟨a_39, g, hE⟩ := hE
    subst g
    replace hE := e_bind hE
    obtain ⟨v_40, g, hE⟩ := hE
    refine a_dald X Y g dX26_cell_106 ?_
    cases hE
    exact a_dret X Y h1 h2 hr dX26_cell_107
  replace hE := e_f c_34 hE
  by_cases c_41 : v_1 = (67 : Int32)
  · replace hE := e_t c_41 hE
    refine lv_lookup (off := 78) (tgt := 82) hx hb dX26_cell_4 (by decide +kernel) (by rw [c_41]; decide +kernel) (by decide) ?_
    refine lv_dconst1 hx hb dX26_cell_82 ?_
    cases hE
    exact a_dret X Y h1 h2 hr dX26_cell_83
  replace hE := e_f c_41 hE
  by_cases c_42 : v_1 = (73 : Int32)
  · replace hE := e_t c_42 hE
    refine lv_lookup (off := 80) (tgt := 84) hx hb dX26_cell_4 (by decide +kernel) (by rw [c_42]; decide +kernel) (by decide) ?_
    refine lv_iload hx hb dX26_cell_84 (lv_at hl 4 rfl) ?_
    refine lv_iload hx hb dX26_cell_86 (lv_at hl 5 rfl) ?_
    refine lv_icmp_ne (tgt := 95) hx hb dX26_cell_88 (by decide) (fun c_43 => ?_) (fun c_43 => ?_)
    · replace hE := e_f c_43 hE
      refine lv_dconst0 hx hb dX26_cell_95 ?_
      cases hE
      exact a_dret X Y h1 h2 hr dX26_cell_96
    · replace hE := e_t c_43 hE
      refine lv_dconst1 hx hb dX26_cell_91 ?_
      refine lv_goto (tgt := 96) hx hb dX26_cell_92 (by decide) ?_
      cases hE
      exact a_dret X Y h1 h2 hr dX26_cell_96
  replace hE := e_f c_42 hE
  by_cases c_44 : v_1 = (83 : Int32)
  · replace hE := e_t c_44 hE
    refine lv_lookup (off := 165) (tgt := 169) hx hb dX26_cell_4 (by decide +kernel) (by rw [c_44]; decide +kernel) (by decide) ?_
    refine lv_dload_n hx hb dX26_cell_169 rfl (lv_at hl 3 rfl) ?_
    refine r_aload_n hx hb dX26_cell_170 rfl (lv_at hl 1 rfl) ?_
    replace hE := e_bind hE
    obtain ⟨a_45, g, hE⟩ := hE
    subst g
    replace hE := e_bind hE
    obtain ⟨r_46, g, hE⟩ := hE
    refine n_gR X Y k_X28 0 g (by decide) q1385 dX26_cell_171 ?_
    refine lv_iload hx hb dX26_cell_174 (lv_at hl 4 rfl) ?_
    replace hE := e_bind hE
    obtain ⟨a_47, g, hE⟩ := hE
    subst g
    replace hE := e_bind hE
    obtain ⟨r_48, g, hE⟩ := hE
    refine a_aald X Y (by decide) rfl g dX26_cell_176 ?_
    refine lv_iload hx hb dX26_cell_177 (lv_at hl 5 rfl) ?_
    replace hE := e_bind hE
    obtain ⟨a_49, g, hE⟩ := hE
    subst g
    replace hE := e_bind hE
    obtain ⟨v_50, g, hE⟩ := hE
    refine a_dald X Y g dX26_cell_179 ?_
    replace hE := e_bind hE
    obtain ⟨v_51, g, hE⟩ := hE
    refine n_dmul hx hb g dX26_cell_180 ?_
    replace hE := e_xb hE
    rcases hE with ⟨st_52, v_53, g, hE⟩ | ⟨st_52, k9, g, hE⟩
    rotate_left
    · subst hE
      refine a_callSN (host := "BasicMachine") (n := 1) (σ1 := st_52) (σf := st_52) [.double v_51] X Y (maf_X1_checked hl0 n g) ⟨oaf_X1_checked _ g, aLe.rf _, h1, h2, (by show _ ≤ 7; decide), (by show _ ≤ 111; decide)⟩ (by decide) q1465 q122 q1466 (by decide +kernel) rfl hl.1 (Nat.le_of_ble_eq_true rfl) dX26_cell_181 (fun v hv => by cases hv) (fun k hk H locs kc ks q9 ce Y e1 e2 e3 => ?_)
      cases hk
      exact a_out X Y h1 h2 (fun z hz => (hex z hz).elim) e1 e2 e3
    have M9 := mo_ret _ hE
    refine a_callSN (host := "BasicMachine") (n := 1) (σ1 := st_52) (σf := q.1) [.double v_51] X Y (maf_X1_checked hl0 n g) ⟨oaf_X1_checked _ g, M9, h1, h2, (by show _ ≤ 7; decide), (by show _ ≤ 111; decide)⟩ (by decide) q1465 q122 q1466 (by decide +kernel) rfl hl.1 (Nat.le_of_ble_eq_true rfl) dX26_cell_181 (fun v hv H locs kc ks Y => ?_) (fun k hk => by cases hk)
    cases hv
    cases hE
    exact a_dret X Y h1 h2 hr dX26_cell_184
  replace hE := e_f c_44 hE
  by_cases c_54 : v_1 = (84 : Int32)
  · replace hE := e_t c_54 hE
    refine lv_lookup (off := 154) (tgt := 158) hx hb dX26_cell_4 (by decide +kernel) (by rw [c_54]; decide +kernel) (by decide) ?_
    refine r_aload_n hx hb dX26_cell_158 rfl (lv_at hl 1 rfl) ?_
    replace hE := e_bind hE
    obtain ⟨a_55, g, hE⟩ := hE
    subst g
    replace hE := e_bind hE
    obtain ⟨r_56, g, hE⟩ := hE
    refine n_gR X Y k_X28 0 g (by decide) q1385 dX26_cell_159 ?_
    refine lv_iload hx hb dX26_cell_162 (lv_at hl 5 rfl) ?_
    replace hE := e_bind hE
    obtain ⟨a_57, g, hE⟩ := hE
    subst g
    replace hE := e_bind hE
    obtain ⟨r_58, g, hE⟩ := hE
    refine a_aald X Y (by decide) rfl g dX26_cell_164 ?_
    refine lv_iload hx hb dX26_cell_165 (lv_at hl 4 rfl) ?_
    replace hE := e_bind hE
    obtain ⟨a_59, g, hE⟩ := hE
    subst g
    replace hE := e_bind hE
    obtain ⟨v_60, g, hE⟩ := hE
    refine a_dald X Y g dX26_cell_167 ?_
    cases hE
    exact a_dret X Y h1 h2 hr dX26_cell_168
  replace hE := e_f c_54 hE
  by_cases c_61 : v_1 = (90 : Int32)
  · replace hE := e_t c_61 hE
    refine lv_lookup (off := 76) (tgt := 80) hx hb dX26_cell_4 (by decide +kernel) (by rw [c_61]; decide +kernel) (by decide) ?_
    refine lv_dconst0 hx hb dX26_cell_80 ?_
    cases hE
    exact a_dret X Y h1 h2 hr dX26_cell_81
  replace hE := e_f c_61 hE
  refine lv_lookup (off := 181) (tgt := 185) hx hb dX26_cell_4 (by decide +kernel) (by rw [lv_osw c_2 (by decide), lv_osw c_18 (by decide), lv_osw c_34 (by decide), lv_osw c_41 (by decide), lv_osw c_42 (by decide), lv_osw c_44 (by decide), lv_osw c_54 (by decide), lv_osw c_61 (by decide)]; rfl) (by decide) ?_
  refine r_aload_n hx hb dX26_cell_185 rfl (lv_at hl 1 rfl) ?_
  replace hE := e_bind hE
  obtain ⟨a_62, g, hE⟩ := hE
  subst g
  replace hE := e_bind hE
  obtain ⟨r_63, g, hE⟩ := hE
  refine n_gR X Y k_X28 0 g (by decide) q1385 dX26_cell_186 ?_
  refine lv_iload hx hb dX26_cell_189 (lv_at hl 4 rfl) ?_
  replace hE := e_bind hE
  obtain ⟨a_64, g, hE⟩ := hE
  subst g
  replace hE := e_bind hE
  obtain ⟨r_65, g, hE⟩ := hE
  refine a_aald X Y (by decide) rfl g dX26_cell_191 ?_
  refine lv_iconst (v := 0) hx hb dX26_cell_192 (by decide) ?_
  replace hE := e_bind hE
  obtain ⟨a_66, g, hE⟩ := hE
  subst g
  replace hE := e_bind hE
  obtain ⟨v_67, g, hE⟩ := hE
  refine a_dald X Y g dX26_cell_193 ?_
  refine r_aload_n hx hb dX26_cell_194 rfl (lv_at hl 2 rfl) ?_
  replace hE := e_bind hE
  obtain ⟨a_68, g, hE⟩ := hE
  subst g
  replace hE := e_bind hE
  obtain ⟨r_69, g, hE⟩ := hE
  refine n_gR X Y k_X28 0 g (by decide) q1385 dX26_cell_195 ?_
  refine lv_iconst (v := 0) hx hb dX26_cell_198 (by decide) ?_
  replace hE := e_bind hE
  obtain ⟨a_70, g, hE⟩ := hE
  subst g
  replace hE := e_bind hE
  obtain ⟨r_71, g, hE⟩ := hE
  refine a_aald X Y (by decide) rfl g dX26_cell_199 ?_
  refine lv_iload hx hb dX26_cell_200 (lv_at hl 5 rfl) ?_
  replace hE := e_bind hE
  obtain ⟨a_72, g, hE⟩ := hE
  subst g
  replace hE := e_bind hE
  obtain ⟨v_73, g, hE⟩ := hE
  refine a_dald X Y g dX26_cell_202 ?_
  replace hE := e_bind hE
  obtain ⟨v_74, g, hE⟩ := hE
  refine n_dmul hx hb g dX26_cell_203 ?_
  replace hE := e_xb hE
  rcases hE with ⟨st_75, v_76, g, hE⟩ | ⟨st_75, k9, g, hE⟩
  rotate_left
  · subst hE
    refine a_callSN (host := "BasicMachine") (n := 1) (σ1 := st_75) (σf := st_75) [.double v_74] X Y (maf_X1_checked hl0 n g) ⟨oaf_X1_checked _ g, aLe.rf _, h1, h2, (by show _ ≤ 7; decide), (by show _ ≤ 111; decide)⟩ (by decide) q1465 q122 q1466 (by decide +kernel) rfl hl.1 (Nat.le_of_ble_eq_true rfl) dX26_cell_204 (fun v hv => by cases hv) (fun k hk H locs kc ks q9 ce Y e1 e2 e3 => ?_)
    cases hk
    exact a_out X Y h1 h2 (fun z hz => (hex z hz).elim) e1 e2 e3
  have M9 := ((oaf_X26_cell_S212 )) _ hE
  refine a_callSN (host := "BasicMachine") (n := 1) (σ1 := st_75) (σf := q.1) [.double v_74] X Y (maf_X1_checked hl0 n g) ⟨oaf_X1_checked _ g, M9, h1, h2, (by show _ ≤ 7; decide), (by show _ ≤ 111; decide)⟩ (by decide) q1465 q122 q1466 (by decide +kernel) rfl hl.1 (Nat.le_of_ble_eq_true rfl) dX26_cell_204 (fun v hv H locs kc ks Y => ?_) (fun k hk => by cases hk)
  cases hv
  refine lv_dstore (lv' := [(7, .double v_76), (0, .ref a0), (1, .ref a_62), (2, .ref a_68), (3, .double p3), (5, .int p5), (6, .int p6)]) hx hb dX26_cell_207 hl (by decide) rfl (fun ls hl => ?_)
  refine lv_iconst (v := 1) hx hb dX26_cell_209 (by decide) ?_
  refine lv_istore (lv' := [(9, .int (1 : Int32)), (7, .double v_76), (0, .ref a0), (1, .ref a_62), (2, .ref a_68), (3, .double p3), (5, .int p5), (6, .int p6)]) hx hb dX26_cell_210 hl (by decide) rfl (fun ls hl => ?_)
  exact (waf_X26_cell_S212 X hex hr hnm) hE h1 h2 Y (lv_sub hl [2, 3, 4, 6, 7, 1, 0] rfl)

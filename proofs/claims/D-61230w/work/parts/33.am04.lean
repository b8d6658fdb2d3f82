/-! contracts of the machine (printed by gena.py) -/
/-! BasicMachine$Mat.worked(LBasicMachine;LBasicMachine$Matrix;LBasicMachine$Matrix;D)LBasicMachine$Matrix; -/
set_option maxHeartbeats 4000000 in
set_option maxRecDepth 100000 in
theorem waf_X26_worked_S162_ {l : Launch} {x : aP} {As : List Value} {σ0 : aS} {p : Program} {e : Env} {s : State} {m : MethodId} {below : List Frame} {meth : Method} {c : Code} {mc ms : Nat} (X : aX "BasicMachine$Mat" p l s m As.toArray meth c cX26_worked 10 x σ0) (hex : ∀ z ∈ c.exceptionTable.toList, False) (hr : meth.sig.returnType = (some (.object "BasicMachine$Matrix"))) (hnm : "worked" = meth.name) {n : Nat} {q : aS × ((Option Nat) ⊕ Nat)} : ∀ k : Nat, (∀ {st : aS} {a0 : Nat} {x2 : Option Nat} {x3 : Option Nat} {x4 : UInt64} {x7 : Option Nat} {x8 : Int32} {x9 : Int32}, af_X26_worked_S162 n x.sK k 0 st a0 x2 x3 x4 x7 x8 x9 = some q → (mc + σ0.1 = q.1.1) → (ms + σ0.2.1 = q.1.2.1) → ∀ {H : Heap} {locs : List Loc} {ls : Array Slot} {kc ks : Nat}, aY x σ0 s st H locs kc ks → lv_has ls 10 [(0, .ref a0), (2, va_rf x2), (3, va_rf x3), (4, .double x4), (7, va_rf x7), (8, .int x8)] → aG l 8 140 mc ms x As σ0 (oR q.2) q.1 p e s m below meth c H locs kc ks (F0 m 162 ls [])) ∧ (∀ {st : aS} {a0 : Nat} {x2 : Option Nat} {x3 : Option Nat} {x4 : UInt64} {x7 : Option Nat} {x8 : Int32} {x9 : Int32}, af_X26_worked_S162 n x.sK k 1 st a0 x2 x3 x4 x7 x8 x9 = some q → (mc + σ0.1 = q.1.1) → (ms + σ0.2.1 = q.1.2.1) → ∀ {H : Heap} {locs : List Loc} {ls : Array Slot} {kc ks : Nat}, aY x σ0 s st H locs kc ks → lv_has ls 10 [(0, .ref a0), (2, va_rf x2), (3, va_rf x3), (4, .double x4), (7, va_rf x7), (8, .int x8), (9, .int x9)] → aG l 8 140 mc ms x As σ0 (oR q.2) q.1 p e s m below meth c H locs kc ks (F0 m 175 ls [])) := by
  have hx := X.1
  have hb := X.2.1
  have hown := X.2.2.2.1
  have hts := X.2.2.2.2.1
  have hK := X.2.2.2.2.2.1
  have hl0 := X.2.2.2.2.2.2.2.2
  intro k
  induction k with
  | zero => exact ⟨(fun h => nomatch (show none = some q from h)), (fun h => nomatch (show none = some q from h))⟩
  | succ k ih =>
    obtain ⟨ih0, ih1⟩ := ih
    have mrec := @oaf_X26_worked_S162_ n x.sK k
    obtain ⟨mrec0, mrec1⟩ := mrec
    refine ⟨?_, ?_⟩
    · intro st a0 x2 x3 x4 x7 x8 x9 hE h1 h2 H locs ls kc ks Y hl
      replace hE : af_X26_worked_B162 n x.sK (af_X26_worked_S162 n x.sK k) st a0 x2 x3 x4 x7 x8 x9 = some q := hE
      unfold af_X26_worked_B162 at hE
      refine lv_iload hx hb dX26_worked_162 (lv_at hl 5 rfl) ?_
      refine r_aload hx hb dX26_worked_164 (lv_at hl 4 rfl) ?_
      replace hE := e_bind hE
      obtain ⟨a_1, g, hE⟩ := hE
      subst g
      replace hE := e_bind hE
      obtain ⟨v_2, g, hE⟩ := hE
      refine n_gI X Y k_X28 1 g (by decide) q1387 dX26_worked_166 ?_
      refine lv_icmp_ge (tgt := 220) hx hb dX26_worked_169 (by decide) (fun c_3 => ?_) (fun c_3 => ?_)
      · replace hE := e_t c_3 hE
        refine lv_aload hx hb dX26_worked_220 (lv_at hl 4 rfl) ?_
        cases hE
        exact a_aret (r := (some a_1)) X Y h1 h2 hr (Or.inl ⟨_, rfl⟩) dX26_worked_222
      · replace hE := e_f c_3 hE
        refine lv_iconst (v := 0) hx hb dX26_worked_172 (by decide) ?_
        refine lv_istore (lv' := [(9, .int (0 : Int32)), (0, .ref a0), (2, va_rf x2), (3, va_rf x3), (4, .double x4), (7, .ref a_1), (8, .int x8)]) hx hb dX26_worked_173 hl (by decide) rfl (fun ls hl => ?_)
        exact ih1 hE h1 h2 Y (lv_sub hl [1, 2, 3, 4, 5, 6, 0] rfl)
    · intro st a0 x2 x3 x4 x7 x8 x9 hE h1 h2 H locs ls kc ks Y hl
      replace hE : af_X26_worked_B175 n x.sK (af_X26_worked_S162 n x.sK k) st a0 x2 x3 x4 x7 x8 x9 = some q := hE
      unfold af_X26_worked_B175 at hE
      refine lv_iload hx hb dX26_worked_175 (lv_at hl 6 rfl) ?_
      refine r_aload hx hb dX26_worked_177 (lv_at hl 4 rfl) ?_
      replace hE := e_bind hE
      obtain ⟨a_1, g, hE⟩ := hE
      subst g
      replace hE := e_bind hE
      obtain ⟨v_2, g, hE⟩ := hE
      refine n_gI X Y k_X28 2 g (by decide) q1389 dX26_worked_179 ?_
      refine lv_icmp_ge (tgt := 214) hx hb dX26_worked_182 (by decide) (fun c_3 => ?_) (fun c_3 => ?_)
      · replace hE := e_t c_3 hE
        refine lv_iinc (v := (x8 + (1 : Int32))) (lv' := [(8, .int (x8 + (1 : Int32))), (0, .ref a0), (2, va_rf x2), (3, va_rf x3), (4, .double x4), (7, .ref a_1), (9, .int x9)]) hx hb dX26_worked_214 hl (k := 5) rfl rfl (by decide) rfl (fun ls hl => ?_)
        refine lv_goto (tgt := 162) hx hb dX26_worked_217 (by decide) ?_
        exact ih0 hE h1 h2 Y (lv_sub hl [1, 2, 3, 4, 5, 0] rfl)
      · replace hE := e_f c_3 hE
        refine lv_aload hx hb dX26_worked_185 (lv_at hl 4 rfl) ?_
        replace hE := e_bind hE
        obtain ⟨r_4, g, hE⟩ := hE
        refine n_gR X Y k_X28 0 g (by decide) q1385 dX26_worked_187 ?_
        refine lv_iload hx hb dX26_worked_190 (lv_at hl 5 rfl) ?_
        replace hE := e_bind hE
        obtain ⟨a_5, g, hE⟩ := hE
        subst g
        replace hE := e_bind hE
        obtain ⟨r_6, g, hE⟩ := hE
        refine a_aald X Y (by decide) rfl g dX26_worked_192 ?_
        refine lv_iload hx hb dX26_worked_193 (lv_at hl 6 rfl) ?_
        refine lv_aload_n hx hb dX26_worked_195 rfl (lv_at hl 0 rfl) ?_
        refine r_aload_n hx hb dX26_worked_196 rfl (lv_at hl 1 rfl) ?_
        refine r_aload_n hx hb dX26_worked_197 rfl (lv_at hl 2 rfl) ?_
        refine lv_dload hx hb dX26_worked_198 (lv_at hl 3 rfl) ?_
        refine lv_iload hx hb dX26_worked_200 (lv_at hl 5 rfl) ?_
        refine lv_iload hx hb dX26_worked_202 (lv_at hl 6 rfl) ?_
        replace hE := e_bind hE
        obtain ⟨u_9, g, hE⟩ := hE
        obtain ⟨fs9, g9⟩ := i_gC g
        have g7 := a_recv X Y k_X26.1 g9
        replace hE := e_xb hE
        rcases hE with ⟨st_7, v_8, g, hE⟩ | ⟨st_7, k9, g, hE⟩
        rotate_left
        · subst hE
          refine a_callV (n := 5) (C := "BasicMachine$Mat") (σ1 := st_7) (σf := st_7) [va_rf x2, va_rf x3, .double x4, .int x8, .int x9] X Y (maf_X26_cell hl0 n g) ⟨oaf_X26_cell _ g, aLe.rf _, h1, h2, (by show _ ≤ 8; decide), (by show _ ≤ 140; decide)⟩ q1677 q1679 qs48 q165 q1680 (by decide +kernel) g7 rfl hl.1 (by simp only [List.map_cons, List.map_nil, va_rf_cat]; exact Nat.le_of_ble_eq_true rfl) dX26_worked_204 (fun v hv => by cases hv) (fun k hk H locs kc ks q9 ce Y e1 e2 e3 => ?_)
          cases hk
          exact a_out X Y h1 h2 (fun z hz => (hex z hz).elim) e1 e2 e3
        have M9 := (mo_v fun _ => (mo_s (fun _ => le_wD) fun _ => (mrec1))) _ hE
        refine a_callV (n := 5) (C := "BasicMachine$Mat") (σ1 := st_7) (σf := q.1) [va_rf x2, va_rf x3, .double x4, .int x8, .int x9] X Y (maf_X26_cell hl0 n g) ⟨oaf_X26_cell _ g, M9, h1, h2, (by show _ ≤ 8; decide), (by show _ ≤ 140; decide)⟩ q1677 q1679 qs48 q165 q1680 (by decide +kernel) g7 rfl hl.1 (by simp only [List.map_cons, List.map_nil, va_rf_cat]; exact Nat.le_of_ble_eq_true rfl) dX26_worked_204 (fun v hv H locs kc ks Y => ?_) (fun k hk => by cases hk)
        cases hv
        replace hE := e_bind hE
        obtain ⟨a_10, g, hE⟩ := hE
        subst g
        replace hE := e_bind hE
        obtain ⟨st_11, g, hE⟩ := hE
        refine a_dast X Y g dX26_worked_207 (fun H locs Y => ?_)
        refine lv_iinc (v := (x9 + (1 : Int32))) (lv' := [(9, .int (x9 + (1 : Int32))), (0, .ref a0), (2, va_rf x2), (3, va_rf x3), (4, .double x4), (7, .ref a_1), (8, .int x8)]) hx hb dX26_worked_208 hl (k := 6) rfl rfl (by decide) rfl (fun ls hl => ?_)
        refine lv_goto (tgt := 175) hx hb dX26_worked_211 (by decide) ?_
        exact ih1 hE h1 h2 Y (lv_sub hl [1, 2, 3, 4, 5, 6, 0] rfl)
set_option maxHeartbeats 4000000 in
set_option maxRecDepth 100000 in
theorem waf_X26_worked_S162 {l : Launch} {x : aP} {As : List Value} {σ0 : aS} {p : Program} {e : Env} {s : State} {m : MethodId} {below : List Frame} {meth : Method} {c : Code} {mc ms : Nat} (X : aX "BasicMachine$Mat" p l s m As.toArray meth c cX26_worked 10 x σ0) (hex : ∀ z ∈ c.exceptionTable.toList, False) (hr : meth.sig.returnType = (some (.object "BasicMachine$Matrix"))) (hnm : "worked" = meth.name) {n : Nat} {q : aS × ((Option Nat) ⊕ Nat)} : (∀ {st : aS} {a0 : Nat} {x2 : Option Nat} {x3 : Option Nat} {x4 : UInt64} {x7 : Option Nat} {x8 : Int32} {x9 : Int32}, af_X26_worked_S162 n x.sK n 0 st a0 x2 x3 x4 x7 x8 x9 = some q → (mc + σ0.1 = q.1.1) → (ms + σ0.2.1 = q.1.2.1) → ∀ {H : Heap} {locs : List Loc} {ls : Array Slot} {kc ks : Nat}, aY x σ0 s st H locs kc ks → lv_has ls 10 [(0, .ref a0), (2, va_rf x2), (3, va_rf x3), (4, .double x4), (7, va_rf x7), (8, .int x8)] → aG l 8 140 mc ms x As σ0 (oR q.2) q.1 p e s m below meth c H locs kc ks (F0 m 162 ls [])) ∧ (∀ {st : aS} {a0 : Nat} {x2 : Option Nat} {x3 : Option Nat} {x4 : UInt64} {x7 : Option Nat} {x8 : Int32} {x9 : Int32}, af_X26_worked_S162 n x.sK n 1 st a0 x2 x3 x4 x7 x8 x9 = some q → (mc + σ0.1 = q.1.1) → (ms + σ0.2.1 = q.1.2.1) → ∀ {H : Heap} {locs : List Loc} {ls : Array Slot} {kc ks : Nat}, aY x σ0 s st H locs kc ks → lv_has ls 10 [(0, .ref a0), (2, va_rf x2), (3, va_rf x3), (4, .double x4), (7, va_rf x7), (8, .int x8), (9, .int x9)] → aG l 8 140 mc ms x As σ0 (oR q.2) q.1 p e s m below meth c H locs kc ks (F0 m 175 ls [])) := waf_X26_worked_S162_ X hex hr hnm n
set_option maxHeartbeats 4000000 in
set_option maxRecDepth 100000 in
theorem waf_X26_worked_L154 {l : Launch} {x : aP} {As : List Value} {σ0 : aS} {p : Program} {e : Env} {s : State} {m : MethodId} {below : List Frame} {meth : Method} {c : Code} {mc ms : Nat} (X : aX "BasicMachine$Mat" p l s m As.toArray meth c cX26_worked 10 x σ0) (hex : ∀ z ∈ c.exceptionTable.toList, False) (hr : meth.sig.returnType = (some (.object "BasicMachine$Matrix"))) (hnm : "worked" = meth.name) {n : Nat} {st : aS} {a0 : Nat} {x2 : Option Nat} {x3 : Option Nat} {x4 : UInt64} {z154_0 : Option Nat} {z154_1 : Int32} {z154_2 : Int32} {q : aS × ((Option Nat) ⊕ Nat)} (hE : af_X26_worked_L154 n x.sK st a0 x2 x3 x4 z154_0 z154_1 z154_2 = some q) (h1 : mc + σ0.1 = q.1.1) (h2 : ms + σ0.2.1 = q.1.2.1) {H : Heap} {locs : List Loc} {ls : Array Slot} {kc ks : Nat} (Y : aY x σ0 s st H locs kc ks) (hl : lv_has ls 10 [(0, .ref a0), (2, va_rf x2), (3, va_rf x3), (4, .double x4)]) : aG l 8 140 mc ms x As σ0 (oR q.2) q.1 p e s m below meth c H locs kc ks (F0 m 154 ls [.int z154_2, .int z154_1, va_rf z154_0]) := by
  have hx := X.1
  have hb := X.2.1
  have hown := X.2.2.2.1
  have hts := X.2.2.2.2.1
  have hK := X.2.2.2.2.2.1
  have hl0 := X.2.2.2.2.2.2.2.2
  unfold af_X26_worked_L154 at hE
  replace hE := e_bind hE
  obtain ⟨a_1, g, hE⟩ := hE
  subst g
  replace hE := e_bind hE
  obtain ⟨u_4, g, hE⟩ := hE
  obtain ⟨fs9, g9⟩ := i_gC g
  have g7 := a_recv X Y k_X28.1 g9
  replace hE := e_cb hE
  obtain ⟨st_2, r_3, g, hE⟩ := hE
  have M9 := ((oaf_X26_worked_S162 ).1) _ hE
  refine a_callV (n := 2) (C := "BasicMachine$Matrix") (σ1 := st_2) (σf := q.1) [.int z154_1, .int z154_2] X Y (maf_X28_be hl0 n g) ⟨oaf_X28_be _ g, M9, h1, h2, (by show _ ≤ 8; decide), (by show _ ≤ 140; decide)⟩ q1676 q1398 q1399 q171 q1400 (by decide +kernel) g7 rfl hl.1 (Nat.le_of_ble_eq_true rfl) dX26_worked_154 (fun v hv H locs kc ks Y => ?_) (fun k hk => by cases hk)
  cases hv
  refine r_astore (lv' := [(7, va_rf r_3), (0, .ref a0), (2, va_rf x2), (3, va_rf x3), (4, .double x4)]) hx hb dX26_worked_157 hl (by decide) rfl (fun ls hl => ?_)
  refine lv_iconst (v := 0) hx hb dX26_worked_159 (by decide) ?_
  refine lv_istore (lv' := [(8, .int (0 : Int32)), (7, va_rf r_3), (0, .ref a0), (2, va_rf x2), (3, va_rf x3), (4, .double x4)]) hx hb dX26_worked_160 hl (by decide) (by cases r_3 <;> rfl) (fun ls hl => ?_)
  exact (waf_X26_worked_S162 X hex hr hnm).1 hE h1 h2 Y (lv_sub hl [2, 3, 4, 5, 1, 0] rfl)
set_option maxHeartbeats 4000000 in
set_option maxRecDepth 100000 in
theorem waf_X26_worked_L118 {l : Launch} {x : aP} {As : List Value} {σ0 : aS} {p : Program} {e : Env} {s : State} {m : MethodId} {below : List Frame} {meth : Method} {c : Code} {mc ms : Nat} (X : aX "BasicMachine$Mat" p l s m As.toArray meth c cX26_worked 10 x σ0) (hex : ∀ z ∈ c.exceptionTable.toList, False) (hr : meth.sig.returnType = (some (.object "BasicMachine$Matrix"))) (hnm : "worked" = meth.name) {n : Nat} {st : aS} {a0 : Nat} {x2 : Option Nat} {x3 : Option Nat} {x4 : UInt64} {z118_0 : Option Nat} {z118_1 : Int32} {q : aS × ((Option Nat) ⊕ Nat)} (hE : af_X26_worked_L118 n x.sK st a0 x2 x3 x4 z118_0 z118_1 = some q) (h1 : mc + σ0.1 = q.1.1) (h2 : ms + σ0.2.1 = q.1.2.1) {H : Heap} {locs : List Loc} {ls : Array Slot} {kc ks : Nat} (Y : aY x σ0 s st H locs kc ks) (hl : lv_has ls 10 [(0, .ref a0), (2, va_rf x2), (3, va_rf x3), (4, .double x4)]) : aG l 8 140 mc ms x As σ0 (oR q.2) q.1 p e s m below meth c H locs kc ks (F0 m 118 ls [.int z118_1, va_rf z118_0]) := by
  have hx := X.1
  have hb := X.2.1
  have hown := X.2.2.2.1
  have hts := X.2.2.2.2.1
  have hK := X.2.2.2.2.2.1
  have hl0 := X.2.2.2.2.2.2.2.2
  unfold af_X26_worked_L118 at hE
  refine lv_aload_n hx hb dX26_worked_118 rfl (lv_at hl 0 rfl) ?_
  replace hE := e_bind hE
  obtain ⟨v_1, g, hE⟩ := hE
  refine n_gI X Y k_X26 1 g (by decide) q1248 dX26_worked_119 ?_
  refine lv_bipush (v := 84) hx hb dX26_worked_122 (by decide) ?_
  refine lv_icmp_ne (tgt := 134) hx hb dX26_worked_124 (by decide) (fun c_2 => ?_) (fun c_2 => ?_)
  · replace hE := e_f c_2 hE
    refine lv_aload_n hx hb dX26_worked_134 rfl (lv_at hl 0 rfl) ?_
    replace hE := e_bind hE
    obtain ⟨v_3, g, hE⟩ := hE
    refine n_gI X Y k_X26 1 g (by decide) q1248 dX26_worked_135 ?_
    refine lv_bipush (v := 42) hx hb dX26_worked_138 (by decide) ?_
    refine lv_icmp_ne (tgt := 150) hx hb dX26_worked_140 (by decide) (fun c_4 => ?_) (fun c_4 => ?_)
    · replace hE := e_f c_4 hE
      refine r_aload_n hx hb dX26_worked_150 rfl (lv_at hl 1 rfl) ?_
      replace hE := e_bind hE
      obtain ⟨a_5, g, hE⟩ := hE
      subst g
      replace hE := e_bind hE
      obtain ⟨v_6, g, hE⟩ := hE
      refine n_gI X Y k_X28 2 g (by decide) q1389 dX26_worked_151 ?_
      exact waf_X26_worked_L154 X hex hr hnm hE h1 h2 Y (lv_sub hl [0, 1, 2, 3] rfl)
    · replace hE := e_t c_4 hE
      refine r_aload_n hx hb dX26_worked_143 rfl (lv_at hl 2 rfl) ?_
      replace hE := e_bind hE
      obtain ⟨a_7, g, hE⟩ := hE
      subst g
      replace hE := e_bind hE
      obtain ⟨v_8, g, hE⟩ := hE
      refine n_gI X Y k_X28 2 g (by decide) q1389 dX26_worked_144 ?_
      refine lv_goto (tgt := 154) hx hb dX26_worked_147 (by decide) ?_
      exact waf_X26_worked_L154 X hex hr hnm hE h1 h2 Y (lv_sub hl [0, 1, 2, 3] rfl)
  · replace hE := e_t c_2 hE
    refine r_aload_n hx hb dX26_worked_127 rfl (lv_at hl 1 rfl) ?_
    replace hE := e_bind hE
    obtain ⟨a_9, g, hE⟩ := hE
    subst g
    replace hE := e_bind hE
    obtain ⟨v_10, g, hE⟩ := hE
    refine n_gI X Y k_X28 1 g (by decide) q1387 dX26_worked_128 ?_
    refine lv_goto (tgt := 154) hx hb dX26_worked_131 (by decide) ?_
    exact waf_X26_worked_L154 X hex hr hnm hE h1 h2 Y (lv_sub hl [0, 1, 2, 3] rfl)
set_option maxHeartbeats 4000000 in
set_option maxRecDepth 100000 in
theorem waf_X26_worked_L94 {l : Launch} {x : aP} {As : List Value} {σ0 : aS} {p : Program} {e : Env} {s : State} {m : MethodId} {below : List Frame} {meth : Method} {c : Code} {mc ms : Nat} (X : aX "BasicMachine$Mat" p l s m As.toArray meth c cX26_worked 10 x σ0) (hex : ∀ z ∈ c.exceptionTable.toList, False) (hr : meth.sig.returnType = (some (.object "BasicMachine$Matrix"))) (hnm : "worked" = meth.name) {n : Nat} {st : aS} {a0 : Nat} {x1 : Option Nat} {x2 : Option Nat} {x3 : Option Nat} {x4 : UInt64} {q : aS × ((Option Nat) ⊕ Nat)} (hE : af_X26_worked_L94 n x.sK st a0 x1 x2 x3 x4 = some q) (h1 : mc + σ0.1 = q.1.1) (h2 : ms + σ0.2.1 = q.1.2.1) {H : Heap} {locs : List Loc} {ls : Array Slot} {kc ks : Nat} (Y : aY x σ0 s st H locs kc ks) (hl : lv_has ls 10 [(0, .ref a0), (1, va_rf x1), (2, va_rf x2), (3, va_rf x3), (4, .double x4)]) : aG l 8 140 mc ms x As σ0 (oR q.2) q.1 p e s m below meth c H locs kc ks (F0 m 94 ls []) := by
  have hx := X.1
  have hb := X.2.1
  have hown := X.2.2.2.1
  have hts := X.2.2.2.2.1
  have hK := X.2.2.2.2.2.1
  have hl0 := X.2.2.2.2.2.2.2.2
  unfold af_X26_worked_L94 at hE
  refine r_aload_n hx hb dX26_worked_94 rfl (lv_at hl 1 rfl) ?_
  replace hE := e_bind hE
  obtain ⟨a_1, g, hE⟩ := hE
  subst g
  replace hE := e_bind hE
  obtain ⟨r_2, g, hE⟩ := hE
  refine n_gRN (host := "BasicMachine") X Y k_X1 7 g (by decide) (by decide) dX26_worked_95 ?_
  refine lv_aload_n hx hb dX26_worked_98 rfl (lv_at hl 0 rfl) ?_
  replace hE := e_bind hE
  obtain ⟨v_3, g, hE⟩ := hE
  refine n_gI X Y k_X26 1 g (by decide) q1248 dX26_worked_99 ?_
  refine lv_bipush (v := 84) hx hb dX26_worked_102 (by decide) ?_
  refine lv_icmp_ne (tgt := 114) hx hb dX26_worked_104 (by decide) (fun c_4 => ?_) (fun c_4 => ?_)
  · replace hE := e_f c_4 hE
    refine r_aload_n hx hb dX26_worked_114 rfl (lv_at hl 2 rfl) ?_
    replace hE := e_bind hE
    obtain ⟨a_5, g, hE⟩ := hE
    subst g
    replace hE := e_bind hE
    obtain ⟨v_6, g, hE⟩ := hE
    refine n_gI X Y k_X28 1 g (by decide) q1387 dX26_worked_115 ?_
    exact waf_X26_worked_L118 X hex hr hnm hE h1 h2 Y (lv_sub hl [0, 2, 3, 4] rfl)
  · replace hE := e_t c_4 hE
    refine r_aload_n hx hb dX26_worked_107 rfl (lv_at hl 2 rfl) ?_
    replace hE := e_bind hE
    obtain ⟨a_7, g, hE⟩ := hE
    subst g
    replace hE := e_bind hE
    obtain ⟨v_8, g, hE⟩ := hE
    refine n_gI X Y k_X28 2 g (by decide) q1389 dX26_worked_108 ?_
    refine lv_goto (tgt := 118) hx hb dX26_worked_111 (by decide) ?_
    exact waf_X26_worked_L118 X hex hr hnm hE h1 h2 Y (lv_sub hl [0, 2, 3, 4] rfl)
set_option maxHeartbeats 4000000 in
set_option maxRecDepth 100000 in
theorem waf_X26_worked_L61 {l : Launch} {x : aP} {As : List Value} {σ0 : aS} {p : Program} {e : Env} {s : State} {m : MethodId} {below : List Frame} {meth : Method} {c : Code} {mc ms : Nat} (X : aX "BasicMachine$Mat" p l s m As.toArray meth c cX26_worked 10 x σ0) (hex : ∀ z ∈ c.exceptionTable.toList, False) (hr : meth.sig.returnType = (some (.object "BasicMachine$Matrix"))) (hnm : "worked" = meth.name) {n : Nat} {st : aS} {a0 : Nat} {x1 : Option Nat} {x2 : Option Nat} {x3 : Option Nat} {x4 : UInt64} {z61_0 : Int32} {q : aS × ((Option Nat) ⊕ Nat)} (hE : af_X26_worked_L61 n x.sK st a0 x1 x2 x3 x4 z61_0 = some q) (h1 : mc + σ0.1 = q.1.1) (h2 : ms + σ0.2.1 = q.1.2.1) {H : Heap} {locs : List Loc} {ls : Array Slot} {kc ks : Nat} (Y : aY x σ0 s st H locs kc ks) (hl : lv_has ls 10 [(0, .ref a0), (1, va_rf x1), (2, va_rf x2), (3, va_rf x3), (4, .double x4)]) : aG l 8 140 mc ms x As σ0 (oR q.2) q.1 p e s m below meth c H locs kc ks (F0 m 61 ls [.int z61_0]) := by
  have hx := X.1
  have hb := X.2.1
  have hown := X.2.2.2.1
  have hts := X.2.2.2.2.1
  have hK := X.2.2.2.2.2.1
  have hl0 := X.2.2.2.2.2.2.2.2
  unfold af_X26_worked_L61 at hE
  refine lv_istore (lv' := [(6, .int z61_0), (0, .ref a0), (1, va_rf x1), (2, va_rf x2), (3, va_rf x3), (4, .double x4)]) hx hb dX26_worked_61 hl (by decide) rfl (fun ls hl => ?_)
  refine lv_iload hx hb dX26_worked_63 (lv_at hl 0 rfl) ?_
  refine lv_if_ne (tgt := 76) hx hb dX26_worked_65 (by decide) (fun c_1 => ?_) (fun c_1 => ?_)
  · replace hE := e_f c_1 hE
    refine r_aload_n hx hb dX26_worked_76 rfl (lv_at hl 2 rfl) ?_
    replace hE := e_bind hE
    obtain ⟨a_2, g, hE⟩ := hE
    subst g
    replace hE := e_bind hE
    obtain ⟨r_3, g, hE⟩ := hE
    refine n_gRN (host := "BasicMachine") X Y k_X1 7 g (by decide) (by decide) dX26_worked_77 ?_
    refine r_ifnonnull (tgt := 94) hx hb dX26_worked_80 (by decide) (fun c_4 => ?_) (fun c_4 => ?_)
    · replace hE := e_f c_4 hE
      exact waf_X26_worked_L94 X hex hr hnm hE h1 h2 Y (lv_sub hl [1, 2, 3, 4, 5] rfl)
    · replace hE := e_t c_4 hE
      refine lv_aload_n hx hb dX26_worked_83 rfl (lv_at hl 2 rfl) ?_
      replace hE := e_bind hE
      obtain ⟨st_5, g, hE⟩ := hE
      have M9 := (mo_cb oaf_X28_init fun _ _ => (mo_s (fun _ => le_pF) fun _ => (oaf_X26_worked_L94 ))) _ hE
      refine a_new X Y k_X28 g b_X28 q1674 q1376 q171 (aRoom1 Y h1 (le_nO1 g) M9) (aRoom2 Y h2 (le_nO2 g) M9) dX26_worked_84 (fun H Y => ?_)
      generalize kc + 1 = kc at Y ⊢
      generalize ks + 3 = ks at Y ⊢
      refine lv_dup hx hb dX26_worked_87 rfl ?_
      replace hE := e_cb hE
      obtain ⟨st_6, u_7, g, hE⟩ := hE
      have M9 := (mo_s (fun _ => le_pF) fun _ => (oaf_X26_worked_L94 )) _ hE
      refine a_callIN (host := "BasicMachine") (n := 0) (σ1 := st_6) (σf := q.1) [] X Y (maf_X28_init hl0 n g) ⟨oaf_X28_init _ g, M9, h1, h2, (by show _ ≤ 8; decide), (by show _ ≤ 140; decide)⟩ (by decide) q1378 q171 q1379 rfl (by decide +kernel) rfl hl.1 (Nat.le_of_ble_eq_true rfl) dX26_worked_88 (fun v hv H locs kc ks Y => ?_) (fun k hk => by cases hk)
      cases hv
      replace hE := e_bind hE
      obtain ⟨st_8, g, hE⟩ := hE
      refine a_putNV (host := "BasicMachine") X Y k_X1 7 g (by decide) rfl (nr_o (some st.1)) (fr_o (some st.1)) (by decide) dX26_worked_91 (fun H locs Y => ?_)
      exact waf_X26_worked_L94 X hex hr hnm hE h1 h2 Y (lv_sub hl [1, 2, 3, 4, 5] rfl)
  · replace hE := e_t c_1 hE
    cases hE
    exact a_throw X Y h1 h2 rfl (by decide +kernel) q1672 q173 (at_B_Mat_5 hts hK) at_B_Mat_5_o (fun z hz => (hex z hz).elim) hl.1 (by show _ ≤ 8; decide) (Nat.le_trans (Nat.add_le_add_right (show _ ≤ 8 from (Nat.le_of_ble_eq_true rfl)) 81) (by show _ ≤ 140; decide)) dX26_worked_68 dX26_worked_71 dX26_worked_72 dX26_worked_75
set_option maxHeartbeats 4000000 in
set_option maxRecDepth 100000 in
theorem maf_X26_worked {l : Launch} (hl0 : l.stackTraces = false) (n : Nat) {x : aP} {st : aS} {a0 : Nat} {p1 : Option Nat} {p2 : Option Nat} {p3 : Option Nat} {p4 : UInt64} {q : aS × ((Option Nat) ⊕ Nat)} (hE : af_X26_worked n x.sK st a0 p1 p2 p3 p4 = some q) : aMet l yX26_worked (ws_ yX26_worked cX26_worked 10 (some (.object "BasicMachine$Matrix"))) 8 140 x [.ref a0, va_rf p1, va_rf p2, va_rf p3, .double p4] st (oR q.2) q.1 := by
  refine a_ofW (own := "BasicMachine$Mat") hl0 (by decide) rfl (by simp only [lg_sl, List.flatMap_cons, List.flatMap_nil, va_rf_cat]; exact Nat.le_of_ble_eq_true rfl) (fun mc ms p e s m below meth c ls H locs kc ks h1 h2 X hex Y hr hnm hl => ?_)
  have hnm : "worked" = meth.name := hnm
  have hl : lv_has ls 10 [(0, .ref a0), (1, va_rf p1), (2, va_rf p2), (3, va_rf p3), (4, .double p4)] := by simp only [lv_args, va_rf_cat] at hl; exact hl
  have hx := X.1
  have hb := X.2.1
  have hown := X.2.2.2.1
  have hts := X.2.2.2.2.1
  have hK := X.2.2.2.2.2.1
  have hl0 := X.2.2.2.2.2.2.2.2
  unfold af_X26_worked at hE
  refine lv_aload_n hx hb dX26_worked_0 rfl (lv_at hl 0 rfl) ?_
  replace hE := e_bind hE
  obtain ⟨v_1, g, hE⟩ := hE
  refine n_gI X Y k_X26 1 g (by decide) q1248 dX26_worked_1 ?_
  refine lv_bipush (v := 42) hx hb dX26_worked_4 (by decide) ?_
  refine lv_icmp_ne (tgt := 28) hx hb dX26_worked_6 (by decide) (fun c_2 => ?_) (fun c_2 => ?_)
  · replace hE := e_f c_2 hE
    refine lv_aload_n hx hb dX26_worked_28 rfl (lv_at hl 0 rfl) ?_
    replace hE := e_bind hE
    obtain ⟨v_3, g, hE⟩ := hE
    refine n_gI X Y k_X26 1 g (by decide) q1248 dX26_worked_29 ?_
    refine lv_bipush (v := 73) hx hb dX26_worked_32 (by decide) ?_
    refine lv_icmp_ne (tgt := 56) hx hb dX26_worked_34 (by decide) (fun c_4 => ?_) (fun c_4 => ?_)
    · replace hE := e_f c_4 hE
      refine r_aload_n hx hb dX26_worked_56 rfl (lv_at hl 2 rfl) ?_
      refine r_aload_n hx hb dX26_worked_57 rfl (lv_at hl 3 rfl) ?_
      replace hE := e_bind hE
      obtain ⟨a_5, g, hE⟩ := hE
      subst g
      replace hE := e_bind hE
      obtain ⟨u_8, g, hE⟩ := hE
      obtain ⟨fs9, g9⟩ := i_gC g
      have g7 := a_recv X Y k_X28.1 g9
      replace hE := e_cb hE
      obtain ⟨st_6, v_7, g, hE⟩ := hE
      have M9 := (oaf_X26_worked_L61 ) _ hE
      refine a_callV (n := 1) (C := "BasicMachine$Matrix") (σ1 := st_6) (σf := q.1) [va_rf p3] X Y (maf_X28_sameSize hl0 n g) ⟨oaf_X28_sameSize _ g, M9, h1, h2, (by show _ ≤ 8; decide), (by show _ ≤ 140; decide)⟩ q1668 q1669 q1670 q171 q1671 (by decide +kernel) g7 rfl hl.1 (Nat.le_of_ble_eq_true rfl) dX26_worked_58 (fun v hv H locs kc ks Y => ?_) (fun k hk => by cases hk)
      cases hv
      exact waf_X26_worked_L61 X hex hr hnm hE h1 h2 Y (lv_sub hl [0, 1, 2, 3, 4] rfl)
    · replace hE := e_t c_4 hE
      refine r_aload_n hx hb dX26_worked_37 rfl (lv_at hl 2 rfl) ?_
      replace hE := e_bind hE
      obtain ⟨a_9, g, hE⟩ := hE
      subst g
      replace hE := e_bind hE
      obtain ⟨v_10, g, hE⟩ := hE
      refine n_gI X Y k_X28 1 g (by decide) q1387 dX26_worked_38 ?_
      refine lv_aload_n hx hb dX26_worked_41 rfl (lv_at hl 2 rfl) ?_
      replace hE := e_bind hE
      obtain ⟨v_11, g, hE⟩ := hE
      refine n_gI X Y k_X28 2 g (by decide) q1389 dX26_worked_42 ?_
      refine lv_icmp_ne (tgt := 52) hx hb dX26_worked_45 (by decide) (fun c_12 => ?_) (fun c_12 => ?_)
      · replace hE := e_f c_12 hE
        refine lv_iconst (v := 0) hx hb dX26_worked_52 (by decide) ?_
        refine lv_goto (tgt := 61) hx hb dX26_worked_53 (by decide) ?_
        exact waf_X26_worked_L61 X hex hr hnm hE h1 h2 Y (lv_sub hl [0, 1, 2, 3, 4] rfl)
      · replace hE := e_t c_12 hE
        refine lv_iconst (v := 1) hx hb dX26_worked_48 (by decide) ?_
        refine lv_goto (tgt := 61) hx hb dX26_worked_49 (by decide) ?_
        exact waf_X26_worked_L61 X hex hr hnm hE h1 h2 Y (lv_sub hl [0, 1, 2, 3, 4] rfl)
  · replace hE := e_t c_2 hE
    refine r_aload_n hx hb dX26_worked_9 rfl (lv_at hl 2 rfl) ?_
    replace hE := e_bind hE
    obtain ⟨a_13, g, hE⟩ := hE
    subst g
    replace hE := e_bind hE
    obtain ⟨v_14, g, hE⟩ := hE
    refine n_gI X Y k_X28 2 g (by decide) q1389 dX26_worked_10 ?_
    refine r_aload_n hx hb dX26_worked_13 rfl (lv_at hl 3 rfl) ?_
    replace hE := e_bind hE
    obtain ⟨a_15, g, hE⟩ := hE
    subst g
    replace hE := e_bind hE
    obtain ⟨v_16, g, hE⟩ := hE
    refine n_gI X Y k_X28 1 g (by decide) q1387 dX26_worked_14 ?_
    refine lv_icmp_ne (tgt := 24) hx hb dX26_worked_17 (by decide) (fun c_17 => ?_) (fun c_17 => ?_)
    · replace hE := e_f c_17 hE
      refine lv_iconst (v := 0) hx hb dX26_worked_24 (by decide) ?_
      refine lv_goto (tgt := 61) hx hb dX26_worked_25 (by decide) ?_
      exact waf_X26_worked_L61 X hex hr hnm hE h1 h2 Y (lv_sub hl [0, 1, 2, 3, 4] rfl)
    · replace hE := e_t c_17 hE
      refine lv_iconst (v := 1) hx hb dX26_worked_20 (by decide) ?_
      refine lv_goto (tgt := 61) hx hb dX26_worked_21 (by decide) ?_
      exact waf_X26_worked_L61 X hex hr hnm hE h1 h2 Y (lv_sub hl [0, 1, 2, 3, 4] rfl)
/-! BasicMachine$Mat.run(LBasicMachine;LBasicMachine$Line;)LBasicMachine$Line; -/
set_option maxHeartbeats 4000000 in
set_option maxRecDepth 100000 in
theorem waf_X26_run_L51 {l : Launch} {x : aP} {As : List Value} {σ0 : aS} {p : Program} {e : Env} {s : State} {m : MethodId} {below : List Frame} {meth : Method} {c : Code} {mc ms : Nat} (X : aX "BasicMachine$Mat" p l s m As.toArray meth c cX26_run 8 x σ0) (hex : ∀ z ∈ c.exceptionTable.toList, False) (hr : meth.sig.returnType = (some (.object "BasicMachine$Line"))) (hnm : "run" = meth.name) {n : Nat} {st : aS} {a0 : Nat} {x1 : Option Nat} {x3 : Option Nat} {x4 : Option Nat} {z51_0 : UInt64} {q : aS × ((Option Nat) ⊕ Nat)} (hE : af_X26_run_L51 n x.sK st a0 x1 x3 x4 z51_0 = some q) (h1 : mc + σ0.1 = q.1.1) (h2 : ms + σ0.2.1 = q.1.2.1) {H : Heap} {locs : List Loc} {ls : Array Slot} {kc ks : Nat} (Y : aY x σ0 s st H locs kc ks) (hl : lv_has ls 8 [(0, .ref a0), (1, va_rf x1), (3, va_rf x3), (4, va_rf x4)]) : aG l 342 10200 mc ms x As σ0 (oR q.2) q.1 p e s m below meth c H locs kc ks (F0 m 51 ls [.double z51_0]) := by
  have hx := X.1
  have hb := X.2.1
  have hown := X.2.2.2.1
  have hts := X.2.2.2.2.1
  have hK := X.2.2.2.2.2.1
  have hl0 := X.2.2.2.2.2.2.2.2
  unfold af_X26_run_L51 at hE
  refine lv_dstore (lv' := [(5, .double z51_0), (0, .ref a0), (1, va_rf x1), (3, va_rf x3), (4, va_rf x4)]) hx hb dX26_run_51 hl (by decide) (by cases x4 <;> rfl) (fun ls hl => ?_)
  refine lv_aload_n hx hb dX26_run_53 rfl (lv_at hl 1 rfl) ?_
  refine r_aload_n hx hb dX26_run_54 rfl (lv_at hl 2 rfl) ?_
  refine r_aload_n hx hb dX26_run_55 rfl (lv_at hl 3 rfl) ?_
  refine r_aload hx hb dX26_run_56 (lv_at hl 4 rfl) ?_
  refine lv_dload hx hb dX26_run_58 (lv_at hl 0 rfl) ?_
  replace hE := e_bind hE
  obtain ⟨u_3, g, hE⟩ := hE
  obtain ⟨fs9, g9⟩ := i_gC g
  have g7 := a_recv X Y k_X26.1 g9
  replace hE := e_xb hE
  rcases hE with ⟨st_1, r_2, g, hE⟩ | ⟨st_1, k9, g, hE⟩
  rotate_left
  · subst hE
    refine a_callV (n := 4) (C := "BasicMachine$Mat") (σ1 := st_1) (σf := st_1) [va_rf x1, va_rf x3, va_rf x4, .double z51_0] X Y (maf_X26_worked hl0 n g) ⟨oaf_X26_worked _ g, aLe.rf _, h1, h2, (by show _ ≤ 342; decide), (by show _ ≤ 10200; decide)⟩ q1664 q1666 qs47 q165 q1667 (by decide +kernel) g7 rfl hl.1 (Nat.le_of_ble_eq_true rfl) dX26_run_60 (fun v hv => by cases hv) (fun k hk H locs kc ks q9 ce Y e1 e2 e3 => ?_)
    cases hk
    exact a_out X Y h1 h2 (fun z hz => (hex z hz).elim) e1 e2 e3
  have M9 := (mo_v fun _ => (mo_v fun _ => (mo_v fun _ => (mo_v fun _ => (mo_v fun _ => (mo_s (fun _ => le_pF) fun _ => (mo_v fun _ => (mo_v fun _ => (mo_v fun _ => (mo_v fun _ => (mo_v fun _ => (mo_s (fun _ => le_wR) fun _ => mo_ret)))))))))))) _ hE
  refine a_callV (n := 4) (C := "BasicMachine$Mat") (σ1 := st_1) (σf := q.1) [va_rf x1, va_rf x3, va_rf x4, .double z51_0] X Y (maf_X26_worked hl0 n g) ⟨oaf_X26_worked _ g, M9, h1, h2, (by show _ ≤ 342; decide), (by show _ ≤ 10200; decide)⟩ q1664 q1666 qs47 q165 q1667 (by decide +kernel) g7 rfl hl.1 (Nat.le_of_ble_eq_true rfl) dX26_run_60 (fun v hv H locs kc ks Y => ?_) (fun k hk => by cases hk)
  cases hv
  refine r_astore (lv' := [(7, va_rf r_2), (5, .double z51_0), (0, .ref a0), (1, va_rf x1), (3, va_rf x3), (4, va_rf x4)]) hx hb dX26_run_63 hl (by decide) rfl (fun ls hl => ?_)
  refine r_aload_n hx hb dX26_run_65 rfl (lv_at hl 3 rfl) ?_
  refine r_aload_n hx hb dX26_run_66 rfl (lv_at hl 3 rfl) ?_
  replace hE := e_bind hE
  obtain ⟨a_4, g, hE⟩ := hE
  subst g
  replace hE := e_bind hE
  obtain ⟨r_5, g, hE⟩ := hE
  refine n_gRN (host := "BasicMachine") X Y k_X1 6 g (by decide) (by decide) dX26_run_67 ?_
  refine lv_aload_n hx hb dX26_run_70 rfl (lv_at hl 2 rfl) ?_
  replace hE := e_bind hE
  obtain ⟨v_6, g, hE⟩ := hE
  refine n_gI X Y k_X26 0 g (by decide) q1247 dX26_run_71 ?_
  replace hE := e_bind hE
  obtain ⟨a_7, g, hE⟩ := hE
  subst g
  replace hE := e_bind hE
  obtain ⟨r_8, g, hE⟩ := hE
  refine a_aald X Y (by decide) rfl g dX26_run_74 ?_
  replace hE := e_bind hE
  obtain ⟨st_9, g, hE⟩ := hE
  refine a_putNV (host := "BasicMachine") X Y k_X1 7 g (by decide) rfl (nr_o r_8) (fr_o r_8) (by decide) dX26_run_75 (fun H locs Y => ?_)
  refine lv_aload_n hx hb dX26_run_78 rfl (lv_at hl 3 rfl) ?_
  replace hE := e_bind hE
  obtain ⟨r_10, g, hE⟩ := hE
  refine n_gRN (host := "BasicMachine") X Y k_X1 6 g (by decide) (by decide) dX26_run_79 ?_
  refine lv_aload_n hx hb dX26_run_82 rfl (lv_at hl 2 rfl) ?_
  replace hE := e_bind hE
  obtain ⟨v_11, g, hE⟩ := hE
  refine n_gI X Y k_X26 0 g (by decide) q1247 dX26_run_83 ?_
  refine r_aload hx hb dX26_run_86 (lv_at hl 0 rfl) ?_
  replace hE := e_bind hE
  obtain ⟨a_12, g, hE⟩ := hE
  subst g
  replace hE := e_bind hE
  obtain ⟨a_14, g, hE⟩ := hE
  subst g
  replace hE := e_bind hE
  obtain ⟨u_15, g, hE⟩ := hE
  obtain ⟨fs9, g9⟩ := i_gC g
  replace hE := e_bind hE
  obtain ⟨st_13, g, hE⟩ := hE
  refine a_aastC X Y (by decide) rfl g (a_recv X Y k_X28.1 g9) dX26_run_88 (fun H locs Y => ?_)
  refine lv_null hx hb dX26_run_89 ?_
  cases hE
  exact a_aret (r := (none : Option Nat)) X Y h1 h2 hr (Or.inl ⟨_, rfl⟩) dX26_run_90
set_option maxHeartbeats 4000000 in
set_option maxRecDepth 100000 in
theorem waf_X26_run_L28 {l : Launch} {x : aP} {As : List Value} {σ0 : aS} {p : Program} {e : Env} {s : State} {m : MethodId} {below : List Frame} {meth : Method} {c : Code} {mc ms : Nat} (X : aX "BasicMachine$Mat" p l s m As.toArray meth c cX26_run 8 x σ0) (hex : ∀ z ∈ c.exceptionTable.toList, False) (hr : meth.sig.returnType = (some (.object "BasicMachine$Line"))) (hnm : "run" = meth.name) {n : Nat} {st : aS} {a0 : Nat} {x1 : Option Nat} {x3 : Option Nat} {z28_0 : Option Nat} {q : aS × ((Option Nat) ⊕ Nat)} (hE : af_X26_run_L28 n x.sK st a0 x1 x3 z28_0 = some q) (h1 : mc + σ0.1 = q.1.1) (h2 : ms + σ0.2.1 = q.1.2.1) {H : Heap} {locs : List Loc} {ls : Array Slot} {kc ks : Nat} (Y : aY x σ0 s st H locs kc ks) (hl : lv_has ls 8 [(0, .ref a0), (1, va_rf x1), (3, va_rf x3)]) : aG l 342 10200 mc ms x As σ0 (oR q.2) q.1 p e s m below meth c H locs kc ks (F0 m 28 ls [va_rf z28_0]) := by
  have hx := X.1
  have hb := X.2.1
  have hown := X.2.2.2.1
  have hts := X.2.2.2.2.1
  have hK := X.2.2.2.2.2.1
  have hl0 := X.2.2.2.2.2.2.2.2
  unfold af_X26_run_L28 at hE
  refine r_astore (lv' := [(4, va_rf z28_0), (0, .ref a0), (1, va_rf x1), (3, va_rf x3)]) hx hb dX26_run_28 hl (by decide) (by cases x3 <;> rfl) (fun ls hl => ?_)
  refine lv_aload_n hx hb dX26_run_30 rfl (lv_at hl 1 rfl) ?_
  replace hE := e_bind hE
  obtain ⟨r_1, g, hE⟩ := hE
  refine n_gR X Y k_X26 4 g (by decide) q1251 dX26_run_31 ?_
  refine r_ifnonnull (tgt := 41) hx hb dX26_run_34 (by decide) (fun c_2 => ?_) (fun c_2 => ?_)
  · replace hE := e_f c_2 hE
    refine lv_aload_n hx hb dX26_run_41 rfl (lv_at hl 1 rfl) ?_
    replace hE := e_bind hE
    obtain ⟨r_3, g, hE⟩ := hE
    refine n_gR X Y k_X26 4 g (by decide) q1251 dX26_run_42 ?_
    refine r_aload_n hx hb dX26_run_45 rfl (lv_at hl 2 rfl) ?_
    replace hE := e_bind hE
    obtain ⟨a_4, g, hE⟩ := hE
    subst g
    replace hE := e_xb hE
    rcases hE with ⟨st_5, v_6, g, hE⟩ | ⟨st_5, k9, g, hE⟩
    rotate_left
    · subst hE
      refine a_callIf (n := 1) (σ1 := st_5) (σf := st_5) [va_rf x1] X Y (mf_value hl0 n g) ⟨(of_value _ _ _) _ g, aLe.rf _, h1, h2, (by show _ ≤ 342; decide), (by show _ ≤ 10200; decide)⟩ q1663 (by decide +kernel) rfl hl.1 (Nat.le_of_ble_eq_true rfl) dX26_run_46 (fun v hv => by cases hv) (fun k hk H locs kc ks q9 ce Y e1 e2 e3 => ?_)
      cases hk
      exact a_out X Y h1 h2 (fun z hz => (hex z hz).elim) e1 e2 e3
    have M9 := (oaf_X26_run_L51 ) _ hE
    refine a_callIf (n := 1) (σ1 := st_5) (σf := q.1) [va_rf x1] X Y (mf_value hl0 n g) ⟨(of_value _ _ _) _ g, M9, h1, h2, (by show _ ≤ 342; decide), (by show _ ≤ 10200; decide)⟩ q1663 (by decide +kernel) rfl hl.1 (Nat.le_of_ble_eq_true rfl) dX26_run_46 (fun v hv H locs kc ks Y => ?_) (fun k hk => by cases hk)
    cases hv
    exact waf_X26_run_L51 X hex hr hnm hE h1 h2 Y (lv_sub hl [1, 2, 3, 0] rfl)
  · replace hE := e_t c_2 hE
    refine lv_dconst1 hx hb dX26_run_37 ?_
    refine lv_goto (tgt := 51) hx hb dX26_run_38 (by decide) ?_
    exact waf_X26_run_L51 X hex hr hnm hE h1 h2 Y (lv_sub hl [1, 2, 3, 0] rfl)
set_option maxHeartbeats 4000000 in
set_option maxRecDepth 100000 in
theorem maf_X26_run {l : Launch} (hl0 : l.stackTraces = false) (n : Nat) {x : aP} {st : aS} {a0 : Nat} {p1 : Option Nat} {p2 : Option Nat} {q : aS × ((Option Nat) ⊕ Nat)} (hE : af_X26_run n x.sK st a0 p1 p2 = some q) : aMet l yX26_run (ws_ yX26_run cX26_run 8 (some (.object "BasicMachine$Line"))) 342 10200 x [.ref a0, va_rf p1, va_rf p2] st (oR q.2) q.1 := by
  refine a_ofW (own := "BasicMachine$Mat") hl0 (by decide) rfl (by simp only [lg_sl, List.flatMap_cons, List.flatMap_nil, va_rf_cat]; exact Nat.le_of_ble_eq_true rfl) (fun mc ms p e s m below meth c ls H locs kc ks h1 h2 X hex Y hr hnm hl => ?_)
  have hnm : "run" = meth.name := hnm
  have hl : lv_has ls 8 [(0, .ref a0), (1, va_rf p1), (2, va_rf p2)] := by simp only [lv_args, va_rf_cat] at hl; exact hl
  have hx := X.1
  have hb := X.2.1
  have hown := X.2.2.2.1
  have hts := X.2.2.2.2.1
  have hK := X.2.2.2.2.2.1
  have hl0 := X.2.2.2.2.2.2.2.2
  unfold af_X26_run at hE
  refine r_aload_n hx hb dX26_run_0 rfl (lv_at hl 1 rfl) ?_
  refine lv_aload_n hx hb dX26_run_1 rfl (lv_at hl 0 rfl) ?_
  replace hE := e_bind hE
  obtain ⟨v_1, g, hE⟩ := hE
  refine n_gI X Y k_X26 2 g (by decide) q1249 dX26_run_2 ?_
  replace hE := e_bind hE
  obtain ⟨a_2, g, hE⟩ := hE
  subst g
  replace hE := e_bind hE
  obtain ⟨u_5, g, hE⟩ := hE
  obtain ⟨fs9, g9⟩ := i_gC g
  have g7 := a_recv X Y k_X1.1 g9
  replace hE := e_xb hE
  rcases hE with ⟨st_3, r_4, g, hE⟩ | ⟨st_3, k9, g, hE⟩
  rotate_left
  · subst hE
    refine a_callVN (host := "BasicMachine") (n := 1) (C := "BasicMachine") (σ1 := st_3) (σf := st_3) [.int v_1] X Y (maf_X1_known hl0 n g) ⟨oaf_X1_known _ g, aLe.rf _, h1, h2, (by show _ ≤ 342; decide), (by show _ ≤ 10200; decide)⟩ (by decide) q1646 qs46 q122 q1647 (by decide +kernel) g7 rfl hl.1 (Nat.le_of_ble_eq_true rfl) dX26_run_5 (fun v hv => by cases hv) (fun k hk H locs kc ks q9 ce Y e1 e2 e3 => ?_)
    cases hk
    exact a_out X Y h1 h2 (fun z hz => (hex z hz).elim) e1 e2 e3
  have M9 := (mo_v fun _ => (mo_if (mo_v fun _ => (mo_v fun _ => (mo_x oaf_X1_known fun _ _ => (oaf_X26_run_L28 )))) (oaf_X26_run_L28 ))) _ hE
  refine a_callVN (host := "BasicMachine") (n := 1) (C := "BasicMachine") (σ1 := st_3) (σf := q.1) [.int v_1] X Y (maf_X1_known hl0 n g) ⟨oaf_X1_known _ g, M9, h1, h2, (by show _ ≤ 342; decide), (by show _ ≤ 10200; decide)⟩ (by decide) q1646 qs46 q122 q1647 (by decide +kernel) g7 rfl hl.1 (Nat.le_of_ble_eq_true rfl) dX26_run_5 (fun v hv H locs kc ks Y => ?_) (fun k hk => by cases hk)
  cases hv
  refine r_astore_n (i := 3) (lv' := [(3, va_rf r_4), (0, .ref a0), (1, .ref a_2), (2, va_rf p2)]) hx hb dX26_run_8 rfl hl (by decide) (by cases p2 <;> rfl) (fun ls hl => ?_)
  refine lv_aload_n hx hb dX26_run_9 rfl (lv_at hl 1 rfl) ?_
  replace hE := e_bind hE
  obtain ⟨v_6, g, hE⟩ := hE
  refine n_gI X Y k_X26 3 g (by decide) q1250 dX26_run_10 ?_
  refine lv_if_ge (tgt := 20) hx hb dX26_run_13 (by decide) (fun c_7 => ?_) (fun c_7 => ?_)
  · replace hE := e_t c_7 hE
    refine lv_aload_n hx hb dX26_run_20 rfl (lv_at hl 2 rfl) ?_
    refine lv_aload_n hx hb dX26_run_21 rfl (lv_at hl 1 rfl) ?_
    replace hE := e_bind hE
    obtain ⟨v_8, g, hE⟩ := hE
    refine n_gI X Y k_X26 3 g (by decide) q1250 dX26_run_22 ?_
    replace hE := e_bind hE
    obtain ⟨u_11, g, hE⟩ := hE
    obtain ⟨fs9, g9⟩ := i_gC g
    have g7 := a_recv X Y k_X1.1 g9
    replace hE := e_xb hE
    rcases hE with ⟨st_9, r_10, g, hE⟩ | ⟨st_9, k9, g, hE⟩
    rotate_left
    · subst hE
      refine a_callVN (host := "BasicMachine") (n := 1) (C := "BasicMachine") (σ1 := st_9) (σf := st_9) [.int v_8] X Y (maf_X1_known hl0 n g) ⟨oaf_X1_known _ g, aLe.rf _, h1, h2, (by show _ ≤ 342; decide), (by show _ ≤ 10200; decide)⟩ (by decide) q1646 qs46 q122 q1647 (by decide +kernel) g7 rfl hl.1 (Nat.le_of_ble_eq_true rfl) dX26_run_25 (fun v hv => by cases hv) (fun k hk H locs kc ks q9 ce Y e1 e2 e3 => ?_)
      cases hk
      exact a_out X Y h1 h2 (fun z hz => (hex z hz).elim) e1 e2 e3
    have M9 := (oaf_X26_run_L28 ) _ hE
    refine a_callVN (host := "BasicMachine") (n := 1) (C := "BasicMachine") (σ1 := st_9) (σf := q.1) [.int v_8] X Y (maf_X1_known hl0 n g) ⟨oaf_X1_known _ g, M9, h1, h2, (by show _ ≤ 342; decide), (by show _ ≤ 10200; decide)⟩ (by decide) q1646 qs46 q122 q1647 (by decide +kernel) g7 rfl hl.1 (Nat.le_of_ble_eq_true rfl) dX26_run_25 (fun v hv H locs kc ks Y => ?_) (fun k hk => by cases hk)
    cases hv
    exact waf_X26_run_L28 X hex hr hnm hE h1 h2 Y (lv_sub hl [1, 2, 0] rfl)
  · replace hE := e_f c_7 hE
    refine r_aload_n hx hb dX26_run_16 rfl (lv_at hl 0 rfl) ?_
    refine lv_goto (tgt := 28) hx hb dX26_run_17 (by decide) ?_
    exact waf_X26_run_L28 X hex hr hnm hE h1 h2 Y (lv_sub hl [1, 2, 0] rfl)
/-! BasicMachine$Loop.step()D -/
set_option maxHeartbeats 4000000 in
set_option maxRecDepth 100000 in
theorem maf_X29_step {l : Launch} (hl0 : l.stackTraces = false) (n : Nat) {x : aP} {st : aS} {a0 : Nat} {q : aS × (UInt64)} (hE : af_X29_step n x.sK st a0 = some q) : aMet l yX29_step (ws_ yX29_step cX29_step 1 (some .double)) 0 0 x [.ref a0] st (.inl (some (.double q.2))) q.1 := by
  refine a_ofW (own := "BasicMachine$Loop") hl0 (by decide) rfl (Nat.le_of_ble_eq_true rfl) (fun mc ms p e s m below meth c ls H locs kc ks h1 h2 X hex Y hr hnm hl => ?_)
  have hnm : "step" = meth.name := hnm
  have hl : lv_has ls 1 [(0, .ref a0)] := hl
  have hx := X.1
  have hb := X.2.1
  have hown := X.2.2.2.1
  have hts := X.2.2.2.2.1
  have hK := X.2.2.2.2.2.1
  have hl0 := X.2.2.2.2.2.2.2.2
  unfold af_X29_step at hE
  refine lv_aload_n hx hb dX29_step_0 rfl (lv_at hl 0 rfl) ?_
  replace hE := e_bind hE
  obtain ⟨v_1, g, hE⟩ := hE
  refine n_gD X Y k_X29 2 g (by decide) q1561 dX29_step_1 ?_
  cases hE
  exact a_dret X Y h1 h2 hr dX29_step_4
/-! BasicMachine$Loop.limit()D -/
set_option maxHeartbeats 4000000 in
set_option maxRecDepth 100000 in
theorem maf_X29_limit {l : Launch} (hl0 : l.stackTraces = false) (n : Nat) {x : aP} {st : aS} {a0 : Nat} {q : aS × (UInt64)} (hE : af_X29_limit n x.sK st a0 = some q) : aMet l yX29_limit (ws_ yX29_limit cX29_limit 1 (some .double)) 0 0 x [.ref a0] st (.inl (some (.double q.2))) q.1 := by
  refine a_ofW (own := "BasicMachine$Loop") hl0 (by decide) rfl (Nat.le_of_ble_eq_true rfl) (fun mc ms p e s m below meth c ls H locs kc ks h1 h2 X hex Y hr hnm hl => ?_)
  have hnm : "limit" = meth.name := hnm
  have hl : lv_has ls 1 [(0, .ref a0)] := hl
  have hx := X.1
  have hb := X.2.1
  have hown := X.2.2.2.1
  have hts := X.2.2.2.2.1
  have hK := X.2.2.2.2.2.1
  have hl0 := X.2.2.2.2.2.2.2.2
  unfold af_X29_limit at hE
  refine lv_aload_n hx hb dX29_limit_0 rfl (lv_at hl 0 rfl) ?_
  replace hE := e_bind hE
  obtain ⟨v_1, g, hE⟩ := hE
  refine n_gD X Y k_X29 1 g (by decide) q1560 dX29_limit_1 ?_
  cases hE
  exact a_dret X Y h1 h2 hr dX29_limit_4
/-! BasicMachine$Loop.from()LBasicMachine$Line; -/
set_option maxHeartbeats 4000000 in
set_option maxRecDepth 100000 in
theorem maf_X29_from {l : Launch} (hl0 : l.stackTraces = false) (n : Nat) {x : aP} {st : aS} {a0 : Nat} {q : aS × (Option Nat)} (hE : af_X29_from n x.sK st a0 = some q) : aMet l yX29_from (ws_ yX29_from cX29_from 1 (some (.object "BasicMachine$Line"))) 0 0 x [.ref a0] st (.inl (some (va_rf q.2))) q.1 := by
  refine a_ofW (own := "BasicMachine$Loop") hl0 (by decide) rfl (Nat.le_of_ble_eq_true rfl) (fun mc ms p e s m below meth c ls H locs kc ks h1 h2 X hex Y hr hnm hl => ?_)
  have hnm : "from" = meth.name := hnm
  have hl : lv_has ls 1 [(0, .ref a0)] := hl
  have hx := X.1
  have hb := X.2.1
  have hown := X.2.2.2.1
  have hts := X.2.2.2.2.1
  have hK := X.2.2.2.2.2.1
  have hl0 := X.2.2.2.2.2.2.2.2
  unfold af_X29_from at hE
  refine lv_aload_n hx hb dX29_from_0 rfl (lv_at hl 0 rfl) ?_
  replace hE := e_bind hE
  obtain ⟨r_1, g, hE⟩ := hE
  refine n_gR X Y k_X29 3 g (by decide) q1562 dX29_from_1 ?_
  cases hE
  exact a_aret (r := r_1) X Y h1 h2 hr (Or.inl ⟨_, rfl⟩) dX29_from_4
/-! BasicMachine$Next.run(LBasicMachine;LBasicMachine$Line;)LBasicMachine$Line; -/
set_option maxHeartbeats 4000000 in
set_option maxRecDepth 100000 in
theorem maf_X20_run {l : Launch} (hl0 : l.stackTraces = false) (n : Nat) {x : aP} {st : aS} {a0 : Nat} {p1 : Option Nat} {p2 : Option Nat} {q : aS × ((Option Nat) ⊕ Nat)} (hE : af_X20_run n x.sK st a0 p1 p2 = some q) : aMet l yX20_run (ws_ yX20_run cX20_run 5 (some (.object "BasicMachine$Line"))) 342 10200 x [.ref a0, va_rf p1, va_rf p2] st (oR q.2) q.1 := by
  refine a_ofW (own := "BasicMachine$Next") hl0 (by decide) rfl (by simp only [lg_sl, List.flatMap_cons, List.flatMap_nil, va_rf_cat]; exact Nat.le_of_ble_eq_true rfl) (fun mc ms p e s m below meth c ls H locs kc ks h1 h2 X hex Y hr hnm hl => ?_)
  have hnm : "run" = meth.name := hnm
  have hl : lv_has ls 5 [(0, .ref a0), (1, va_rf p1), (2, va_rf p2)] := by simp only [lv_args, va_rf_cat] at hl; exact hl
  have hx := X.1
  have hb := X.2.1
  have hown := X.2.2.2.1
  have hts := X.2.2.2.2.1
  have hK := X.2.2.2.2.2.1
  have hl0 := X.2.2.2.2.2.2.2.2
  unfold af_X20_run at hE
  refine r_aload_n hx hb dX20_run_0 rfl (lv_at hl 1 rfl) ?_
  refine lv_aload_n hx hb dX20_run_1 rfl (lv_at hl 0 rfl) ?_
  replace hE := e_bind hE
  obtain ⟨v_1, g, hE⟩ := hE
  refine n_gI X Y k_X20 0 g (by decide) q1155 dX20_run_2 ?_
  replace hE := e_bind hE
  obtain ⟨a_2, g, hE⟩ := hE
  subst g
  replace hE := e_bind hE
  obtain ⟨u_5, g, hE⟩ := hE
  obtain ⟨fs9, g9⟩ := i_gC g
  have g7 := a_recv X Y k_X1.1 g9
  replace hE := e_cb hE
  obtain ⟨st_3, v_4, g, hE⟩ := hE
  have M9 := (mo_if (mo_s (fun _ => le_pF) fun _ => (mo_v fun _ => (mo_v fun _ => (mo_v fun _ => (mo_v fun _ => (mo_v fun _ => (mo_v fun _ => (mo_v fun _ => (mo_v fun _ => (mo_v fun _ => (mo_v fun _ => (mo_v fun _ => (mo_cb oaf_X29_step fun _ _ => (mo_v fun _ => (mo_x oaf_X1_checked fun _ _ => (mo_v fun _ => (mo_s (fun _ => le_wD) fun _ => (mo_v fun _ => (mo_v fun _ => (mo_v fun _ => (mo_v fun _ => (mo_v fun _ => (mo_cb oaf_X29_limit fun _ _ => (mo_v fun _ => (mo_cb oaf_X29_step fun _ _ => (mo_cb oaf_X29_over fun _ _ => (mo_if (mo_v fun _ => (mo_cb oaf_X29_from fun _ _ => (mo_v fun _ => (mo_cb oaf_X1_after fun _ _ => mo_ret)))) (mo_s (fun _ => le_pF) fun _ => mo_ret)))))))))))))))))))))))))))) mo_tw) _ hE
  refine a_callVN (host := "BasicMachine") (n := 1) (C := "BasicMachine") (σ1 := st_3) (σf := q.1) [.int v_1] X Y (maf_X1_loop hl0 n g) ⟨oaf_X1_loop _ g, M9, h1, h2, (by show _ ≤ 342; decide), (by show _ ≤ 10200; decide)⟩ (by decide) q1529 qs42 q122 q1530 (by decide +kernel) g7 rfl hl.1 (Nat.le_of_ble_eq_true rfl) dX20_run_5 (fun v hv H locs kc ks Y => ?_) (fun k hk => by cases hk)
  cases hv
  refine lv_istore_n (i := 3) (lv' := [(3, .int v_4), (0, .ref a0), (1, .ref a_2), (2, va_rf p2)]) hx hb dX20_run_8 rfl hl (by decide) (by cases p2 <;> rfl) (fun ls hl => ?_)
  refine lv_iload_n hx hb dX20_run_9 rfl (lv_at hl 0 rfl) ?_
  refine lv_if_ge (tgt := 21) hx hb dX20_run_10 (by decide) (fun c_6 => ?_) (fun c_6 => ?_)
  · replace hE := e_t c_6 hE
    refine lv_aload_n hx hb dX20_run_21 rfl (lv_at hl 2 rfl) ?_
    refine lv_iload_n hx hb dX20_run_22 rfl (lv_at hl 0 rfl) ?_
    refine lv_iconst (v := 1) hx hb dX20_run_23 (by decide) ?_
    refine lv_iadd hx hb dX20_run_24 ?_
    replace hE := e_bind hE
    obtain ⟨st_7, g, hE⟩ := hE
    refine a_putNV (host := "BasicMachine") X Y k_X1 15 g (by decide) rfl rfl rfl (by decide) dX20_run_25 (fun H locs Y => ?_)
    refine lv_aload_n hx hb dX20_run_28 rfl (lv_at hl 2 rfl) ?_
    replace hE := e_bind hE
    obtain ⟨r_8, g, hE⟩ := hE
    refine n_gRN (host := "BasicMachine") X Y k_X1 14 g (by decide) (by decide) dX20_run_29 ?_
    refine lv_iload_n hx hb dX20_run_32 rfl (lv_at hl 0 rfl) ?_
    replace hE := e_bind hE
    obtain ⟨a_9, g, hE⟩ := hE
    subst g
    replace hE := e_bind hE
    obtain ⟨r_10, g, hE⟩ := hE
    refine a_aald X Y (by decide) rfl g dX20_run_33 ?_
    refine r_astore (lv' := [(4, va_rf r_10), (3, .int v_4), (0, .ref a0), (1, .ref a_2), (2, va_rf p2)]) hx hb dX20_run_34 hl (by decide) rfl (fun ls hl => ?_)
    refine lv_aload_n hx hb dX20_run_36 rfl (lv_at hl 3 rfl) ?_
    replace hE := e_bind hE
    obtain ⟨r_11, g, hE⟩ := hE
    refine n_gRN (host := "BasicMachine") X Y k_X1 5 g (by decide) (by decide) dX20_run_37 ?_
    refine lv_aload_n hx hb dX20_run_40 rfl (lv_at hl 2 rfl) ?_
    replace hE := e_bind hE
    obtain ⟨v_12, g, hE⟩ := hE
    refine n_gI X Y k_X20 0 g (by decide) q1155 dX20_run_41 ?_
    refine lv_aload_n hx hb dX20_run_44 rfl (lv_at hl 3 rfl) ?_
    replace hE := e_bind hE
    obtain ⟨r_13, g, hE⟩ := hE
    refine n_gRN (host := "BasicMachine") X Y k_X1 5 g (by decide) (by decide) dX20_run_45 ?_
    refine lv_aload_n hx hb dX20_run_48 rfl (lv_at hl 2 rfl) ?_
    replace hE := e_bind hE
    obtain ⟨v_14, g, hE⟩ := hE
    refine n_gI X Y k_X20 0 g (by decide) q1155 dX20_run_49 ?_
    replace hE := e_bind hE
    obtain ⟨a_15, g, hE⟩ := hE
    subst g
    replace hE := e_bind hE
    obtain ⟨v_16, g, hE⟩ := hE
    refine a_dald X Y g dX20_run_52 ?_
    refine r_aload hx hb dX20_run_53 (lv_at hl 0 rfl) ?_
    replace hE := e_bind hE
    obtain ⟨a_17, g, hE⟩ := hE
    subst g
    replace hE := e_bind hE
    obtain ⟨u_20, g, hE⟩ := hE
    obtain ⟨fs9, g9⟩ := i_gC g
    have g7 := a_recv X Y k_X29.1 g9
    replace hE := e_cb hE
    obtain ⟨st_18, v_19, g, hE⟩ := hE
    have M9 := (mo_v fun _ => (mo_x oaf_X1_checked fun _ _ => (mo_v fun _ => (mo_s (fun _ => le_wD) fun _ => (mo_v fun _ => (mo_v fun _ => (mo_v fun _ => (mo_v fun _ => (mo_v fun _ => (mo_cb oaf_X29_limit fun _ _ => (mo_v fun _ => (mo_cb oaf_X29_step fun _ _ => (mo_cb oaf_X29_over fun _ _ => (mo_if (mo_v fun _ => (mo_cb oaf_X29_from fun _ _ => (mo_v fun _ => (mo_cb oaf_X1_after fun _ _ => mo_ret)))) (mo_s (fun _ => le_pF) fun _ => mo_ret))))))))))))))) _ hE
    refine a_callV (n := 0) (C := "BasicMachine$Loop") (σ1 := st_18) (σf := q.1) [] X Y (maf_X29_step hl0 n g) ⟨oaf_X29_step _ g, M9, h1, h2, (by show _ ≤ 342; decide), (by show _ ≤ 10200; decide)⟩ q1691 q1692 q1693 q172 q1694 (by decide +kernel) g7 rfl hl.1 (by simp only [List.map_cons, List.map_nil, va_rf_cat]; exact Nat.le_of_ble_eq_true rfl) dX20_run_55 (fun v hv H locs kc ks Y => ?_) (fun k hk => by cases hk)
    cases hv
    replace hE := e_bind hE
    obtain ⟨v_21, g, hE⟩ := hE
    refine n_dadd hx hb g dX20_run_58 ?_
    replace hE := e_xb hE
    rcases hE with ⟨st_22, v_23, g, hE⟩ | ⟨st_22, k9, g, hE⟩
    rotate_left
    · subst hE
      refine a_callSN (host := "BasicMachine") (n := 1) (σ1 := st_22) (σf := st_22) [.double v_21] X Y (maf_X1_checked hl0 n g) ⟨oaf_X1_checked _ g, aLe.rf _, h1, h2, (by show _ ≤ 342; decide), (by show _ ≤ 10200; decide)⟩ (by decide) q1465 q122 q1466 (by decide +kernel) rfl hl.1 (by simp only [List.map_cons, List.map_nil, va_rf_cat]; exact Nat.le_of_ble_eq_true rfl) dX20_run_59 (fun v hv => by cases hv) (fun k hk H locs kc ks q9 ce Y e1 e2 e3 => ?_)
      cases hk
      exact a_out X Y h1 h2 (fun z hz => (hex z hz).elim) e1 e2 e3
    have M9 := (mo_v fun _ => (mo_s (fun _ => le_wD) fun _ => (mo_v fun _ => (mo_v fun _ => (mo_v fun _ => (mo_v fun _ => (mo_v fun _ => (mo_cb oaf_X29_limit fun _ _ => (mo_v fun _ => (mo_cb oaf_X29_step fun _ _ => (mo_cb oaf_X29_over fun _ _ => (mo_if (mo_v fun _ => (mo_cb oaf_X29_from fun _ _ => (mo_v fun _ => (mo_cb oaf_X1_after fun _ _ => mo_ret)))) (mo_s (fun _ => le_pF) fun _ => mo_ret))))))))))))) _ hE
    refine a_callSN (host := "BasicMachine") (n := 1) (σ1 := st_22) (σf := q.1) [.double v_21] X Y (maf_X1_checked hl0 n g) ⟨oaf_X1_checked _ g, M9, h1, h2, (by show _ ≤ 342; decide), (by show _ ≤ 10200; decide)⟩ (by decide) q1465 q122 q1466 (by decide +kernel) rfl hl.1 (by simp only [List.map_cons, List.map_nil, va_rf_cat]; exact Nat.le_of_ble_eq_true rfl) dX20_run_59 (fun v hv H locs kc ks Y => ?_) (fun k hk => by cases hk)
    cases hv
    replace hE := e_bind hE
    obtain ⟨a_24, g, hE⟩ := hE
    subst g
    replace hE := e_bind hE
    obtain ⟨st_25, g, hE⟩ := hE
    refine a_dast X Y g dX20_run_62 (fun H locs Y => ?_)
    refine lv_aload_n hx hb dX20_run_63 rfl (lv_at hl 3 rfl) ?_
    replace hE := e_bind hE
    obtain ⟨r_26, g, hE⟩ := hE
    refine n_gRN (host := "BasicMachine") X Y k_X1 5 g (by decide) (by decide) dX20_run_64 ?_
    refine lv_aload_n hx hb dX20_run_67 rfl (lv_at hl 2 rfl) ?_
    replace hE := e_bind hE
    obtain ⟨v_27, g, hE⟩ := hE
    refine n_gI X Y k_X20 0 g (by decide) q1155 dX20_run_68 ?_
    replace hE := e_bind hE
    obtain ⟨a_28, g, hE⟩ := hE
    subst g
    replace hE := e_bind hE
    obtain ⟨v_29, g, hE⟩ := hE
    refine a_dald X Y g dX20_run_71 ?_
    refine lv_aload hx hb dX20_run_72 (lv_at hl 0 rfl) ?_
    replace hE := e_bind hE
    obtain ⟨u_32, g, hE⟩ := hE
    obtain ⟨fs9, g9⟩ := i_gC g
    have g7 := a_recv X Y k_X29.1 g9
    replace hE := e_cb hE
    obtain ⟨st_30, v_31, g, hE⟩ := hE
    have M9 := (mo_v fun _ => (mo_cb oaf_X29_step fun _ _ => (mo_cb oaf_X29_over fun _ _ => (mo_if (mo_v fun _ => (mo_cb oaf_X29_from fun _ _ => (mo_v fun _ => (mo_cb oaf_X1_after fun _ _ => mo_ret)))) (mo_s (fun _ => le_pF) fun _ => mo_ret))))) _ hE
    refine a_callV (n := 0) (C := "BasicMachine$Loop") (σ1 := st_30) (σf := q.1) [] X Y (maf_X29_limit hl0 n g) ⟨oaf_X29_limit _ g, M9, h1, h2, (by show _ ≤ 342; decide), (by show _ ≤ 10200; decide)⟩ q1696 q1697 q1698 q172 q1699 (by decide +kernel) g7 rfl hl.1 (Nat.le_of_ble_eq_true rfl) dX20_run_74 (fun v hv H locs kc ks Y => ?_) (fun k hk => by cases hk)
    cases hv
    refine lv_aload hx hb dX20_run_77 (lv_at hl 0 rfl) ?_
    replace hE := e_bind hE
    obtain ⟨u_35, g, hE⟩ := hE
    obtain ⟨fs9, g9⟩ := i_gC g
    have g7 := a_recv X Y k_X29.1 g9
    replace hE := e_cb hE
    obtain ⟨st_33, v_34, g, hE⟩ := hE
    have M9 := (mo_cb oaf_X29_over fun _ _ => (mo_if (mo_v fun _ => (mo_cb oaf_X29_from fun _ _ => (mo_v fun _ => (mo_cb oaf_X1_after fun _ _ => mo_ret)))) (mo_s (fun _ => le_pF) fun _ => mo_ret))) _ hE
    refine a_callV (n := 0) (C := "BasicMachine$Loop") (σ1 := st_33) (σf := q.1) [] X Y (maf_X29_step hl0 n g) ⟨oaf_X29_step _ g, M9, h1, h2, (by show _ ≤ 342; decide), (by show _ ≤ 10200; decide)⟩ q1691 q1692 q1693 q172 q1694 (by decide +kernel) g7 rfl hl.1 (Nat.le_of_ble_eq_true rfl) dX20_run_79 (fun v hv H locs kc ks Y => ?_) (fun k hk => by cases hk)
    cases hv
    replace hE := e_cb hE
    obtain ⟨st_36, v_37, g, hE⟩ := hE
    have M9 := (mo_if (mo_v fun _ => (mo_cb oaf_X29_from fun _ _ => (mo_v fun _ => (mo_cb oaf_X1_after fun _ _ => mo_ret)))) (mo_s (fun _ => le_pF) fun _ => mo_ret)) _ hE
    refine a_callS (n := 3) (σ1 := st_36) (σf := q.1) [.double v_29, .double v_31, .double v_34] X Y (maf_X29_over hl0 n g) ⟨oaf_X29_over _ g, M9, h1, h2, (by show _ ≤ 342; decide), (by show _ ≤ 10200; decide)⟩ q1700 q1536 q172 q1537 (by decide +kernel) rfl hl.1 (Nat.le_of_ble_eq_true rfl) dX20_run_82 (fun v hv H locs kc ks Y => ?_) (fun k hk => by cases hk)
    cases hv
    refine lv_if_ne (tgt := 98) hx hb dX20_run_85 (by decide) (fun c_38 => ?_) (fun c_38 => ?_)
    · replace hE := e_f c_38 hE
      refine lv_aload_n hx hb dX20_run_98 rfl (lv_at hl 3 rfl) ?_
      refine lv_iload_n hx hb dX20_run_99 rfl (lv_at hl 1 rfl) ?_
      replace hE := e_bind hE
      obtain ⟨st_39, g, hE⟩ := hE
      refine a_putNV (host := "BasicMachine") X Y k_X1 15 g (by decide) rfl rfl rfl (by decide) dX20_run_100 (fun H locs Y => ?_)
      refine lv_null hx hb dX20_run_103 ?_
      cases hE
      exact a_aret (r := (none : Option Nat)) X Y h1 h2 hr (Or.inl ⟨_, rfl⟩) dX20_run_104
    · replace hE := e_t c_38 hE
      refine lv_aload_n hx hb dX20_run_88 rfl (lv_at hl 3 rfl) ?_
      refine lv_aload hx hb dX20_run_89 (lv_at hl 0 rfl) ?_
      replace hE := e_bind hE
      obtain ⟨u_42, g, hE⟩ := hE
      obtain ⟨fs9, g9⟩ := i_gC g
      have g7 := a_recv X Y k_X29.1 g9
      replace hE := e_cb hE
      obtain ⟨st_40, r_41, g, hE⟩ := hE
      have M9 := (mo_v fun _ => (mo_cb oaf_X1_after fun _ _ => mo_ret)) _ hE
      refine a_callV (n := 0) (C := "BasicMachine$Loop") (σ1 := st_40) (σf := q.1) [] X Y (maf_X29_from hl0 n g) ⟨oaf_X29_from _ g, M9, h1, h2, (by show _ ≤ 342; decide), (by show _ ≤ 10200; decide)⟩ q1701 q1702 q1703 q172 q1704 (by decide +kernel) g7 rfl hl.1 (Nat.le_of_ble_eq_true rfl) dX20_run_91 (fun v hv H locs kc ks Y => ?_) (fun k hk => by cases hk)
      cases hv
      replace hE := e_bind hE
      obtain ⟨u_45, g, hE⟩ := hE
      obtain ⟨fs9, g9⟩ := i_gC g
      have g7 := a_recv X Y k_X1.1 g9
      replace hE := e_cb hE
      obtain ⟨st_43, r_44, g, hE⟩ := hE
      have M9 := mo_ret _ hE
      refine a_callVN (host := "BasicMachine") (n := 1) (C := "BasicMachine") (σ1 := st_43) (σf := q.1) [va_rf r_41] X Y (maf_X1_after hl0 n g) ⟨oaf_X1_after _ g, M9, h1, h2, (by show _ ≤ 342; decide), (by show _ ≤ 10200; decide)⟩ (by decide) q1549 qs44 q122 q1550 (by decide +kernel) g7 rfl hl.1 (Nat.le_of_ble_eq_true rfl) dX20_run_94 (fun v hv H locs kc ks Y => ?_) (fun k hk => by cases hk)
      cases hv
      cases hE
      exact a_aret (r := r_44) X Y h1 h2 hr (Or.inl ⟨_, rfl⟩) dX20_run_97
  · replace hE := e_f c_6 hE
    cases hE
    exact a_throw X Y h1 h2 rfl (by decide +kernel) q1689 q128 (at_B_Next_1 hts hK) at_B_Next_1_o (fun z hz => (hex z hz).elim) hl.1 (by show _ ≤ 342; decide) (Nat.le_trans (Nat.add_le_add_right (show _ ≤ 8 from (Nat.le_of_ble_eq_true rfl)) 81) (by show _ ≤ 10200; decide)) dX20_run_13 dX20_run_16 dX20_run_17 dX20_run_20
/-! BasicMachine$Nothing.run(LBasicMachine;LBasicMachine$Line;)LBasicMachine$Line; -/
set_option maxHeartbeats 4000000 in
set_option maxRecDepth 100000 in
theorem maf_X27_run {l : Launch} (hl0 : l.stackTraces = false) (n : Nat) {x : aP} {st : aS} {a0 : Nat} {p1 : Option Nat} {p2 : Option Nat} {q : aS × ((Option Nat) ⊕ Nat)} (hE : af_X27_run n x.sK st a0 p1 p2 = some q) : aMet l yX27_run (ws_ yX27_run cX27_run 3 (some (.object "BasicMachine$Line"))) 342 10200 x [.ref a0, va_rf p1, va_rf p2] st (oR q.2) q.1 := by
  refine a_ofW (own := "BasicMachine$Nothing") hl0 (by decide) rfl (by simp only [lg_sl, List.flatMap_cons, List.flatMap_nil, va_rf_cat]; exact Nat.le_of_ble_eq_true rfl) (fun mc ms p e s m below meth c ls H locs kc ks h1 h2 X hex Y hr hnm hl => ?_)
  have hnm : "run" = meth.name := hnm
  have hl : lv_has ls 3 [(0, .ref a0), (1, va_rf p1), (2, va_rf p2)] := by simp only [lv_args, va_rf_cat] at hl; exact hl
  have hx := X.1
  have hb := X.2.1
  have hown := X.2.2.2.1
  have hts := X.2.2.2.2.1
  have hK := X.2.2.2.2.2.1
  have hl0 := X.2.2.2.2.2.2.2.2
  unfold af_X27_run at hE
  refine lv_aload_n hx hb dX27_run_0 rfl (lv_at hl 0 rfl) ?_
  replace hE := e_bind hE
  obtain ⟨v_1, g, hE⟩ := hE
  refine n_gI X Y k_X27 0 g (by decide) q1270 dX27_run_1 ?_
  refine lv_if_eq (tgt := 12) hx hb dX27_run_4 (by decide) (fun c_2 => ?_) (fun c_2 => ?_)
  · replace hE := e_t c_2 hE
    refine lv_null hx hb dX27_run_12 ?_
    cases hE
    exact a_aret (r := (none : Option Nat)) X Y h1 h2 hr (Or.inl ⟨_, rfl⟩) dX27_run_13
  · replace hE := e_f c_2 hE
    refine r_aload_n hx hb dX27_run_7 rfl (lv_at hl 1 rfl) ?_
    refine lv_iconst (v := 1) hx hb dX27_run_8 (by decide) ?_
    replace hE := e_bind hE
    obtain ⟨a_3, g, hE⟩ := hE
    subst g
    replace hE := e_bind hE
    obtain ⟨st_4, g, hE⟩ := hE
    refine a_putNV (host := "BasicMachine") X Y k_X1 20 g (by decide) rfl nz1 fz1 (by decide) dX27_run_9 (fun H locs Y => ?_)
    refine lv_null hx hb dX27_run_12 ?_
    cases hE
    exact a_aret (r := (none : Option Nat)) X Y h1 h2 hr (Or.inl ⟨_, rfl⟩) dX27_run_13
/-! BasicMachine$On.run(LBasicMachine;LBasicMachine$Line;)LBasicMachine$Line; -/
set_option maxHeartbeats 4000000 in
set_option maxRecDepth 100000 in
theorem maf_X16_run {l : Launch} (hl0 : l.stackTraces = false) (n : Nat) {x : aP} {st : aS} {a0 : Nat} {p1 : Option Nat} {p2 : Option Nat} {q : aS × ((Option Nat) ⊕ Nat)} (hE : af_X16_run n x.sK st a0 p1 p2 = some q) : aMet l yX16_run (ws_ yX16_run cX16_run 5 (some (.object "BasicMachine$Line"))) 342 10200 x [.ref a0, va_rf p1, va_rf p2] st (oR q.2) q.1 := by
  refine a_ofW (own := "BasicMachine$On") hl0 (by decide) rfl (by simp only [lg_sl, List.flatMap_cons, List.flatMap_nil, va_rf_cat]; exact Nat.le_of_ble_eq_true rfl) (fun mc ms p e s m below meth c ls H locs kc ks h1 h2 X hex Y hr hnm hl => ?_)
  have hnm : "run" = meth.name := hnm
  have hl : lv_has ls 5 [(0, .ref a0), (1, va_rf p1), (2, va_rf p2)] := by simp only [lv_args, va_rf_cat] at hl; exact hl
  have hx := X.1
  have hb := X.2.1
  have hown := X.2.2.2.1
  have hts := X.2.2.2.2.1
  have hK := X.2.2.2.2.2.1
  have hl0 := X.2.2.2.2.2.2.2.2
  unfold af_X16_run at hE
  refine lv_aload_n hx hb dX16_run_0 rfl (lv_at hl 0 rfl) ?_
  replace hE := e_bind hE
  obtain ⟨r_1, g, hE⟩ := hE
  refine n_gR X Y k_X16 0 g (by decide) q1100 dX16_run_1 ?_
  refine r_aload_n hx hb dX16_run_4 rfl (lv_at hl 1 rfl) ?_
  replace hE := e_bind hE
  obtain ⟨a_2, g, hE⟩ := hE
  subst g
  replace hE := e_xb hE
  rcases hE with ⟨st_3, v_4, g, hE⟩ | ⟨st_3, k9, g, hE⟩
  rotate_left
  · subst hE
    refine a_callIf (n := 1) (σ1 := st_3) (σf := st_3) [va_rf p1] X Y (mf_value hl0 n g) ⟨(of_value _ _ _) _ g, aLe.rf _, h1, h2, (by show _ ≤ 342; decide), (by show _ ≤ 10200; decide)⟩ q1719 (by decide +kernel) rfl hl.1 (Nat.le_of_ble_eq_true rfl) dX16_run_5 (fun v hv => by cases hv) (fun k hk H locs kc ks q9 ce Y e1 e2 e3 => ?_)
    cases hk
    exact a_out X Y h1 h2 (fun z hz => (hex z hz).elim) e1 e2 e3
  have M9 := (mo_cb oaf_X1_whole fun _ _ => (mo_if mo_tw (mo_v fun _ => (mo_v fun _ => (mo_v fun _ => (mo_if (mo_v fun _ => (mo_v fun _ => (mo_v fun _ => (mo_v fun _ => (mo_v fun _ => (mo_x oaf_X1_line fun _ _ => mo_ret)))))) mo_tw)))))) _ hE
  refine a_callIf (n := 1) (σ1 := st_3) (σf := q.1) [va_rf p1] X Y (mf_value hl0 n g) ⟨(of_value _ _ _) _ g, M9, h1, h2, (by show _ ≤ 342; decide), (by show _ ≤ 10200; decide)⟩ q1719 (by decide +kernel) rfl hl.1 (Nat.le_of_ble_eq_true rfl) dX16_run_5 (fun v hv H locs kc ks Y => ?_) (fun k hk => by cases hk)
  cases hv
  replace hE := e_cb hE
  obtain ⟨st_5, v_6, g, hE⟩ := hE
  have M9 := (mo_if mo_tw (mo_v fun _ => (mo_v fun _ => (mo_v fun _ => (mo_if (mo_v fun _ => (mo_v fun _ => (mo_v fun _ => (mo_v fun _ => (mo_v fun _ => (mo_x oaf_X1_line fun _ _ => mo_ret)))))) mo_tw))))) _ hE
  refine a_callSN (host := "BasicMachine") (n := 1) (σ1 := st_5) (σf := q.1) [.double v_4] X Y (maf_X1_whole hl0 n g) ⟨oaf_X1_whole _ g, M9, h1, h2, (by show _ ≤ 342; decide), (by show _ ≤ 10200; decide)⟩ (by decide) q1461 q122 q1462 (by decide +kernel) rfl hl.1 (Nat.le_of_ble_eq_true rfl) dX16_run_10 (fun v hv H locs kc ks Y => ?_) (fun k hk => by cases hk)
  cases hv
  refine lv_lstore_n (i := 3) (lv' := [(3, .long v_6), (0, .ref a0), (1, va_rf p1), (2, va_rf p2)]) hx hb dX16_run_13 rfl hl (by decide) (by cases p2 <;> rfl) (fun ls hl => ?_)
  refine lv_lload_n hx hb dX16_run_14 rfl (lv_at hl 0 rfl) ?_
  refine lv_lconst (v := 1) hx hb dX16_run_15 (by decide) ?_
  refine W.lcmp hx hb dX16_run_16 ?_
  refine lv_if_lt (tgt := 31) hx hb dX16_run_17 (by decide) (fun c_7 => ?_) (fun c_7 => ?_)
  · replace hE := e_t c_7 hE
    cases hE
    exact a_throw X Y h1 h2 rfl (by decide +kernel) q1721 q127 (at_B_On_0 hts hK) at_B_On_0_o (fun z hz => (hex z hz).elim) hl.1 (by show _ ≤ 342; decide) (Nat.le_trans (Nat.add_le_add_right (show _ ≤ 8 from (Nat.le_of_ble_eq_true rfl)) 81) (by show _ ≤ 10200; decide)) dX16_run_31 dX16_run_34 dX16_run_35 dX16_run_38
  · replace hE := e_f c_7 hE
    refine lv_lload_n hx hb dX16_run_20 rfl (lv_at hl 0 rfl) ?_
    refine lv_aload_n hx hb dX16_run_21 rfl (lv_at hl 1 rfl) ?_
    replace hE := e_bind hE
    obtain ⟨r_8, g, hE⟩ := hE
    refine n_gR X Y k_X16 1 g (by decide) q1101 dX16_run_22 ?_
    replace hE := e_bind hE
    obtain ⟨a_9, g, hE⟩ := hE
    subst g
    replace hE := e_bind hE
    obtain ⟨v_10, g, hE⟩ := hE
    refine a_alen X Y g dX16_run_25 ?_
    refine lv_i2l hx hb dX16_run_26 rfl ?_
    refine W.lcmp hx hb dX16_run_27 ?_
    refine lv_if_le (tgt := 39) hx hb dX16_run_28 (by decide) (fun c_11 => ?_) (fun c_11 => ?_)
    · replace hE := e_t c_11 hE
      refine r_aload_n hx hb dX16_run_39 rfl (lv_at hl 2 rfl) ?_
      refine lv_aload_n hx hb dX16_run_40 rfl (lv_at hl 1 rfl) ?_
      replace hE := e_bind hE
      obtain ⟨r_12, g, hE⟩ := hE
      refine n_gR X Y k_X16 1 g (by decide) q1101 dX16_run_41 ?_
      refine lv_lload_n hx hb dX16_run_44 rfl (lv_at hl 0 rfl) ?_
      refine lv_l2i hx hb dX16_run_45 rfl ?_
      refine lv_iconst (v := 1) hx hb dX16_run_46 (by decide) ?_
      refine lv_isub hx hb dX16_run_47 ?_
      replace hE := e_bind hE
      obtain ⟨a_13, g, hE⟩ := hE
      subst g
      replace hE := e_bind hE
      obtain ⟨v_14, g, hE⟩ := hE
      refine a_iald X Y g dX16_run_48 ?_
      replace hE := e_bind hE
      obtain ⟨a_15, g, hE⟩ := hE
      subst g
      replace hE := e_bind hE
      obtain ⟨u_18, g, hE⟩ := hE
      obtain ⟨fs9, g9⟩ := i_gC g
      have g7 := a_recv X Y k_X1.1 g9
      replace hE := e_xb hE
      rcases hE with ⟨st_16, r_17, g, hE⟩ | ⟨st_16, k9, g, hE⟩
      rotate_left
      · subst hE
        refine a_callVN (host := "BasicMachine") (n := 1) (C := "BasicMachine") (σ1 := st_16) (σf := st_16) [.int v_14] X Y (maf_X1_line hl0 n g) ⟨oaf_X1_line _ g, aLe.rf _, h1, h2, (by show _ ≤ 342; decide), (by show _ ≤ 10200; decide)⟩ (by decide) q1582 qs45 q122 q1583 (by decide +kernel) g7 rfl hl.1 (Nat.le_of_ble_eq_true rfl) dX16_run_49 (fun v hv => by cases hv) (fun k hk H locs kc ks q9 ce Y e1 e2 e3 => ?_)
        cases hk
        exact a_out X Y h1 h2 (fun z hz => (hex z hz).elim) e1 e2 e3
      have M9 := mo_ret _ hE
      refine a_callVN (host := "BasicMachine") (n := 1) (C := "BasicMachine") (σ1 := st_16) (σf := q.1) [.int v_14] X Y (maf_X1_line hl0 n g) ⟨oaf_X1_line _ g, M9, h1, h2, (by show _ ≤ 342; decide), (by show _ ≤ 10200; decide)⟩ (by decide) q1582 qs45 q122 q1583 (by decide +kernel) g7 rfl hl.1 (Nat.le_of_ble_eq_true rfl) dX16_run_49 (fun v hv H locs kc ks Y => ?_) (fun k hk => by cases hk)
      cases hv
      cases hE
      exact a_aret (r := r_17) X Y h1 h2 hr (Or.inl ⟨_, rfl⟩) dX16_run_52
    · replace hE := e_f c_11 hE
      cases hE
      exact a_throw X Y h1 h2 rfl (by decide +kernel) q1721 q127 (at_B_On_0 hts hK) at_B_On_0_o (fun z hz => (hex z hz).elim) hl.1 (by show _ ≤ 342; decide) (Nat.le_trans (Nat.add_le_add_right (show _ ≤ 8 from (Nat.le_of_ble_eq_true rfl)) 81) (by show _ ≤ 10200; decide)) dX16_run_31 dX16_run_34 dX16_run_35 dX16_run_38
/-! BasicMachine$Print.run(LBasicMachine;LBasicMachine$Line;)LBasicMachine$Line; -/
set_option maxHeartbeats 4000000 in
set_option maxRecDepth 100000 in
theorem waf_X13_run_L30 {l : Launch} {x : aP} {As : List Value} {σ0 : aS} {p : Program} {e : Env} {s : State} {m : MethodId} {below : List Frame} {meth : Method} {c : Code} {mc ms : Nat} (X : aX "BasicMachine$Print" p l s m As.toArray meth c cX13_run 5 x σ0) (hex : ∀ z ∈ c.exceptionTable.toList, False) (hr : meth.sig.returnType = (some (.object "BasicMachine$Line"))) (hnm : "run" = meth.name) {n : Nat} {st : aS} {a0 : Nat} {x1 : Option Nat} {q : aS × ((Option Nat) ⊕ Nat)} (hE : af_X13_run_L30 n x.sK st a0 x1 = some q) (h1 : mc + σ0.1 = q.1.1) (h2 : ms + σ0.2.1 = q.1.2.1) {H : Heap} {locs : List Loc} {ls : Array Slot} {kc ks : Nat} (Y : aY x σ0 s st H locs kc ks) (hl : lv_has ls 5 [(0, .ref a0), (1, va_rf x1)]) : aG l 342 10200 mc ms x As σ0 (oR q.2) q.1 p e s m below meth c H locs kc ks (F0 m 30 ls []) := by
  have hx := X.1
  have hb := X.2.1
  have hown := X.2.2.2.1
  have hts := X.2.2.2.2.1
  have hK := X.2.2.2.2.2.1
  have hl0 := X.2.2.2.2.2.2.2.2
  unfold af_X13_run_L30 at hE
  refine r_aload_n hx hb dX13_run_30 rfl (lv_at hl 1 rfl) ?_
  refine lv_dup hx hb dX13_run_31 (va_rf_cat _) ?_
  replace hE := e_bind hE
  obtain ⟨a_1, g, hE⟩ := hE
  subst g
  replace hE := e_bind hE
  obtain ⟨v_2, g, hE⟩ := hE
  refine n_gIN (host := "BasicMachine") X Y k_X1 17 g (by decide) (by decide) dX13_run_32 ?_
  refine lv_iconst (v := 1) hx hb dX13_run_35 (by decide) ?_
  refine lv_iadd hx hb dX13_run_36 ?_
  replace hE := e_bind hE
  obtain ⟨st_3, g, hE⟩ := hE
  refine a_putNV (host := "BasicMachine") X Y k_X1 17 g (by decide) rfl rfl rfl (by decide) dX13_run_37 (fun H locs Y => ?_)
  refine lv_null hx hb dX13_run_40 ?_
  cases hE
  exact a_aret (r := (none : Option Nat)) X Y h1 h2 hr (Or.inl ⟨_, rfl⟩) dX13_run_41
set_option maxHeartbeats 4000000 in
set_option maxRecDepth 100000 in
theorem maf_X13_run {l : Launch} (hl0 : l.stackTraces = false) (n : Nat) {x : aP} {st : aS} {a0 : Nat} {p1 : Option Nat} {p2 : Option Nat} {q : aS × ((Option Nat) ⊕ Nat)} (hE : af_X13_run n x.sK st a0 p1 p2 = some q) : aMet l yX13_run (ws_ yX13_run cX13_run 5 (some (.object "BasicMachine$Line"))) 342 10200 x [.ref a0, va_rf p1, va_rf p2] st (oR q.2) q.1 := by
  refine a_ofW (own := "BasicMachine$Print") hl0 (by decide) rfl (by simp only [lg_sl, List.flatMap_cons, List.flatMap_nil, va_rf_cat]; exact Nat.le_of_ble_eq_true rfl) (fun mc ms p e s m below meth c ls H locs kc ks h1 h2 X hex Y hr hnm hl => ?_)
  have hnm : "run" = meth.name := hnm
  have hl : lv_has ls 5 [(0, .ref a0), (1, va_rf p1), (2, va_rf p2)] := by simp only [lv_args, va_rf_cat] at hl; exact hl
  have hx := X.1
  have hb := X.2.1
  have hown := X.2.2.2.1
  have hts := X.2.2.2.2.1
  have hK := X.2.2.2.2.2.1
  have hl0 := X.2.2.2.2.2.2.2.2
  unfold af_X13_run at hE
  refine lv_aload_n hx hb dX13_run_0 rfl (lv_at hl 0 rfl) ?_
  replace hE := e_bind hE
  obtain ⟨r_1, g, hE⟩ := hE
  refine n_gR X Y k_X13 0 g (by decide) q1052 dX13_run_1 ?_
  refine r_aload_n hx hb dX13_run_4 rfl (lv_at hl 1 rfl) ?_
  replace hE := e_bind hE
  obtain ⟨a_2, g, hE⟩ := hE
  subst g
  replace hE := e_xb hE
  rcases hE with ⟨st_3, v_4, g, hE⟩ | ⟨st_3, k9, g, hE⟩
  rotate_left
  · subst hE
    refine a_callIf (n := 1) (σ1 := st_3) (σf := st_3) [va_rf p1] X Y (mf_value hl0 n g) ⟨(of_value _ _ _) _ g, aLe.rf _, h1, h2, (by show _ ≤ 342; decide), (by show _ ≤ 10200; decide)⟩ q1731 (by decide +kernel) rfl hl.1 (Nat.le_of_ble_eq_true rfl) dX13_run_5 (fun v hv => by cases hv) (fun k hk H locs kc ks q9 ce Y e1 e2 e3 => ?_)
    cases hk
    exact a_out X Y h1 h2 (fun z hz => (hex z hz).elim) e1 e2 e3
  have M9 := (mo_v fun _ => (mo_v fun _ => (mo_if (oaf_X13_run_L30 ) (mo_v fun _ => (mo_v fun _ => (mo_v fun _ => (mo_s (fun _ => le_wD) fun _ => (oaf_X13_run_L30 )))))))) _ hE
  refine a_callIf (n := 1) (σ1 := st_3) (σf := q.1) [va_rf p1] X Y (mf_value hl0 n g) ⟨(of_value _ _ _) _ g, M9, h1, h2, (by show _ ≤ 342; decide), (by show _ ≤ 10200; decide)⟩ q1731 (by decide +kernel) rfl hl.1 (Nat.le_of_ble_eq_true rfl) dX13_run_5 (fun v hv H locs kc ks Y => ?_) (fun k hk => by cases hk)
  cases hv
  refine lv_dstore_n (i := 3) (lv' := [(3, .double v_4), (0, .ref a0), (1, va_rf p1), (2, va_rf p2)]) hx hb dX13_run_10 rfl hl (by decide) (by cases p2 <;> rfl) (fun ls hl => ?_)
  refine r_aload_n hx hb dX13_run_11 rfl (lv_at hl 2 rfl) ?_
  replace hE := e_bind hE
  obtain ⟨a_5, g, hE⟩ := hE
  subst g
  replace hE := e_bind hE
  obtain ⟨v_6, g, hE⟩ := hE
  refine n_gIN (host := "BasicMachine") X Y k_X1 17 g (by decide) (by decide) dX13_run_12 ?_
  refine lv_bipush (v := 40) hx hb dX13_run_15 (by decide) ?_
  refine lv_icmp_ge (tgt := 30) hx hb dX13_run_17 (by decide) (fun c_7 => ?_) (fun c_7 => ?_)
  · replace hE := e_t c_7 hE
    exact waf_X13_run_L30 X hex hr hnm hE h1 h2 Y (lv_sub hl [1, 2] rfl)
  · replace hE := e_f c_7 hE
    refine lv_aload_n hx hb dX13_run_20 rfl (lv_at hl 2 rfl) ?_
    replace hE := e_bind hE
    obtain ⟨r_8, g, hE⟩ := hE
    refine n_gRN (host := "BasicMachine") X Y k_X1 16 g (by decide) (by decide) dX13_run_21 ?_
    refine lv_aload_n hx hb dX13_run_24 rfl (lv_at hl 2 rfl) ?_
    replace hE := e_bind hE
    obtain ⟨v_9, g, hE⟩ := hE
    refine n_gIN (host := "BasicMachine") X Y k_X1 17 g (by decide) (by decide) dX13_run_25 ?_
    refine lv_dload_n hx hb dX13_run_28 rfl (lv_at hl 0 rfl) ?_
    replace hE := e_bind hE
    obtain ⟨a_10, g, hE⟩ := hE
    subst g
    replace hE := e_bind hE
    obtain ⟨st_11, g, hE⟩ := hE
    refine a_dast X Y g dX13_run_29 (fun H locs Y => ?_)
    exact waf_X13_run_L30 X hex hr hnm hE h1 h2 Y (lv_sub hl [1, 2] rfl)
/-! BasicMachine$Read.run(LBasicMachine;LBasicMachine$Line;)LBasicMachine$Line; -/
set_option maxHeartbeats 4000000 in
set_option maxRecDepth 100000 in
theorem maf_X21_run {l : Launch} (hl0 : l.stackTraces = false) (n : Nat) {x : aP} {st : aS} {a0 : Nat} {p1 : Option Nat} {p2 : Option Nat} {q : aS × ((Option Nat) ⊕ Nat)} (hE : af_X21_run n x.sK st a0 p1 p2 = some q) : aMet l yX21_run (ws_ yX21_run cX21_run 5 (some (.object "BasicMachine$Line"))) 342 10200 x [.ref a0, va_rf p1, va_rf p2] st (oR q.2) q.1 := by
  refine a_ofW (own := "BasicMachine$Read") hl0 (by decide) rfl (by simp only [lg_sl, List.flatMap_cons, List.flatMap_nil, va_rf_cat]; exact Nat.le_of_ble_eq_true rfl) (fun mc ms p e s m below meth c ls H locs kc ks h1 h2 X hex Y hr hnm hl => ?_)
  have hnm : "run" = meth.name := hnm
  have hl : lv_has ls 5 [(0, .ref a0), (1, va_rf p1), (2, va_rf p2)] := by simp only [lv_args, va_rf_cat] at hl; exact hl
  have hx := X.1
  have hb := X.2.1
  have hown := X.2.2.2.1
  have hts := X.2.2.2.2.1
  have hK := X.2.2.2.2.2.1
  have hl0 := X.2.2.2.2.2.2.2.2
  unfold af_X21_run at hE
  refine lv_aload_n hx hb dX21_run_0 rfl (lv_at hl 0 rfl) ?_
  replace hE := e_bind hE
  obtain ⟨r_1, g, hE⟩ := hE
  refine n_gR X Y k_X21 0 g (by decide) q1165 dX21_run_1 ?_
  refine r_aload_n hx hb dX21_run_4 rfl (lv_at hl 1 rfl) ?_
  replace hE := e_bind hE
  obtain ⟨a_2, g, hE⟩ := hE
  subst g
  replace hE := e_bind hE
  obtain ⟨u_5, g, hE⟩ := hE
  obtain ⟨fs9, g9⟩ := i_gC g
  have g7 := a_recv X Y k_X5.1 g9
  replace hE := e_xb hE
  rcases hE with ⟨st_3, v_4, g, hE⟩ | ⟨st_3, k9, g, hE⟩
  rotate_left
  · subst hE
    refine a_callV (n := 1) (C := "BasicMachine$Place") (σ1 := st_3) (σf := st_3) [va_rf p1] X Y (maf_X5_find hl0 n g) ⟨oaf_X5_find _ g, aLe.rf _, h1, h2, (by show _ ≤ 342; decide), (by show _ ≤ 10200; decide)⟩ q1738 q1607 q1608 q144 q1609 (by decide +kernel) g7 rfl hl.1 (Nat.le_of_ble_eq_true rfl) dX21_run_5 (fun v hv => by cases hv) (fun k hk H locs kc ks q9 ce Y e1 e2 e3 => ?_)
    cases hk
    exact a_out X Y h1 h2 (fun z hz => (hex z hz).elim) e1 e2 e3
  have M9 := (mo_v fun _ => (mo_v fun _ => (mo_v fun _ => (mo_x oaf_X1_read fun _ _ => (mo_v fun _ => (mo_v fun _ => (mo_cb oaf_X5_put fun _ _ => mo_ret))))))) _ hE
  refine a_callV (n := 1) (C := "BasicMachine$Place") (σ1 := st_3) (σf := q.1) [va_rf p1] X Y (maf_X5_find hl0 n g) ⟨oaf_X5_find _ g, M9, h1, h2, (by show _ ≤ 342; decide), (by show _ ≤ 10200; decide)⟩ q1738 q1607 q1608 q144 q1609 (by decide +kernel) g7 rfl hl.1 (Nat.le_of_ble_eq_true rfl) dX21_run_5 (fun v hv H locs kc ks Y => ?_) (fun k hk => by cases hk)
  cases hv
  refine lv_lstore_n (i := 3) (lv' := [(3, .long v_4), (0, .ref a0), (1, va_rf p1), (2, va_rf p2)]) hx hb dX21_run_8 rfl hl (by decide) (by cases p2 <;> rfl) (fun ls hl => ?_)
  refine lv_aload_n hx hb dX21_run_9 rfl (lv_at hl 1 rfl) ?_
  replace hE := e_bind hE
  obtain ⟨r_6, g, hE⟩ := hE
  refine n_gR X Y k_X21 0 g (by decide) q1165 dX21_run_10 ?_
  refine r_aload_n hx hb dX21_run_13 rfl (lv_at hl 2 rfl) ?_
  refine lv_lload_n hx hb dX21_run_14 rfl (lv_at hl 0 rfl) ?_
  refine r_aload_n hx hb dX21_run_15 rfl (lv_at hl 2 rfl) ?_
  replace hE := e_bind hE
  obtain ⟨a_7, g, hE⟩ := hE
  subst g
  replace hE := e_bind hE
  obtain ⟨u_10, g, hE⟩ := hE
  obtain ⟨fs9, g9⟩ := i_gC g
  have g7 := a_recv X Y k_X1.1 g9
  replace hE := e_xb hE
  rcases hE with ⟨st_8, v_9, g, hE⟩ | ⟨st_8, k9, g, hE⟩
  rotate_left
  · subst hE
    refine a_callVN (host := "BasicMachine") (n := 0) (C := "BasicMachine") (σ1 := st_8) (σf := st_8) [] X Y (maf_X1_read hl0 n g) ⟨oaf_X1_read _ g, aLe.rf _, h1, h2, (by show _ ≤ 342; decide), (by show _ ≤ 10200; decide)⟩ (by decide) q1741 qs49 q122 q1742 (by decide +kernel) g7 rfl hl.1 (by simp only [List.map_cons, List.map_nil, va_rf_cat]; exact Nat.le_of_ble_eq_true rfl) dX21_run_16 (fun v hv => by cases hv) (fun k hk H locs kc ks q9 ce Y e1 e2 e3 => ?_)
    cases hk
    exact a_out X Y h1 h2 (fun z hz => (hex z hz).elim) e1 e2 e3
  have M9 := (mo_v fun _ => (mo_v fun _ => (mo_cb oaf_X5_put fun _ _ => mo_ret))) _ hE
  refine a_callVN (host := "BasicMachine") (n := 0) (C := "BasicMachine") (σ1 := st_8) (σf := q.1) [] X Y (maf_X1_read hl0 n g) ⟨oaf_X1_read _ g, M9, h1, h2, (by show _ ≤ 342; decide), (by show _ ≤ 10200; decide)⟩ (by decide) q1741 qs49 q122 q1742 (by decide +kernel) g7 rfl hl.1 (by simp only [List.map_cons, List.map_nil, va_rf_cat]; exact Nat.le_of_ble_eq_true rfl) dX21_run_16 (fun v hv H locs kc ks Y => ?_) (fun k hk => by cases hk)
  cases hv
  replace hE := e_bind hE
  obtain ⟨a_11, g, hE⟩ := hE
  subst g
  replace hE := e_bind hE
  obtain ⟨u_14, g, hE⟩ := hE
  obtain ⟨fs9, g9⟩ := i_gC g
  have g7 := a_recv X Y k_X5.1 g9
  replace hE := e_cb hE
  obtain ⟨st_12, u_13, g, hE⟩ := hE
  have M9 := mo_ret _ hE
  refine a_callV (n := 3) (C := "BasicMachine$Place") (σ1 := st_12) (σf := q.1) [.ref a_7, .long v_4, .double v_9] X Y (maf_X5_put hl0 n g) ⟨oaf_X5_put _ g, M9, h1, h2, (by show _ ≤ 342; decide), (by show _ ≤ 10200; decide)⟩ q1748 q1631 q1632 q144 q1633 (by decide +kernel) g7 rfl hl.1 (Nat.le_of_ble_eq_true rfl) dX21_run_19 (fun v hv H locs kc ks Y => ?_) (fun k hk => by cases hk)
  cases hv
  refine lv_null hx hb dX21_run_22 ?_
  cases hE
  exact a_aret (r := (none : Option Nat)) X Y h1 h2 hr (Or.inl ⟨_, rfl⟩) dX21_run_23
/-! BasicMachine$Restore.run(LBasicMachine;LBasicMachine$Line;)LBasicMachine$Line; -/
set_option maxHeartbeats 4000000 in
set_option maxRecDepth 100000 in
theorem maf_X23_run {l : Launch} (hl0 : l.stackTraces = false) (n : Nat) {x : aP} {st : aS} {a0 : Nat} {p1 : Option Nat} {p2 : Option Nat} {q : aS × ((Option Nat) ⊕ Nat)} (hE : af_X23_run n x.sK st a0 p1 p2 = some q) : aMet l yX23_run (ws_ yX23_run cX23_run 3 (some (.object "BasicMachine$Line"))) 342 10200 x [.ref a0, va_rf p1, va_rf p2] st (oR q.2) q.1 := by
  refine a_ofW (own := "BasicMachine$Restore") hl0 (by decide) rfl (by simp only [lg_sl, List.flatMap_cons, List.flatMap_nil, va_rf_cat]; exact Nat.le_of_ble_eq_true rfl) (fun mc ms p e s m below meth c ls H locs kc ks h1 h2 X hex Y hr hnm hl => ?_)
  have hnm : "run" = meth.name := hnm
  have hl : lv_has ls 3 [(0, .ref a0), (1, va_rf p1), (2, va_rf p2)] := by simp only [lv_args, va_rf_cat] at hl; exact hl
  have hx := X.1
  have hb := X.2.1
  have hown := X.2.2.2.1
  have hts := X.2.2.2.2.1
  have hK := X.2.2.2.2.2.1
  have hl0 := X.2.2.2.2.2.2.2.2
  unfold af_X23_run at hE
  refine r_aload_n hx hb dX23_run_0 rfl (lv_at hl 1 rfl) ?_
  refine lv_iconst (v := 0) hx hb dX23_run_1 (by decide) ?_
  replace hE := e_bind hE
  obtain ⟨a_1, g, hE⟩ := hE
  subst g
  replace hE := e_bind hE
  obtain ⟨st_2, g, hE⟩ := hE
  refine a_putNV (host := "BasicMachine") X Y k_X1 18 g (by decide) rfl rfl rfl (by decide) dX23_run_2 (fun H locs Y => ?_)
  refine lv_null hx hb dX23_run_5 ?_
  cases hE
  exact a_aret (r := (none : Option Nat)) X Y h1 h2 hr (Or.inl ⟨_, rfl⟩) dX23_run_6
/-! BasicMachine$Return.run(LBasicMachine;LBasicMachine$Line;)LBasicMachine$Line; -/
set_option maxHeartbeats 4000000 in
set_option maxRecDepth 100000 in
theorem maf_X18_run {l : Launch} (hl0 : l.stackTraces = false) (n : Nat) {x : aP} {st : aS} {a0 : Nat} {p1 : Option Nat} {p2 : Option Nat} {q : aS × ((Option Nat) ⊕ Nat)} (hE : af_X18_run n x.sK st a0 p1 p2 = some q) : aMet l yX18_run (ws_ yX18_run cX18_run 3 (some (.object "BasicMachine$Line"))) 342 10200 x [.ref a0, va_rf p1, va_rf p2] st (oR q.2) q.1 := by
  refine a_ofW (own := "BasicMachine$Return") hl0 (by decide) rfl (by simp only [lg_sl, List.flatMap_cons, List.flatMap_nil, va_rf_cat]; exact Nat.le_of_ble_eq_true rfl) (fun mc ms p e s m below meth c ls H locs kc ks h1 h2 X hex Y hr hnm hl => ?_)
  have hnm : "run" = meth.name := hnm
  have hl : lv_has ls 3 [(0, .ref a0), (1, va_rf p1), (2, va_rf p2)] := by simp only [lv_args, va_rf_cat] at hl; exact hl
  have hx := X.1
  have hb := X.2.1
  have hown := X.2.2.2.1
  have hts := X.2.2.2.2.1
  have hK := X.2.2.2.2.2.1
  have hl0 := X.2.2.2.2.2.2.2.2
  unfold af_X18_run at hE
  refine r_aload_n hx hb dX18_run_0 rfl (lv_at hl 1 rfl) ?_
  replace hE := e_bind hE
  obtain ⟨a_1, g, hE⟩ := hE
  subst g
  replace hE := e_bind hE
  obtain ⟨v_2, g, hE⟩ := hE
  refine n_gIN (host := "BasicMachine") X Y k_X1 13 g (by decide) (by decide) dX18_run_1 ?_
  refine lv_if_ne (tgt := 15) hx hb dX18_run_4 (by decide) (fun c_3 => ?_) (fun c_3 => ?_)
  · replace hE := e_f c_3 hE
    refine lv_aload_n hx hb dX18_run_15 rfl (lv_at hl 1 rfl) ?_
    refine lv_dup hx hb dX18_run_16 rfl ?_
    replace hE := e_bind hE
    obtain ⟨v_4, g, hE⟩ := hE
    refine n_gIN (host := "BasicMachine") X Y k_X1 13 g (by decide) (by decide) dX18_run_17 ?_
    refine lv_iconst (v := 1) hx hb dX18_run_20 (by decide) ?_
    refine lv_isub hx hb dX18_run_21 ?_
    replace hE := e_bind hE
    obtain ⟨st_5, g, hE⟩ := hE
    refine a_putNV (host := "BasicMachine") X Y k_X1 13 g (by decide) rfl rfl rfl (by decide) dX18_run_22 (fun H locs Y => ?_)
    refine lv_aload_n hx hb dX18_run_25 rfl (lv_at hl 1 rfl) ?_
    refine lv_aload_n hx hb dX18_run_26 rfl (lv_at hl 1 rfl) ?_
    replace hE := e_bind hE
    obtain ⟨r_6, g, hE⟩ := hE
    refine n_gRN (host := "BasicMachine") X Y k_X1 12 g (by decide) (by decide) dX18_run_27 ?_
    refine lv_aload_n hx hb dX18_run_30 rfl (lv_at hl 1 rfl) ?_
    replace hE := e_bind hE
    obtain ⟨v_7, g, hE⟩ := hE
    refine n_gIN (host := "BasicMachine") X Y k_X1 13 g (by decide) (by decide) dX18_run_31 ?_
    replace hE := e_bind hE
    obtain ⟨a_8, g, hE⟩ := hE
    subst g
    replace hE := e_bind hE
    obtain ⟨r_9, g, hE⟩ := hE
    refine a_aald X Y (by decide) rfl g dX18_run_34 ?_
    replace hE := e_bind hE
    obtain ⟨u_12, g, hE⟩ := hE
    obtain ⟨fs9, g9⟩ := i_gC g
    have g7 := a_recv X Y k_X1.1 g9
    replace hE := e_cb hE
    obtain ⟨st_10, r_11, g, hE⟩ := hE
    have M9 := mo_ret _ hE
    refine a_callVN (host := "BasicMachine") (n := 1) (C := "BasicMachine") (σ1 := st_10) (σf := q.1) [va_rf r_9] X Y (maf_X1_after hl0 n g) ⟨oaf_X1_after _ g, M9, h1, h2, (by show _ ≤ 342; decide), (by show _ ≤ 10200; decide)⟩ (by decide) q1549 qs44 q122 q1550 (by decide +kernel) g7 rfl hl.1 (Nat.le_of_ble_eq_true rfl) dX18_run_35 (fun v hv H locs kc ks Y => ?_) (fun k hk => by cases hk)
    cases hv
    cases hE
    exact a_aret (r := r_11) X Y h1 h2 hr (Or.inl ⟨_, rfl⟩) dX18_run_38
  · replace hE := e_t c_3 hE
    cases hE
    exact a_throw X Y h1 h2 rfl (by decide +kernel) q1761 q128 (at_B_Return_1 hts hK) at_B_Return_1_o (fun z hz => (hex z hz).elim) hl.1 (by show _ ≤ 342; decide) (Nat.le_trans (Nat.add_le_add_right (show _ ≤ 8 from (Nat.le_of_ble_eq_true rfl)) 81) (by show _ ≤ 10200; decide)) dX18_run_7 dX18_run_10 dX18_run_11 dX18_run_14
/-! dispatch.run -/
set_option maxHeartbeats 4000000 in
set_option maxRecDepth 100000 in
theorem mf_run {l : Launch} (hl0 : l.stackTraces = false) (n : Nat) {x : aP} {st : aS} {a : Nat} {r1 r2 : Option Nat} {q : aS × (Option Nat ⊕ Nat)} (h : af_run n x.sK st a r1 r2 = some q) : aIf l x mnR 342 10200 st a [va_rf r1, va_rf r2] (oR q.2) q.1 := by
  unfold af_run at h
  obtain ⟨c, g, h⟩ := e_bind h
  obtain ⟨fs, g⟩ := i_aCi g
  by_cases c1 : c = 21
  · subst c1
    replace h := e_t rfl h
    exact ⟨_, _, _, _, _, _, _, _, _, _, k_X22, g, maf_X22_run hl0 n h, by decide, q1358, q1360, q161, q1362, by decide⟩
  replace h := e_f c1 h
  by_cases c1 : c = 24
  · subst c1
    replace h := e_t rfl h
    exact ⟨_, _, _, _, _, _, _, _, _, _, k_X25, g, maf_X25_run hl0 n h, by decide, q1364, q1366, q164, q1368, by decide⟩
  replace h := e_f c1 h
  by_cases c1 : c = 23
  · subst c1
    replace h := e_t rfl h
    exact ⟨_, _, _, _, _, _, _, _, _, _, k_X24, g, maf_X24_run hl0 n h, by decide, q1370, q1372, q163, q1374, by decide⟩
  replace h := e_f c1 h
  by_cases c1 : c = 18
  · subst c1
    replace h := e_t rfl h
    exact ⟨_, _, _, _, _, _, _, _, _, _, k_X19, g, maf_X19_run hl0 n h, by decide, q1402, q1404, q158, q1406, by decide⟩
  replace h := e_f c1 h
  by_cases c1 : c = 16
  · subst c1
    replace h := e_t rfl h
    exact ⟨_, _, _, _, _, _, _, _, _, _, k_X17, g, maf_X17_run hl0 n h, by decide, q1573, q1575, q156, q1577, by decide⟩
  replace h := e_f c1 h
  by_cases c1 : c = 14
  · subst c1
    replace h := e_t rfl h
    exact ⟨_, _, _, _, _, _, _, _, _, _, k_X15, g, maf_X15_run hl0 n h, by decide, q1585, q1587, q154, q1589, by decide⟩
  replace h := e_f c1 h
  by_cases c1 : c = 13
  · subst c1
    replace h := e_t rfl h
    exact ⟨_, _, _, _, _, _, _, _, _, _, k_X14, g, maf_X14_run hl0 n h, by decide, q1592, q1594, q153, q1596, by decide⟩
  replace h := e_f c1 h
  by_cases c1 : c = 11
  · subst c1
    replace h := e_t rfl h
    exact ⟨_, _, _, _, _, _, _, _, _, _, k_X12, g, maf_X12_run hl0 n h, by decide, q1601, q1603, q151, q1605, by decide⟩
  replace h := e_f c1 h
  by_cases c1 : c = 25
  · subst c1
    replace h := e_t rfl h
    exact ⟨_, _, _, _, _, _, _, _, _, _, k_X26, g, maf_X26_run hl0 n h, by decide, q1639, q1641, q165, q1643, by decide⟩
  replace h := e_f c1 h
  by_cases c1 : c = 19
  · subst c1
    replace h := e_t rfl h
    exact ⟨_, _, _, _, _, _, _, _, _, _, k_X20, g, maf_X20_run hl0 n h, by decide, q1683, q1685, q159, q1687, by decide⟩
  replace h := e_f c1 h
  by_cases c1 : c = 26
  · subst c1
    replace h := e_t rfl h
    exact ⟨_, _, _, _, _, _, _, _, _, _, k_X27, g, maf_X27_run hl0 n h, by decide, q1707, q1709, q166, q1711, by decide⟩
  replace h := e_f c1 h
  by_cases c1 : c = 15
  · subst c1
    replace h := e_t rfl h
    exact ⟨_, _, _, _, _, _, _, _, _, _, k_X16, g, maf_X16_run hl0 n h, by decide, q1713, q1715, q155, q1717, by decide⟩
  replace h := e_f c1 h
  by_cases c1 : c = 12
  · subst c1
    replace h := e_t rfl h
    exact ⟨_, _, _, _, _, _, _, _, _, _, k_X13, g, maf_X13_run hl0 n h, by decide, q1725, q1727, q152, q1729, by decide⟩
  replace h := e_f c1 h
  by_cases c1 : c = 20
  · subst c1
    replace h := e_t rfl h
    exact ⟨_, _, _, _, _, _, _, _, _, _, k_X21, g, maf_X21_run hl0 n h, by decide, q1733, q1735, q160, q1737, by decide⟩
  replace h := e_f c1 h
  by_cases c1 : c = 22
  · subst c1
    replace h := e_t rfl h
    exact ⟨_, _, _, _, _, _, _, _, _, _, k_X23, g, maf_X23_run hl0 n h, by decide, q1750, q1752, q162, q1754, by decide⟩
  replace h := e_f c1 h
  by_cases c1 : c = 17
  · subst c1
    replace h := e_t rfl h
    exact ⟨_, _, _, _, _, _, _, _, _, _, k_X18, g, maf_X18_run hl0 n h, by decide, q1756, q1758, q157, q1760, by decide⟩
  replace h := e_f c1 h
  cases h
/-! BasicMachine.go()V -/
set_option maxHeartbeats 4000000 in
set_option maxRecDepth 100000 in
theorem waf_X1_go_S5_ {l : Launch} {x : aP} {As : List Value} {σ0 : aS} {p : Program} {e : Env} {s : State} {m : MethodId} {below : List Frame} {meth : Method} {c : Code} {mc ms : Nat} (X : aX "BasicMachine" p l s m As.toArray meth c cX1_go 3 x σ0) (hex : ∀ z ∈ c.exceptionTable.toList, False) (hr : meth.sig.returnType = none) (hnm : "go" = meth.name) {n : Nat} {q : aS × (Unit ⊕ Nat)} : ∀ k : Nat, (∀ {st : aS} {a0 : Nat} {x1 : Option Nat} {x2 : Option Nat} {z80_0 : Option Nat}, af_X1_go_S5 n x.sK k 0 st a0 x1 x2 z80_0 = some q → (mc + σ0.1 = q.1.1) → (ms + σ0.2.1 = q.1.2.1) → ∀ {H : Heap} {locs : List Loc} {ls : Array Slot} {kc ks : Nat}, aY x σ0 s st H locs kc ks → lv_has ls 3 [(0, .ref a0), (1, va_rf x1)] → aG l 343 10231 mc ms x As σ0 (oV q.2) q.1 p e s m below meth c H locs kc ks (F0 m 5 ls [])) ∧ (∀ {st : aS} {a0 : Nat} {x1 : Option Nat} {x2 : Option Nat} {z80_0 : Option Nat}, af_X1_go_S5 n x.sK k 1 st a0 x1 x2 z80_0 = some q → (mc + σ0.1 = q.1.1) → (ms + σ0.2.1 = q.1.2.1) → ∀ {H : Heap} {locs : List Loc} {ls : Array Slot} {kc ks : Nat}, aY x σ0 s st H locs kc ks → lv_has ls 3 [(0, .ref a0), (2, va_rf x2)] → aG l 343 10231 mc ms x As σ0 (oV q.2) q.1 p e s m below meth c H locs kc ks (F0 m 71 ls [])) ∧ (∀ {st : aS} {a0 : Nat} {x1 : Option Nat} {x2 : Option Nat} {z80_0 : Option Nat}, af_X1_go_S5 n x.sK k 2 st a0 x1 x2 z80_0 = some q → (mc + σ0.1 = q.1.1) → (ms + σ0.2.1 = q.1.2.1) → ∀ {H : Heap} {locs : List Loc} {ls : Array Slot} {kc ks : Nat}, aY x σ0 s st H locs kc ks → lv_has ls 3 [(0, .ref a0)] → aG l 343 10231 mc ms x As σ0 (oV q.2) q.1 p e s m below meth c H locs kc ks (F0 m 80 ls [va_rf z80_0])) := by
  have hx := X.1
  have hb := X.2.1
  have hown := X.2.2.2.1
  have hts := X.2.2.2.2.1
  have hK := X.2.2.2.2.2.1
  have hl0 := X.2.2.2.2.2.2.2.2
  intro k
  induction k with
  | zero => exact ⟨(fun h => nomatch (show none = some q from h)), (fun h => nomatch (show none = some q from h)), (fun h => nomatch (show none = some q from h))⟩
  | succ k ih =>
    obtain ⟨ih0, ih1, ih2⟩ := ih
    have mrec := @oaf_X1_go_S5_ n x.sK k
    obtain ⟨mrec0, mrec1, mrec2⟩ := mrec
    refine ⟨?_, ?_, ?_⟩
    · intro st a0 x1 x2 z80_0 hE h1 h2 H locs ls kc ks Y hl
      replace hE : af_X1_go_B5 n x.sK (af_X1_go_S5 n x.sK k) st a0 x1 x2 z80_0 = some q := hE
      unfold af_X1_go_B5 at hE
      refine lv_aload_n hx hb dX1_go_5 rfl (lv_at hl 0 rfl) ?_
      replace hE := e_bind hE
      obtain ⟨v_1, g, hE⟩ := hE
      refine n_gI X Y k_X1 20 g (by decide) q235 dX1_go_6 ?_
      refine lv_if_ne (tgt := 84) hx hb dX1_go_9 (by decide) (fun c_2 => ?_) (fun c_2 => ?_)
      · replace hE := e_f c_2 hE
        cases hE
        exact a_vret X Y h1 h2 hr dX1_go_84
      · replace hE := e_t c_2 hE
        refine lv_aload_n hx hb dX1_go_12 rfl (lv_at hl 0 rfl) ?_
        replace hE := e_bind hE
        obtain ⟨v_3, g, hE⟩ := hE
        refine n_gI X Y k_X1 21 g (by decide) q236 dX1_go_13 ?_
        refine lv_sipush (v := 300) hx hb dX1_go_16 (by decide) ?_
        refine lv_icmp_ne (tgt := 30) hx hb dX1_go_19 (by decide) (fun c_4 => ?_) (fun c_4 => ?_)
        · replace hE := e_f c_4 hE
          refine lv_aload_n hx hb dX1_go_30 rfl (lv_at hl 0 rfl) ?_
          refine lv_dup hx hb dX1_go_31 rfl ?_
          replace hE := e_bind hE
          obtain ⟨v_5, g, hE⟩ := hE
          refine n_gI X Y k_X1 21 g (by decide) q236 dX1_go_32 ?_
          refine lv_iconst (v := 1) hx hb dX1_go_35 (by decide) ?_
          refine lv_iadd hx hb dX1_go_36 ?_
          replace hE := e_bind hE
          obtain ⟨st_6, g, hE⟩ := hE
          refine a_putV X Y k_X1 21 g (by decide) rfl rfl rfl q236 dX1_go_37 (fun H locs Y => ?_)
          refine lv_aload_n hx hb dX1_go_40 rfl (lv_at hl 0 rfl) ?_
          refine r_aload_n hx hb dX1_go_41 rfl (lv_at hl 1 rfl) ?_
          replace hE := e_bind hE
          obtain ⟨a_7, g, hE⟩ := hE
          subst g
          replace hE := e_bind hE
          obtain ⟨v_8, g, hE⟩ := hE
          refine n_gI X Y k_X4 0 g (by decide) q489 dX1_go_42 ?_
          replace hE := e_bind hE
          obtain ⟨st_9, g, hE⟩ := hE
          refine a_putV X Y k_X1 22 g (by decide) rfl rfl rfl q237 dX1_go_45 (fun H locs Y => ?_)
          refine lv_aload_n hx hb dX1_go_48 rfl (lv_at hl 1 rfl) ?_
          replace hE := e_bind hE
          obtain ⟨r_10, g, hE⟩ := hE
          refine n_gR X Y k_X4 1 g (by decide) q491 dX1_go_49 ?_
          refine lv_aload_n hx hb dX1_go_52 rfl (lv_at hl 0 rfl) ?_
          refine lv_aload_n hx hb dX1_go_53 rfl (lv_at hl 1 rfl) ?_
          replace hE := e_bind hE
          obtain ⟨a_11, g, hE⟩ := hE
          subst g
          replace hE := e_xb hE
          rcases hE with ⟨st_12, r_13, g, hE⟩ | ⟨st_12, k9, g, hE⟩
          rotate_left
          · subst hE
            refine a_callIf (n := 2) (σ1 := st_12) (σf := st_12) [.ref a0, .ref a_7] X Y (mf_run hl0 n g) ⟨(of_run _ _) _ g, aLe.rf _, h1, h2, (by show _ ≤ 343; decide), (by show _ ≤ 10231; decide)⟩ q1354 (by decide +kernel) rfl hl.1 (Nat.le_of_ble_eq_true rfl) dX1_go_54 (fun v hv => by cases hv) (fun k hk H locs kc ks q9 ce Y e1 e2 e3 => ?_)
            cases hk
            exact a_out X Y h1 h2 (fun z hz => (hex z hz).elim) e1 e2 e3
          have M9 := (mo_if (mo_v fun _ => (mo_if (mo_v fun _ => (mo_cb oaf_X1_after fun _ _ => (mrec2))) (mrec1))) (mrec1)) _ hE
          refine a_callIf (n := 2) (σ1 := st_12) (σf := q.1) [.ref a0, .ref a_7] X Y (mf_run hl0 n g) ⟨(of_run _ _) _ g, M9, h1, h2, (by show _ ≤ 343; decide), (by show _ ≤ 10231; decide)⟩ q1354 (by decide +kernel) rfl hl.1 (Nat.le_of_ble_eq_true rfl) dX1_go_54 (fun v hv H locs kc ks Y => ?_) (fun k hk => by cases hk)
          cases hv
          refine r_astore_n (i := 2) (lv' := [(2, va_rf r_13), (0, .ref a0), (1, .ref a_7)]) hx hb dX1_go_59 rfl hl (by decide) rfl (fun ls hl => ?_)
          refine r_aload_n hx hb dX1_go_60 rfl (lv_at hl 0 rfl) ?_
          refine r_ifnonnull (tgt := 71) hx hb dX1_go_61 (by decide) (fun c_14 => ?_) (fun c_14 => ?_)
          · replace hE := e_f c_14 hE
            exact ih1 hE h1 h2 Y (lv_sub hl [1, 0] rfl)
          · replace hE := e_t c_14 hE
            refine lv_aload_n hx hb dX1_go_64 rfl (lv_at hl 1 rfl) ?_
            replace hE := e_bind hE
            obtain ⟨v_15, g, hE⟩ := hE
            refine n_gI X Y k_X1 20 g (by decide) q235 dX1_go_65 ?_
            refine lv_if_eq (tgt := 75) hx hb dX1_go_68 (by decide) (fun c_16 => ?_) (fun c_16 => ?_)
            · replace hE := e_t c_16 hE
              refine lv_aload_n hx hb dX1_go_75 rfl (lv_at hl 1 rfl) ?_
              refine lv_aload_n hx hb dX1_go_76 rfl (lv_at hl 2 rfl) ?_
              replace hE := e_bind hE
              obtain ⟨u_19, g, hE⟩ := hE
              obtain ⟨fs9, g9⟩ := i_gC g
              have g7 := a_recv X Y k_X1.1 g9
              replace hE := e_cb hE
              obtain ⟨st_17, r_18, g, hE⟩ := hE
              have M9 := (mrec2) _ hE
              refine a_callV (n := 1) (C := "BasicMachine") (σ1 := st_17) (σf := q.1) [.ref a_7] X Y (maf_X1_after hl0 n g) ⟨oaf_X1_after _ g, M9, h1, h2, (by show _ ≤ 343; decide), (by show _ ≤ 10231; decide)⟩ q1764 q1549 qs44 q122 q1550 (by decide +kernel) g7 rfl hl.1 (Nat.le_of_ble_eq_true rfl) dX1_go_77 (fun v hv H locs kc ks Y => ?_) (fun k hk => by cases hk)
              cases hv
              exact ih2 hE h1 h2 Y (lv_sub hl [1] rfl)
            · replace hE := e_f c_16 hE
              exact ih1 hE h1 h2 Y (lv_sub hl [1, 0] rfl)
        · replace hE := e_t c_4 hE
          cases hE
          exact a_throw X Y h1 h2 rfl (by decide +kernel) q388 q128 (at_B_1 hts hK) at_B_1_o (fun z hz => (hex z hz).elim) hl.1 (by show _ ≤ 343; decide) (Nat.le_trans (Nat.add_le_add_right (show _ ≤ 8 from (Nat.le_of_ble_eq_true rfl)) 81) (by show _ ≤ 10231; decide)) dX1_go_22 dX1_go_25 dX1_go_26 dX1_go_29
    · intro st a0 x1 x2 z80_0 hE h1 h2 H locs ls kc ks Y hl
      replace hE : af_X1_go_B71 n x.sK (af_X1_go_S5 n x.sK k) st a0 x1 x2 z80_0 = some q := hE
      unfold af_X1_go_B71 at hE
      refine r_aload_n hx hb dX1_go_71 rfl (lv_at hl 1 rfl) ?_
      refine lv_goto (tgt := 80) hx hb dX1_go_72 (by decide) ?_
      exact ih2 hE h1 h2 Y (lv_sub hl [0] rfl)
    · intro st a0 x1 x2 z80_0 hE h1 h2 H locs ls kc ks Y hl
      replace hE : af_X1_go_B80 n x.sK (af_X1_go_S5 n x.sK k) st a0 x1 x2 z80_0 = some q := hE
      unfold af_X1_go_B80 at hE
      refine r_astore_n (i := 1) (lv' := [(1, va_rf z80_0), (0, .ref a0)]) hx hb dX1_go_80 rfl hl (by decide) rfl (fun ls hl => ?_)
      refine lv_goto (tgt := 5) hx hb dX1_go_81 (by decide) ?_
      exact ih0 hE h1 h2 Y (lv_sub hl [1, 0] rfl)
set_option maxHeartbeats 4000000 in
set_option maxRecDepth 100000 in
theorem waf_X1_go_S5 {l : Launch} {x : aP} {As : List Value} {σ0 : aS} {p : Program} {e : Env} {s : State} {m : MethodId} {below : List Frame} {meth : Method} {c : Code} {mc ms : Nat} (X : aX "BasicMachine" p l s m As.toArray meth c cX1_go 3 x σ0) (hex : ∀ z ∈ c.exceptionTable.toList, False) (hr : meth.sig.returnType = none) (hnm : "go" = meth.name) {n : Nat} {q : aS × (Unit ⊕ Nat)} : (∀ {st : aS} {a0 : Nat} {x1 : Option Nat} {x2 : Option Nat} {z80_0 : Option Nat}, af_X1_go_S5 n x.sK n 0 st a0 x1 x2 z80_0 = some q → (mc + σ0.1 = q.1.1) → (ms + σ0.2.1 = q.1.2.1) → ∀ {H : Heap} {locs : List Loc} {ls : Array Slot} {kc ks : Nat}, aY x σ0 s st H locs kc ks → lv_has ls 3 [(0, .ref a0), (1, va_rf x1)] → aG l 343 10231 mc ms x As σ0 (oV q.2) q.1 p e s m below meth c H locs kc ks (F0 m 5 ls [])) ∧ (∀ {st : aS} {a0 : Nat} {x1 : Option Nat} {x2 : Option Nat} {z80_0 : Option Nat}, af_X1_go_S5 n x.sK n 1 st a0 x1 x2 z80_0 = some q → (mc + σ0.1 = q.1.1) → (ms + σ0.2.1 = q.1.2.1) → ∀ {H : Heap} {locs : List Loc} {ls : Array Slot} {kc ks : Nat}, aY x σ0 s st H locs kc ks → lv_has ls 3 [(0, .ref a0), (2, va_rf x2)] → aG l 343 10231 mc ms x As σ0 (oV q.2) q.1 p e s m below meth c H locs kc ks (F0 m 71 ls [])) ∧ (∀ {st : aS} {a0 : Nat} {x1 : Option Nat} {x2 : Option Nat} {z80_0 : Option Nat}, af_X1_go_S5 n x.sK n 2 st a0 x1 x2 z80_0 = some q → (mc + σ0.1 = q.1.1) → (ms + σ0.2.1 = q.1.2.1) → ∀ {H : Heap} {locs : List Loc} {ls : Array Slot} {kc ks : Nat}, aY x σ0 s st H locs kc ks → lv_has ls 3 [(0, .ref a0)] → aG l 343 10231 mc ms x As σ0 (oV q.2) q.1 p e s m below meth c H locs kc ks (F0 m 80 ls [va_rf z80_0])) := waf_X1_go_S5_ X hex hr hnm n
set_option maxHeartbeats 4000000 in
set_option maxRecDepth 100000 in
theorem maf_X1_go {l : Launch} (hl0 : l.stackTraces = false) (n : Nat) {x : aP} {st : aS} {a0 : Nat} {q : aS × (Unit ⊕ Nat)} (hE : af_X1_go n x.sK st a0 = some q) : aMet l yX1_go (ws_ yX1_go cX1_go 3 none) 343 10231 x [.ref a0] st (oV q.2) q.1 := by
  refine a_ofW (own := "BasicMachine") hl0 (by decide) rfl (Nat.le_of_ble_eq_true rfl) (fun mc ms p e s m below meth c ls H locs kc ks h1 h2 X hex Y hr hnm hl => ?_)
  have hnm : "go" = meth.name := hnm
  have hl : lv_has ls 3 [(0, .ref a0)] := hl
  have hx := X.1
  have hb := X.2.1
  have hown := X.2.2.2.1
  have hts := X.2.2.2.2.1
  have hK := X.2.2.2.2.2.1
  have hl0 := X.2.2.2.2.2.2.2.2
  unfold af_X1_go at hE
  refine lv_aload_n hx hb dX1_go_0 rfl (lv_at hl 0 rfl) ?_
  replace hE := e_bind hE
  obtain ⟨r_1, g, hE⟩ := hE
  refine n_gR X Y k_X1 3 g (by decide) q193 dX1_go_1 ?_
  refine r_astore_n (i := 1) (lv' := [(1, va_rf r_1), (0, .ref a0)]) hx hb dX1_go_4 rfl hl (by decide) rfl (fun ls hl => ?_)
  exact (waf_X1_go_S5 X hex hr hnm).1 hE h1 h2 Y (lv_sub hl [1, 0] rfl)
/-! BasicMachine.settle()V -/
set_option maxHeartbeats 4000000 in
set_option maxRecDepth 100000 in
theorem waf_X1_settle_S14_ {l : Launch} {x : aP} {As : List Value} {σ0 : aS} {p : Program} {e : Env} {s : State} {m : MethodId} {below : List Frame} {meth : Method} {c : Code} {mc ms : Nat} (X : aX "BasicMachine" p l s m As.toArray meth c cX1_settle 2 x σ0) (hex : ∀ z ∈ c.exceptionTable.toList, False) (hr : meth.sig.returnType = none) (hnm : "settle" = meth.name) {n : Nat} {q : aS × Unit} : ∀ k : Nat, (∀ {st : aS} {a0 : Nat} {x1 : Option Nat}, af_X1_settle_S14 n x.sK k 0 st a0 x1 = some q → (mc + σ0.1 = q.1.1) → (ms + σ0.2.1 = q.1.2.1) → ∀ {H : Heap} {locs : List Loc} {ls : Array Slot} {kc ks : Nat}, aY x σ0 s st H locs kc ks → lv_has ls 2 [(0, .ref a0), (1, va_rf x1)] → aG l 1 20 mc ms x As σ0 (.inl none) q.1 p e s m below meth c H locs kc ks (F0 m 14 ls [])) ∧ (∀ {st : aS} {a0 : Nat} {x1 : Option Nat}, af_X1_settle_S14 n x.sK k 1 st a0 x1 = some q → (mc + σ0.1 = q.1.1) → (ms + σ0.2.1 = q.1.2.1) → ∀ {H : Heap} {locs : List Loc} {ls : Array Slot} {kc ks : Nat}, aY x σ0 s st H locs kc ks → lv_has ls 2 [(0, .ref a0), (1, va_rf x1)] → aG l 1 20 mc ms x As σ0 (.inl none) q.1 p e s m below meth c H locs kc ks (F0 m 48 ls [])) := by
  have hx := X.1
  have hb := X.2.1
  have hown := X.2.2.2.1
  have hts := X.2.2.2.2.1
  have hK := X.2.2.2.2.2.1
  have hl0 := X.2.2.2.2.2.2.2.2
  intro k
  induction k with
  | zero => exact ⟨(fun h => nomatch (show none = some q from h)), (fun h => nomatch (show none = some q from h))⟩
  | succ k ih =>
    obtain ⟨ih0, ih1⟩ := ih
    have mrec := @oaf_X1_settle_S14_ n x.sK k
    obtain ⟨mrec0, mrec1⟩ := mrec
    refine ⟨?_, ?_⟩
    · intro st a0 x1 hE h1 h2 H locs ls kc ks Y hl
      replace hE : af_X1_settle_B14 n x.sK (af_X1_settle_S14 n x.sK k) st a0 x1 = some q := hE
      unfold af_X1_settle_B14 at hE
      refine r_aload_n hx hb dX1_settle_14 rfl (lv_at hl 1 rfl) ?_
      refine r_ifnull (tgt := 56) hx hb dX1_settle_15 (by decide) (fun c_1 => ?_) (fun c_1 => ?_)
      · replace hE := e_t c_1 hE
        cases hE
        exact a_vret X Y h1 h2 hr dX1_settle_56
      · replace hE := e_f c_1 hE
        refine r_aload_n hx hb dX1_settle_18 rfl (lv_at hl 1 rfl) ?_
        replace hE := e_bind hE
        obtain ⟨a_2, g, hE⟩ := hE
        subst g
        replace hE := e_bind hE
        obtain ⟨r_3, g, hE⟩ := hE
        refine n_gR X Y k_X4 1 g (by decide) q491 dX1_settle_19 ?_
        replace hE := e_bind hE
        obtain ⟨v_4, g, hE⟩ := hE
        refine a_inst X Y k_X22 nc_X22 g q1743 dX1_settle_22 ?_
        refine lv_if_eq (tgt := 48) hx hb dX1_settle_25 (by decide) (fun c_5 => ?_) (fun c_5 => ?_)
        · replace hE := e_t c_5 hE
          exact ih1 hE h1 h2 Y (lv_sub hl [0, 1] rfl)
        · replace hE := e_f c_5 hE
          refine lv_aload_n hx hb dX1_settle_28 rfl (lv_at hl 0 rfl) ?_
          refine lv_dup hx hb dX1_settle_29 rfl ?_
          replace hE := e_bind hE
          obtain ⟨v_6, g, hE⟩ := hE
          refine n_gI X Y k_X1 19 g (by decide) q233 dX1_settle_30 ?_
          refine lv_aload_n hx hb dX1_settle_33 rfl (lv_at hl 1 rfl) ?_
          replace hE := e_bind hE
          obtain ⟨r_7, g, hE⟩ := hE
          refine n_gR X Y k_X4 1 g (by decide) q491 dX1_settle_34 ?_
          replace hE := e_bind hE
          obtain ⟨a_8, g, hE⟩ := hE
          subst g
          replace hE := e_bind hE
          obtain ⟨u_9, g, hE⟩ := hE
          obtain ⟨fs9, g9⟩ := i_gC g
          refine va_castE hx hb hown (hts _ q1743) (a_recv X Y k_X22.1 g9) dX1_settle_37 ?_
          replace hE := e_bind hE
          obtain ⟨u_12, g, hE⟩ := hE
          obtain ⟨fs9, g9⟩ := i_gC g
          have g7 := a_recv X Y k_X22.1 g9
          replace hE := e_cb hE
          obtain ⟨st_10, r_11, g, hE⟩ := hE
          have M9 := (mo_v fun _ => (mo_v fun _ => (mo_s (fun _ => le_pF) fun _ => (mrec1)))) _ hE
          refine a_callV (n := 0) (C := "BasicMachine$Data") (σ1 := st_10) (σf := q.1) [] X Y (maf_X22_values hl0 n g) ⟨oaf_X22_values _ g, M9, h1, h2, (by show _ ≤ 1; decide), (by show _ ≤ 20; decide)⟩ q1744 q1745 q1746 q161 q1747 (by decide +kernel) g7 rfl hl.1 (Nat.le_of_ble_eq_true rfl) dX1_settle_40 (fun v hv H locs kc ks Y => ?_) (fun k hk => by cases hk)
          cases hv
          replace hE := e_bind hE
          obtain ⟨a_13, g, hE⟩ := hE
          subst g
          replace hE := e_bind hE
          obtain ⟨v_14, g, hE⟩ := hE
          refine a_alen X Y g dX1_settle_43 ?_
          refine lv_iadd hx hb dX1_settle_44 ?_
          replace hE := e_bind hE
          obtain ⟨st_15, g, hE⟩ := hE
          refine a_putV X Y k_X1 19 g (by decide) rfl rfl rfl q233 dX1_settle_45 (fun H locs Y => ?_)
          exact ih1 hE h1 h2 Y (lv_sub hl [0, 1] rfl)
    · intro st a0 x1 hE h1 h2 H locs ls kc ks Y hl
      replace hE : af_X1_settle_B48 n x.sK (af_X1_settle_S14 n x.sK k) st a0 x1 = some q := hE
      unfold af_X1_settle_B48 at hE
      refine r_aload_n hx hb dX1_settle_48 rfl (lv_at hl 1 rfl) ?_
      replace hE := e_bind hE
      obtain ⟨a_1, g, hE⟩ := hE
      subst g
      replace hE := e_bind hE
      obtain ⟨r_2, g, hE⟩ := hE
      refine n_gR X Y k_X4 2 g (by decide) q492 dX1_settle_49 ?_
      refine r_astore_n (i := 1) (lv' := [(1, va_rf r_2), (0, .ref a0)]) hx hb dX1_settle_52 rfl hl (by decide) rfl (fun ls hl => ?_)
      refine lv_goto (tgt := 14) hx hb dX1_settle_53 (by decide) ?_
      exact ih0 hE h1 h2 Y (lv_sub hl [1, 0] rfl)
set_option maxHeartbeats 4000000 in
set_option maxRecDepth 100000 in
theorem waf_X1_settle_S14 {l : Launch} {x : aP} {As : List Value} {σ0 : aS} {p : Program} {e : Env} {s : State} {m : MethodId} {below : List Frame} {meth : Method} {c : Code} {mc ms : Nat} (X : aX "BasicMachine" p l s m As.toArray meth c cX1_settle 2 x σ0) (hex : ∀ z ∈ c.exceptionTable.toList, False) (hr : meth.sig.returnType = none) (hnm : "settle" = meth.name) {n : Nat} {q : aS × Unit} : (∀ {st : aS} {a0 : Nat} {x1 : Option Nat}, af_X1_settle_S14 n x.sK n 0 st a0 x1 = some q → (mc + σ0.1 = q.1.1) → (ms + σ0.2.1 = q.1.2.1) → ∀ {H : Heap} {locs : List Loc} {ls : Array Slot} {kc ks : Nat}, aY x σ0 s st H locs kc ks → lv_has ls 2 [(0, .ref a0), (1, va_rf x1)] → aG l 1 20 mc ms x As σ0 (.inl none) q.1 p e s m below meth c H locs kc ks (F0 m 14 ls [])) ∧ (∀ {st : aS} {a0 : Nat} {x1 : Option Nat}, af_X1_settle_S14 n x.sK n 1 st a0 x1 = some q → (mc + σ0.1 = q.1.1) → (ms + σ0.2.1 = q.1.2.1) → ∀ {H : Heap} {locs : List Loc} {ls : Array Slot} {kc ks : Nat}, aY x σ0 s st H locs kc ks → lv_has ls 2 [(0, .ref a0), (1, va_rf x1)] → aG l 1 20 mc ms x As σ0 (.inl none) q.1 p e s m below meth c H locs kc ks (F0 m 48 ls [])) := waf_X1_settle_S14_ X hex hr hnm n
set_option maxHeartbeats 4000000 in
set_option maxRecDepth 100000 in
theorem maf_X1_settle {l : Launch} (hl0 : l.stackTraces = false) (n : Nat) {x : aP} {st : aS} {a0 : Nat} {q : aS × Unit} (hE : af_X1_settle n x.sK st a0 = some q) : aMet l yX1_settle (ws_ yX1_settle cX1_settle 2 none) 1 20 x [.ref a0] st (.inl none) q.1 := by
  refine a_ofW (own := "BasicMachine") hl0 (by decide) rfl (Nat.le_of_ble_eq_true rfl) (fun mc ms p e s m below meth c ls H locs kc ks h1 h2 X hex Y hr hnm hl => ?_)
  have hnm : "settle" = meth.name := hnm
  have hl : lv_has ls 2 [(0, .ref a0)] := hl
  have hx := X.1
  have hb := X.2.1
  have hown := X.2.2.2.1
  have hts := X.2.2.2.2.1
  have hK := X.2.2.2.2.2.1
  have hl0 := X.2.2.2.2.2.2.2.2
  unfold af_X1_settle at hE
  refine lv_aload_n hx hb dX1_settle_0 rfl (lv_at hl 0 rfl) ?_
  refine lv_aload_n hx hb dX1_settle_1 rfl (lv_at hl 0 rfl) ?_
  replace hE := e_bind hE
  obtain ⟨v_1, g, hE⟩ := hE
  refine n_gI X Y k_X1 18 g (by decide) q232 dX1_settle_2 ?_
  refine lv_ineg hx hb dX1_settle_5 ?_
  replace hE := e_bind hE
  obtain ⟨st_2, g, hE⟩ := hE
  refine a_putV X Y k_X1 19 g (by decide) rfl rfl rfl q233 dX1_settle_6 (fun H locs Y => ?_)
  refine lv_aload_n hx hb dX1_settle_9 rfl (lv_at hl 0 rfl) ?_
  replace hE := e_bind hE
  obtain ⟨r_3, g, hE⟩ := hE
  refine n_gR X Y k_X1 3 g (by decide) q193 dX1_settle_10 ?_
  refine r_astore_n (i := 1) (lv' := [(1, va_rf r_3), (0, .ref a0)]) hx hb dX1_settle_13 rfl hl (by decide) rfl (fun ls hl => ?_)
  exact (waf_X1_settle_S14 X hex hr hnm).1 hE h1 h2 Y (lv_sub hl [1, 0] rfl)
/-! BasicMachine.failed()V -/
set_option maxHeartbeats 4000000 in
set_option maxRecDepth 100000 in
theorem waf_X1_failed_S10_ {l : Launch} {x : aP} {As : List Value} {σ0 : aS} {p : Program} {e : Env} {s : State} {m : MethodId} {below : List Frame} {meth : Method} {c : Code} {mc ms : Nat} (X : aX "BasicMachine" p l s m As.toArray meth c cX1_failed 1 x σ0) (hex : ∀ z ∈ c.exceptionTable.toList, False) (hr : meth.sig.returnType = none) (hnm : "failed" = meth.name) {n : Nat} {q : aS × Unit} : ∀ k : Nat, (∀ {st : aS} {a0 : Nat}, af_X1_failed_S10 n x.sK k st a0 = some q → (mc + σ0.1 = q.1.1) → (ms + σ0.2.1 = q.1.2.1) → ∀ {H : Heap} {locs : List Loc} {ls : Array Slot} {kc ks : Nat}, aY x σ0 s st H locs kc ks → lv_has ls 1 [(0, .ref a0)] → aG l 2 41 mc ms x As σ0 (.inl none) q.1 p e s m below meth c H locs kc ks (F0 m 10 ls [])) := by
  have hx := X.1
  have hb := X.2.1
  have hown := X.2.2.2.1
  have hts := X.2.2.2.2.1
  have hK := X.2.2.2.2.2.1
  have hl0 := X.2.2.2.2.2.2.2.2
  intro k
  induction k with
  | zero => exact fun h => nomatch (show none = some q from h)
  | succ k ih =>
    have mrec := @oaf_X1_failed_S10_ n x.sK k
    intro st a0 hE h1 h2 H locs ls kc ks Y hl
    replace hE : af_X1_failed_B10 n x.sK (af_X1_failed_S10 n x.sK k) st a0 = some q := hE
    unfold af_X1_failed_B10 at hE
    refine lv_aload_n hx hb dX1_failed_10 rfl (lv_at hl 0 rfl) ?_
    replace hE := e_bind hE
    obtain ⟨v_1, g, hE⟩ := hE
    refine n_gI X Y k_X1 9 g (by decide) q210 dX1_failed_11 ?_
    refine lv_if_le (tgt := 24) hx hb dX1_failed_14 (by decide) (fun c_2 => ?_) (fun c_2 => ?_)
    · replace hE := e_t c_2 hE
      refine lv_aload_n hx hb dX1_failed_24 rfl (lv_at hl 0 rfl) ?_
      replace hE := e_bind hE
      obtain ⟨u_5, g, hE⟩ := hE
      obtain ⟨fs9, g9⟩ := i_gC g
      have g7 := a_recv X Y k_X1.1 g9
      replace hE := e_cb hE
      obtain ⟨st_3, u_4, g, hE⟩ := hE
      have M9 := mo_ret _ hE
      refine a_callV (n := 0) (C := "BasicMachine") (σ1 := st_3) (σf := q.1) [] X Y (maf_X1_settle hl0 n g) ⟨oaf_X1_settle _ g, M9, h1, h2, (by show _ ≤ 2; decide), (by show _ ≤ 41; decide)⟩ q1770 q1772 qs51 q122 q1773 (by decide +kernel) g7 rfl hl.1 (Nat.le_of_ble_eq_true rfl) dX1_failed_25 (fun v hv H locs kc ks Y => ?_) (fun k hk => by cases hk)
      cases hv
      cases hE
      exact a_vret X Y h1 h2 hr dX1_failed_28
    · replace hE := e_f c_2 hE
      refine lv_aload_n hx hb dX1_failed_17 rfl (lv_at hl 0 rfl) ?_
      replace hE := e_bind hE
      obtain ⟨u_8, g, hE⟩ := hE
      obtain ⟨fs9, g9⟩ := i_gC g
      have g7 := a_recv X Y k_X1.1 g9
      replace hE := e_cb hE
      obtain ⟨st_6, u_7, g, hE⟩ := hE
      have M9 := (mrec) _ hE
      refine a_callV (n := 0) (C := "BasicMachine") (σ1 := st_6) (σf := q.1) [] X Y (maf_X1_leave hl0 n g) ⟨oaf_X1_leave _ g, M9, h1, h2, (by show _ ≤ 2; decide), (by show _ ≤ 41; decide)⟩ q1769 q1525 qs41 q122 q1526 (by decide +kernel) g7 rfl hl.1 (Nat.le_of_ble_eq_true rfl) dX1_failed_18 (fun v hv H locs kc ks Y => ?_) (fun k hk => by cases hk)
      cases hv
      refine lv_goto (tgt := 10) hx hb dX1_failed_21 (by decide) ?_
      exact ih hE h1 h2 Y (lv_sub hl [0] rfl)
set_option maxHeartbeats 4000000 in
set_option maxRecDepth 100000 in
theorem waf_X1_failed_S10 {l : Launch} {x : aP} {As : List Value} {σ0 : aS} {p : Program} {e : Env} {s : State} {m : MethodId} {below : List Frame} {meth : Method} {c : Code} {mc ms : Nat} (X : aX "BasicMachine" p l s m As.toArray meth c cX1_failed 1 x σ0) (hex : ∀ z ∈ c.exceptionTable.toList, False) (hr : meth.sig.returnType = none) (hnm : "failed" = meth.name) {n : Nat} {q : aS × Unit} : (∀ {st : aS} {a0 : Nat}, af_X1_failed_S10 n x.sK n st a0 = some q → (mc + σ0.1 = q.1.1) → (ms + σ0.2.1 = q.1.2.1) → ∀ {H : Heap} {locs : List Loc} {ls : Array Slot} {kc ks : Nat}, aY x σ0 s st H locs kc ks → lv_has ls 1 [(0, .ref a0)] → aG l 2 41 mc ms x As σ0 (.inl none) q.1 p e s m below meth c H locs kc ks (F0 m 10 ls [])) := waf_X1_failed_S10_ X hex hr hnm n
set_option maxHeartbeats 4000000 in
set_option maxRecDepth 100000 in
theorem maf_X1_failed {l : Launch} (hl0 : l.stackTraces = false) (n : Nat) {x : aP} {st : aS} {a0 : Nat} {q : aS × Unit} (hE : af_X1_failed n x.sK st a0 = some q) : aMet l yX1_failed (ws_ yX1_failed cX1_failed 1 none) 2 41 x [.ref a0] st (.inl none) q.1 := by
  refine a_ofW (own := "BasicMachine") hl0 (by decide) rfl (Nat.le_of_ble_eq_true rfl) (fun mc ms p e s m below meth c ls H locs kc ks h1 h2 X hex Y hr hnm hl => ?_)
  have hnm : "failed" = meth.name := hnm
  have hl : lv_has ls 1 [(0, .ref a0)] := hl
  have hx := X.1
  have hb := X.2.1
  have hown := X.2.2.2.1
  have hts := X.2.2.2.2.1
  have hK := X.2.2.2.2.2.1
  have hl0 := X.2.2.2.2.2.2.2.2
  unfold af_X1_failed at hE
  refine lv_aload_n hx hb dX1_failed_0 rfl (lv_at hl 0 rfl) ?_
  refine lv_dup hx hb dX1_failed_1 rfl ?_
  replace hE := e_bind hE
  obtain ⟨v_1, g, hE⟩ := hE
  refine n_gI X Y k_X1 23 g (by decide) q238 dX1_failed_2 ?_
  refine lv_iconst (v := 1) hx hb dX1_failed_5 (by decide) ?_
  refine lv_iadd hx hb dX1_failed_6 ?_
  replace hE := e_bind hE
  obtain ⟨st_2, g, hE⟩ := hE
  refine a_putV X Y k_X1 23 g (by decide) rfl rfl rfl q238 dX1_failed_7 (fun H locs Y => ?_)
  exact (waf_X1_failed_S10 X hex hr hnm) hE h1 h2 Y (lv_sub hl [0] rfl)
/-! BasicMachine.run()I -/
set_option maxHeartbeats 4000000 in
set_option maxRecDepth 100000 in
theorem maf_X1_run {l : Launch} (hl0 : l.stackTraces = false) (n : Nat) {x : aP} {st : aS} {a0 : Nat} {q : aS × ((Int32) ⊕ Nat)} (hE : af_X1_run n x.sK st a0 = some q) : aMet l yX1_run (wsW_ yX1_run cX1_run 2 (some .int) [(4, 8, 11, 65), (4, 8, 24, 71), (4, 8, 37, 110), (4, 8, 50, 7), (4, 8, 63, 120), (4, 8, 76, 123)]) 344 10253 x [.ref a0] st (oI q.2) q.1 := by
  refine a_ofWH (own := "BasicMachine") hl0 (by decide) rfl (Nat.le_of_ble_eq_true rfl) (fun mc ms p e s m below meth c ls H locs kc ks h1 h2 X hex Y hr hnm hl => ?_)
  have hnm : "run" = meth.name := hnm
  have hl : lv_has ls 2 [(0, .ref a0)] := hl
  have hx := X.1
  have hb := X.2.1
  have hown := X.2.2.2.1
  have hts := X.2.2.2.2.1
  have hK := X.2.2.2.2.2.1
  have hl0 := X.2.2.2.2.2.2.2.2
  unfold af_X1_run at hE
  refine lv_aload_n hx hb dX1_run_0 rfl (lv_at hl 0 rfl) ?_
  replace hE := e_bind hE
  obtain ⟨u_3, g, hE⟩ := hE
  obtain ⟨fs9, g9⟩ := i_gC g
  have g7 := a_recv X Y k_X1.1 g9
  replace hE := e_cb hE
  obtain ⟨st_1, u_2, g, hE⟩ := hE
  have M9 := (mo_v fun _ => (mo_xc oaf_X1_go (fun _ _ => (mo_v fun _ => (mo_cb oaf_X1_settle fun _ _ => (mo_v fun _ => mo_ret)))) fun _ _ => (mo_if (mo_v fun _ => (mo_cb oaf_X1_failed fun _ _ => mo_tw)) (mo_if (mo_v fun _ => (mo_cb oaf_X1_failed fun _ _ => mo_tw)) (mo_if (mo_v fun _ => (mo_cb oaf_X1_failed fun _ _ => mo_tw)) (mo_if (mo_v fun _ => (mo_cb oaf_X1_failed fun _ _ => mo_tw)) (mo_if (mo_v fun _ => (mo_cb oaf_X1_failed fun _ _ => mo_tw)) (mo_if (mo_v fun _ => (mo_cb oaf_X1_failed fun _ _ => mo_tw)) mo_none)))))))) _ hE
  refine a_callV (n := 0) (C := "BasicMachine") (σ1 := st_1) (σf := q.1) [] X Y (maf_X1_begin hl0 n g) ⟨oaf_X1_begin _ g, M9, h1, h2, (by show _ ≤ 344; decide), (by show _ ≤ 10253; decide)⟩ q1345 q1347 qs37 q122 q1348 (by decide +kernel) g7 rfl hl.1 (Nat.le_of_ble_eq_true rfl) dX1_run_1 (fun v hv H locs kc ks Y => ?_) (fun k hk => by cases hk)
  cases hv
  refine lv_aload_n hx hb dX1_run_4 rfl (lv_at hl 0 rfl) ?_
  replace hE := e_bind hE
  obtain ⟨u_6, g, hE⟩ := hE
  obtain ⟨fs9, g9⟩ := i_gC g
  have g7 := a_recv X Y k_X1.1 g9
  replace hE := e_xc hE
  rcases hE with ⟨st_4, u_5, g, hE⟩ | ⟨st_4, k9, g, hE⟩
  rotate_left
  · skip
    by_cases c_7 : k9 = 0
    · subst c_7
      replace hE := e_t rfl hE
      have M9 := (mo_v fun _ => (mo_cb oaf_X1_failed fun _ _ => mo_tw)) _ hE
      refine a_callV (n := 0) (C := "BasicMachine") (σ1 := st_4) (σf := q.1) [] X Y (maf_X1_go hl0 n g) ⟨oaf_X1_go _ g, M9, h1, h2, (by show _ ≤ 344; decide), (by show _ ≤ 10253; decide)⟩ q1349 q1351 qs38 q122 q1352 (by decide +kernel) g7 rfl hl.1 (Nat.le_of_ble_eq_true rfl) dX1_run_5 (fun v hv => by cases hv) (fun k hk H locs kc ks q9 ce Y e1 e2 e3 => ?_)
      cases hk
      refine a_catch (E := "java/lang/IllegalArgumentException") X [] ⟨4, 8, 11, 65⟩ [⟨4, 8, 24, 71⟩, ⟨4, 8, 37, 110⟩, ⟨4, 8, 50, 7⟩, ⟨4, 8, 63, 120⟩, ⟨4, 8, 76, 123⟩] hex (fun _ h => nomatch h) (by decide) (by decide) q320 (by decide) e1 e2 e3 ?_
      show W _ _ _ _ _ _ _ _ _ _ _ _ _ _ _ (F0 m 11 ls [.ref q9])
      refine lv_astore_n (i := 1) (lv' := [(1, .ref q9), (0, .ref a0)]) hx hb dX1_run_11 rfl hl (by decide) rfl (fun ls hl => ?_)
      refine lv_aload_n hx hb dX1_run_12 rfl (lv_at hl 1 rfl) ?_
      replace hE := e_bind hE
      obtain ⟨u_10, g, hE⟩ := hE
      obtain ⟨fs9, g9⟩ := i_gC g
      have g7 := a_recv X Y k_X1.1 g9
      replace hE := e_cb hE
      obtain ⟨st_8, u_9, g, hE⟩ := hE
      have M9 := mo_tw _ hE
      refine a_callV (n := 0) (C := "BasicMachine") (σ1 := st_8) (σf := q.1) [] X Y (maf_X1_failed hl0 n g) ⟨oaf_X1_failed _ g, M9, h1, h2, (by show _ ≤ 344; decide), (by show _ ≤ 10253; decide)⟩ q1765 q1767 qs50 q122 q1768 (by decide +kernel) g7 rfl hl.1 (Nat.le_of_ble_eq_true rfl) dX1_run_13 (fun v hv H locs kc ks Y => ?_) (fun k hk => by cases hk)
      cases hv
      cases hE
      exact a_throw X Y h1 h2 rfl (by decide +kernel) q320 q127 (at_B_0 hts hK) at_B_0_o (ho_of hex (by decide)) hl.1 (by show _ ≤ 344; decide) (Nat.le_trans (Nat.add_le_add_right (show _ ≤ 8 from (Nat.le_of_ble_eq_true rfl)) 81) (by show _ ≤ 10253; decide)) dX1_run_16 dX1_run_19 dX1_run_20 dX1_run_23
    replace hE := e_f c_7 hE
    by_cases c_11 : k9 = 1
    · subst c_11
      replace hE := e_t rfl hE
      have M9 := (mo_v fun _ => (mo_cb oaf_X1_failed fun _ _ => mo_tw)) _ hE
      refine a_callV (n := 0) (C := "BasicMachine") (σ1 := st_4) (σf := q.1) [] X Y (maf_X1_go hl0 n g) ⟨oaf_X1_go _ g, M9, h1, h2, (by show _ ≤ 344; decide), (by show _ ≤ 10253; decide)⟩ q1349 q1351 qs38 q122 q1352 (by decide +kernel) g7 rfl hl.1 (Nat.le_of_ble_eq_true rfl) dX1_run_5 (fun v hv => by cases hv) (fun k hk H locs kc ks q9 ce Y e1 e2 e3 => ?_)
      cases hk
      refine a_catch (E := "java/lang/IllegalStateException") X [⟨4, 8, 11, 65⟩] ⟨4, 8, 24, 71⟩ [⟨4, 8, 37, 110⟩, ⟨4, 8, 50, 7⟩, ⟨4, 8, 63, 120⟩, ⟨4, 8, 76, 123⟩] hex (List.forall_mem_cons.mpr ⟨⟨by decide, "java/lang/IllegalArgumentException", q320, by decide⟩, fun _ h => nomatch h⟩) (by decide) (by decide) q388 (by decide) e1 e2 e3 ?_
      show W _ _ _ _ _ _ _ _ _ _ _ _ _ _ _ (F0 m 24 ls [.ref q9])
      refine lv_astore_n (i := 1) (lv' := [(1, .ref q9), (0, .ref a0)]) hx hb dX1_run_24 rfl hl (by decide) rfl (fun ls hl => ?_)
      refine lv_aload_n hx hb dX1_run_25 rfl (lv_at hl 1 rfl) ?_
      replace hE := e_bind hE
      obtain ⟨u_14, g, hE⟩ := hE
      obtain ⟨fs9, g9⟩ := i_gC g
      have g7 := a_recv X Y k_X1.1 g9
      replace hE := e_cb hE
      obtain ⟨st_12, u_13, g, hE⟩ := hE
      have M9 := mo_tw _ hE
      refine a_callV (n := 0) (C := "BasicMachine") (σ1 := st_12) (σf := q.1) [] X Y (maf_X1_failed hl0 n g) ⟨oaf_X1_failed _ g, M9, h1, h2, (by show _ ≤ 344; decide), (by show _ ≤ 10253; decide)⟩ q1765 q1767 qs50 q122 q1768 (by decide +kernel) g7 rfl hl.1 (Nat.le_of_ble_eq_true rfl) dX1_run_26 (fun v hv H locs kc ks Y => ?_) (fun k hk => by cases hk)
      cases hv
      cases hE
      exact a_throw X Y h1 h2 rfl (by decide +kernel) q388 q128 (at_B_1 hts hK) at_B_1_o (ho_of hex (by decide)) hl.1 (by show _ ≤ 344; decide) (Nat.le_trans (Nat.add_le_add_right (show _ ≤ 8 from (Nat.le_of_ble_eq_true rfl)) 81) (by show _ ≤ 10253; decide)) dX1_run_29 dX1_run_32 dX1_run_33 dX1_run_36
    replace hE := e_f c_11 hE
    by_cases c_15 : k9 = 2
    · subst c_15
      replace hE := e_t rfl hE
      have M9 := (mo_v fun _ => (mo_cb oaf_X1_failed fun _ _ => mo_tw)) _ hE
      refine a_callV (n := 0) (C := "BasicMachine") (σ1 := st_4) (σf := q.1) [] X Y (maf_X1_go hl0 n g) ⟨oaf_X1_go _ g, M9, h1, h2, (by show _ ≤ 344; decide), (by show _ ≤ 10253; decide)⟩ q1349 q1351 qs38 q122 q1352 (by decide +kernel) g7 rfl hl.1 (Nat.le_of_ble_eq_true rfl) dX1_run_5 (fun v hv => by cases hv) (fun k hk H locs kc ks q9 ce Y e1 e2 e3 => ?_)
      cases hk
      refine a_catch (E := "java/util/NoSuchElementException") X [⟨4, 8, 11, 65⟩, ⟨4, 8, 24, 71⟩] ⟨4, 8, 37, 110⟩ [⟨4, 8, 50, 7⟩, ⟨4, 8, 63, 120⟩, ⟨4, 8, 76, 123⟩] hex (List.forall_mem_cons.mpr ⟨⟨by decide, "java/lang/IllegalArgumentException", q320, by decide⟩, List.forall_mem_cons.mpr ⟨⟨by decide, "java/lang/IllegalStateException", q388, by decide⟩, fun _ h => nomatch h⟩⟩) (by decide) (by decide) q1278 (by decide) e1 e2 e3 ?_
      show W _ _ _ _ _ _ _ _ _ _ _ _ _ _ _ (F0 m 37 ls [.ref q9])
      refine lv_astore_n (i := 1) (lv' := [(1, .ref q9), (0, .ref a0)]) hx hb dX1_run_37 rfl hl (by decide) rfl (fun ls hl => ?_)
      refine lv_aload_n hx hb dX1_run_38 rfl (lv_at hl 1 rfl) ?_
      replace hE := e_bind hE
      obtain ⟨u_18, g, hE⟩ := hE
      obtain ⟨fs9, g9⟩ := i_gC g
      have g7 := a_recv X Y k_X1.1 g9
      replace hE := e_cb hE
      obtain ⟨st_16, u_17, g, hE⟩ := hE
      have M9 := mo_tw _ hE
      refine a_callV (n := 0) (C := "BasicMachine") (σ1 := st_16) (σf := q.1) [] X Y (maf_X1_failed hl0 n g) ⟨oaf_X1_failed _ g, M9, h1, h2, (by show _ ≤ 344; decide), (by show _ ≤ 10253; decide)⟩ q1765 q1767 qs50 q122 q1768 (by decide +kernel) g7 rfl hl.1 (Nat.le_of_ble_eq_true rfl) dX1_run_39 (fun v hv H locs kc ks Y => ?_) (fun k hk => by cases hk)
      cases hv
      cases hE
      exact a_throw X Y h1 h2 rfl (by decide +kernel) q1278 q167 (at_B_2 hts hK) at_B_2_o (ho_of hex (by decide)) hl.1 (by show _ ≤ 344; decide) (Nat.le_trans (Nat.add_le_add_right (show _ ≤ 8 from (Nat.le_of_ble_eq_true rfl)) 81) (by show _ ≤ 10253; decide)) dX1_run_42 dX1_run_45 dX1_run_46 dX1_run_49
    replace hE := e_f c_15 hE
    by_cases c_19 : k9 = 3
    · subst c_19
      replace hE := e_t rfl hE
      have M9 := (mo_v fun _ => (mo_cb oaf_X1_failed fun _ _ => mo_tw)) _ hE
      refine a_callV (n := 0) (C := "BasicMachine") (σ1 := st_4) (σf := q.1) [] X Y (maf_X1_go hl0 n g) ⟨oaf_X1_go _ g, M9, h1, h2, (by show _ ≤ 344; decide), (by show _ ≤ 10253; decide)⟩ q1349 q1351 qs38 q122 q1352 (by decide +kernel) g7 rfl hl.1 (Nat.le_of_ble_eq_true rfl) dX1_run_5 (fun v hv => by cases hv) (fun k hk H locs kc ks q9 ce Y e1 e2 e3 => ?_)
      cases hk
      refine a_catch (E := "java/lang/ArithmeticException") X [⟨4, 8, 11, 65⟩, ⟨4, 8, 24, 71⟩, ⟨4, 8, 37, 110⟩] ⟨4, 8, 50, 7⟩ [⟨4, 8, 63, 120⟩, ⟨4, 8, 76, 123⟩] hex (List.forall_mem_cons.mpr ⟨⟨by decide, "java/lang/IllegalArgumentException", q320, by decide⟩, List.forall_mem_cons.mpr ⟨⟨by decide, "java/lang/IllegalStateException", q388, by decide⟩, List.forall_mem_cons.mpr ⟨⟨by decide, "java/util/NoSuchElementException", q1278, by decide⟩, fun _ h => nomatch h⟩⟩⟩) (by decide) (by decide) q1342 (by decide) e1 e2 e3 ?_
      show W _ _ _ _ _ _ _ _ _ _ _ _ _ _ _ (F0 m 50 ls [.ref q9])
      refine lv_astore_n (i := 1) (lv' := [(1, .ref q9), (0, .ref a0)]) hx hb dX1_run_50 rfl hl (by decide) rfl (fun ls hl => ?_)
      refine lv_aload_n hx hb dX1_run_51 rfl (lv_at hl 1 rfl) ?_
      replace hE := e_bind hE
      obtain ⟨u_22, g, hE⟩ := hE
      obtain ⟨fs9, g9⟩ := i_gC g
      have g7 := a_recv X Y k_X1.1 g9
      replace hE := e_cb hE
      obtain ⟨st_20, u_21, g, hE⟩ := hE
      have M9 := mo_tw _ hE
      refine a_callV (n := 0) (C := "BasicMachine") (σ1 := st_20) (σf := q.1) [] X Y (maf_X1_failed hl0 n g) ⟨oaf_X1_failed _ g, M9, h1, h2, (by show _ ≤ 344; decide), (by show _ ≤ 10253; decide)⟩ q1765 q1767 qs50 q122 q1768 (by decide +kernel) g7 rfl hl.1 (Nat.le_of_ble_eq_true rfl) dX1_run_52 (fun v hv H locs kc ks Y => ?_) (fun k hk => by cases hk)
      cases hv
      cases hE
      exact a_throw X Y h1 h2 rfl (by decide +kernel) q1342 q168 (at_B_3 hts hK) at_B_3_o (ho_of hex (by decide)) hl.1 (by show _ ≤ 344; decide) (Nat.le_trans (Nat.add_le_add_right (show _ ≤ 8 from (Nat.le_of_ble_eq_true rfl)) 81) (by show _ ≤ 10253; decide)) dX1_run_55 dX1_run_58 dX1_run_59 dX1_run_62
    replace hE := e_f c_19 hE
    by_cases c_23 : k9 = 4
    · subst c_23
      replace hE := e_t rfl hE
      have M9 := (mo_v fun _ => (mo_cb oaf_X1_failed fun _ _ => mo_tw)) _ hE
      refine a_callV (n := 0) (C := "BasicMachine") (σ1 := st_4) (σf := q.1) [] X Y (maf_X1_go hl0 n g) ⟨oaf_X1_go _ g, M9, h1, h2, (by show _ ≤ 344; decide), (by show _ ≤ 10253; decide)⟩ q1349 q1351 qs38 q122 q1352 (by decide +kernel) g7 rfl hl.1 (Nat.le_of_ble_eq_true rfl) dX1_run_5 (fun v hv => by cases hv) (fun k hk H locs kc ks q9 ce Y e1 e2 e3 => ?_)
      cases hk
      refine a_catch (E := "java/lang/IndexOutOfBoundsException") X [⟨4, 8, 11, 65⟩, ⟨4, 8, 24, 71⟩, ⟨4, 8, 37, 110⟩, ⟨4, 8, 50, 7⟩] ⟨4, 8, 63, 120⟩ [⟨4, 8, 76, 123⟩] hex (List.forall_mem_cons.mpr ⟨⟨by decide, "java/lang/IllegalArgumentException", q320, by decide⟩, List.forall_mem_cons.mpr ⟨⟨by decide, "java/lang/IllegalStateException", q388, by decide⟩, List.forall_mem_cons.mpr ⟨⟨by decide, "java/util/NoSuchElementException", q1278, by decide⟩, List.forall_mem_cons.mpr ⟨⟨by decide, "java/lang/ArithmeticException", q1342, by decide⟩, fun _ h => nomatch h⟩⟩⟩⟩) (by decide) (by decide) q1343 (by decide) e1 e2 e3 ?_
      show W _ _ _ _ _ _ _ _ _ _ _ _ _ _ _ (F0 m 63 ls [.ref q9])
      refine lv_astore_n (i := 1) (lv' := [(1, .ref q9), (0, .ref a0)]) hx hb dX1_run_63 rfl hl (by decide) rfl (fun ls hl => ?_)
      refine lv_aload_n hx hb dX1_run_64 rfl (lv_at hl 1 rfl) ?_
      replace hE := e_bind hE
      obtain ⟨u_26, g, hE⟩ := hE
      obtain ⟨fs9, g9⟩ := i_gC g
      have g7 := a_recv X Y k_X1.1 g9
      replace hE := e_cb hE
      obtain ⟨st_24, u_25, g, hE⟩ := hE
      have M9 := mo_tw _ hE
      refine a_callV (n := 0) (C := "BasicMachine") (σ1 := st_24) (σf := q.1) [] X Y (maf_X1_failed hl0 n g) ⟨oaf_X1_failed _ g, M9, h1, h2, (by show _ ≤ 344; decide), (by show _ ≤ 10253; decide)⟩ q1765 q1767 qs50 q122 q1768 (by decide +kernel) g7 rfl hl.1 (Nat.le_of_ble_eq_true rfl) dX1_run_65 (fun v hv H locs kc ks Y => ?_) (fun k hk => by cases hk)
      cases hv
      cases hE
      exact a_throw X Y h1 h2 rfl (by decide +kernel) q1343 q169 (at_B_4 hts hK) at_B_4_o (ho_of hex (by decide)) hl.1 (by show _ ≤ 344; decide) (Nat.le_trans (Nat.add_le_add_right (show _ ≤ 8 from (Nat.le_of_ble_eq_true rfl)) 81) (by show _ ≤ 10253; decide)) dX1_run_68 dX1_run_71 dX1_run_72 dX1_run_75
    replace hE := e_f c_23 hE
    by_cases c_27 : k9 = 5
    · subst c_27
      replace hE := e_t rfl hE
      have M9 := (mo_v fun _ => (mo_cb oaf_X1_failed fun _ _ => mo_tw)) _ hE
      refine a_callV (n := 0) (C := "BasicMachine") (σ1 := st_4) (σf := q.1) [] X Y (maf_X1_go hl0 n g) ⟨oaf_X1_go _ g, M9, h1, h2, (by show _ ≤ 344; decide), (by show _ ≤ 10253; decide)⟩ q1349 q1351 qs38 q122 q1352 (by decide +kernel) g7 rfl hl.1 (Nat.le_of_ble_eq_true rfl) dX1_run_5 (fun v hv => by cases hv) (fun k hk H locs kc ks q9 ce Y e1 e2 e3 => ?_)
      cases hk
      refine a_catch (E := "java/lang/UnsupportedOperationException") X [⟨4, 8, 11, 65⟩, ⟨4, 8, 24, 71⟩, ⟨4, 8, 37, 110⟩, ⟨4, 8, 50, 7⟩, ⟨4, 8, 63, 120⟩] ⟨4, 8, 76, 123⟩ [] hex (List.forall_mem_cons.mpr ⟨⟨by decide, "java/lang/IllegalArgumentException", q320, by decide⟩, List.forall_mem_cons.mpr ⟨⟨by decide, "java/lang/IllegalStateException", q388, by decide⟩, List.forall_mem_cons.mpr ⟨⟨by decide, "java/util/NoSuchElementException", q1278, by decide⟩, List.forall_mem_cons.mpr ⟨⟨by decide, "java/lang/ArithmeticException", q1342, by decide⟩, List.forall_mem_cons.mpr ⟨⟨by decide, "java/lang/IndexOutOfBoundsException", q1343, by decide⟩, fun _ h => nomatch h⟩⟩⟩⟩⟩) (by decide) (by decide) q1344 (by decide) e1 e2 e3 ?_
      show W _ _ _ _ _ _ _ _ _ _ _ _ _ _ _ (F0 m 76 ls [.ref q9])
      refine lv_astore_n (i := 1) (lv' := [(1, .ref q9), (0, .ref a0)]) hx hb dX1_run_76 rfl hl (by decide) rfl (fun ls hl => ?_)
      refine lv_aload_n hx hb dX1_run_77 rfl (lv_at hl 1 rfl) ?_
      replace hE := e_bind hE
      obtain ⟨u_30, g, hE⟩ := hE
      obtain ⟨fs9, g9⟩ := i_gC g
      have g7 := a_recv X Y k_X1.1 g9
      replace hE := e_cb hE
      obtain ⟨st_28, u_29, g, hE⟩ := hE
      have M9 := mo_tw _ hE
      refine a_callV (n := 0) (C := "BasicMachine") (σ1 := st_28) (σf := q.1) [] X Y (maf_X1_failed hl0 n g) ⟨oaf_X1_failed _ g, M9, h1, h2, (by show _ ≤ 344; decide), (by show _ ≤ 10253; decide)⟩ q1765 q1767 qs50 q122 q1768 (by decide +kernel) g7 rfl hl.1 (Nat.le_of_ble_eq_true rfl) dX1_run_78 (fun v hv H locs kc ks Y => ?_) (fun k hk => by cases hk)
      cases hv
      cases hE
      exact a_throw X Y h1 h2 rfl (by decide +kernel) q1344 q173 (at_B_5 hts hK) at_B_5_o (ho_of hex (by decide)) hl.1 (by show _ ≤ 344; decide) (Nat.le_trans (Nat.add_le_add_right (show _ ≤ 8 from (Nat.le_of_ble_eq_true rfl)) 81) (by show _ ≤ 10253; decide)) dX1_run_81 dX1_run_84 dX1_run_85 dX1_run_88
    replace hE := e_f c_27 hE
    cases hE
  have M9 := (mo_v fun _ => (mo_cb oaf_X1_settle fun _ _ => (mo_v fun _ => mo_ret))) _ hE
  refine a_callV (n := 0) (C := "BasicMachine") (σ1 := st_4) (σf := q.1) [] X Y (maf_X1_go hl0 n g) ⟨oaf_X1_go _ g, M9, h1, h2, (by show _ ≤ 344; decide), (by show _ ≤ 10253; decide)⟩ q1349 q1351 qs38 q122 q1352 (by decide +kernel) g7 rfl hl.1 (Nat.le_of_ble_eq_true rfl) dX1_run_5 (fun v hv H locs kc ks Y => ?_) (fun k hk => by cases hk)
  cases hv
  refine lv_goto (tgt := 89) hx hb dX1_run_8 (by decide) ?_
  refine lv_aload_n hx hb dX1_run_89 rfl (lv_at hl 0 rfl) ?_
  replace hE := e_bind hE
  obtain ⟨u_33, g, hE⟩ := hE
  obtain ⟨fs9, g9⟩ := i_gC g
  have g7 := a_recv X Y k_X1.1 g9
  replace hE := e_cb hE
  obtain ⟨st_31, u_32, g, hE⟩ := hE
  have M9 := (mo_v fun _ => mo_ret) _ hE
  refine a_callV (n := 0) (C := "BasicMachine") (σ1 := st_31) (σf := q.1) [] X Y (maf_X1_settle hl0 n g) ⟨oaf_X1_settle _ g, M9, h1, h2, (by show _ ≤ 344; decide), (by show _ ≤ 10253; decide)⟩ q1770 q1772 qs51 q122 q1773 (by decide +kernel) g7 rfl hl.1 (Nat.le_of_ble_eq_true rfl) dX1_run_90 (fun v hv H locs kc ks Y => ?_) (fun k hk => by cases hk)
  cases hv
  refine lv_aload_n hx hb dX1_run_93 rfl (lv_at hl 0 rfl) ?_
  replace hE := e_bind hE
  obtain ⟨v_34, g, hE⟩ := hE
  refine n_gI X Y k_X1 21 g (by decide) q236 dX1_run_94 ?_
  cases hE
  exact a_iret X Y h1 h2 hr dX1_run_97
/-! BasicMachine.printed(I)D -/
set_option maxHeartbeats 4000000 in
set_option maxRecDepth 100000 in
theorem maf_X1_printed {l : Launch} (hl0 : l.stackTraces = false) (n : Nat) {x : aP} {st : aS} {a0 : Nat} {p1 : Int32} {q : aS × ((UInt64) ⊕ Nat)} (hE : af_X1_printed n x.sK st a0 p1 = some q) : aMet l yX1_printed (ws_ yX1_printed cX1_printed 2 (some .double)) 6 90 x [.ref a0, .int p1] st (oD q.2) q.1 := by
  refine a_ofW (own := "BasicMachine") hl0 (by decide) rfl (Nat.le_of_ble_eq_true rfl) (fun mc ms p e s m below meth c ls H locs kc ks h1 h2 X hex Y hr hnm hl => ?_)
  have hnm : "printed" = meth.name := hnm
  have hl : lv_has ls 2 [(0, .ref a0), (1, .int p1)] := hl
  have hx := X.1
  have hb := X.2.1
  have hown := X.2.2.2.1
  have hts := X.2.2.2.2.1
  have hK := X.2.2.2.2.2.1
  have hl0 := X.2.2.2.2.2.2.2.2
  unfold af_X1_printed at hE
  refine lv_iload_n hx hb dX1_printed_0 rfl (lv_at hl 1 rfl) ?_
  refine lv_if_lt (tgt := 18) hx hb dX1_printed_1 (by decide) (fun c_1 => ?_) (fun c_1 => ?_)
  · replace hE := e_t c_1 hE
    cases hE
    exact a_throw X Y h1 h2 rfl (by decide +kernel) q1278 q167 (at_B_2 hts hK) at_B_2_o (fun z hz => (hex z hz).elim) hl.1 (by show _ ≤ 6; decide) (Nat.le_trans (Nat.add_le_add_right (show _ ≤ 8 from (Nat.le_of_ble_eq_true rfl)) 81) (by show _ ≤ 90; decide)) dX1_printed_18 dX1_printed_21 dX1_printed_22 dX1_printed_25
  · replace hE := e_f c_1 hE
    refine lv_iload_n hx hb dX1_printed_4 rfl (lv_at hl 1 rfl) ?_
    refine lv_aload_n hx hb dX1_printed_5 rfl (lv_at hl 0 rfl) ?_
    replace hE := e_bind hE
    obtain ⟨v_2, g, hE⟩ := hE
    refine n_gI X Y k_X1 17 g (by decide) q230 dX1_printed_6 ?_
    refine lv_icmp_ge (tgt := 18) hx hb dX1_printed_9 (by decide) (fun c_3 => ?_) (fun c_3 => ?_)
    · replace hE := e_t c_3 hE
      cases hE
      exact a_throw X Y h1 h2 rfl (by decide +kernel) q1278 q167 (at_B_2 hts hK) at_B_2_o (fun z hz => (hex z hz).elim) hl.1 (by show _ ≤ 6; decide) (Nat.le_trans (Nat.add_le_add_right (show _ ≤ 8 from (Nat.le_of_ble_eq_true rfl)) 81) (by show _ ≤ 90; decide)) dX1_printed_18 dX1_printed_21 dX1_printed_22 dX1_printed_25
    · replace hE := e_f c_3 hE
      refine lv_iload_n hx hb dX1_printed_12 rfl (lv_at hl 1 rfl) ?_
      refine lv_bipush (v := 40) hx hb dX1_printed_13 (by decide) ?_
      refine lv_icmp_lt (tgt := 26) hx hb dX1_printed_15 (by decide) (fun c_4 => ?_) (fun c_4 => ?_)
      · replace hE := e_t c_4 hE
        refine lv_aload_n hx hb dX1_printed_26 rfl (lv_at hl 0 rfl) ?_
        replace hE := e_bind hE
        obtain ⟨r_5, g, hE⟩ := hE
        refine n_gR X Y k_X1 16 g (by decide) q228 dX1_printed_27 ?_
        refine lv_iload_n hx hb dX1_printed_30 rfl (lv_at hl 1 rfl) ?_
        replace hE := e_bind hE
        obtain ⟨a_6, g, hE⟩ := hE
        subst g
        replace hE := e_bind hE
        obtain ⟨v_7, g, hE⟩ := hE
        refine a_dald X Y g dX1_printed_31 ?_
        cases hE
        exact a_dret X Y h1 h2 hr dX1_printed_32
      · replace hE := e_f c_4 hE
        cases hE
        exact a_throw X Y h1 h2 rfl (by decide +kernel) q1278 q167 (at_B_2 hts hK) at_B_2_o (fun z hz => (hex z hz).elim) hl.1 (by show _ ≤ 6; decide) (Nat.le_trans (Nat.add_le_add_right (show _ ≤ 8 from (Nat.le_of_ble_eq_true rfl)) 81) (by show _ ≤ 90; decide)) dX1_printed_18 dX1_printed_21 dX1_printed_22 dX1_printed_25
/-! BasicMachine.variable(I)D -/
set_option maxHeartbeats 4000000 in
set_option maxRecDepth 100000 in
theorem waf_X1_variable_L30 {l : Launch} {x : aP} {As : List Value} {σ0 : aS} {p : Program} {e : Env} {s : State} {m : MethodId} {below : List Frame} {meth : Method} {c : Code} {mc ms : Nat} (X : aX "BasicMachine" p l s m As.toArray meth c cX1_variable 2 x σ0) (hex : ∀ z ∈ c.exceptionTable.toList, False) (hr : meth.sig.returnType = (some .double)) (hnm : "variable" = meth.name) {n : Nat} {st : aS} {a0 : Nat} {x1 : Int32} {q : aS × ((UInt64) ⊕ Nat)} (hE : af_X1_variable_L30 n x.sK st a0 x1 = some q) (h1 : mc + σ0.1 = q.1.1) (h2 : ms + σ0.2.1 = q.1.2.1) {H : Heap} {locs : List Loc} {ls : Array Slot} {kc ks : Nat} (Y : aY x σ0 s st H locs kc ks) (hl : lv_has ls 2 [(0, .ref a0), (1, .int x1)]) : aG l 6 90 mc ms x As σ0 (oD q.2) q.1 p e s m below meth c H locs kc ks (F0 m 30 ls []) := by
  have hx := X.1
  have hb := X.2.1
  have hown := X.2.2.2.1
  have hts := X.2.2.2.2.1
  have hK := X.2.2.2.2.2.1
  have hl0 := X.2.2.2.2.2.2.2.2
  unfold af_X1_variable_L30 at hE
  refine lv_aload_n hx hb dX1_variable_30 rfl (lv_at hl 0 rfl) ?_
  replace hE := e_bind hE
  obtain ⟨r_1, g, hE⟩ := hE
  refine n_gR X Y k_X1 5 g (by decide) q200 dX1_variable_31 ?_
  refine lv_iload_n hx hb dX1_variable_34 rfl (lv_at hl 1 rfl) ?_
  replace hE := e_bind hE
  obtain ⟨a_2, g, hE⟩ := hE
  subst g
  replace hE := e_bind hE
  obtain ⟨v_3, g, hE⟩ := hE
  refine a_dald X Y g dX1_variable_35 ?_
  cases hE
  exact a_dret X Y h1 h2 hr dX1_variable_36
set_option maxHeartbeats 4000000 in
set_option maxRecDepth 100000 in
theorem maf_X1_variable {l : Launch} (hl0 : l.stackTraces = false) (n : Nat) {x : aP} {st : aS} {a0 : Nat} {p1 : Int32} {q : aS × ((UInt64) ⊕ Nat)} (hE : af_X1_variable n x.sK st a0 p1 = some q) : aMet l yX1_variable (ws_ yX1_variable cX1_variable 2 (some .double)) 6 90 x [.ref a0, .int p1] st (oD q.2) q.1 := by
  refine a_ofW (own := "BasicMachine") hl0 (by decide) rfl (Nat.le_of_ble_eq_true rfl) (fun mc ms p e s m below meth c ls H locs kc ks h1 h2 X hex Y hr hnm hl => ?_)
  have hnm : "variable" = meth.name := hnm
  have hl : lv_has ls 2 [(0, .ref a0), (1, .int p1)] := hl
  have hx := X.1
  have hb := X.2.1
  have hown := X.2.2.2.1
  have hts := X.2.2.2.2.1
  have hK := X.2.2.2.2.2.1
  have hl0 := X.2.2.2.2.2.2.2.2
  unfold af_X1_variable at hE
  refine lv_iload_n hx hb dX1_variable_0 rfl (lv_at hl 1 rfl) ?_
  refine lv_if_lt (tgt := 22) hx hb dX1_variable_1 (by decide) (fun c_1 => ?_) (fun c_1 => ?_)
  · replace hE := e_t c_1 hE
    cases hE
    exact a_throw X Y h1 h2 rfl (by decide +kernel) q320 q127 (at_B_0 hts hK) at_B_0_o (fun z hz => (hex z hz).elim) hl.1 (by show _ ≤ 6; decide) (Nat.le_trans (Nat.add_le_add_right (show _ ≤ 8 from (Nat.le_of_ble_eq_true rfl)) 81) (by show _ ≤ 90; decide)) dX1_variable_22 dX1_variable_25 dX1_variable_26 dX1_variable_29
  · replace hE := e_f c_1 hE
    refine lv_iload_n hx hb dX1_variable_4 rfl (lv_at hl 1 rfl) ?_
    refine lv_bipush (v := 25) hx hb dX1_variable_5 (by decide) ?_
    refine lv_icmp_gt (tgt := 22) hx hb dX1_variable_7 (by decide) (fun c_2 => ?_) (fun c_2 => ?_)
    · replace hE := e_t c_2 hE
      cases hE
      exact a_throw X Y h1 h2 rfl (by decide +kernel) q320 q127 (at_B_0 hts hK) at_B_0_o (fun z hz => (hex z hz).elim) hl.1 (by show _ ≤ 6; decide) (Nat.le_trans (Nat.add_le_add_right (show _ ≤ 8 from (Nat.le_of_ble_eq_true rfl)) 81) (by show _ ≤ 90; decide)) dX1_variable_22 dX1_variable_25 dX1_variable_26 dX1_variable_29
    · replace hE := e_f c_2 hE
      refine lv_iload_n hx hb dX1_variable_10 rfl (lv_at hl 1 rfl) ?_
      refine lv_bipush (v := 15) hx hb dX1_variable_11 (by decide) ?_
      refine lv_icmp_lt (tgt := 30) hx hb dX1_variable_13 (by decide) (fun c_3 => ?_) (fun c_3 => ?_)
      · replace hE := e_t c_3 hE
        exact waf_X1_variable_L30 X hex hr hnm hE h1 h2 Y (lv_sub hl [0, 1] rfl)
      · replace hE := e_f c_3 hE
        refine lv_iload_n hx hb dX1_variable_16 rfl (lv_at hl 1 rfl) ?_
        refine lv_bipush (v := 17) hx hb dX1_variable_17 (by decide) ?_
        refine lv_icmp_gt (tgt := 30) hx hb dX1_variable_19 (by decide) (fun c_4 => ?_) (fun c_4 => ?_)
        · replace hE := e_t c_4 hE
          exact waf_X1_variable_L30 X hex hr hnm hE h1 h2 Y (lv_sub hl [0, 1] rfl)
        · replace hE := e_f c_4 hE
          cases hE
          exact a_throw X Y h1 h2 rfl (by decide +kernel) q320 q127 (at_B_0 hts hK) at_B_0_o (fun z hz => (hex z hz).elim) hl.1 (by show _ ≤ 6; decide) (Nat.le_trans (Nat.add_le_add_right (show _ ≤ 8 from (Nat.le_of_ble_eq_true rfl)) 81) (by show _ ≤ 90; decide)) dX1_variable_22 dX1_variable_25 dX1_variable_26 dX1_variable_29
/-! BasicMachine.element(III)D -/
set_option maxHeartbeats 4000000 in
set_option maxRecDepth 100000 in
theorem maf_X1_element {l : Launch} (hl0 : l.stackTraces = false) (n : Nat) {x : aP} {st : aS} {a0 : Nat} {p1 : Int32} {p2 : Int32} {p3 : Int32} {q : aS × ((UInt64) ⊕ Nat)} (hE : af_X1_element n x.sK st a0 p1 p2 p3 = some q) : aMet l yX1_element (ws_ yX1_element cX1_element 4 (some .double)) 8 138 x [.ref a0, .int p1, .int p2, .int p3] st (oD q.2) q.1 := by
  refine a_ofW (own := "BasicMachine") hl0 (by decide) rfl (Nat.le_of_ble_eq_true rfl) (fun mc ms p e s m below meth c ls H locs kc ks h1 h2 X hex Y hr hnm hl => ?_)
  have hnm : "element" = meth.name := hnm
  have hl : lv_has ls 4 [(0, .ref a0), (1, .int p1), (2, .int p2), (3, .int p3)] := hl
  have hx := X.1
  have hb := X.2.1
  have hown := X.2.2.2.1
  have hts := X.2.2.2.2.1
  have hK := X.2.2.2.2.2.1
  have hl0 := X.2.2.2.2.2.2.2.2
  unfold af_X1_element at hE
  refine lv_iload_n hx hb dX1_element_0 rfl (lv_at hl 1 rfl) ?_
  refine lv_if_lt (tgt := 9) hx hb dX1_element_1 (by decide) (fun c_1 => ?_) (fun c_1 => ?_)
  · replace hE := e_t c_1 hE
    cases hE
    exact a_throw X Y h1 h2 rfl (by decide +kernel) q320 q127 (at_B_0 hts hK) at_B_0_o (fun z hz => (hex z hz).elim) hl.1 (by show _ ≤ 8; decide) (Nat.le_trans (Nat.add_le_add_right (show _ ≤ 8 from (Nat.le_of_ble_eq_true rfl)) 81) (by show _ ≤ 138; decide)) dX1_element_9 dX1_element_12 dX1_element_13 dX1_element_16
  · replace hE := e_f c_1 hE
    refine lv_iload_n hx hb dX1_element_4 rfl (lv_at hl 1 rfl) ?_
    refine lv_iconst (v := 2) hx hb dX1_element_5 (by decide) ?_
    refine lv_icmp_le (tgt := 17) hx hb dX1_element_6 (by decide) (fun c_2 => ?_) (fun c_2 => ?_)
    · replace hE := e_t c_2 hE
      refine lv_aload_n hx hb dX1_element_17 rfl (lv_at hl 0 rfl) ?_
      refine lv_iload_n hx hb dX1_element_18 rfl (lv_at hl 1 rfl) ?_
      replace hE := e_bind hE
      obtain ⟨u_5, g, hE⟩ := hE
      obtain ⟨fs9, g9⟩ := i_gC g
      have g7 := a_recv X Y k_X1.1 g9
      replace hE := e_xb hE
      rcases hE with ⟨st_3, r_4, g, hE⟩ | ⟨st_3, k9, g, hE⟩
      rotate_left
      · subst hE
        refine a_callV (n := 1) (C := "BasicMachine") (σ1 := st_3) (σf := st_3) [.int p1] X Y (maf_X1_matrix hl0 n g) ⟨oaf_X1_matrix _ g, aLe.rf _, h1, h2, (by show _ ≤ 8; decide), (by show _ ≤ 138; decide)⟩ q1795 q1487 qs39 q122 q1488 (by decide +kernel) g7 rfl hl.1 (Nat.le_of_ble_eq_true rfl) dX1_element_19 (fun v hv => by cases hv) (fun k hk H locs kc ks q9 ce Y e1 e2 e3 => ?_)
        cases hk
        exact a_out X Y h1 h2 (fun z hz => (hex z hz).elim) e1 e2 e3
      have M9 := (mo_v fun _ => (mo_v fun _ => (mo_x oaf_X28_at fun _ _ => mo_ret))) _ hE
      refine a_callV (n := 1) (C := "BasicMachine") (σ1 := st_3) (σf := q.1) [.int p1] X Y (maf_X1_matrix hl0 n g) ⟨oaf_X1_matrix _ g, M9, h1, h2, (by show _ ≤ 8; decide), (by show _ ≤ 138; decide)⟩ q1795 q1487 qs39 q122 q1488 (by decide +kernel) g7 rfl hl.1 (Nat.le_of_ble_eq_true rfl) dX1_element_19 (fun v hv H locs kc ks Y => ?_) (fun k hk => by cases hk)
      cases hv
      refine lv_iload_n hx hb dX1_element_22 rfl (lv_at hl 2 rfl) ?_
      refine lv_i2l hx hb dX1_element_23 rfl ?_
      refine lv_iload_n hx hb dX1_element_24 rfl (lv_at hl 3 rfl) ?_
      refine lv_i2l hx hb dX1_element_25 rfl ?_
      replace hE := e_bind hE
      obtain ⟨a_6, g, hE⟩ := hE
      subst g
      replace hE := e_bind hE
      obtain ⟨u_9, g, hE⟩ := hE
      obtain ⟨fs9, g9⟩ := i_gC g
      have g7 := a_recv X Y k_X28.1 g9
      replace hE := e_xb hE
      rcases hE with ⟨st_7, v_8, g, hE⟩ | ⟨st_7, k9, g, hE⟩
      rotate_left
      · subst hE
        refine a_callV (n := 2) (C := "BasicMachine$Matrix") (σ1 := st_7) (σf := st_7) [.long p2.toInt64, .long p3.toInt64] X Y (maf_X28_at hl0 n g) ⟨oaf_X28_at _ g, aLe.rf _, h1, h2, (by show _ ≤ 8; decide), (by show _ ≤ 138; decide)⟩ q1796 q1504 q1505 q171 q1506 (by decide +kernel) g7 rfl hl.1 (Nat.le_of_ble_eq_true rfl) dX1_element_26 (fun v hv => by cases hv) (fun k hk H locs kc ks q9 ce Y e1 e2 e3 => ?_)
        cases hk
        exact a_out X Y h1 h2 (fun z hz => (hex z hz).elim) e1 e2 e3
      have M9 := mo_ret _ hE
      refine a_callV (n := 2) (C := "BasicMachine$Matrix") (σ1 := st_7) (σf := q.1) [.long p2.toInt64, .long p3.toInt64] X Y (maf_X28_at hl0 n g) ⟨oaf_X28_at _ g, M9, h1, h2, (by show _ ≤ 8; decide), (by show _ ≤ 138; decide)⟩ q1796 q1504 q1505 q171 q1506 (by decide +kernel) g7 rfl hl.1 (Nat.le_of_ble_eq_true rfl) dX1_element_26 (fun v hv H locs kc ks Y => ?_) (fun k hk => by cases hk)
      cases hv
      cases hE
      exact a_dret X Y h1 h2 hr dX1_element_29
    · replace hE := e_f c_2 hE
      cases hE
      exact a_throw X Y h1 h2 rfl (by decide +kernel) q320 q127 (at_B_0 hts hK) at_B_0_o (fun z hz => (hex z hz).elim) hl.1 (by show _ ≤ 8; decide) (Nat.le_trans (Nat.add_le_add_right (show _ ≤ 8 from (Nat.le_of_ble_eq_true rfl)) 81) (by show _ ≤ 138; decide)) dX1_element_9 dX1_element_12 dX1_element_13 dX1_element_16
/-! BasicMachine.at()I -/
set_option maxHeartbeats 4000000 in
set_option maxRecDepth 100000 in
theorem maf_X1_at {l : Launch} (hl0 : l.stackTraces = false) (n : Nat) {x : aP} {st : aS} {a0 : Nat} {q : aS × (Int32)} (hE : af_X1_at n x.sK st a0 = some q) : aMet l yX1_at (ws_ yX1_at cX1_at 1 (some .int)) 0 0 x [.ref a0] st (.inl (some (.int q.2))) q.1 := by
  refine a_ofW (own := "BasicMachine") hl0 (by decide) rfl (Nat.le_of_ble_eq_true rfl) (fun mc ms p e s m below meth c ls H locs kc ks h1 h2 X hex Y hr hnm hl => ?_)
  have hnm : "at" = meth.name := hnm
  have hl : lv_has ls 1 [(0, .ref a0)] := hl
  have hx := X.1
  have hb := X.2.1
  have hown := X.2.2.2.1
  have hts := X.2.2.2.2.1
  have hK := X.2.2.2.2.2.1
  have hl0 := X.2.2.2.2.2.2.2.2
  unfold af_X1_at at hE
  refine lv_aload_n hx hb dX1_at_0 rfl (lv_at hl 0 rfl) ?_
  replace hE := e_bind hE
  obtain ⟨v_1, g, hE⟩ := hE
  refine n_gI X Y k_X1 22 g (by decide) q237 dX1_at_1 ?_
  cases hE
  exact a_iret X Y h1 h2 hr dX1_at_4
/-! BasicMachine.greatest()I -/
set_option maxHeartbeats 4000000 in
set_option maxRecDepth 100000 in
theorem waf_X1_greatest_S7_ {l : Launch} {x : aP} {As : List Value} {σ0 : aS} {p : Program} {e : Env} {s : State} {m : MethodId} {below : List Frame} {meth : Method} {c : Code} {mc ms : Nat} (X : aX "BasicMachine" p l s m As.toArray meth c cX1_greatest 3 x σ0) (hex : ∀ z ∈ c.exceptionTable.toList, False) (hr : meth.sig.returnType = (some .int)) (hnm : "greatest" = meth.name) {n : Nat} {q : aS × (Int32)} : ∀ k : Nat, (∀ {st : aS} {a0 : Nat} {x1 : Int32} {x2 : Option Nat}, af_X1_greatest_S7 n x.sK k st a0 x1 x2 = some q → (mc + σ0.1 = q.1.1) → (ms + σ0.2.1 = q.1.2.1) → ∀ {H : Heap} {locs : List Loc} {ls : Array Slot} {kc ks : Nat}, aY x σ0 s st H locs kc ks → lv_has ls 3 [(0, .ref a0), (1, .int x1), (2, va_rf x2)] → aG l 0 0 mc ms x As σ0 (.inl (some (.int q.2))) q.1 p e s m below meth c H locs kc ks (F0 m 7 ls [])) := by
  have hx := X.1
  have hb := X.2.1
  have hown := X.2.2.2.1
  have hts := X.2.2.2.2.1
  have hK := X.2.2.2.2.2.1
  have hl0 := X.2.2.2.2.2.2.2.2
  intro k
  induction k with
  | zero => exact fun h => nomatch (show none = some q from h)
  | succ k ih =>
    have mrec := @oaf_X1_greatest_S7_ n x.sK k
    intro st a0 x1 x2 hE h1 h2 H locs ls kc ks Y hl
    replace hE : af_X1_greatest_B7 n x.sK (af_X1_greatest_S7 n x.sK k) st a0 x1 x2 = some q := hE
    unfold af_X1_greatest_B7 at hE
    refine r_aload_n hx hb dX1_greatest_7 rfl (lv_at hl 2 rfl) ?_
    refine r_ifnull (tgt := 24) hx hb dX1_greatest_8 (by decide) (fun c_1 => ?_) (fun c_1 => ?_)
    · replace hE := e_t c_1 hE
      refine lv_iload_n hx hb dX1_greatest_24 rfl (lv_at hl 1 rfl) ?_
      cases hE
      exact a_iret X Y h1 h2 hr dX1_greatest_25
    · replace hE := e_f c_1 hE
      refine r_aload_n hx hb dX1_greatest_11 rfl (lv_at hl 2 rfl) ?_
      replace hE := e_bind hE
      obtain ⟨a_2, g, hE⟩ := hE
      subst g
      replace hE := e_bind hE
      obtain ⟨v_3, g, hE⟩ := hE
      refine n_gI X Y k_X4 0 g (by decide) q489 dX1_greatest_12 ?_
      refine lv_istore_n (i := 1) (lv' := [(1, .int v_3), (0, .ref a0), (2, .ref a_2)]) hx hb dX1_greatest_15 rfl hl (by decide) rfl (fun ls hl => ?_)
      refine lv_aload_n hx hb dX1_greatest_16 rfl (lv_at hl 2 rfl) ?_
      replace hE := e_bind hE
      obtain ⟨r_4, g, hE⟩ := hE
      refine n_gR X Y k_X4 2 g (by decide) q492 dX1_greatest_17 ?_
      refine r_astore_n (i := 2) (lv' := [(2, va_rf r_4), (1, .int v_3), (0, .ref a0)]) hx hb dX1_greatest_20 rfl hl (by decide) rfl (fun ls hl => ?_)
      refine lv_goto (tgt := 7) hx hb dX1_greatest_21 (by decide) ?_
      exact ih hE h1 h2 Y (lv_sub hl [2, 1, 0] rfl)
set_option maxHeartbeats 4000000 in
set_option maxRecDepth 100000 in
theorem waf_X1_greatest_S7 {l : Launch} {x : aP} {As : List Value} {σ0 : aS} {p : Program} {e : Env} {s : State} {m : MethodId} {below : List Frame} {meth : Method} {c : Code} {mc ms : Nat} (X : aX "BasicMachine" p l s m As.toArray meth c cX1_greatest 3 x σ0) (hex : ∀ z ∈ c.exceptionTable.toList, False) (hr : meth.sig.returnType = (some .int)) (hnm : "greatest" = meth.name) {n : Nat} {q : aS × (Int32)} : (∀ {st : aS} {a0 : Nat} {x1 : Int32} {x2 : Option Nat}, af_X1_greatest_S7 n x.sK n st a0 x1 x2 = some q → (mc + σ0.1 = q.1.1) → (ms + σ0.2.1 = q.1.2.1) → ∀ {H : Heap} {locs : List Loc} {ls : Array Slot} {kc ks : Nat}, aY x σ0 s st H locs kc ks → lv_has ls 3 [(0, .ref a0), (1, .int x1), (2, va_rf x2)] → aG l 0 0 mc ms x As σ0 (.inl (some (.int q.2))) q.1 p e s m below meth c H locs kc ks (F0 m 7 ls [])) := waf_X1_greatest_S7_ X hex hr hnm n
set_option maxHeartbeats 4000000 in
set_option maxRecDepth 100000 in
theorem maf_X1_greatest {l : Launch} (hl0 : l.stackTraces = false) (n : Nat) {x : aP} {st : aS} {a0 : Nat} {q : aS × (Int32)} (hE : af_X1_greatest n x.sK st a0 = some q) : aMet l yX1_greatest (ws_ yX1_greatest cX1_greatest 3 (some .int)) 0 0 x [.ref a0] st (.inl (some (.int q.2))) q.1 := by
  refine a_ofW (own := "BasicMachine") hl0 (by decide) rfl (Nat.le_of_ble_eq_true rfl) (fun mc ms p e s m below meth c ls H locs kc ks h1 h2 X hex Y hr hnm hl => ?_)
  have hnm : "greatest" = meth.name := hnm
  have hl : lv_has ls 3 [(0, .ref a0)] := hl
  have hx := X.1
  have hb := X.2.1
  have hown := X.2.2.2.1
  have hts := X.2.2.2.2.1
  have hK := X.2.2.2.2.2.1
  have hl0 := X.2.2.2.2.2.2.2.2
  unfold af_X1_greatest at hE
  refine lv_iconst (v := -1) hx hb dX1_greatest_0 (by decide) ?_
  refine lv_istore_n (i := 1) (lv' := [(1, .int (-1 : Int32)), (0, .ref a0)]) hx hb dX1_greatest_1 rfl hl (by decide) rfl (fun ls hl => ?_)
  refine lv_aload_n hx hb dX1_greatest_2 rfl (lv_at hl 1 rfl) ?_
  replace hE := e_bind hE
  obtain ⟨r_1, g, hE⟩ := hE
  refine n_gR X Y k_X1 3 g (by decide) q193 dX1_greatest_3 ?_
  refine r_astore_n (i := 2) (lv' := [(2, va_rf r_1), (1, .int (-1 : Int32)), (0, .ref a0)]) hx hb dX1_greatest_6 rfl hl (by decide) rfl (fun ls hl => ?_)
  exact (waf_X1_greatest_S7 X hex hr hnm) hE h1 h2 Y (lv_sub hl [2, 1, 0] rfl)
/-! BasicMachine.count(I)I -/
set_option maxHeartbeats 4000000 in
set_option maxRecDepth 100000 in
theorem maf_X1_count {l : Launch} (hl0 : l.stackTraces = false) (n : Nat) {x : aP} {st : aS} {a0 : Nat} {p1 : Int32} {q : aS × (Int32)} (hE : af_X1_count n x.sK st a0 p1 = some q) : aMet l yX1_count (ws_ yX1_count cX1_count 2 (some .int)) 1 22 x [.ref a0, .int p1] st (.inl (some (.int q.2))) q.1 := by
  refine a_ofW (own := "BasicMachine") hl0 (by decide) rfl (Nat.le_of_ble_eq_true rfl) (fun mc ms p e s m below meth c ls H locs kc ks h1 h2 X hex Y hr hnm hl => ?_)
  have hnm : "count" = meth.name := hnm
  have hl : lv_has ls 2 [(0, .ref a0), (1, .int p1)] := hl
  have hx := X.1
  have hb := X.2.1
  have hown := X.2.2.2.1
  have hts := X.2.2.2.2.1
  have hK := X.2.2.2.2.2.1
  have hl0 := X.2.2.2.2.2.2.2.2
  unfold af_X1_count at hE
  refine lv_iload_n hx hb dX1_count_0 rfl (lv_at hl 1 rfl) ?_
  by_cases c_1 : p1 = (0 : Int32)
  · replace hE := e_t c_1 hE
    refine lv_tableIn (off := 55) (tgt := 56) hx hb dX1_count_1 (by rw [c_1]; decide) (by rw [c_1]; decide) (by rw [c_1]; rfl) (by decide) ?_
    refine lv_aload_n hx hb dX1_count_56 rfl (lv_at hl 0 rfl) ?_
    replace hE := e_bind hE
    obtain ⟨v_2, g, hE⟩ := hE
    refine n_gI X Y k_X1 1 g (by decide) q191 dX1_count_57 ?_
    cases hE
    exact a_iret X Y h1 h2 hr dX1_count_60
  replace hE := e_f c_1 hE
  by_cases c_3 : p1 = (1 : Int32)
  · replace hE := e_t c_3 hE
    refine lv_tableIn (off := 60) (tgt := 61) hx hb dX1_count_1 (by rw [c_3]; decide) (by rw [c_3]; decide) (by rw [c_3]; rfl) (by decide) ?_
    refine lv_aload_n hx hb dX1_count_61 rfl (lv_at hl 0 rfl) ?_
    replace hE := e_bind hE
    obtain ⟨v_4, g, hE⟩ := hE
    refine n_gI X Y k_X1 4 g (by decide) q194 dX1_count_62 ?_
    cases hE
    exact a_iret X Y h1 h2 hr dX1_count_65
  replace hE := e_f c_3 hE
  by_cases c_5 : p1 = (2 : Int32)
  · replace hE := e_t c_5 hE
    refine lv_tableIn (off := 65) (tgt := 66) hx hb dX1_count_1 (by rw [c_5]; decide) (by rw [c_5]; decide) (by rw [c_5]; rfl) (by decide) ?_
    refine lv_aload_n hx hb dX1_count_66 rfl (lv_at hl 0 rfl) ?_
    replace hE := e_bind hE
    obtain ⟨v_6, g, hE⟩ := hE
    refine n_gI X Y k_X1 21 g (by decide) q236 dX1_count_67 ?_
    cases hE
    exact a_iret X Y h1 h2 hr dX1_count_70
  replace hE := e_f c_5 hE
  by_cases c_7 : p1 = (3 : Int32)
  · replace hE := e_t c_7 hE
    refine lv_tableIn (off := 70) (tgt := 71) hx hb dX1_count_1 (by rw [c_7]; decide) (by rw [c_7]; decide) (by rw [c_7]; rfl) (by decide) ?_
    refine lv_aload_n hx hb dX1_count_71 rfl (lv_at hl 0 rfl) ?_
    replace hE := e_bind hE
    obtain ⟨v_8, g, hE⟩ := hE
    refine n_gI X Y k_X1 17 g (by decide) q230 dX1_count_72 ?_
    cases hE
    exact a_iret X Y h1 h2 hr dX1_count_75
  replace hE := e_f c_7 hE
  by_cases c_9 : p1 = (4 : Int32)
  · replace hE := e_t c_9 hE
    refine lv_tableIn (off := 75) (tgt := 76) hx hb dX1_count_1 (by rw [c_9]; decide) (by rw [c_9]; decide) (by rw [c_9]; rfl) (by decide) ?_
    refine lv_aload_n hx hb dX1_count_76 rfl (lv_at hl 0 rfl) ?_
    replace hE := e_bind hE
    obtain ⟨v_10, g, hE⟩ := hE
    refine n_gI X Y k_X1 15 g (by decide) q226 dX1_count_77 ?_
    cases hE
    exact a_iret X Y h1 h2 hr dX1_count_80
  replace hE := e_f c_9 hE
  by_cases c_11 : p1 = (5 : Int32)
  · replace hE := e_t c_11 hE
    refine lv_tableIn (off := 80) (tgt := 81) hx hb dX1_count_1 (by rw [c_11]; decide) (by rw [c_11]; decide) (by rw [c_11]; rfl) (by decide) ?_
    refine lv_aload_n hx hb dX1_count_81 rfl (lv_at hl 0 rfl) ?_
    replace hE := e_bind hE
    obtain ⟨v_12, g, hE⟩ := hE
    refine n_gI X Y k_X1 13 g (by decide) q220 dX1_count_82 ?_
    cases hE
    exact a_iret X Y h1 h2 hr dX1_count_85
  replace hE := e_f c_11 hE
  by_cases c_13 : p1 = (6 : Int32)
  · replace hE := e_t c_13 hE
    refine lv_tableIn (off := 85) (tgt := 86) hx hb dX1_count_1 (by rw [c_13]; decide) (by rw [c_13]; decide) (by rw [c_13]; rfl) (by decide) ?_
    refine lv_aload_n hx hb dX1_count_86 rfl (lv_at hl 0 rfl) ?_
    replace hE := e_bind hE
    obtain ⟨v_14, g, hE⟩ := hE
    refine n_gI X Y k_X1 19 g (by decide) q233 dX1_count_87 ?_
    cases hE
    exact a_iret X Y h1 h2 hr dX1_count_90
  replace hE := e_f c_13 hE
  by_cases c_15 : p1 = (7 : Int32)
  · replace hE := e_t c_15 hE
    refine lv_tableIn (off := 90) (tgt := 91) hx hb dX1_count_1 (by rw [c_15]; decide) (by rw [c_15]; decide) (by rw [c_15]; rfl) (by decide) ?_
    refine lv_aload_n hx hb dX1_count_91 rfl (lv_at hl 0 rfl) ?_
    replace hE := e_bind hE
    obtain ⟨v_16, g, hE⟩ := hE
    refine n_gI X Y k_X1 23 g (by decide) q238 dX1_count_92 ?_
    cases hE
    exact a_iret X Y h1 h2 hr dX1_count_95
  replace hE := e_f c_15 hE
  by_cases c_17 : p1 = (8 : Int32)
  · replace hE := e_t c_17 hE
    refine lv_tableIn (off := 95) (tgt := 96) hx hb dX1_count_1 (by rw [c_17]; decide) (by rw [c_17]; decide) (by rw [c_17]; rfl) (by decide) ?_
    refine lv_aload_n hx hb dX1_count_96 rfl (lv_at hl 0 rfl) ?_
    replace hE := e_bind hE
    obtain ⟨r_18, g, hE⟩ := hE
    refine n_gR X Y k_X1 3 g (by decide) q193 dX1_count_97 ?_
    refine r_ifnonnull (tgt := 107) hx hb dX1_count_100 (by decide) (fun c_19 => ?_) (fun c_19 => ?_)
    · replace hE := e_f c_19 hE
      refine lv_aload_n hx hb dX1_count_107 rfl (lv_at hl 0 rfl) ?_
      replace hE := e_bind hE
      obtain ⟨r_20, g, hE⟩ := hE
      refine n_gR X Y k_X1 3 g (by decide) q193 dX1_count_108 ?_
      replace hE := e_bind hE
      obtain ⟨a_21, g, hE⟩ := hE
      subst g
      replace hE := e_bind hE
      obtain ⟨v_22, g, hE⟩ := hE
      refine n_gI X Y k_X4 0 g (by decide) q489 dX1_count_111 ?_
      cases hE
      exact a_iret X Y h1 h2 hr dX1_count_114
    · replace hE := e_t c_19 hE
      refine lv_iconst (v := -1) hx hb dX1_count_103 (by decide) ?_
      refine lv_goto (tgt := 114) hx hb dX1_count_104 (by decide) ?_
      cases hE
      exact a_iret X Y h1 h2 hr dX1_count_114
  replace hE := e_f c_17 hE
  by_cases c_23 : p1 = (9 : Int32)
  · replace hE := e_t c_23 hE
    refine lv_tableIn (off := 114) (tgt := 115) hx hb dX1_count_1 (by rw [c_23]; decide) (by rw [c_23]; decide) (by rw [c_23]; rfl) (by decide) ?_
    refine lv_aload_n hx hb dX1_count_115 rfl (lv_at hl 0 rfl) ?_
    replace hE := e_bind hE
    obtain ⟨u_26, g, hE⟩ := hE
    obtain ⟨fs9, g9⟩ := i_gC g
    have g7 := a_recv X Y k_X1.1 g9
    replace hE := e_cb hE
    obtain ⟨st_24, v_25, g, hE⟩ := hE
    have M9 := mo_ret _ hE
    refine a_callV (n := 0) (C := "BasicMachine") (σ1 := st_24) (σf := q.1) [] X Y (maf_X1_greatest hl0 n g) ⟨oaf_X1_greatest _ g, M9, h1, h2, (by show _ ≤ 1; decide), (by show _ ≤ 22; decide)⟩ q307 q309 qs0 q122 q310 (by decide +kernel) g7 rfl hl.1 (Nat.le_of_ble_eq_true rfl) dX1_count_116 (fun v hv H locs kc ks Y => ?_) (fun k hk => by cases hk)
    cases hv
    cases hE
    exact a_iret X Y h1 h2 hr dX1_count_119
  replace hE := e_f c_23 hE
  refine lv_tableOut (tgt := 120) hx hb dX1_count_1 (by have h0 := lv_neT c_1 (a := 0) (by decide); have h1 := lv_neT c_3 (a := 1) (by decide); have h2 := lv_neT c_5 (a := 2) (by decide); have h3 := lv_neT c_7 (a := 3) (by decide); have h4 := lv_neT c_9 (a := 4) (by decide); have h5 := lv_neT c_11 (a := 5) (by decide); have h6 := lv_neT c_13 (a := 6) (by decide); have h7 := lv_neT c_15 (a := 7) (by decide); have h8 := lv_neT c_17 (a := 8) (by decide); have h9 := lv_neT c_23 (a := 9) (by decide); omega) (by decide) ?_
  refine lv_iconst (v := -1) hx hb dX1_count_120 (by decide) ?_
  cases hE
  exact a_iret X Y h1 h2 hr dX1_count_121
/-! BasicMachineModel.<init>()V -/
set_option maxHeartbeats 4000000 in
set_option maxRecDepth 100000 in
theorem maf_X2_init {l : Launch} (hl0 : l.stackTraces = false) (n : Nat) {x : aP} {st : aS} {a0 : Nat} {q : aS × Unit} (hE : af_X2_init n x.sK st a0 = some q) : aMet l yX2_init (ws_ yX2_init cX2_init 1 none) 1 20 x [.ref a0] st (.inl none) q.1 := by
  refine a_ofW (own := "BasicMachineModel") hl0 (by decide) rfl (Nat.le_of_ble_eq_true rfl) (fun mc ms p e s m below meth c ls H locs kc ks h1 h2 X hex Y hr hnm hl => ?_)
  have hnm : "<init>" = meth.name := hnm
  have hl : lv_has ls 1 [(0, .ref a0)] := hl
  have hx := X.1
  have hb := X.2.1
  have hown := X.2.2.2.1
  have hts := X.2.2.2.2.1
  have hK := X.2.2.2.2.2.1
  have hl0 := X.2.2.2.2.2.2.2.2
  unfold af_X2_init at hE
  refine lv_aload_n hx hb dX2_init_0 rfl (lv_at hl 0 rfl) ?_
  refine W.objInit hx hb hown (hts _ q1802) (hts _ q_oi) (hts _ q_oc) rfl (by rw [X.2.2.1]; exact hl.1) rfl dX2_init_1 (by show _ ≤ 1; decide) (Nat.le_trans (Nat.add_le_add_right (show _ ≤ 8 from (Nat.le_of_ble_eq_true rfl)) 12) (by show _ ≤ 20; decide)) ?_
  refine W.eq (g2 := F0 m 4 ls []) rfl ?_
  refine lv_aload_n hx hb dX2_init_4 rfl (lv_at hl 0 rfl) ?_
  refine lv_iconst (v := 0) hx hb dX2_init_5 (by decide) ?_
  replace hE := e_bind hE
  obtain ⟨st_1, g, hE⟩ := hE
  refine a_putV X Y k_X2 0 g (by decide) rfl rfl rfl q1803 dX2_init_6 (fun H locs Y => ?_)
  refine lv_aload_n hx hb dX2_init_9 rfl (lv_at hl 0 rfl) ?_
  refine lv_iconst (v := 0) hx hb dX2_init_10 (by decide) ?_
  replace hE := e_bind hE
  obtain ⟨st_2, g, hE⟩ := hE
  refine a_putV X Y k_X2 1 g (by decide) rfl rfl rfl q1804 dX2_init_11 (fun H locs Y => ?_)
  refine lv_aload_n hx hb dX2_init_14 rfl (lv_at hl 0 rfl) ?_
  refine lv_iconst (v := 0) hx hb dX2_init_15 (by decide) ?_
  replace hE := e_bind hE
  obtain ⟨st_3, g, hE⟩ := hE
  refine a_putV X Y k_X2 2 g (by decide) rfl rfl rfl q1805 dX2_init_16 (fun H locs Y => ?_)
  refine lv_aload_n hx hb dX2_init_19 rfl (lv_at hl 0 rfl) ?_
  refine lv_iconst (v := -1) hx hb dX2_init_20 (by decide) ?_
  replace hE := e_bind hE
  obtain ⟨st_4, g, hE⟩ := hE
  refine a_putV X Y k_X2 3 g (by decide) rfl rfl rfl q1806 dX2_init_21 (fun H locs Y => ?_)
  refine lv_aload_n hx hb dX2_init_24 rfl (lv_at hl 0 rfl) ?_
  refine lv_iconst (v := 0) hx hb dX2_init_25 (by decide) ?_
  replace hE := e_bind hE
  obtain ⟨st_5, g, hE⟩ := hE
  refine a_putV X Y k_X2 4 g (by decide) rfl rfl rfl q1807 dX2_init_26 (fun H locs Y => ?_)
  refine lv_aload_n hx hb dX2_init_29 rfl (lv_at hl 0 rfl) ?_
  refine lv_iconst (v := 0) hx hb dX2_init_30 (by decide) ?_
  replace hE := e_bind hE
  obtain ⟨st_6, g, hE⟩ := hE
  refine a_putV X Y k_X2 5 g (by decide) rfl rfl rfl q1808 dX2_init_31 (fun H locs Y => ?_)
  refine lv_aload_n hx hb dX2_init_34 rfl (lv_at hl 0 rfl) ?_
  refine lv_iconst (v := 0) hx hb dX2_init_35 (by decide) ?_
  replace hE := e_bind hE
  obtain ⟨st_7, g, hE⟩ := hE
  refine a_putV X Y k_X2 6 g (by decide) rfl rfl rfl q1809 dX2_init_36 (fun H locs Y => ?_)
  refine lv_aload_n hx hb dX2_init_39 rfl (lv_at hl 0 rfl) ?_
  refine lv_iconst (v := 0) hx hb dX2_init_40 (by decide) ?_
  replace hE := e_bind hE
  obtain ⟨st_8, g, hE⟩ := hE
  refine a_putV X Y k_X2 7 g (by decide) rfl nz0 fz0 q1810 dX2_init_41 (fun H locs Y => ?_)
  refine lv_aload_n hx hb dX2_init_44 rfl (lv_at hl 0 rfl) ?_
  refine lv_bipush (v := 60) hx hb dX2_init_45 (by decide) ?_
  replace hE := e_bind hE
  obtain ⟨st_9, g, hE⟩ := hE
  have M9 := (mo_s (fun _ => le_pF) fun _ => (mo_s (fun _ => le_nA) fun _ => (mo_s (fun _ => le_pF) fun _ => (mo_s (fun _ => le_nA) fun _ => (mo_s (fun _ => le_pF) fun _ => (mo_s (fun _ => le_nA) fun _ => (mo_s (fun _ => le_pF) fun _ => (mo_s (fun _ => le_nA) fun _ => (mo_s (fun _ => le_pF) fun _ => (mo_s (fun _ => le_nA) fun _ => (mo_s (fun _ => le_pF) fun _ => (mo_s (fun _ => le_nA) fun _ => (mo_s (fun _ => le_pF) fun _ => (mo_s (fun _ => le_nA) fun _ => (mo_s (fun _ => le_pF) fun _ => (mo_s (fun _ => le_pF) fun _ => (mo_s (fun _ => le_pF) fun _ => (mo_s (fun _ => le_pF) fun _ => (mo_s (fun _ => le_pF) fun _ => (mo_s (fun _ => le_pF) fun _ => (mo_s (fun _ => le_pF) fun _ => (mo_s (fun _ => le_pF) fun _ => (mo_s (fun _ => le_pF) fun _ => (mo_s (fun _ => le_pF) fun _ => (mo_s (fun _ => le_pF) fun _ => (mo_s (fun _ => le_pF) fun _ => (mo_s (fun _ => le_pF) fun _ => (mo_s (fun _ => le_nA) fun _ => (mo_s (fun _ => le_pF) fun _ => (mo_s (fun _ => le_nA) fun _ => (mo_s (fun _ => le_pF) fun _ => (mo_s (fun _ => le_nA) fun _ => (mo_s (fun _ => le_pF) fun _ => (mo_s (fun _ => le_nA) fun _ => (mo_s (fun _ => le_pF) fun _ => (mo_s (fun _ => le_nA) fun _ => (mo_s (fun _ => le_pF) fun _ => (mo_s (fun _ => le_nA) fun _ => (mo_s (fun _ => le_pF) fun _ => (mo_s (fun _ => le_nA) fun _ => (mo_s (fun _ => le_pF) fun _ => (mo_s (fun _ => le_nA) fun _ => (mo_s (fun _ => le_pF) fun _ => (mo_s (fun _ => le_nA) fun _ => (mo_s (fun _ => le_pF) fun _ => (mo_s (fun _ => le_nA) fun _ => (mo_s (fun _ => le_pF) fun _ => (mo_s (fun _ => le_nA) fun _ => (mo_s (fun _ => le_pF) fun _ => (mo_s (fun _ => le_nA) fun _ => (mo_s (fun _ => le_pF) fun _ => (mo_s (fun _ => le_nA) fun _ => (mo_s (fun _ => le_pF) fun _ => (mo_s (fun _ => le_nA) fun _ => (mo_s (fun _ => le_pF) fun _ => (mo_s (fun _ => le_nA) fun _ => (mo_s (fun _ => le_pF) fun _ => (mo_s (fun _ => le_nA) fun _ => (mo_s (fun _ => le_pF) fun _ => (mo_s (fun _ => le_nA) fun _ => (mo_s (fun _ => le_pF) fun _ => mo_ret))))))))))))))))))))))))))))))))))))))))))))))))))))))))))))) _ hE
  refine a_newa (atype := .char) X Y g (by decide) rfl (fun _ => rfl) (by decide) q288 (aRoom1 Y h1 (le_nA1 g) M9) (aRoom2 Y h2 (le_nA2 g) M9) dX2_init_47 (fun H Y => ?_)
  generalize kc + 1 = kc at Y ⊢
  generalize ks + Int32.toNatClampNeg (60 : Int32) = ks at Y ⊢
  replace hE := e_bind hE
  obtain ⟨st_10, g, hE⟩ := hE
  refine a_putFV X Y k_X2 8 g (by decide) rfl hnm rfl (nr_a (some st_8.1)) (fr_a (some st_8.1)) q1811 dX2_init_49 (fun H locs Y => ?_)
  refine lv_aload_n hx hb dX2_init_52 rfl (lv_at hl 0 rfl) ?_
  refine lv_bipush (v := 60) hx hb dX2_init_53 (by decide) ?_
  replace hE := e_bind hE
  obtain ⟨st_11, g, hE⟩ := hE
  have M9 := (mo_s (fun _ => le_pF) fun _ => (mo_s (fun _ => le_nA) fun _ => (mo_s (fun _ => le_pF) fun _ => (mo_s (fun _ => le_nA) fun _ => (mo_s (fun _ => le_pF) fun _ => (mo_s (fun _ => le_nA) fun _ => (mo_s (fun _ => le_pF) fun _ => (mo_s (fun _ => le_nA) fun _ => (mo_s (fun _ => le_pF) fun _ => (mo_s (fun _ => le_nA) fun _ => (mo_s (fun _ => le_pF) fun _ => (mo_s (fun _ => le_nA) fun _ => (mo_s (fun _ => le_pF) fun _ => (mo_s (fun _ => le_pF) fun _ => (mo_s (fun _ => le_pF) fun _ => (mo_s (fun _ => le_pF) fun _ => (mo_s (fun _ => le_pF) fun _ => (mo_s (fun _ => le_pF) fun _ => (mo_s (fun _ => le_pF) fun _ => (mo_s (fun _ => le_pF) fun _ => (mo_s (fun _ => le_pF) fun _ => (mo_s (fun _ => le_pF) fun _ => (mo_s (fun _ => le_pF) fun _ => (mo_s (fun _ => le_pF) fun _ => (mo_s (fun _ => le_pF) fun _ => (mo_s (fun _ => le_nA) fun _ => (mo_s (fun _ => le_pF) fun _ => (mo_s (fun _ => le_nA) fun _ => (mo_s (fun _ => le_pF) fun _ => (mo_s (fun _ => le_nA) fun _ => (mo_s (fun _ => le_pF) fun _ => (mo_s (fun _ => le_nA) fun _ => (mo_s (fun _ => le_pF) fun _ => (mo_s (fun _ => le_nA) fun _ => (mo_s (fun _ => le_pF) fun _ => (mo_s (fun _ => le_nA) fun _ => (mo_s (fun _ => le_pF) fun _ => (mo_s (fun _ => le_nA) fun _ => (mo_s (fun _ => le_pF) fun _ => (mo_s (fun _ => le_nA) fun _ => (mo_s (fun _ => le_pF) fun _ => (mo_s (fun _ => le_nA) fun _ => (mo_s (fun _ => le_pF) fun _ => (mo_s (fun _ => le_nA) fun _ => (mo_s (fun _ => le_pF) fun _ => (mo_s (fun _ => le_nA) fun _ => (mo_s (fun _ => le_pF) fun _ => (mo_s (fun _ => le_nA) fun _ => (mo_s (fun _ => le_pF) fun _ => (mo_s (fun _ => le_nA) fun _ => (mo_s (fun _ => le_pF) fun _ => (mo_s (fun _ => le_nA) fun _ => (mo_s (fun _ => le_pF) fun _ => (mo_s (fun _ => le_nA) fun _ => (mo_s (fun _ => le_pF) fun _ => (mo_s (fun _ => le_nA) fun _ => (mo_s (fun _ => le_pF) fun _ => (mo_s (fun _ => le_nA) fun _ => (mo_s (fun _ => le_pF) fun _ => mo_ret))))))))))))))))))))))))))))))))))))))))))))))))))))))))))) _ hE
  refine a_newa (atype := .char) X Y g (by decide) rfl (fun _ => rfl) (by decide) q288 (aRoom1 Y h1 (le_nA1 g) M9) (aRoom2 Y h2 (le_nA2 g) M9) dX2_init_55 (fun H Y => ?_)
  generalize kc + 1 = kc at Y ⊢
  generalize ks + Int32.toNatClampNeg (60 : Int32) = ks at Y ⊢
  replace hE := e_bind hE
  obtain ⟨st_12, g, hE⟩ := hE
  refine a_putFV X Y k_X2 9 g (by decide) rfl hnm rfl (nr_a (some st_10.1)) (fr_a (some st_10.1)) q1812 dX2_init_57 (fun H locs Y => ?_)
  refine lv_aload_n hx hb dX2_init_60 rfl (lv_at hl 0 rfl) ?_
  refine lv_bipush (v := 25) hx hb dX2_init_61 (by decide) ?_
  replace hE := e_bind hE
  obtain ⟨st_13, g, hE⟩ := hE
  have M9 := (mo_s (fun _ => le_pF) fun _ => (mo_s (fun _ => le_nA) fun _ => (mo_s (fun _ => le_pF) fun _ => (mo_s (fun _ => le_nA) fun _ => (mo_s (fun _ => le_pF) fun _ => (mo_s (fun _ => le_nA) fun _ => (mo_s (fun _ => le_pF) fun _ => (mo_s (fun _ => le_nA) fun _ => (mo_s (fun _ => le_pF) fun _ => (mo_s (fun _ => le_nA) fun _ => (mo_s (fun _ => le_pF) fun _ => (mo_s (fun _ => le_pF) fun _ => (mo_s (fun _ => le_pF) fun _ => (mo_s (fun _ => le_pF) fun _ => (mo_s (fun _ => le_pF) fun _ => (mo_s (fun _ => le_pF) fun _ => (mo_s (fun _ => le_pF) fun _ => (mo_s (fun _ => le_pF) fun _ => (mo_s (fun _ => le_pF) fun _ => (mo_s (fun _ => le_pF) fun _ => (mo_s (fun _ => le_pF) fun _ => (mo_s (fun _ => le_pF) fun _ => (mo_s (fun _ => le_pF) fun _ => (mo_s (fun _ => le_nA) fun _ => (mo_s (fun _ => le_pF) fun _ => (mo_s (fun _ => le_nA) fun _ => (mo_s (fun _ => le_pF) fun _ => (mo_s (fun _ => le_nA) fun _ => (mo_s (fun _ => le_pF) fun _ => (mo_s (fun _ => le_nA) fun _ => (mo_s (fun _ => le_pF) fun _ => (mo_s (fun _ => le_nA) fun _ => (mo_s (fun _ => le_pF) fun _ => (mo_s (fun _ => le_nA) fun _ => (mo_s (fun _ => le_pF) fun _ => (mo_s (fun _ => le_nA) fun _ => (mo_s (fun _ => le_pF) fun _ => (mo_s (fun _ => le_nA) fun _ => (mo_s (fun _ => le_pF) fun _ => (mo_s (fun _ => le_nA) fun _ => (mo_s (fun _ => le_pF) fun _ => (mo_s (fun _ => le_nA) fun _ => (mo_s (fun _ => le_pF) fun _ => (mo_s (fun _ => le_nA) fun _ => (mo_s (fun _ => le_pF) fun _ => (mo_s (fun _ => le_nA) fun _ => (mo_s (fun _ => le_pF) fun _ => (mo_s (fun _ => le_nA) fun _ => (mo_s (fun _ => le_pF) fun _ => (mo_s (fun _ => le_nA) fun _ => (mo_s (fun _ => le_pF) fun _ => (mo_s (fun _ => le_nA) fun _ => (mo_s (fun _ => le_pF) fun _ => (mo_s (fun _ => le_nA) fun _ => (mo_s (fun _ => le_pF) fun _ => (mo_s (fun _ => le_nA) fun _ => (mo_s (fun _ => le_pF) fun _ => mo_ret))))))))))))))))))))))))))))))))))))))))))))))))))))))))) _ hE
  refine a_newa (atype := .int) X Y g (by decide) rfl (fun _ => rfl) (by decide) q290 (aRoom1 Y h1 (le_nA1 g) M9) (aRoom2 Y h2 (le_nA2 g) M9) dX2_init_63 (fun H Y => ?_)
  generalize kc + 1 = kc at Y ⊢
  generalize ks + Int32.toNatClampNeg (25 : Int32) = ks at Y ⊢
  replace hE := e_bind hE
  obtain ⟨st_14, g, hE⟩ := hE
  refine a_putFV X Y k_X2 10 g (by decide) rfl hnm rfl (nr_a (some st_12.1)) (fr_a (some st_12.1)) q1813 dX2_init_65 (fun H locs Y => ?_)
  refine lv_aload_n hx hb dX2_init_68 rfl (lv_at hl 0 rfl) ?_
  refine lv_bipush (v := 25) hx hb dX2_init_69 (by decide) ?_
  replace hE := e_bind hE
  obtain ⟨st_15, g, hE⟩ := hE
  have M9 := (mo_s (fun _ => le_pF) fun _ => (mo_s (fun _ => le_nA) fun _ => (mo_s (fun _ => le_pF) fun _ => (mo_s (fun _ => le_nA) fun _ => (mo_s (fun _ => le_pF) fun _ => (mo_s (fun _ => le_nA) fun _ => (mo_s (fun _ => le_pF) fun _ => (mo_s (fun _ => le_nA) fun _ => (mo_s (fun _ => le_pF) fun _ => (mo_s (fun _ => le_pF) fun _ => (mo_s (fun _ => le_pF) fun _ => (mo_s (fun _ => le_pF) fun _ => (mo_s (fun _ => le_pF) fun _ => (mo_s (fun _ => le_pF) fun _ => (mo_s (fun _ => le_pF) fun _ => (mo_s (fun _ => le_pF) fun _ => (mo_s (fun _ => le_pF) fun _ => (mo_s (fun _ => le_pF) fun _ => (mo_s (fun _ => le_pF) fun _ => (mo_s (fun _ => le_pF) fun _ => (mo_s (fun _ => le_pF) fun _ => (mo_s (fun _ => le_nA) fun _ => (mo_s (fun _ => le_pF) fun _ => (mo_s (fun _ => le_nA) fun _ => (mo_s (fun _ => le_pF) fun _ => (mo_s (fun _ => le_nA) fun _ => (mo_s (fun _ => le_pF) fun _ => (mo_s (fun _ => le_nA) fun _ => (mo_s (fun _ => le_pF) fun _ => (mo_s (fun _ => le_nA) fun _ => (mo_s (fun _ => le_pF) fun _ => (mo_s (fun _ => le_nA) fun _ => (mo_s (fun _ => le_pF) fun _ => (mo_s (fun _ => le_nA) fun _ => (mo_s (fun _ => le_pF) fun _ => (mo_s (fun _ => le_nA) fun _ => (mo_s (fun _ => le_pF) fun _ => (mo_s (fun _ => le_nA) fun _ => (mo_s (fun _ => le_pF) fun _ => (mo_s (fun _ => le_nA) fun _ => (mo_s (fun _ => le_pF) fun _ => (mo_s (fun _ => le_nA) fun _ => (mo_s (fun _ => le_pF) fun _ => (mo_s (fun _ => le_nA) fun _ => (mo_s (fun _ => le_pF) fun _ => (mo_s (fun _ => le_nA) fun _ => (mo_s (fun _ => le_pF) fun _ => (mo_s (fun _ => le_nA) fun _ => (mo_s (fun _ => le_pF) fun _ => (mo_s (fun _ => le_nA) fun _ => (mo_s (fun _ => le_pF) fun _ => (mo_s (fun _ => le_nA) fun _ => (mo_s (fun _ => le_pF) fun _ => (mo_s (fun _ => le_nA) fun _ => (mo_s (fun _ => le_pF) fun _ => mo_ret))))))))))))))))))))))))))))))))))))))))))))))))))))))) _ hE
  refine a_newa (atype := .int) X Y g (by decide) rfl (fun _ => rfl) (by decide) q290 (aRoom1 Y h1 (le_nA1 g) M9) (aRoom2 Y h2 (le_nA2 g) M9) dX2_init_71 (fun H Y => ?_)
  generalize kc + 1 = kc at Y ⊢
  generalize ks + Int32.toNatClampNeg (25 : Int32) = ks at Y ⊢
  replace hE := e_bind hE
  obtain ⟨st_16, g, hE⟩ := hE
  refine a_putFV X Y k_X2 11 g (by decide) rfl hnm rfl (nr_a (some st_14.1)) (fr_a (some st_14.1)) q1814 dX2_init_73 (fun H locs Y => ?_)
  refine lv_aload_n hx hb dX2_init_76 rfl (lv_at hl 0 rfl) ?_
  refine lv_sipush (v := 200) hx hb dX2_init_77 (by decide) ?_
  replace hE := e_bind hE
  obtain ⟨st_17, g, hE⟩ := hE
  have M9 := (mo_s (fun _ => le_pF) fun _ => (mo_s (fun _ => le_nA) fun _ => (mo_s (fun _ => le_pF) fun _ => (mo_s (fun _ => le_nA) fun _ => (mo_s (fun _ => le_pF) fun _ => (mo_s (fun _ => le_nA) fun _ => (mo_s (fun _ => le_pF) fun _ => (mo_s (fun _ => le_pF) fun _ => (mo_s (fun _ => le_pF) fun _ => (mo_s (fun _ => le_pF) fun _ => (mo_s (fun _ => le_pF) fun _ => (mo_s (fun _ => le_pF) fun _ => (mo_s (fun _ => le_pF) fun _ => (mo_s (fun _ => le_pF) fun _ => (mo_s (fun _ => le_pF) fun _ => (mo_s (fun _ => le_pF) fun _ => (mo_s (fun _ => le_pF) fun _ => (mo_s (fun _ => le_pF) fun _ => (mo_s (fun _ => le_pF) fun _ => (mo_s (fun _ => le_nA) fun _ => (mo_s (fun _ => le_pF) fun _ => (mo_s (fun _ => le_nA) fun _ => (mo_s (fun _ => le_pF) fun _ => (mo_s (fun _ => le_nA) fun _ => (mo_s (fun _ => le_pF) fun _ => (mo_s (fun _ => le_nA) fun _ => (mo_s (fun _ => le_pF) fun _ => (mo_s (fun _ => le_nA) fun _ => (mo_s (fun _ => le_pF) fun _ => (mo_s (fun _ => le_nA) fun _ => (mo_s (fun _ => le_pF) fun _ => (mo_s (fun _ => le_nA) fun _ => (mo_s (fun _ => le_pF) fun _ => (mo_s (fun _ => le_nA) fun _ => (mo_s (fun _ => le_pF) fun _ => (mo_s (fun _ => le_nA) fun _ => (mo_s (fun _ => le_pF) fun _ => (mo_s (fun _ => le_nA) fun _ => (mo_s (fun _ => le_pF) fun _ => (mo_s (fun _ => le_nA) fun _ => (mo_s (fun _ => le_pF) fun _ => (mo_s (fun _ => le_nA) fun _ => (mo_s (fun _ => le_pF) fun _ => (mo_s (fun _ => le_nA) fun _ => (mo_s (fun _ => le_pF) fun _ => (mo_s (fun _ => le_nA) fun _ => (mo_s (fun _ => le_pF) fun _ => (mo_s (fun _ => le_nA) fun _ => (mo_s (fun _ => le_pF) fun _ => (mo_s (fun _ => le_nA) fun _ => (mo_s (fun _ => le_pF) fun _ => (mo_s (fun _ => le_nA) fun _ => (mo_s (fun _ => le_pF) fun _ => mo_ret))))))))))))))))))))))))))))))))))))))))))))))))))))) _ hE
  refine a_newa (atype := .int) X Y g (by decide) rfl (fun _ => rfl) (by decide) q290 (aRoom1 Y h1 (le_nA1 g) M9) (aRoom2 Y h2 (le_nA2 g) M9) dX2_init_80 (fun H Y => ?_)
  generalize kc + 1 = kc at Y ⊢
  generalize ks + Int32.toNatClampNeg (200 : Int32) = ks at Y ⊢
  replace hE := e_bind hE
  obtain ⟨st_18, g, hE⟩ := hE
  refine a_putFV X Y k_X2 12 g (by decide) rfl hnm rfl (nr_a (some st_16.1)) (fr_a (some st_16.1)) q1815 dX2_init_82 (fun H locs Y => ?_)
  refine lv_aload_n hx hb dX2_init_85 rfl (lv_at hl 0 rfl) ?_
  refine lv_bipush (v := 100) hx hb dX2_init_86 (by decide) ?_
  replace hE := e_bind hE
  obtain ⟨st_19, g, hE⟩ := hE
  have M9 := (mo_s (fun _ => le_pF) fun _ => (mo_s (fun _ => le_nA) fun _ => (mo_s (fun _ => le_pF) fun _ => (mo_s (fun _ => le_nA) fun _ => (mo_s (fun _ => le_pF) fun _ => (mo_s (fun _ => le_pF) fun _ => (mo_s (fun _ => le_pF) fun _ => (mo_s (fun _ => le_pF) fun _ => (mo_s (fun _ => le_pF) fun _ => (mo_s (fun _ => le_pF) fun _ => (mo_s (fun _ => le_pF) fun _ => (mo_s (fun _ => le_pF) fun _ => (mo_s (fun _ => le_pF) fun _ => (mo_s (fun _ => le_pF) fun _ => (mo_s (fun _ => le_pF) fun _ => (mo_s (fun _ => le_pF) fun _ => (mo_s (fun _ => le_pF) fun _ => (mo_s (fun _ => le_nA) fun _ => (mo_s (fun _ => le_pF) fun _ => (mo_s (fun _ => le_nA) fun _ => (mo_s (fun _ => le_pF) fun _ => (mo_s (fun _ => le_nA) fun _ => (mo_s (fun _ => le_pF) fun _ => (mo_s (fun _ => le_nA) fun _ => (mo_s (fun _ => le_pF) fun _ => (mo_s (fun _ => le_nA) fun _ => (mo_s (fun _ => le_pF) fun _ => (mo_s (fun _ => le_nA) fun _ => (mo_s (fun _ => le_pF) fun _ => (mo_s (fun _ => le_nA) fun _ => (mo_s (fun _ => le_pF) fun _ => (mo_s (fun _ => le_nA) fun _ => (mo_s (fun _ => le_pF) fun _ => (mo_s (fun _ => le_nA) fun _ => (mo_s (fun _ => le_pF) fun _ => (mo_s (fun _ => le_nA) fun _ => (mo_s (fun _ => le_pF) fun _ => (mo_s (fun _ => le_nA) fun _ => (mo_s (fun _ => le_pF) fun _ => (mo_s (fun _ => le_nA) fun _ => (mo_s (fun _ => le_pF) fun _ => (mo_s (fun _ => le_nA) fun _ => (mo_s (fun _ => le_pF) fun _ => (mo_s (fun _ => le_nA) fun _ => (mo_s (fun _ => le_pF) fun _ => (mo_s (fun _ => le_nA) fun _ => (mo_s (fun _ => le_pF) fun _ => (mo_s (fun _ => le_nA) fun _ => (mo_s (fun _ => le_pF) fun _ => (mo_s (fun _ => le_nA) fun _ => (mo_s (fun _ => le_pF) fun _ => mo_ret))))))))))))))))))))))))))))))))))))))))))))))))))) _ hE
  refine a_newa (atype := .int) X Y g (by decide) rfl (fun _ => rfl) (by decide) q290 (aRoom1 Y h1 (le_nA1 g) M9) (aRoom2 Y h2 (le_nA2 g) M9) dX2_init_88 (fun H Y => ?_)
  generalize kc + 1 = kc at Y ⊢
  generalize ks + Int32.toNatClampNeg (100 : Int32) = ks at Y ⊢
  replace hE := e_bind hE
  obtain ⟨st_20, g, hE⟩ := hE
  refine a_putFV X Y k_X2 13 g (by decide) rfl hnm rfl (nr_a (some st_18.1)) (fr_a (some st_18.1)) q1816 dX2_init_90 (fun H locs Y => ?_)
  refine lv_aload_n hx hb dX2_init_93 rfl (lv_at hl 0 rfl) ?_
  refine lv_sipush (v := 4000) hx hb dX2_init_94 (by decide) ?_
  replace hE := e_bind hE
  obtain ⟨st_21, g, hE⟩ := hE
  have M9 := (mo_s (fun _ => le_pF) fun _ => (mo_s (fun _ => le_nA) fun _ => (mo_s (fun _ => le_pF) fun _ => (mo_s (fun _ => le_pF) fun _ => (mo_s (fun _ => le_pF) fun _ => (mo_s (fun _ => le_pF) fun _ => (mo_s (fun _ => le_pF) fun _ => (mo_s (fun _ => le_pF) fun _ => (mo_s (fun _ => le_pF) fun _ => (mo_s (fun _ => le_pF) fun _ => (mo_s (fun _ => le_pF) fun _ => (mo_s (fun _ => le_pF) fun _ => (mo_s (fun _ => le_pF) fun _ => (mo_s (fun _ => le_pF) fun _ => (mo_s (fun _ => le_pF) fun _ => (mo_s (fun _ => le_nA) fun _ => (mo_s (fun _ => le_pF) fun _ => (mo_s (fun _ => le_nA) fun _ => (mo_s (fun _ => le_pF) fun _ => (mo_s (fun _ => le_nA) fun _ => (mo_s (fun _ => le_pF) fun _ => (mo_s (fun _ => le_nA) fun _ => (mo_s (fun _ => le_pF) fun _ => (mo_s (fun _ => le_nA) fun _ => (mo_s (fun _ => le_pF) fun _ => (mo_s (fun _ => le_nA) fun _ => (mo_s (fun _ => le_pF) fun _ => (mo_s (fun _ => le_nA) fun _ => (mo_s (fun _ => le_pF) fun _ => (mo_s (fun _ => le_nA) fun _ => (mo_s (fun _ => le_pF) fun _ => (mo_s (fun _ => le_nA) fun _ => (mo_s (fun _ => le_pF) fun _ => (mo_s (fun _ => le_nA) fun _ => (mo_s (fun _ => le_pF) fun _ => (mo_s (fun _ => le_nA) fun _ => (mo_s (fun _ => le_pF) fun _ => (mo_s (fun _ => le_nA) fun _ => (mo_s (fun _ => le_pF) fun _ => (mo_s (fun _ => le_nA) fun _ => (mo_s (fun _ => le_pF) fun _ => (mo_s (fun _ => le_nA) fun _ => (mo_s (fun _ => le_pF) fun _ => (mo_s (fun _ => le_nA) fun _ => (mo_s (fun _ => le_pF) fun _ => (mo_s (fun _ => le_nA) fun _ => (mo_s (fun _ => le_pF) fun _ => (mo_s (fun _ => le_nA) fun _ => (mo_s (fun _ => le_pF) fun _ => mo_ret))))))))))))))))))))))))))))))))))))))))))))))))) _ hE
  refine a_newa (atype := .int) X Y g (by decide) rfl (fun _ => rfl) (by decide) q290 (aRoom1 Y h1 (le_nA1 g) M9) (aRoom2 Y h2 (le_nA2 g) M9) dX2_init_97 (fun H Y => ?_)
  generalize kc + 1 = kc at Y ⊢
  generalize ks + Int32.toNatClampNeg (4000 : Int32) = ks at Y ⊢
  replace hE := e_bind hE
  obtain ⟨st_22, g, hE⟩ := hE
  refine a_putFV X Y k_X2 14 g (by decide) rfl hnm rfl (nr_a (some st_20.1)) (fr_a (some st_20.1)) q1817 dX2_init_99 (fun H locs Y => ?_)
  refine lv_aload_n hx hb dX2_init_102 rfl (lv_at hl 0 rfl) ?_
  refine lv_bipush (v := 64) hx hb dX2_init_103 (by decide) ?_
  replace hE := e_bind hE
  obtain ⟨st_23, g, hE⟩ := hE
  have M9 := (mo_s (fun _ => le_pF) fun _ => (mo_s (fun _ => le_pF) fun _ => (mo_s (fun _ => le_pF) fun _ => (mo_s (fun _ => le_pF) fun _ => (mo_s (fun _ => le_pF) fun _ => (mo_s (fun _ => le_pF) fun _ => (mo_s (fun _ => le_pF) fun _ => (mo_s (fun _ => le_pF) fun _ => (mo_s (fun _ => le_pF) fun _ => (mo_s (fun _ => le_pF) fun _ => (mo_s (fun _ => le_pF) fun _ => (mo_s (fun _ => le_pF) fun _ => (mo_s (fun _ => le_pF) fun _ => (mo_s (fun _ => le_nA) fun _ => (mo_s (fun _ => le_pF) fun _ => (mo_s (fun _ => le_nA) fun _ => (mo_s (fun _ => le_pF) fun _ => (mo_s (fun _ => le_nA) fun _ => (mo_s (fun _ => le_pF) fun _ => (mo_s (fun _ => le_nA) fun _ => (mo_s (fun _ => le_pF) fun _ => (mo_s (fun _ => le_nA) fun _ => (mo_s (fun _ => le_pF) fun _ => (mo_s (fun _ => le_nA) fun _ => (mo_s (fun _ => le_pF) fun _ => (mo_s (fun _ => le_nA) fun _ => (mo_s (fun _ => le_pF) fun _ => (mo_s (fun _ => le_nA) fun _ => (mo_s (fun _ => le_pF) fun _ => (mo_s (fun _ => le_nA) fun _ => (mo_s (fun _ => le_pF) fun _ => (mo_s (fun _ => le_nA) fun _ => (mo_s (fun _ => le_pF) fun _ => (mo_s (fun _ => le_nA) fun _ => (mo_s (fun _ => le_pF) fun _ => (mo_s (fun _ => le_nA) fun _ => (mo_s (fun _ => le_pF) fun _ => (mo_s (fun _ => le_nA) fun _ => (mo_s (fun _ => le_pF) fun _ => (mo_s (fun _ => le_nA) fun _ => (mo_s (fun _ => le_pF) fun _ => (mo_s (fun _ => le_nA) fun _ => (mo_s (fun _ => le_pF) fun _ => (mo_s (fun _ => le_nA) fun _ => (mo_s (fun _ => le_pF) fun _ => (mo_s (fun _ => le_nA) fun _ => (mo_s (fun _ => le_pF) fun _ => mo_ret))))))))))))))))))))))))))))))))))))))))))))))) _ hE
  refine a_newa (atype := .int) X Y g (by decide) rfl (fun _ => rfl) (by decide) q290 (aRoom1 Y h1 (le_nA1 g) M9) (aRoom2 Y h2 (le_nA2 g) M9) dX2_init_105 (fun H Y => ?_)
  generalize kc + 1 = kc at Y ⊢
  generalize ks + Int32.toNatClampNeg (64 : Int32) = ks at Y ⊢
  replace hE := e_bind hE
  obtain ⟨st_24, g, hE⟩ := hE
  refine a_putFV X Y k_X2 15 g (by decide) rfl hnm rfl (nr_a (some st_22.1)) (fr_a (some st_22.1)) q1818 dX2_init_107 (fun H locs Y => ?_)
  refine lv_aload_n hx hb dX2_init_110 rfl (lv_at hl 0 rfl) ?_
  refine lv_iconst (v := 0) hx hb dX2_init_111 (by decide) ?_
  replace hE := e_bind hE
  obtain ⟨st_25, g, hE⟩ := hE
  refine a_putV X Y k_X2 16 g (by decide) rfl rfl rfl q1819 dX2_init_112 (fun H locs Y => ?_)
  refine lv_aload_n hx hb dX2_init_115 rfl (lv_at hl 0 rfl) ?_
  refine lv_iconst (v := -1) hx hb dX2_init_116 (by decide) ?_
  replace hE := e_bind hE
  obtain ⟨st_26, g, hE⟩ := hE
  refine a_putV X Y k_X2 17 g (by decide) rfl rfl rfl q1820 dX2_init_117 (fun H locs Y => ?_)
  refine lv_aload_n hx hb dX2_init_120 rfl (lv_at hl 0 rfl) ?_
  refine lv_iconst (v := 0) hx hb dX2_init_121 (by decide) ?_
  replace hE := e_bind hE
  obtain ⟨st_27, g, hE⟩ := hE
  refine a_putV X Y k_X2 18 g (by decide) rfl rfl rfl q1821 dX2_init_122 (fun H locs Y => ?_)
  refine lv_aload_n hx hb dX2_init_125 rfl (lv_at hl 0 rfl) ?_
  refine lv_iconst (v := 0) hx hb dX2_init_126 (by decide) ?_
  replace hE := e_bind hE
  obtain ⟨st_28, g, hE⟩ := hE
  refine a_putV X Y k_X2 19 g (by decide) rfl rfl rfl q1822 dX2_init_127 (fun H locs Y => ?_)
  refine lv_aload_n hx hb dX2_init_130 rfl (lv_at hl 0 rfl) ?_
  refine lv_iconst (v := 0) hx hb dX2_init_131 (by decide) ?_
  replace hE := e_bind hE
  obtain ⟨st_29, g, hE⟩ := hE
  refine a_putV X Y k_X2 20 g (by decide) rfl rfl rfl q1823 dX2_init_132 (fun H locs Y => ?_)
  refine lv_aload_n hx hb dX2_init_135 rfl (lv_at hl 0 rfl) ?_
  refine lv_iconst (v := 0) hx hb dX2_init_136 (by decide) ?_
  replace hE := e_bind hE
  obtain ⟨st_30, g, hE⟩ := hE
  refine a_putV X Y k_X2 21 g (by decide) rfl rfl rfl q1824 dX2_init_137 (fun H locs Y => ?_)
  refine lv_aload_n hx hb dX2_init_140 rfl (lv_at hl 0 rfl) ?_
  refine lv_iconst (v := 0) hx hb dX2_init_141 (by decide) ?_
  replace hE := e_bind hE
  obtain ⟨st_31, g, hE⟩ := hE
  refine a_putV X Y k_X2 22 g (by decide) rfl rfl rfl q1825 dX2_init_142 (fun H locs Y => ?_)
  refine lv_aload_n hx hb dX2_init_145 rfl (lv_at hl 0 rfl) ?_
  refine lv_iconst (v := 0) hx hb dX2_init_146 (by decide) ?_
  replace hE := e_bind hE
  obtain ⟨st_32, g, hE⟩ := hE
  refine a_putV X Y k_X2 23 g (by decide) rfl rfl rfl q1826 dX2_init_147 (fun H locs Y => ?_)
  refine lv_aload_n hx hb dX2_init_150 rfl (lv_at hl 0 rfl) ?_
  refine lv_iconst (v := 0) hx hb dX2_init_151 (by decide) ?_
  replace hE := e_bind hE
  obtain ⟨st_33, g, hE⟩ := hE
  refine a_putV X Y k_X2 24 g (by decide) rfl rfl rfl q1827 dX2_init_152 (fun H locs Y => ?_)
  refine lv_aload_n hx hb dX2_init_155 rfl (lv_at hl 0 rfl) ?_
  refine lv_iconst (v := 0) hx hb dX2_init_156 (by decide) ?_
  replace hE := e_bind hE
  obtain ⟨st_34, g, hE⟩ := hE
  refine a_putV X Y k_X2 25 g (by decide) rfl rfl rfl q1828 dX2_init_157 (fun H locs Y => ?_)
  refine lv_aload_n hx hb dX2_init_160 rfl (lv_at hl 0 rfl) ?_
  refine lv_iconst (v := 0) hx hb dX2_init_161 (by decide) ?_
  replace hE := e_bind hE
  obtain ⟨st_35, g, hE⟩ := hE
  refine a_putV X Y k_X2 26 g (by decide) rfl rfl rfl q1829 dX2_init_162 (fun H locs Y => ?_)
  refine lv_aload_n hx hb dX2_init_165 rfl (lv_at hl 0 rfl) ?_
  refine lv_iconst (v := 0) hx hb dX2_init_166 (by decide) ?_
  replace hE := e_bind hE
  obtain ⟨st_36, g, hE⟩ := hE
  refine a_putV X Y k_X2 27 g (by decide) rfl rfl rfl q1830 dX2_init_167 (fun H locs Y => ?_)
  refine lv_aload_n hx hb dX2_init_170 rfl (lv_at hl 0 rfl) ?_
  refine lv_bipush (v := 40) hx hb dX2_init_171 (by decide) ?_
  replace hE := e_bind hE
  obtain ⟨st_37, g, hE⟩ := hE
  have M9 := (mo_s (fun _ => le_pF) fun _ => (mo_s (fun _ => le_nA) fun _ => (mo_s (fun _ => le_pF) fun _ => (mo_s (fun _ => le_nA) fun _ => (mo_s (fun _ => le_pF) fun _ => (mo_s (fun _ => le_nA) fun _ => (mo_s (fun _ => le_pF) fun _ => (mo_s (fun _ => le_nA) fun _ => (mo_s (fun _ => le_pF) fun _ => (mo_s (fun _ => le_nA) fun _ => (mo_s (fun _ => le_pF) fun _ => (mo_s (fun _ => le_nA) fun _ => (mo_s (fun _ => le_pF) fun _ => (mo_s (fun _ => le_nA) fun _ => (mo_s (fun _ => le_pF) fun _ => (mo_s (fun _ => le_nA) fun _ => (mo_s (fun _ => le_pF) fun _ => (mo_s (fun _ => le_nA) fun _ => (mo_s (fun _ => le_pF) fun _ => (mo_s (fun _ => le_nA) fun _ => (mo_s (fun _ => le_pF) fun _ => (mo_s (fun _ => le_nA) fun _ => (mo_s (fun _ => le_pF) fun _ => (mo_s (fun _ => le_nA) fun _ => (mo_s (fun _ => le_pF) fun _ => (mo_s (fun _ => le_nA) fun _ => (mo_s (fun _ => le_pF) fun _ => (mo_s (fun _ => le_nA) fun _ => (mo_s (fun _ => le_pF) fun _ => (mo_s (fun _ => le_nA) fun _ => (mo_s (fun _ => le_pF) fun _ => (mo_s (fun _ => le_nA) fun _ => (mo_s (fun _ => le_pF) fun _ => mo_ret))))))))))))))))))))))))))))))))) _ hE
  refine a_newa (atype := .double) X Y g (by decide) rfl (fun _ => rfl) (by decide) q289 (aRoom1 Y h1 (le_nA1 g) M9) (aRoom2 Y h2 (le_nA2 g) M9) dX2_init_173 (fun H Y => ?_)
  generalize kc + 1 = kc at Y ⊢
  generalize ks + Int32.toNatClampNeg (40 : Int32) = ks at Y ⊢
  replace hE := e_bind hE
  obtain ⟨st_38, g, hE⟩ := hE
  refine a_putFV X Y k_X2 28 g (by decide) rfl hnm rfl (nr_a (some st_36.1)) (fr_a (some st_36.1)) q1831 dX2_init_175 (fun H locs Y => ?_)
  refine lv_aload_n hx hb dX2_init_178 rfl (lv_at hl 0 rfl) ?_
  refine lv_bipush (v := 26) hx hb dX2_init_179 (by decide) ?_
  replace hE := e_bind hE
  obtain ⟨st_39, g, hE⟩ := hE
  have M9 := (mo_s (fun _ => le_pF) fun _ => (mo_s (fun _ => le_nA) fun _ => (mo_s (fun _ => le_pF) fun _ => (mo_s (fun _ => le_nA) fun _ => (mo_s (fun _ => le_pF) fun _ => (mo_s (fun _ => le_nA) fun _ => (mo_s (fun _ => le_pF) fun _ => (mo_s (fun _ => le_nA) fun _ => (mo_s (fun _ => le_pF) fun _ => (mo_s (fun _ => le_nA) fun _ => (mo_s (fun _ => le_pF) fun _ => (mo_s (fun _ => le_nA) fun _ => (mo_s (fun _ => le_pF) fun _ => (mo_s (fun _ => le_nA) fun _ => (mo_s (fun _ => le_pF) fun _ => (mo_s (fun _ => le_nA) fun _ => (mo_s (fun _ => le_pF) fun _ => (mo_s (fun _ => le_nA) fun _ => (mo_s (fun _ => le_pF) fun _ => (mo_s (fun _ => le_nA) fun _ => (mo_s (fun _ => le_pF) fun _ => (mo_s (fun _ => le_nA) fun _ => (mo_s (fun _ => le_pF) fun _ => (mo_s (fun _ => le_nA) fun _ => (mo_s (fun _ => le_pF) fun _ => (mo_s (fun _ => le_nA) fun _ => (mo_s (fun _ => le_pF) fun _ => (mo_s (fun _ => le_nA) fun _ => (mo_s (fun _ => le_pF) fun _ => (mo_s (fun _ => le_nA) fun _ => (mo_s (fun _ => le_pF) fun _ => mo_ret))))))))))))))))))))))))))))))) _ hE
  refine a_newa (atype := .double) X Y g (by decide) rfl (fun _ => rfl) (by decide) q289 (aRoom1 Y h1 (le_nA1 g) M9) (aRoom2 Y h2 (le_nA2 g) M9) dX2_init_181 (fun H Y => ?_)
  generalize kc + 1 = kc at Y ⊢
  generalize ks + Int32.toNatClampNeg (26 : Int32) = ks at Y ⊢
  replace hE := e_bind hE
  obtain ⟨st_40, g, hE⟩ := hE
  refine a_putFV X Y k_X2 29 g (by decide) rfl hnm rfl (nr_a (some st_38.1)) (fr_a (some st_38.1)) q1832 dX2_init_183 (fun H locs Y => ?_)
  refine lv_aload_n hx hb dX2_init_186 rfl (lv_at hl 0 rfl) ?_
  refine lv_sipush (v := 200) hx hb dX2_init_187 (by decide) ?_
  replace hE := e_bind hE
  obtain ⟨st_41, g, hE⟩ := hE
  have M9 := (mo_s (fun _ => le_pF) fun _ => (mo_s (fun _ => le_nA) fun _ => (mo_s (fun _ => le_pF) fun _ => (mo_s (fun _ => le_nA) fun _ => (mo_s (fun _ => le_pF) fun _ => (mo_s (fun _ => le_nA) fun _ => (mo_s (fun _ => le_pF) fun _ => (mo_s (fun _ => le_nA) fun _ => (mo_s (fun _ => le_pF) fun _ => (mo_s (fun _ => le_nA) fun _ => (mo_s (fun _ => le_pF) fun _ => (mo_s (fun _ => le_nA) fun _ => (mo_s (fun _ => le_pF) fun _ => (mo_s (fun _ => le_nA) fun _ => (mo_s (fun _ => le_pF) fun _ => (mo_s (fun _ => le_nA) fun _ => (mo_s (fun _ => le_pF) fun _ => (mo_s (fun _ => le_nA) fun _ => (mo_s (fun _ => le_pF) fun _ => (mo_s (fun _ => le_nA) fun _ => (mo_s (fun _ => le_pF) fun _ => (mo_s (fun _ => le_nA) fun _ => (mo_s (fun _ => le_pF) fun _ => (mo_s (fun _ => le_nA) fun _ => (mo_s (fun _ => le_pF) fun _ => (mo_s (fun _ => le_nA) fun _ => (mo_s (fun _ => le_pF) fun _ => (mo_s (fun _ => le_nA) fun _ => (mo_s (fun _ => le_pF) fun _ => mo_ret))))))))))))))))))))))))))))) _ hE
  refine a_newa (atype := .double) X Y g (by decide) rfl (fun _ => rfl) (by decide) q289 (aRoom1 Y h1 (le_nA1 g) M9) (aRoom2 Y h2 (le_nA2 g) M9) dX2_init_190 (fun H Y => ?_)
  generalize kc + 1 = kc at Y ⊢
  generalize ks + Int32.toNatClampNeg (200 : Int32) = ks at Y ⊢
  replace hE := e_bind hE
  obtain ⟨st_42, g, hE⟩ := hE
  refine a_putFV X Y k_X2 30 g (by decide) rfl hnm rfl (nr_a (some st_40.1)) (fr_a (some st_40.1)) q1833 dX2_init_192 (fun H locs Y => ?_)
  refine lv_aload_n hx hb dX2_init_195 rfl (lv_at hl 0 rfl) ?_
  refine lv_sipush (v := 144) hx hb dX2_init_196 (by decide) ?_
  replace hE := e_bind hE
  obtain ⟨st_43, g, hE⟩ := hE
  have M9 := (mo_s (fun _ => le_pF) fun _ => (mo_s (fun _ => le_nA) fun _ => (mo_s (fun _ => le_pF) fun _ => (mo_s (fun _ => le_nA) fun _ => (mo_s (fun _ => le_pF) fun _ => (mo_s (fun _ => le_nA) fun _ => (mo_s (fun _ => le_pF) fun _ => (mo_s (fun _ => le_nA) fun _ => (mo_s (fun _ => le_pF) fun _ => (mo_s (fun _ => le_nA) fun _ => (mo_s (fun _ => le_pF) fun _ => (mo_s (fun _ => le_nA) fun _ => (mo_s (fun _ => le_pF) fun _ => (mo_s (fun _ => le_nA) fun _ => (mo_s (fun _ => le_pF) fun _ => (mo_s (fun _ => le_nA) fun _ => (mo_s (fun _ => le_pF) fun _ => (mo_s (fun _ => le_nA) fun _ => (mo_s (fun _ => le_pF) fun _ => (mo_s (fun _ => le_nA) fun _ => (mo_s (fun _ => le_pF) fun _ => (mo_s (fun _ => le_nA) fun _ => (mo_s (fun _ => le_pF) fun _ => (mo_s (fun _ => le_nA) fun _ => (mo_s (fun _ => le_pF) fun _ => (mo_s (fun _ => le_nA) fun _ => (mo_s (fun _ => le_pF) fun _ => mo_ret))))))))))))))))))))))))))) _ hE
  refine a_newa (atype := .double) X Y g (by decide) rfl (fun _ => rfl) (by decide) q289 (aRoom1 Y h1 (le_nA1 g) M9) (aRoom2 Y h2 (le_nA2 g) M9) dX2_init_199 (fun H Y => ?_)
  generalize kc + 1 = kc at Y ⊢
  generalize ks + Int32.toNatClampNeg (144 : Int32) = ks at Y ⊢
  replace hE := e_bind hE
  obtain ⟨st_44, g, hE⟩ := hE
  refine a_putFV X Y k_X2 31 g (by decide) rfl hnm rfl (nr_a (some st_42.1)) (fr_a (some st_42.1)) q1834 dX2_init_201 (fun H locs Y => ?_)
  refine lv_aload_n hx hb dX2_init_204 rfl (lv_at hl 0 rfl) ?_
  refine lv_bipush (v := 6) hx hb dX2_init_205 (by decide) ?_
  replace hE := e_bind hE
  obtain ⟨st_45, g, hE⟩ := hE
  have M9 := (mo_s (fun _ => le_pF) fun _ => (mo_s (fun _ => le_nA) fun _ => (mo_s (fun _ => le_pF) fun _ => (mo_s (fun _ => le_nA) fun _ => (mo_s (fun _ => le_pF) fun _ => (mo_s (fun _ => le_nA) fun _ => (mo_s (fun _ => le_pF) fun _ => (mo_s (fun _ => le_nA) fun _ => (mo_s (fun _ => le_pF) fun _ => (mo_s (fun _ => le_nA) fun _ => (mo_s (fun _ => le_pF) fun _ => (mo_s (fun _ => le_nA) fun _ => (mo_s (fun _ => le_pF) fun _ => (mo_s (fun _ => le_nA) fun _ => (mo_s (fun _ => le_pF) fun _ => (mo_s (fun _ => le_nA) fun _ => (mo_s (fun _ => le_pF) fun _ => (mo_s (fun _ => le_nA) fun _ => (mo_s (fun _ => le_pF) fun _ => (mo_s (fun _ => le_nA) fun _ => (mo_s (fun _ => le_pF) fun _ => (mo_s (fun _ => le_nA) fun _ => (mo_s (fun _ => le_pF) fun _ => (mo_s (fun _ => le_nA) fun _ => (mo_s (fun _ => le_pF) fun _ => mo_ret))))))))))))))))))))))))) _ hE
  refine a_newa (atype := .double) X Y g (by decide) rfl (fun _ => rfl) (by decide) q289 (aRoom1 Y h1 (le_nA1 g) M9) (aRoom2 Y h2 (le_nA2 g) M9) dX2_init_207 (fun H Y => ?_)
  generalize kc + 1 = kc at Y ⊢
  generalize ks + Int32.toNatClampNeg (6 : Int32) = ks at Y ⊢
  replace hE := e_bind hE
  obtain ⟨st_46, g, hE⟩ := hE
  refine a_putFV X Y k_X2 32 g (by decide) rfl hnm rfl (nr_a (some st_44.1)) (fr_a (some st_44.1)) q1835 dX2_init_209 (fun H locs Y => ?_)
  refine lv_aload_n hx hb dX2_init_212 rfl (lv_at hl 0 rfl) ?_
  refine lv_bipush (v := 6) hx hb dX2_init_213 (by decide) ?_
  replace hE := e_bind hE
  obtain ⟨st_47, g, hE⟩ := hE
  have M9 := (mo_s (fun _ => le_pF) fun _ => (mo_s (fun _ => le_nA) fun _ => (mo_s (fun _ => le_pF) fun _ => (mo_s (fun _ => le_nA) fun _ => (mo_s (fun _ => le_pF) fun _ => (mo_s (fun _ => le_nA) fun _ => (mo_s (fun _ => le_pF) fun _ => (mo_s (fun _ => le_nA) fun _ => (mo_s (fun _ => le_pF) fun _ => (mo_s (fun _ => le_nA) fun _ => (mo_s (fun _ => le_pF) fun _ => (mo_s (fun _ => le_nA) fun _ => (mo_s (fun _ => le_pF) fun _ => (mo_s (fun _ => le_nA) fun _ => (mo_s (fun _ => le_pF) fun _ => (mo_s (fun _ => le_nA) fun _ => (mo_s (fun _ => le_pF) fun _ => (mo_s (fun _ => le_nA) fun _ => (mo_s (fun _ => le_pF) fun _ => (mo_s (fun _ => le_nA) fun _ => (mo_s (fun _ => le_pF) fun _ => (mo_s (fun _ => le_nA) fun _ => (mo_s (fun _ => le_pF) fun _ => mo_ret))))))))))))))))))))))) _ hE
  refine a_newa (atype := .double) X Y g (by decide) rfl (fun _ => rfl) (by decide) q289 (aRoom1 Y h1 (le_nA1 g) M9) (aRoom2 Y h2 (le_nA2 g) M9) dX2_init_215 (fun H Y => ?_)
  generalize kc + 1 = kc at Y ⊢
  generalize ks + Int32.toNatClampNeg (6 : Int32) = ks at Y ⊢
  replace hE := e_bind hE
  obtain ⟨st_48, g, hE⟩ := hE
  refine a_putFV X Y k_X2 33 g (by decide) rfl hnm rfl (nr_a (some st_46.1)) (fr_a (some st_46.1)) q1836 dX2_init_217 (fun H locs Y => ?_)
  refine lv_aload_n hx hb dX2_init_220 rfl (lv_at hl 0 rfl) ?_
  refine lv_iconst (v := 4) hx hb dX2_init_221 (by decide) ?_
  replace hE := e_bind hE
  obtain ⟨st_49, g, hE⟩ := hE
  have M9 := (mo_s (fun _ => le_pF) fun _ => (mo_s (fun _ => le_nA) fun _ => (mo_s (fun _ => le_pF) fun _ => (mo_s (fun _ => le_nA) fun _ => (mo_s (fun _ => le_pF) fun _ => (mo_s (fun _ => le_nA) fun _ => (mo_s (fun _ => le_pF) fun _ => (mo_s (fun _ => le_nA) fun _ => (mo_s (fun _ => le_pF) fun _ => (mo_s (fun _ => le_nA) fun _ => (mo_s (fun _ => le_pF) fun _ => (mo_s (fun _ => le_nA) fun _ => (mo_s (fun _ => le_pF) fun _ => (mo_s (fun _ => le_nA) fun _ => (mo_s (fun _ => le_pF) fun _ => (mo_s (fun _ => le_nA) fun _ => (mo_s (fun _ => le_pF) fun _ => (mo_s (fun _ => le_nA) fun _ => (mo_s (fun _ => le_pF) fun _ => (mo_s (fun _ => le_nA) fun _ => (mo_s (fun _ => le_pF) fun _ => mo_ret))))))))))))))))))))) _ hE
  refine a_newa (atype := .double) X Y g (by decide) rfl (fun _ => rfl) (by decide) q289 (aRoom1 Y h1 (le_nA1 g) M9) (aRoom2 Y h2 (le_nA2 g) M9) dX2_init_222 (fun H Y => ?_)
  generalize kc + 1 = kc at Y ⊢
  generalize ks + Int32.toNatClampNeg (4 : Int32) = ks at Y ⊢
  replace hE := e_bind hE
  obtain ⟨st_50, g, hE⟩ := hE
  refine a_putFV X Y k_X2 34 g (by decide) rfl hnm rfl (nr_a (some st_48.1)) (fr_a (some st_48.1)) q1837 dX2_init_224 (fun H locs Y => ?_)
  refine lv_aload_n hx hb dX2_init_227 rfl (lv_at hl 0 rfl) ?_
  refine lv_bipush (v := 108) hx hb dX2_init_228 (by decide) ?_
  replace hE := e_bind hE
  obtain ⟨st_51, g, hE⟩ := hE
  have M9 := (mo_s (fun _ => le_pF) fun _ => (mo_s (fun _ => le_nA) fun _ => (mo_s (fun _ => le_pF) fun _ => (mo_s (fun _ => le_nA) fun _ => (mo_s (fun _ => le_pF) fun _ => (mo_s (fun _ => le_nA) fun _ => (mo_s (fun _ => le_pF) fun _ => (mo_s (fun _ => le_nA) fun _ => (mo_s (fun _ => le_pF) fun _ => (mo_s (fun _ => le_nA) fun _ => (mo_s (fun _ => le_pF) fun _ => (mo_s (fun _ => le_nA) fun _ => (mo_s (fun _ => le_pF) fun _ => (mo_s (fun _ => le_nA) fun _ => (mo_s (fun _ => le_pF) fun _ => (mo_s (fun _ => le_nA) fun _ => (mo_s (fun _ => le_pF) fun _ => (mo_s (fun _ => le_nA) fun _ => (mo_s (fun _ => le_pF) fun _ => mo_ret))))))))))))))))))) _ hE
  refine a_newa (atype := .double) X Y g (by decide) rfl (fun _ => rfl) (by decide) q289 (aRoom1 Y h1 (le_nA1 g) M9) (aRoom2 Y h2 (le_nA2 g) M9) dX2_init_230 (fun H Y => ?_)
  generalize kc + 1 = kc at Y ⊢
  generalize ks + Int32.toNatClampNeg (108 : Int32) = ks at Y ⊢
  replace hE := e_bind hE
  obtain ⟨st_52, g, hE⟩ := hE
  refine a_putFV X Y k_X2 35 g (by decide) rfl hnm rfl (nr_a (some st_50.1)) (fr_a (some st_50.1)) q1838 dX2_init_232 (fun H locs Y => ?_)
  refine lv_aload_n hx hb dX2_init_235 rfl (lv_at hl 0 rfl) ?_
  refine lv_bipush (v := 36) hx hb dX2_init_236 (by decide) ?_
  replace hE := e_bind hE
  obtain ⟨st_53, g, hE⟩ := hE
  have M9 := (mo_s (fun _ => le_pF) fun _ => (mo_s (fun _ => le_nA) fun _ => (mo_s (fun _ => le_pF) fun _ => (mo_s (fun _ => le_nA) fun _ => (mo_s (fun _ => le_pF) fun _ => (mo_s (fun _ => le_nA) fun _ => (mo_s (fun _ => le_pF) fun _ => (mo_s (fun _ => le_nA) fun _ => (mo_s (fun _ => le_pF) fun _ => (mo_s (fun _ => le_nA) fun _ => (mo_s (fun _ => le_pF) fun _ => (mo_s (fun _ => le_nA) fun _ => (mo_s (fun _ => le_pF) fun _ => (mo_s (fun _ => le_nA) fun _ => (mo_s (fun _ => le_pF) fun _ => (mo_s (fun _ => le_nA) fun _ => (mo_s (fun _ => le_pF) fun _ => mo_ret))))))))))))))))) _ hE
  refine a_newa (atype := .double) X Y g (by decide) rfl (fun _ => rfl) (by decide) q289 (aRoom1 Y h1 (le_nA1 g) M9) (aRoom2 Y h2 (le_nA2 g) M9) dX2_init_238 (fun H Y => ?_)
  generalize kc + 1 = kc at Y ⊢
  generalize ks + Int32.toNatClampNeg (36 : Int32) = ks at Y ⊢
  replace hE := e_bind hE
  obtain ⟨st_54, g, hE⟩ := hE
  refine a_putFV X Y k_X2 36 g (by decide) rfl hnm rfl (nr_a (some st_52.1)) (fr_a (some st_52.1)) q1839 dX2_init_240 (fun H locs Y => ?_)
  refine lv_aload_n hx hb dX2_init_243 rfl (lv_at hl 0 rfl) ?_
  refine lv_iconst (v := 3) hx hb dX2_init_244 (by decide) ?_
  replace hE := e_bind hE
  obtain ⟨st_55, g, hE⟩ := hE
  have M9 := (mo_s (fun _ => le_pF) fun _ => (mo_s (fun _ => le_nA) fun _ => (mo_s (fun _ => le_pF) fun _ => (mo_s (fun _ => le_nA) fun _ => (mo_s (fun _ => le_pF) fun _ => (mo_s (fun _ => le_nA) fun _ => (mo_s (fun _ => le_pF) fun _ => (mo_s (fun _ => le_nA) fun _ => (mo_s (fun _ => le_pF) fun _ => (mo_s (fun _ => le_nA) fun _ => (mo_s (fun _ => le_pF) fun _ => (mo_s (fun _ => le_nA) fun _ => (mo_s (fun _ => le_pF) fun _ => (mo_s (fun _ => le_nA) fun _ => (mo_s (fun _ => le_pF) fun _ => mo_ret))))))))))))))) _ hE
  refine a_newa (atype := .int) X Y g (by decide) rfl (fun _ => rfl) (by decide) q290 (aRoom1 Y h1 (le_nA1 g) M9) (aRoom2 Y h2 (le_nA2 g) M9) dX2_init_245 (fun H Y => ?_)
  generalize kc + 1 = kc at Y ⊢
  generalize ks + Int32.toNatClampNeg (3 : Int32) = ks at Y ⊢
  replace hE := e_bind hE
  obtain ⟨st_56, g, hE⟩ := hE
  refine a_putFV X Y k_X2 37 g (by decide) rfl hnm rfl (nr_a (some st_54.1)) (fr_a (some st_54.1)) q1840 dX2_init_247 (fun H locs Y => ?_)
  refine lv_aload_n hx hb dX2_init_250 rfl (lv_at hl 0 rfl) ?_
  refine lv_iconst (v := 3) hx hb dX2_init_251 (by decide) ?_
  replace hE := e_bind hE
  obtain ⟨st_57, g, hE⟩ := hE
  have M9 := (mo_s (fun _ => le_pF) fun _ => (mo_s (fun _ => le_nA) fun _ => (mo_s (fun _ => le_pF) fun _ => (mo_s (fun _ => le_nA) fun _ => (mo_s (fun _ => le_pF) fun _ => (mo_s (fun _ => le_nA) fun _ => (mo_s (fun _ => le_pF) fun _ => (mo_s (fun _ => le_nA) fun _ => (mo_s (fun _ => le_pF) fun _ => (mo_s (fun _ => le_nA) fun _ => (mo_s (fun _ => le_pF) fun _ => (mo_s (fun _ => le_nA) fun _ => (mo_s (fun _ => le_pF) fun _ => mo_ret))))))))))))) _ hE
  refine a_newa (atype := .int) X Y g (by decide) rfl (fun _ => rfl) (by decide) q290 (aRoom1 Y h1 (le_nA1 g) M9) (aRoom2 Y h2 (le_nA2 g) M9) dX2_init_252 (fun H Y => ?_)
  generalize kc + 1 = kc at Y ⊢
  generalize ks + Int32.toNatClampNeg (3 : Int32) = ks at Y ⊢
  replace hE := e_bind hE
  obtain ⟨st_58, g, hE⟩ := hE
  refine a_putFV X Y k_X2 38 g (by decide) rfl hnm rfl (nr_a (some st_56.1)) (fr_a (some st_56.1)) q1841 dX2_init_254 (fun H locs Y => ?_)
  refine lv_aload_n hx hb dX2_init_257 rfl (lv_at hl 0 rfl) ?_
  refine lv_iconst (v := 3) hx hb dX2_init_258 (by decide) ?_
  replace hE := e_bind hE
  obtain ⟨st_59, g, hE⟩ := hE
  have M9 := (mo_s (fun _ => le_pF) fun _ => (mo_s (fun _ => le_nA) fun _ => (mo_s (fun _ => le_pF) fun _ => (mo_s (fun _ => le_nA) fun _ => (mo_s (fun _ => le_pF) fun _ => (mo_s (fun _ => le_nA) fun _ => (mo_s (fun _ => le_pF) fun _ => (mo_s (fun _ => le_nA) fun _ => (mo_s (fun _ => le_pF) fun _ => (mo_s (fun _ => le_nA) fun _ => (mo_s (fun _ => le_pF) fun _ => mo_ret))))))))))) _ hE
  refine a_newa (atype := .int) X Y g (by decide) rfl (fun _ => rfl) (by decide) q290 (aRoom1 Y h1 (le_nA1 g) M9) (aRoom2 Y h2 (le_nA2 g) M9) dX2_init_259 (fun H Y => ?_)
  generalize kc + 1 = kc at Y ⊢
  generalize ks + Int32.toNatClampNeg (3 : Int32) = ks at Y ⊢
  replace hE := e_bind hE
  obtain ⟨st_60, g, hE⟩ := hE
  refine a_putFV X Y k_X2 39 g (by decide) rfl hnm rfl (nr_a (some st_58.1)) (fr_a (some st_58.1)) q1842 dX2_init_261 (fun H locs Y => ?_)
  refine lv_aload_n hx hb dX2_init_264 rfl (lv_at hl 0 rfl) ?_
  refine lv_bipush (v := 8) hx hb dX2_init_265 (by decide) ?_
  replace hE := e_bind hE
  obtain ⟨st_61, g, hE⟩ := hE
  have M9 := (mo_s (fun _ => le_pF) fun _ => (mo_s (fun _ => le_nA) fun _ => (mo_s (fun _ => le_pF) fun _ => (mo_s (fun _ => le_nA) fun _ => (mo_s (fun _ => le_pF) fun _ => (mo_s (fun _ => le_nA) fun _ => (mo_s (fun _ => le_pF) fun _ => (mo_s (fun _ => le_nA) fun _ => (mo_s (fun _ => le_pF) fun _ => mo_ret))))))))) _ hE
  refine a_newa (atype := .int) X Y g (by decide) rfl (fun _ => rfl) (by decide) q290 (aRoom1 Y h1 (le_nA1 g) M9) (aRoom2 Y h2 (le_nA2 g) M9) dX2_init_267 (fun H Y => ?_)
  generalize kc + 1 = kc at Y ⊢
  generalize ks + Int32.toNatClampNeg (8 : Int32) = ks at Y ⊢
  replace hE := e_bind hE
  obtain ⟨st_62, g, hE⟩ := hE
  refine a_putFV X Y k_X2 40 g (by decide) rfl hnm rfl (nr_a (some st_60.1)) (fr_a (some st_60.1)) q1843 dX2_init_269 (fun H locs Y => ?_)
  refine lv_aload_n hx hb dX2_init_272 rfl (lv_at hl 0 rfl) ?_
  refine lv_bipush (v := 6) hx hb dX2_init_273 (by decide) ?_
  replace hE := e_bind hE
  obtain ⟨st_63, g, hE⟩ := hE
  have M9 := (mo_s (fun _ => le_pF) fun _ => (mo_s (fun _ => le_nA) fun _ => (mo_s (fun _ => le_pF) fun _ => (mo_s (fun _ => le_nA) fun _ => (mo_s (fun _ => le_pF) fun _ => (mo_s (fun _ => le_nA) fun _ => (mo_s (fun _ => le_pF) fun _ => mo_ret))))))) _ hE
  refine a_newa (atype := .int) X Y g (by decide) rfl (fun _ => rfl) (by decide) q290 (aRoom1 Y h1 (le_nA1 g) M9) (aRoom2 Y h2 (le_nA2 g) M9) dX2_init_275 (fun H Y => ?_)
  generalize kc + 1 = kc at Y ⊢
  generalize ks + Int32.toNatClampNeg (6 : Int32) = ks at Y ⊢
  replace hE := e_bind hE
  obtain ⟨st_64, g, hE⟩ := hE
  refine a_putFV X Y k_X2 41 g (by decide) rfl hnm rfl (nr_a (some st_62.1)) (fr_a (some st_62.1)) q1844 dX2_init_277 (fun H locs Y => ?_)
  refine lv_aload_n hx hb dX2_init_280 rfl (lv_at hl 0 rfl) ?_
  refine lv_bipush (v := 6) hx hb dX2_init_281 (by decide) ?_
  replace hE := e_bind hE
  obtain ⟨st_65, g, hE⟩ := hE
  have M9 := (mo_s (fun _ => le_pF) fun _ => (mo_s (fun _ => le_nA) fun _ => (mo_s (fun _ => le_pF) fun _ => (mo_s (fun _ => le_nA) fun _ => (mo_s (fun _ => le_pF) fun _ => mo_ret))))) _ hE
  refine a_newa (atype := .int) X Y g (by decide) rfl (fun _ => rfl) (by decide) q290 (aRoom1 Y h1 (le_nA1 g) M9) (aRoom2 Y h2 (le_nA2 g) M9) dX2_init_283 (fun H Y => ?_)
  generalize kc + 1 = kc at Y ⊢
  generalize ks + Int32.toNatClampNeg (6 : Int32) = ks at Y ⊢
  replace hE := e_bind hE
  obtain ⟨st_66, g, hE⟩ := hE
  refine a_putFV X Y k_X2 42 g (by decide) rfl hnm rfl (nr_a (some st_64.1)) (fr_a (some st_64.1)) q1845 dX2_init_285 (fun H locs Y => ?_)
  refine lv_aload_n hx hb dX2_init_288 rfl (lv_at hl 0 rfl) ?_
  refine lv_iconst (v := 4) hx hb dX2_init_289 (by decide) ?_
  replace hE := e_bind hE
  obtain ⟨st_67, g, hE⟩ := hE
  have M9 := (mo_s (fun _ => le_pF) fun _ => (mo_s (fun _ => le_nA) fun _ => (mo_s (fun _ => le_pF) fun _ => mo_ret))) _ hE
  refine a_newa (atype := .int) X Y g (by decide) rfl (fun _ => rfl) (by decide) q290 (aRoom1 Y h1 (le_nA1 g) M9) (aRoom2 Y h2 (le_nA2 g) M9) dX2_init_290 (fun H Y => ?_)
  generalize kc + 1 = kc at Y ⊢
  generalize ks + Int32.toNatClampNeg (4 : Int32) = ks at Y ⊢
  replace hE := e_bind hE
  obtain ⟨st_68, g, hE⟩ := hE
  refine a_putFV X Y k_X2 43 g (by decide) rfl hnm rfl (nr_a (some st_66.1)) (fr_a (some st_66.1)) q1846 dX2_init_292 (fun H locs Y => ?_)
  refine lv_aload_n hx hb dX2_init_295 rfl (lv_at hl 0 rfl) ?_
  refine lv_iconst (v := 4) hx hb dX2_init_296 (by decide) ?_
  replace hE := e_bind hE
  obtain ⟨st_69, g, hE⟩ := hE
  have M9 := (mo_s (fun _ => le_pF) fun _ => mo_ret) _ hE
  refine a_newa (atype := .int) X Y g (by decide) rfl (fun _ => rfl) (by decide) q290 (aRoom1 Y h1 (le_nA1 g) M9) (aRoom2 Y h2 (le_nA2 g) M9) dX2_init_297 (fun H Y => ?_)
  generalize kc + 1 = kc at Y ⊢
  generalize ks + Int32.toNatClampNeg (4 : Int32) = ks at Y ⊢
  replace hE := e_bind hE
  obtain ⟨st_70, g, hE⟩ := hE
  refine a_putFV X Y k_X2 44 g (by decide) rfl hnm rfl (nr_a (some st_68.1)) (fr_a (some st_68.1)) q1847 dX2_init_299 (fun H locs Y => ?_)
  cases hE
  exact a_vret X Y h1 h2 hr dX2_init_302
/-! BasicMachineLaw.type(LBasicMachine;I[J)I -/
set_option maxHeartbeats 4000000 in
set_option maxRecDepth 100000 in
theorem maf_X0_type {l : Launch} (hl0 : l.stackTraces = false) (n : Nat) {x : aP} {st : aS} {p0 : Option Nat} {p1 : Int32} {p2 : Option Nat} {q : aS × (Int32)} (hE : af_X0_type n x.sK st p0 p1 p2 = some q) : aMet l yX0_type (wsW_ yX0_type cX0_type 4 (some .int) [(0, 9, 12, 13), (0, 9, 15, 15)]) 7 111 x [va_rf p0, .int p1, va_rf p2] st (.inl (some (.int q.2))) q.1 := by
  refine a_ofWH (own := "BasicMachineLaw") hl0 (by decide) rfl (by simp only [lg_sl, List.flatMap_cons, List.flatMap_nil, va_rf_cat]; exact Nat.le_of_ble_eq_true rfl) (fun mc ms p e s m below meth c ls H locs kc ks h1 h2 X hex Y hr hnm hl => ?_)
  have hnm : "type" = meth.name := hnm
  have hl : lv_has ls 4 [(0, va_rf p0), (1, .int p1), (2, va_rf p2)] := by simp only [lv_args, va_rf_cat] at hl; exact hl
  have hx := X.1
  have hb := X.2.1
  have hown := X.2.2.2.1
  have hts := X.2.2.2.2.1
  have hK := X.2.2.2.2.2.1
  have hl0 := X.2.2.2.2.2.2.2.2
  unfold af_X0_type at hE
  refine r_aload_n hx hb dX0_type_0 rfl (lv_at hl 2 rfl) ?_
  refine lv_iconst (v := 0) hx hb dX0_type_1 (by decide) ?_
  refine r_aload_n hx hb dX0_type_2 rfl (lv_at hl 0 rfl) ?_
  refine lv_iload_n hx hb dX0_type_3 rfl (lv_at hl 1 rfl) ?_
  replace hE := e_bind hE
  obtain ⟨a_1, g, hE⟩ := hE
  subst g
  replace hE := e_bind hE
  obtain ⟨u_4, g, hE⟩ := hE
  obtain ⟨fs9, g9⟩ := i_gC g
  have g7 := a_recv X Y k_X1.1 g9
  replace hE := e_xc hE
  rcases hE with ⟨st_2, v_3, g, hE⟩ | ⟨st_2, k9, g, hE⟩
  rotate_left
  · skip
    by_cases c_5 : k9 = 0
    · subst c_5
      replace hE := e_t rfl hE
      have M9 := mo_ret _ hE
      refine a_callV (n := 1) (C := "BasicMachine") (σ1 := st_2) (σf := q.1) [.int p1] X Y (maf_X1_type hl0 n g) ⟨oaf_X1_type _ g, M9, h1, h2, (by show _ ≤ 7; decide), (by show _ ≤ 111; decide)⟩ q316 q317 q318 q122 q319 (by decide +kernel) g7 rfl hl.1 (by simp only [List.map_cons, List.map_nil, va_rf_cat]; exact Nat.le_of_ble_eq_true rfl) dX0_type_4 (fun v hv => by cases hv) (fun k hk H locs kc ks q9 ce Y e1 e2 e3 => ?_)
      cases hk
      refine a_catch (E := "java/lang/IllegalArgumentException") X [] ⟨0, 9, 12, 13⟩ [⟨0, 9, 15, 15⟩] hex (fun _ h => nomatch h) (by decide) (by decide) q314 (by decide) e1 e2 e3 ?_
      show W _ _ _ _ _ _ _ _ _ _ _ _ _ _ _ (F0 m 12 ls [.ref q9])
      refine lv_astore_n (i := 3) (lv' := [(3, .ref q9), (0, .ref a_1), (1, .int p1), (2, va_rf p2)]) hx hb dX0_type_12 rfl hl (by decide) (by cases p2 <;> rfl) (fun ls hl => ?_)
      refine lv_iconst (v := 1) hx hb dX0_type_13 (by decide) ?_
      cases hE
      exact a_iret X Y h1 h2 hr dX0_type_14
    replace hE := e_f c_5 hE
    by_cases c_6 : k9 = 1
    · subst c_6
      replace hE := e_t rfl hE
      have M9 := mo_ret _ hE
      refine a_callV (n := 1) (C := "BasicMachine") (σ1 := st_2) (σf := q.1) [.int p1] X Y (maf_X1_type hl0 n g) ⟨oaf_X1_type _ g, M9, h1, h2, (by show _ ≤ 7; decide), (by show _ ≤ 111; decide)⟩ q316 q317 q318 q122 q319 (by decide +kernel) g7 rfl hl.1 (by simp only [List.map_cons, List.map_nil, va_rf_cat]; exact Nat.le_of_ble_eq_true rfl) dX0_type_4 (fun v hv => by cases hv) (fun k hk H locs kc ks q9 ce Y e1 e2 e3 => ?_)
      cases hk
      refine a_catch (E := "java/lang/IllegalStateException") X [⟨0, 9, 12, 13⟩] ⟨0, 9, 15, 15⟩ [] hex (List.forall_mem_cons.mpr ⟨⟨by decide, "java/lang/IllegalArgumentException", q314, by decide⟩, fun _ h => nomatch h⟩) (by decide) (by decide) q315 (by decide) e1 e2 e3 ?_
      show W _ _ _ _ _ _ _ _ _ _ _ _ _ _ _ (F0 m 15 ls [.ref q9])
      refine lv_astore_n (i := 3) (lv' := [(3, .ref q9), (0, .ref a_1), (1, .int p1), (2, va_rf p2)]) hx hb dX0_type_15 rfl hl (by decide) (by cases p2 <;> rfl) (fun ls hl => ?_)
      refine lv_iconst (v := 2) hx hb dX0_type_16 (by decide) ?_
      cases hE
      exact a_iret X Y h1 h2 hr dX0_type_17
    replace hE := e_f c_6 hE
    cases hE
  have M9 := (mo_v fun _ => (mo_s (fun _ => le_wL) fun _ => mo_ret)) _ hE
  refine a_callV (n := 1) (C := "BasicMachine") (σ1 := st_2) (σf := q.1) [.int p1] X Y (maf_X1_type hl0 n g) ⟨oaf_X1_type _ g, M9, h1, h2, (by show _ ≤ 7; decide), (by show _ ≤ 111; decide)⟩ q316 q317 q318 q122 q319 (by decide +kernel) g7 rfl hl.1 (by simp only [List.map_cons, List.map_nil, va_rf_cat]; exact Nat.le_of_ble_eq_true rfl) dX0_type_4 (fun v hv H locs kc ks Y => ?_) (fun k hk => by cases hk)
  cases hv
  refine lv_i2l hx hb dX0_type_7 rfl ?_
  replace hE := e_bind hE
  obtain ⟨a_7, g, hE⟩ := hE
  subst g
  replace hE := e_bind hE
  obtain ⟨st_8, g, hE⟩ := hE
  refine a_last X Y g dX0_type_8 (fun H locs Y => ?_)
  refine lv_goto (tgt := 18) hx hb dX0_type_9 (by decide) ?_
  refine lv_iconst (v := 0) hx hb dX0_type_18 (by decide) ?_
  cases hE
  exact a_iret X Y h1 h2 hr dX0_type_19

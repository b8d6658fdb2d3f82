/-! contracts of the model (printed by genb.py) -/
/-! BasicMachineModel.def()V -/
set_option maxHeartbeats 4000000 in
set_option maxRecDepth 100000 in
theorem wbf_def_L51 {l : Launch} {b : bP} {As : List Value} {p : Program} {e : Env} {s : State} {m : MethodId} {below : List Frame} {meth : Method} {c : Code} (X : bX p s m (Value.ref b.h :: As).toArray c cX2_def 2 b) (hr : meth.sig.returnType = none) (hk : meth.locks = false) {n : Nat} {st : bS} {x1 : Int32} {q : bS × Unit} (hE : bf_def_L51 n st x1 = some q) {H : Heap} {locs : List Loc} {ls : Array Slot} (Y : bY b s st H locs) (hl : lv_has ls 2 [(0, .ref b.h), (1, .int x1)]) : bG l 5 131 b As none q.1 p e s m below meth c H locs (F0 m 51 ls []) := by
  have hx := X.1
  have hb := X.2.1
  have hown := X.2.2.2.1
  have hts := X.2.2.2.2.1
  unfold bf_def_L51 at hE
  refine lv_aload_n hx hb dX2_def_51 rfl (lv_at hl 0 rfl) ?_
  refine lv_iconst (v := 0) hx hb dX2_def_52 (by decide) ?_
  refine lv_iload_n hx hb dX2_def_53 rfl (lv_at hl 1 rfl) ?_
  refine lv_bipush (v := 65) hx hb dX2_def_54 (by decide) ?_
  refine lv_isub hx hb dX2_def_56 ?_
  obtain ⟨q_1, g, hE⟩ := e_bind hE
  refine n_call0 (n := 2) [.int (0 : Int32), .int (x1 - (65 : Int32))] X Y (mbf_setArg l n b X.2.2.2.2.2.2 g) q2036 q2038 qs66 q2039 (by decide +kernel) (by decide) rfl hl.1 (Nat.le_of_ble_eq_true rfl) dX2_def_57 (by decide) (fun H locs Y => ?_)
  refine lv_aload_n hx hb dX2_def_60 rfl (lv_at hl 0 rfl) ?_
  refine lv_bipush (v := 40) hx hb dX2_def_61 (by decide) ?_
  obtain ⟨q_2, g, hE⟩ := e_bind hE
  refine n_call0 (n := 1) [.int (40 : Int32)] X Y (mbf_need l n b X.2.2.2.2.2.2 g) q2048 q2050 qs69 q2051 (by decide +kernel) (by decide) rfl hl.1 (Nat.le_of_ble_eq_true rfl) dX2_def_63 (by decide) (fun H locs Y => ?_)
  refine lv_aload_n hx hb dX2_def_66 rfl (lv_at hl 0 rfl) ?_
  refine lv_iconst (v := 1) hx hb dX2_def_67 (by decide) ?_
  refine lv_aload_n hx hb dX2_def_68 rfl (lv_at hl 0 rfl) ?_
  obtain ⟨q_3, g, hE⟩ := e_bind hE
  refine n_call1 (n := 0) [] X Y (mbf_variable l n b X.2.2.2.2.2.2 g) q2032 q2034 qs65 q2035 (by decide +kernel) (by decide) rfl hl.1 (Nat.le_of_ble_eq_true rfl) dX2_def_69 (by decide) (fun H locs Y => ?_)
  obtain ⟨q_4, g, hE⟩ := e_bind hE
  refine n_call0 (n := 2) [.int (1 : Int32), .int q_3.2] X Y (mbf_setArg l n b X.2.2.2.2.2.2 g) q2036 q2038 qs66 q2039 (by decide +kernel) (by decide) rfl hl.1 (Nat.le_of_ble_eq_true rfl) dX2_def_72 (by decide) (fun H locs Y => ?_)
  refine lv_aload_n hx hb dX2_def_75 rfl (lv_at hl 0 rfl) ?_
  refine lv_bipush (v := 41) hx hb dX2_def_76 (by decide) ?_
  obtain ⟨q_5, g, hE⟩ := e_bind hE
  refine n_call0 (n := 1) [.int (41 : Int32)] X Y (mbf_need l n b X.2.2.2.2.2.2 g) q2048 q2050 qs69 q2051 (by decide +kernel) (by decide) rfl hl.1 (Nat.le_of_ble_eq_true rfl) dX2_def_78 (by decide) (fun H locs Y => ?_)
  refine lv_aload_n hx hb dX2_def_81 rfl (lv_at hl 0 rfl) ?_
  refine lv_bipush (v := 61) hx hb dX2_def_82 (by decide) ?_
  obtain ⟨q_6, g, hE⟩ := e_bind hE
  refine n_call0 (n := 1) [.int (61 : Int32)] X Y (mbf_need l n b X.2.2.2.2.2.2 g) q2048 q2050 qs69 q2051 (by decide +kernel) (by decide) rfl hl.1 (Nat.le_of_ble_eq_true rfl) dX2_def_84 (by decide) (fun H locs Y => ?_)
  refine lv_aload_n hx hb dX2_def_87 rfl (lv_at hl 0 rfl) ?_
  refine lv_iconst (v := 0) hx hb dX2_def_88 (by decide) ?_
  refine lv_aload_n hx hb dX2_def_89 rfl (lv_at hl 0 rfl) ?_
  refine lv_iconst (v := 0) hx hb dX2_def_90 (by decide) ?_
  obtain ⟨q_7, g, hE⟩ := e_bind hE
  refine n_call1 (n := 1) [.int (0 : Int32)] X Y (mbf_expression l n b X.2.2.2.2.2.2 g) q2056 q2058 qs71 q2059 (by decide +kernel) (by decide) rfl hl.1 (Nat.le_of_ble_eq_true rfl) dX2_def_91 (by decide) (fun H locs Y => ?_)
  obtain ⟨q_8, g, hE⟩ := e_bind hE
  refine n_call0 (n := 2) [.int (0 : Int32), .int q_7.2] X Y (mbf_setExpr l n b X.2.2.2.2.2.2 g) q2088 q2090 qs79 q2091 (by decide +kernel) (by decide) rfl hl.1 (Nat.le_of_ble_eq_true rfl) dX2_def_94 (by decide) (fun H locs Y => ?_)
  cases hE
  exact b_vret X Y hr hk dX2_def_97
set_option maxHeartbeats 4000000 in
set_option maxRecDepth 100000 in
theorem wbf_def_L26 {l : Launch} {b : bP} {As : List Value} {p : Program} {e : Env} {s : State} {m : MethodId} {below : List Frame} {meth : Method} {c : Code} (X : bX p s m (Value.ref b.h :: As).toArray c cX2_def 2 b) (hr : meth.sig.returnType = none) (hk : meth.locks = false) {n : Nat} {st : bS} {x1 : Int32} {q : bS × Unit} (hE : bf_def_L26 n st x1 = some q) {H : Heap} {locs : List Loc} {ls : Array Slot} (Y : bY b s st H locs) (hl : lv_has ls 2 [(0, .ref b.h), (1, .int x1)]) : bG l 5 131 b As none q.1 p e s m below meth c H locs (F0 m 26 ls []) := by
  have hx := X.1
  have hb := X.2.1
  have hown := X.2.2.2.1
  have hts := X.2.2.2.2.1
  unfold bf_def_L26 at hE
  refine lv_aload_n hx hb dX2_def_26 rfl (lv_at hl 0 rfl) ?_
  refine lv_iconst (v := 1) hx hb dX2_def_27 (by decide) ?_
  obtain ⟨st_1, g, hE⟩ := e_bind hE
  refine n_put X Y 7 rfl (by decide) g rfl rfl rfl q1810 dX2_def_28 (fun H locs Y => ?_)
  refine lv_goto (tgt := 51) hx hb dX2_def_31 (by decide) ?_
  exact wbf_def_L51 X hr hk hE Y (lv_sub hl [0, 1] rfl)
set_option maxHeartbeats 4000000 in
set_option maxRecDepth 100000 in
theorem mbf_def (l : Launch) (n : Nat) (b : bP) (ok : bOk b) {st : bS} {q : bS × Unit} (hE : bf_def n st = some q) : bMet l yX2_def cX2_def 2 none 5 131 b [] st none q.1 := by
  refine b_ofW (by decide) rfl ok (Nat.le_of_ble_eq_true rfl) (fun p e s m below meth c ls X Y hr hk hl => ?_)
  have hl : lv_has ls 2 [(0, .ref b.h)] := hl
  generalize s.heap = H at Y ⊢
  generalize ([] : List Loc) = locs at Y ⊢
  have hx := X.1
  have hb := X.2.1
  have hown := X.2.2.2.1
  have hts := X.2.2.2.2.1
  unfold bf_def at hE
  refine lv_aload_n hx hb dX2_def_0 rfl (lv_at hl 0 rfl) ?_
  refine lv_bipush (v := 27) hx hb dX2_def_1 (by decide) ?_
  refine lv_bipush (v := 27) hx hb dX2_def_3 (by decide) ?_
  obtain ⟨q_1, g, hE⟩ := e_bind hE
  refine n_call1 (n := 2) [.int (27 : Int32), .int (27 : Int32)] X Y (mbf_takeWord l n b X.2.2.2.2.2.2 g) q1975 q1977 qs58 q1978 (by decide +kernel) (by decide) rfl hl.1 (Nat.le_of_ble_eq_true rfl) dX2_def_5 (by decide) (fun H locs Y => ?_)
  refine lv_pop hx hb dX2_def_8 rfl ?_
  refine lv_aload_n hx hb dX2_def_9 rfl (lv_at hl 0 rfl) ?_
  obtain ⟨q_2, g, hE⟩ := e_bind hE
  refine n_call1 (n := 0) [] X Y (mbf_look l n b X.2.2.2.2.2.2 g) q1967 q1969 qs56 q1970 (by decide +kernel) (by decide) rfl hl.1 (Nat.le_of_ble_eq_true rfl) dX2_def_10 (by decide) (fun H locs Y => ?_)
  refine lv_istore_n (lv' := [(1, .int q_2.2), (0, .ref b.h)]) hx hb dX2_def_13 rfl hl (by decide) rfl (fun ls hl => ?_)
  refine lv_iload_n hx hb dX2_def_14 rfl (lv_at hl 0 rfl) ?_
  refine lv_bipush (v := 65) hx hb dX2_def_15 (by decide) ?_
  refine lv_icmp_lt (tgt := 26) hx hb dX2_def_17 (by decide) (fun c_3 => ?_) (fun c_3 => ?_)
  · replace hE := e_t c_3 hE
    exact wbf_def_L26 X hr hk hE Y (lv_sub hl [1, 0] rfl)
  · replace hE := e_f c_3 hE
    refine lv_iload_n hx hb dX2_def_20 rfl (lv_at hl 0 rfl) ?_
    refine lv_bipush (v := 67) hx hb dX2_def_21 (by decide) ?_
    refine lv_icmp_le (tgt := 34) hx hb dX2_def_23 (by decide) (fun c_4 => ?_) (fun c_4 => ?_)
    · replace hE := e_t c_4 hE
      refine lv_aload_n hx hb dX2_def_34 rfl (lv_at hl 1 rfl) ?_
      refine b_geti X Y 7 rfl (by decide) rfl q1810 dX2_def_35 ?_
      refine lv_if_ne (tgt := 51) hx hb dX2_def_38 (by decide) (fun c_5 => ?_) (fun c_5 => ?_)
      · replace hE := e_f c_5 hE
        exact wbf_def_L51 X hr hk hE Y (lv_sub hl [1, 0] rfl)
      · replace hE := e_t c_5 hE
        refine lv_aload_n hx hb dX2_def_41 rfl (lv_at hl 1 rfl) ?_
        refine lv_dup hx hb dX2_def_42 rfl ?_
        refine b_geti X Y 4 rfl (by decide) rfl q1807 dX2_def_43 ?_
        refine lv_iconst (v := 1) hx hb dX2_def_46 (by decide) ?_
        refine lv_iadd hx hb dX2_def_47 ?_
        obtain ⟨st_6, g, hE⟩ := e_bind hE
        refine n_put X Y 4 rfl (by decide) g rfl rfl rfl q1807 dX2_def_48 (fun H locs Y => ?_)
        exact wbf_def_L51 X hr hk hE Y (lv_sub hl [1, 0] rfl)
    · replace hE := e_f c_4 hE
      exact wbf_def_L26 X hr hk hE Y (lv_sub hl [1, 0] rfl)
/-! BasicMachineModel.mat()V -/
set_option maxHeartbeats 4000000 in
set_option maxRecDepth 100000 in
theorem wbf_mat_L138 {l : Launch} {b : bP} {As : List Value} {p : Program} {e : Env} {s : State} {m : MethodId} {below : List Frame} {meth : Method} {c : Code} (X : bX p s m (Value.ref b.h :: As).toArray c cX2_mat 2 b) (hr : meth.sig.returnType = none) (hk : meth.locks = false) {n : Nat} {st : bS} {z138_1 : Int32} {z138_2 : Int32} {q : bS × Unit} (hE : bf_mat_L138 n st z138_1 z138_2 = some q) {H : Heap} {locs : List Loc} {ls : Array Slot} (Y : bY b s st H locs) (hl : lv_has ls 2 [(0, .ref b.h)]) : bG l 5 131 b As none q.1 p e s m below meth c H locs (F0 m 138 ls [.int z138_2, .int z138_1, .ref b.h]) := by
  have hx := X.1
  have hb := X.2.1
  have hown := X.2.2.2.1
  have hts := X.2.2.2.2.1
  unfold bf_mat_L138 at hE
  obtain ⟨q_1, g, hE⟩ := e_bind hE
  refine n_call0 (n := 2) [.int z138_1, .int z138_2] X Y (mbf_setArg l n b X.2.2.2.2.2.2 g) q2036 q2038 qs66 q2039 (by decide +kernel) (by decide) rfl hl.1 (Nat.le_of_ble_eq_true rfl) dX2_mat_138 (by decide) (fun H locs Y => ?_)
  refine lv_aload_n hx hb dX2_mat_141 rfl (lv_at hl 0 rfl) ?_
  refine b_geta X Y 12 (by decide) (by decide) q1815 dX2_mat_142 ?_
  refine lv_sipush (v := 193) hx hb dX2_mat_145 (by decide) ?_
  obtain ⟨v_2, g, hE⟩ := e_bind hE
  refine n_iald X Y 4 12 rfl rfl g dX2_mat_148 ?_
  refine lv_iconst (v := 5) hx hb dX2_mat_149 (by decide) ?_
  refine lv_icmp_le (tgt := 215) hx hb dX2_mat_150 (by decide) (fun c_3 => ?_) (fun c_3 => ?_)
  · replace hE := e_t c_3 hE
    cases hE
    exact b_vret X Y hr hk dX2_mat_215
  · replace hE := e_f c_3 hE
    refine lv_aload_n hx hb dX2_mat_153 rfl (lv_at hl 0 rfl) ?_
    refine lv_iconst (v := 3) hx hb dX2_mat_154 (by decide) ?_
    refine lv_aload_n hx hb dX2_mat_155 rfl (lv_at hl 0 rfl) ?_
    obtain ⟨q_4, g, hE⟩ := e_bind hE
    refine n_call1 (n := 0) [] X Y (mbf_matrix l n b X.2.2.2.2.2.2 g) q2040 q2042 qs67 q2043 (by decide +kernel) (by decide) rfl hl.1 (Nat.le_of_ble_eq_true rfl) dX2_mat_156 (by decide) (fun H locs Y => ?_)
    obtain ⟨q_5, g, hE⟩ := e_bind hE
    refine n_call0 (n := 2) [.int (3 : Int32), .int q_4.2] X Y (mbf_setArg l n b X.2.2.2.2.2.2 g) q2036 q2038 qs66 q2039 (by decide +kernel) (by decide) rfl hl.1 (Nat.le_of_ble_eq_true rfl) dX2_mat_159 (by decide) (fun H locs Y => ?_)
    refine lv_goto (tgt := 215) hx hb dX2_mat_162 (by decide) ?_
    cases hE
    exact b_vret X Y hr hk dX2_mat_215
set_option maxHeartbeats 4000000 in
set_option maxRecDepth 100000 in
theorem mbf_mat (l : Launch) (n : Nat) (b : bP) (ok : bOk b) {st : bS} {q : bS × Unit} (hE : bf_mat n st = some q) : bMet l yX2_mat cX2_mat 2 none 5 131 b [] st none q.1 := by
  refine b_ofW (by decide) rfl ok (Nat.le_of_ble_eq_true rfl) (fun p e s m below meth c ls X Y hr hk hl => ?_)
  have hl : lv_has ls 2 [(0, .ref b.h)] := hl
  generalize s.heap = H at Y ⊢
  generalize ([] : List Loc) = locs at Y ⊢
  have hx := X.1
  have hb := X.2.1
  have hown := X.2.2.2.1
  have hts := X.2.2.2.2.1
  unfold bf_mat at hE
  refine lv_aload_n hx hb dX2_mat_0 rfl (lv_at hl 0 rfl) ?_
  refine lv_iconst (v := 0) hx hb dX2_mat_1 (by decide) ?_
  refine lv_aload_n hx hb dX2_mat_2 rfl (lv_at hl 0 rfl) ?_
  obtain ⟨q_1, g, hE⟩ := e_bind hE
  refine n_call1 (n := 0) [] X Y (mbf_matrix l n b X.2.2.2.2.2.2 g) q2040 q2042 qs67 q2043 (by decide +kernel) (by decide) rfl hl.1 (Nat.le_of_ble_eq_true rfl) dX2_mat_3 (by decide) (fun H locs Y => ?_)
  obtain ⟨q_2, g, hE⟩ := e_bind hE
  refine n_call0 (n := 2) [.int (0 : Int32), .int q_1.2] X Y (mbf_setArg l n b X.2.2.2.2.2.2 g) q2036 q2038 qs66 q2039 (by decide +kernel) (by decide) rfl hl.1 (Nat.le_of_ble_eq_true rfl) dX2_mat_6 (by decide) (fun H locs Y => ?_)
  refine lv_aload_n hx hb dX2_mat_9 rfl (lv_at hl 0 rfl) ?_
  refine lv_bipush (v := 61) hx hb dX2_mat_10 (by decide) ?_
  obtain ⟨q_3, g, hE⟩ := e_bind hE
  refine n_call0 (n := 1) [.int (61 : Int32)] X Y (mbf_need l n b X.2.2.2.2.2.2 g) q2048 q2050 qs69 q2051 (by decide +kernel) (by decide) rfl hl.1 (Nat.le_of_ble_eq_true rfl) dX2_mat_12 (by decide) (fun H locs Y => ?_)
  refine lv_aload_n hx hb dX2_mat_15 rfl (lv_at hl 0 rfl) ?_
  obtain ⟨q_4, g, hE⟩ := e_bind hE
  refine n_call1 (n := 0) [] X Y (mbf_look l n b X.2.2.2.2.2.2 g) q1967 q1969 qs56 q1970 (by decide +kernel) (by decide) rfl hl.1 (Nat.le_of_ble_eq_true rfl) dX2_mat_16 (by decide) (fun H locs Y => ?_)
  refine lv_istore_n (lv' := [(1, .int q_4.2), (0, .ref b.h)]) hx hb dX2_mat_19 rfl hl (by decide) rfl (fun ls hl => ?_)
  refine lv_aload_n hx hb dX2_mat_20 rfl (lv_at hl 1 rfl) ?_
  refine b_geti X Y 7 rfl (by decide) rfl q1810 dX2_mat_21 ?_
  refine lv_if_eq (tgt := 28) hx hb dX2_mat_24 (by decide) (fun c_5 => ?_) (fun c_5 => ?_)
  · replace hE := e_t c_5 hE
    refine lv_iload_n hx hb dX2_mat_28 rfl (lv_at hl 0 rfl) ?_
    refine lv_bipush (v := 40) hx hb dX2_mat_29 (by decide) ?_
    refine lv_icmp_ne (tgt := 76) hx hb dX2_mat_31 (by decide) (fun c_6 => ?_) (fun c_6 => ?_)
    · replace hE := e_f c_6 hE
      refine lv_aload_n hx hb dX2_mat_76 rfl (lv_at hl 1 rfl) ?_
      refine lv_iload_n hx hb dX2_mat_77 rfl (lv_at hl 0 rfl) ?_
      obtain ⟨q_7, g, hE⟩ := e_bind hE
      refine n_call1 (n := 1) [.int q_4.2] X Y (mbf_isMatrix l n b X.2.2.2.2.2.2 g) q2028 q2030 qs64 q2031 (by decide +kernel) (by decide) rfl hl.1 (Nat.le_of_ble_eq_true rfl) dX2_mat_78 (by decide) (fun H locs Y => ?_)
      refine lv_if_eq (tgt := 165) hx hb dX2_mat_81 (by decide) (fun c_8 => ?_) (fun c_8 => ?_)
      · replace hE := e_t c_8 hE
        refine lv_aload_n hx hb dX2_mat_165 rfl (lv_at hl 1 rfl) ?_
        refine lv_iconst (v := 1) hx hb dX2_mat_166 (by decide) ?_
        refine lv_aload_n hx hb dX2_mat_167 rfl (lv_at hl 1 rfl) ?_
        refine lv_bipush (v := 20) hx hb dX2_mat_168 (by decide) ?_
        refine lv_bipush (v := 23) hx hb dX2_mat_170 (by decide) ?_
        obtain ⟨q_9, g, hE⟩ := e_bind hE
        refine n_call1 (n := 2) [.int (20 : Int32), .int (23 : Int32)] X Y (mbf_takeWord l n b X.2.2.2.2.2.2 g) q1975 q1977 qs58 q1978 (by decide +kernel) (by decide) rfl hl.1 (Nat.le_of_ble_eq_true rfl) dX2_mat_172 (by decide) (fun H locs Y => ?_)
        refine lv_bipush (v := 20) hx hb dX2_mat_175 (by decide) ?_
        refine lv_isub hx hb dX2_mat_177 ?_
        obtain ⟨q_10, g, hE⟩ := e_bind hE
        refine n_call0 (n := 2) [.int (1 : Int32), .int (q_9.2 - (20 : Int32))] X Y (mbf_setArg l n b X.2.2.2.2.2.2 g) q2036 q2038 qs66 q2039 (by decide +kernel) (by decide) rfl hl.1 (Nat.le_of_ble_eq_true rfl) dX2_mat_178 (by decide) (fun H locs Y => ?_)
        refine lv_aload_n hx hb dX2_mat_181 rfl (lv_at hl 1 rfl) ?_
        refine b_geta X Y 12 (by decide) (by decide) q1815 dX2_mat_182 ?_
        refine lv_sipush (v := 193) hx hb dX2_mat_185 (by decide) ?_
        obtain ⟨v_11, g, hE⟩ := e_bind hE
        refine n_iald X Y 4 12 rfl rfl g dX2_mat_188 ?_
        refine lv_iconst (v := 3) hx hb dX2_mat_189 (by decide) ?_
        refine lv_icmp_eq (tgt := 194) hx hb dX2_mat_190 (by decide) (fun c_12 => ?_) (fun c_12 => ?_)
        · replace hE := e_t c_12 hE
          refine lv_aload_n hx hb dX2_mat_194 rfl (lv_at hl 1 rfl) ?_
          refine lv_bipush (v := 40) hx hb dX2_mat_195 (by decide) ?_
          obtain ⟨q_13, g, hE⟩ := e_bind hE
          refine n_call0 (n := 1) [.int (40 : Int32)] X Y (mbf_need l n b X.2.2.2.2.2.2 g) q2048 q2050 qs69 q2051 (by decide +kernel) (by decide) rfl hl.1 (Nat.le_of_ble_eq_true rfl) dX2_mat_197 (by decide) (fun H locs Y => ?_)
          refine lv_aload_n hx hb dX2_mat_200 rfl (lv_at hl 1 rfl) ?_
          refine lv_iconst (v := 2) hx hb dX2_mat_201 (by decide) ?_
          refine lv_aload_n hx hb dX2_mat_202 rfl (lv_at hl 1 rfl) ?_
          obtain ⟨q_14, g, hE⟩ := e_bind hE
          refine n_call1 (n := 0) [] X Y (mbf_matrix l n b X.2.2.2.2.2.2 g) q2040 q2042 qs67 q2043 (by decide +kernel) (by decide) rfl hl.1 (Nat.le_of_ble_eq_true rfl) dX2_mat_203 (by decide) (fun H locs Y => ?_)
          obtain ⟨q_15, g, hE⟩ := e_bind hE
          refine n_call0 (n := 2) [.int (2 : Int32), .int q_14.2] X Y (mbf_setArg l n b X.2.2.2.2.2.2 g) q2036 q2038 qs66 q2039 (by decide +kernel) (by decide) rfl hl.1 (Nat.le_of_ble_eq_true rfl) dX2_mat_206 (by decide) (fun H locs Y => ?_)
          refine lv_aload_n hx hb dX2_mat_209 rfl (lv_at hl 1 rfl) ?_
          refine lv_bipush (v := 41) hx hb dX2_mat_210 (by decide) ?_
          obtain ⟨q_16, g, hE⟩ := e_bind hE
          refine n_call0 (n := 1) [.int (41 : Int32)] X Y (mbf_need l n b X.2.2.2.2.2.2 g) q2048 q2050 qs69 q2051 (by decide +kernel) (by decide) rfl hl.1 (Nat.le_of_ble_eq_true rfl) dX2_mat_212 (by decide) (fun H locs Y => ?_)
          cases hE
          exact b_vret X Y hr hk dX2_mat_215
        · replace hE := e_f c_12 hE
          cases hE
          exact b_vret X Y hr hk dX2_mat_193
      · replace hE := e_f c_8 hE
        refine lv_aload_n hx hb dX2_mat_84 rfl (lv_at hl 1 rfl) ?_
        refine lv_iconst (v := 2) hx hb dX2_mat_85 (by decide) ?_
        refine lv_aload_n hx hb dX2_mat_86 rfl (lv_at hl 1 rfl) ?_
        obtain ⟨q_17, g, hE⟩ := e_bind hE
        refine n_call1 (n := 0) [] X Y (mbf_matrix l n b X.2.2.2.2.2.2 g) q2040 q2042 qs67 q2043 (by decide +kernel) (by decide) rfl hl.1 (Nat.le_of_ble_eq_true rfl) dX2_mat_87 (by decide) (fun H locs Y => ?_)
        obtain ⟨q_18, g, hE⟩ := e_bind hE
        refine n_call0 (n := 2) [.int (2 : Int32), .int q_17.2] X Y (mbf_setArg l n b X.2.2.2.2.2.2 g) q2036 q2038 qs66 q2039 (by decide +kernel) (by decide) rfl hl.1 (Nat.le_of_ble_eq_true rfl) dX2_mat_90 (by decide) (fun H locs Y => ?_)
        refine lv_aload_n hx hb dX2_mat_93 rfl (lv_at hl 1 rfl) ?_
        refine lv_iconst (v := 1) hx hb dX2_mat_94 (by decide) ?_
        refine lv_aload_n hx hb dX2_mat_95 rfl (lv_at hl 1 rfl) ?_
        refine lv_bipush (v := 43) hx hb dX2_mat_96 (by decide) ?_
        obtain ⟨q_19, g, hE⟩ := e_bind hE
        refine n_call1 (n := 1) [.int (43 : Int32)] X Y (mbf_take l n b X.2.2.2.2.2.2 g) q2052 q2054 qs70 q2055 (by decide +kernel) (by decide) rfl hl.1 (Nat.le_of_ble_eq_true rfl) dX2_mat_98 (by decide) (fun H locs Y => ?_)
        refine lv_if_eq (tgt := 109) hx hb dX2_mat_101 (by decide) (fun c_20 => ?_) (fun c_20 => ?_)
        · replace hE := e_t c_20 hE
          refine lv_aload_n hx hb dX2_mat_109 rfl (lv_at hl 1 rfl) ?_
          refine lv_bipush (v := 45) hx hb dX2_mat_110 (by decide) ?_
          obtain ⟨q_21, g, hE⟩ := e_bind hE
          refine n_call1 (n := 1) [.int (45 : Int32)] X Y (mbf_take l n b X.2.2.2.2.2.2 g) q2052 q2054 qs70 q2055 (by decide +kernel) (by decide) rfl hl.1 (Nat.le_of_ble_eq_true rfl) dX2_mat_112 (by decide) (fun H locs Y => ?_)
          refine lv_if_eq (tgt := 123) hx hb dX2_mat_115 (by decide) (fun c_22 => ?_) (fun c_22 => ?_)
          · replace hE := e_t c_22 hE
            refine lv_aload_n hx hb dX2_mat_123 rfl (lv_at hl 1 rfl) ?_
            refine lv_bipush (v := 42) hx hb dX2_mat_124 (by decide) ?_
            obtain ⟨q_23, g, hE⟩ := e_bind hE
            refine n_call1 (n := 1) [.int (42 : Int32)] X Y (mbf_take l n b X.2.2.2.2.2.2 g) q2052 q2054 qs70 q2055 (by decide +kernel) (by decide) rfl hl.1 (Nat.le_of_ble_eq_true rfl) dX2_mat_126 (by decide) (fun H locs Y => ?_)
            refine lv_if_eq (tgt := 137) hx hb dX2_mat_129 (by decide) (fun c_24 => ?_) (fun c_24 => ?_)
            · replace hE := e_t c_24 hE
              refine lv_iconst (v := 5) hx hb dX2_mat_137 (by decide) ?_
              exact wbf_mat_L138 X hr hk hE Y (lv_sub hl [1] rfl)
            · replace hE := e_f c_24 hE
              refine lv_bipush (v := 8) hx hb dX2_mat_132 (by decide) ?_
              refine lv_goto (tgt := 138) hx hb dX2_mat_134 (by decide) ?_
              exact wbf_mat_L138 X hr hk hE Y (lv_sub hl [1] rfl)
          · replace hE := e_f c_22 hE
            refine lv_bipush (v := 7) hx hb dX2_mat_118 (by decide) ?_
            refine lv_goto (tgt := 138) hx hb dX2_mat_120 (by decide) ?_
            exact wbf_mat_L138 X hr hk hE Y (lv_sub hl [1] rfl)
        · replace hE := e_f c_20 hE
          refine lv_bipush (v := 6) hx hb dX2_mat_104 (by decide) ?_
          refine lv_goto (tgt := 138) hx hb dX2_mat_106 (by decide) ?_
          exact wbf_mat_L138 X hr hk hE Y (lv_sub hl [1] rfl)
    · replace hE := e_t c_6 hE
      refine lv_aload_n hx hb dX2_mat_34 rfl (lv_at hl 1 rfl) ?_
      obtain ⟨q_25, g, hE⟩ := e_bind hE
      refine n_call0 (n := 0) [] X Y (mbf_bracket l n b X.2.2.2.2.2.2 g) q2044 q2046 qs68 q2047 (by decide +kernel) (by decide) rfl hl.1 (Nat.le_of_ble_eq_true rfl) dX2_mat_35 (by decide) (fun H locs Y => ?_)
      refine lv_aload_n hx hb dX2_mat_38 rfl (lv_at hl 1 rfl) ?_
      refine lv_iconst (v := 0) hx hb dX2_mat_39 (by decide) ?_
      refine lv_aload_n hx hb dX2_mat_40 rfl (lv_at hl 1 rfl) ?_
      refine lv_iconst (v := 0) hx hb dX2_mat_41 (by decide) ?_
      obtain ⟨q_26, g, hE⟩ := e_bind hE
      refine n_call1 (n := 1) [.int (0 : Int32)] X Y (mbf_expression l n b X.2.2.2.2.2.2 g) q2056 q2058 qs71 q2059 (by decide +kernel) (by decide) rfl hl.1 (Nat.le_of_ble_eq_true rfl) dX2_mat_42 (by decide) (fun H locs Y => ?_)
      obtain ⟨q_27, g, hE⟩ := e_bind hE
      refine n_call0 (n := 2) [.int (0 : Int32), .int q_26.2] X Y (mbf_setExpr l n b X.2.2.2.2.2.2 g) q2088 q2090 qs79 q2091 (by decide +kernel) (by decide) rfl hl.1 (Nat.le_of_ble_eq_true rfl) dX2_mat_45 (by decide) (fun H locs Y => ?_)
      refine lv_aload_n hx hb dX2_mat_48 rfl (lv_at hl 1 rfl) ?_
      obtain ⟨q_28, g, hE⟩ := e_bind hE
      refine n_call0 (n := 0) [] X Y (mbf_shut l n b X.2.2.2.2.2.2 g) q2092 q2094 qs80 q2095 (by decide +kernel) (by decide) rfl hl.1 (Nat.le_of_ble_eq_true rfl) dX2_mat_49 (by decide) (fun H locs Y => ?_)
      refine lv_aload_n hx hb dX2_mat_52 rfl (lv_at hl 1 rfl) ?_
      refine lv_bipush (v := 42) hx hb dX2_mat_53 (by decide) ?_
      obtain ⟨q_29, g, hE⟩ := e_bind hE
      refine n_call0 (n := 1) [.int (42 : Int32)] X Y (mbf_need l n b X.2.2.2.2.2.2 g) q2048 q2050 qs69 q2051 (by decide +kernel) (by decide) rfl hl.1 (Nat.le_of_ble_eq_true rfl) dX2_mat_55 (by decide) (fun H locs Y => ?_)
      refine lv_aload_n hx hb dX2_mat_58 rfl (lv_at hl 1 rfl) ?_
      refine lv_iconst (v := 1) hx hb dX2_mat_59 (by decide) ?_
      refine lv_iconst (v := 4) hx hb dX2_mat_60 (by decide) ?_
      obtain ⟨q_30, g, hE⟩ := e_bind hE
      refine n_call0 (n := 2) [.int (1 : Int32), .int (4 : Int32)] X Y (mbf_setArg l n b X.2.2.2.2.2.2 g) q2036 q2038 qs66 q2039 (by decide +kernel) (by decide) rfl hl.1 (Nat.le_of_ble_eq_true rfl) dX2_mat_61 (by decide) (fun H locs Y => ?_)
      refine lv_aload_n hx hb dX2_mat_64 rfl (lv_at hl 1 rfl) ?_
      refine lv_iconst (v := 2) hx hb dX2_mat_65 (by decide) ?_
      refine lv_aload_n hx hb dX2_mat_66 rfl (lv_at hl 1 rfl) ?_
      obtain ⟨q_31, g, hE⟩ := e_bind hE
      refine n_call1 (n := 0) [] X Y (mbf_matrix l n b X.2.2.2.2.2.2 g) q2040 q2042 qs67 q2043 (by decide +kernel) (by decide) rfl hl.1 (Nat.le_of_ble_eq_true rfl) dX2_mat_67 (by decide) (fun H locs Y => ?_)
      obtain ⟨q_32, g, hE⟩ := e_bind hE
      refine n_call0 (n := 2) [.int (2 : Int32), .int q_31.2] X Y (mbf_setArg l n b X.2.2.2.2.2.2 g) q2036 q2038 qs66 q2039 (by decide +kernel) (by decide) rfl hl.1 (Nat.le_of_ble_eq_true rfl) dX2_mat_70 (by decide) (fun H locs Y => ?_)
      refine lv_goto (tgt := 215) hx hb dX2_mat_73 (by decide) ?_
      cases hE
      exact b_vret X Y hr hk dX2_mat_215
  · replace hE := e_f c_5 hE
    cases hE
    exact b_vret X Y hr hk dX2_mat_27
/-! BasicMachineModel.statement()V -/
set_option maxHeartbeats 4000000 in
set_option maxRecDepth 100000 in
theorem wbf_statement_L189 {l : Launch} {b : bP} {As : List Value} {p : Program} {e : Env} {s : State} {m : MethodId} {below : List Frame} {meth : Method} {c : Code} (X : bX p s m (Value.ref b.h :: As).toArray c cX2_statement 2 b) (hr : meth.sig.returnType = none) (hk : meth.locks = false) {n : Nat} {st : bS} {q : bS × Unit} (hE : bf_statement_L189 n st = some q) {H : Heap} {locs : List Loc} {ls : Array Slot} (Y : bY b s st H locs) (hl : lv_has ls 2 [(0, .ref b.h)]) : bG l 6 152 b As none q.1 p e s m below meth c H locs (F0 m 189 ls []) := by
  have hx := X.1
  have hb := X.2.1
  have hown := X.2.2.2.1
  have hts := X.2.2.2.2.1
  unfold bf_statement_L189 at hE
  refine lv_aload_n hx hb dX2_statement_189 rfl (lv_at hl 0 rfl) ?_
  refine b_geti X Y 4 rfl (by decide) rfl q1807 dX2_statement_190 ?_
  refine lv_aload_n hx hb dX2_statement_193 rfl (lv_at hl 0 rfl) ?_
  refine b_geti X Y 2 rfl (by decide) rfl q1805 dX2_statement_194 ?_
  refine lv_icmp_ge (tgt := 205) hx hb dX2_statement_197 (by decide) (fun c_1 => ?_) (fun c_1 => ?_)
  · replace hE := e_t c_1 hE
    cases hE
    exact b_vret X Y hr hk dX2_statement_205
  · replace hE := e_f c_1 hE
    refine lv_aload_n hx hb dX2_statement_200 rfl (lv_at hl 0 rfl) ?_
    refine lv_iconst (v := 1) hx hb dX2_statement_201 (by decide) ?_
    obtain ⟨st_2, g, hE⟩ := e_bind hE
    refine n_put X Y 7 rfl (by decide) g rfl rfl rfl q1810 dX2_statement_202 (fun H locs Y => ?_)
    cases hE
    exact b_vret X Y hr hk dX2_statement_205
set_option maxHeartbeats 4000000 in
set_option maxRecDepth 100000 in
theorem wbf_statement_L175 {l : Launch} {b : bP} {As : List Value} {p : Program} {e : Env} {s : State} {m : MethodId} {below : List Frame} {meth : Method} {c : Code} (X : bX p s m (Value.ref b.h :: As).toArray c cX2_statement 2 b) (hr : meth.sig.returnType = none) (hk : meth.locks = false) {n : Nat} {st : bS} {x1 : Int32} {q : bS × Unit} (hE : bf_statement_L175 n st x1 = some q) {H : Heap} {locs : List Loc} {ls : Array Slot} (Y : bY b s st H locs) (hl : lv_has ls 2 [(0, .ref b.h), (1, .int x1)]) : bG l 6 152 b As none q.1 p e s m below meth c H locs (F0 m 175 ls []) := by
  have hx := X.1
  have hb := X.2.1
  have hown := X.2.2.2.1
  have hts := X.2.2.2.2.1
  unfold bf_statement_L175 at hE
  refine lv_iload_n hx hb dX2_statement_175 rfl (lv_at hl 1 rfl) ?_
  refine lv_bipush (v := 15) hx hb dX2_statement_176 (by decide) ?_
  refine lv_icmp_ne (tgt := 189) hx hb dX2_statement_178 (by decide) (fun c_1 => ?_) (fun c_1 => ?_)
  · replace hE := e_f c_1 hE
    exact wbf_statement_L189 X hr hk hE Y (lv_sub hl [0] rfl)
  · replace hE := e_t c_1 hE
    refine lv_aload_n hx hb dX2_statement_181 rfl (lv_at hl 0 rfl) ?_
    refine lv_aload_n hx hb dX2_statement_182 rfl (lv_at hl 0 rfl) ?_
    refine b_geti X Y 2 rfl (by decide) rfl q1805 dX2_statement_183 ?_
    obtain ⟨st_2, g, hE⟩ := e_bind hE
    refine n_put X Y 4 rfl (by decide) g rfl rfl rfl q1807 dX2_statement_186 (fun H locs Y => ?_)
    exact wbf_statement_L189 X hr hk hE Y (lv_sub hl [0] rfl)
set_option maxHeartbeats 4000000 in
set_option maxRecDepth 100000 in
theorem wbf_statement_L165 {l : Launch} {b : bP} {As : List Value} {p : Program} {e : Env} {s : State} {m : MethodId} {below : List Frame} {meth : Method} {c : Code} (X : bX p s m (Value.ref b.h :: As).toArray c cX2_statement 2 b) (hr : meth.sig.returnType = none) (hk : meth.locks = false) {n : Nat} {st : bS} {x1 : Int32} {q : bS × Unit} (hE : bf_statement_L165 n st x1 = some q) {H : Heap} {locs : List Loc} {ls : Array Slot} (Y : bY b s st H locs) (hl : lv_has ls 2 [(0, .ref b.h), (1, .int x1)]) : bG l 6 152 b As none q.1 p e s m below meth c H locs (F0 m 165 ls []) := by
  have hx := X.1
  have hb := X.2.1
  have hown := X.2.2.2.1
  have hts := X.2.2.2.2.1
  unfold bf_statement_L165 at hE
  refine lv_iload_n hx hb dX2_statement_165 rfl (lv_at hl 1 rfl) ?_
  refine lv_bipush (v := 14) hx hb dX2_statement_166 (by decide) ?_
  refine lv_icmp_ne (tgt := 175) hx hb dX2_statement_168 (by decide) (fun c_1 => ?_) (fun c_1 => ?_)
  · replace hE := e_f c_1 hE
    exact wbf_statement_L175 X hr hk hE Y (lv_sub hl [0, 1] rfl)
  · replace hE := e_t c_1 hE
    refine lv_aload_n hx hb dX2_statement_171 rfl (lv_at hl 0 rfl) ?_
    obtain ⟨q_2, g, hE⟩ := e_bind hE
    refine n_call0 (n := 0) [] X Y (mbf_mat l n b X.2.2.2.2.2.2 g) q2124 q2126 qs88 q2127 (by decide +kernel) (by decide) rfl hl.1 (Nat.le_of_ble_eq_true rfl) dX2_statement_172 (by decide) (fun H locs Y => ?_)
    exact wbf_statement_L175 X hr hk hE Y (lv_sub hl [0, 1] rfl)
set_option maxHeartbeats 4000000 in
set_option maxRecDepth 100000 in
theorem wbf_statement_L155 {l : Launch} {b : bP} {As : List Value} {p : Program} {e : Env} {s : State} {m : MethodId} {below : List Frame} {meth : Method} {c : Code} (X : bX p s m (Value.ref b.h :: As).toArray c cX2_statement 2 b) (hr : meth.sig.returnType = none) (hk : meth.locks = false) {n : Nat} {st : bS} {x1 : Int32} {q : bS × Unit} (hE : bf_statement_L155 n st x1 = some q) {H : Heap} {locs : List Loc} {ls : Array Slot} (Y : bY b s st H locs) (hl : lv_has ls 2 [(0, .ref b.h), (1, .int x1)]) : bG l 6 152 b As none q.1 p e s m below meth c H locs (F0 m 155 ls []) := by
  have hx := X.1
  have hb := X.2.1
  have hown := X.2.2.2.1
  have hts := X.2.2.2.2.1
  unfold bf_statement_L155 at hE
  refine lv_iload_n hx hb dX2_statement_155 rfl (lv_at hl 1 rfl) ?_
  refine lv_bipush (v := 13) hx hb dX2_statement_156 (by decide) ?_
  refine lv_icmp_ne (tgt := 165) hx hb dX2_statement_158 (by decide) (fun c_1 => ?_) (fun c_1 => ?_)
  · replace hE := e_f c_1 hE
    exact wbf_statement_L165 X hr hk hE Y (lv_sub hl [0, 1] rfl)
  · replace hE := e_t c_1 hE
    refine lv_aload_n hx hb dX2_statement_161 rfl (lv_at hl 0 rfl) ?_
    obtain ⟨q_2, g, hE⟩ := e_bind hE
    refine n_call0 (n := 0) [] X Y (mbf_def l n b X.2.2.2.2.2.2 g) q2120 q2122 qs87 q2123 (by decide +kernel) (by decide) rfl hl.1 (Nat.le_of_ble_eq_true rfl) dX2_statement_162 (by decide) (fun H locs Y => ?_)
    exact wbf_statement_L165 X hr hk hE Y (lv_sub hl [0, 1] rfl)
set_option maxHeartbeats 4000000 in
set_option maxRecDepth 100000 in
theorem wbf_statement_L145 {l : Launch} {b : bP} {As : List Value} {p : Program} {e : Env} {s : State} {m : MethodId} {below : List Frame} {meth : Method} {c : Code} (X : bX p s m (Value.ref b.h :: As).toArray c cX2_statement 2 b) (hr : meth.sig.returnType = none) (hk : meth.locks = false) {n : Nat} {st : bS} {x1 : Int32} {q : bS × Unit} (hE : bf_statement_L145 n st x1 = some q) {H : Heap} {locs : List Loc} {ls : Array Slot} (Y : bY b s st H locs) (hl : lv_has ls 2 [(0, .ref b.h), (1, .int x1)]) : bG l 6 152 b As none q.1 p e s m below meth c H locs (F0 m 145 ls []) := by
  have hx := X.1
  have hb := X.2.1
  have hown := X.2.2.2.1
  have hts := X.2.2.2.2.1
  unfold bf_statement_L145 at hE
  refine lv_iload_n hx hb dX2_statement_145 rfl (lv_at hl 1 rfl) ?_
  refine lv_bipush (v := 12) hx hb dX2_statement_146 (by decide) ?_
  refine lv_icmp_ne (tgt := 155) hx hb dX2_statement_148 (by decide) (fun c_1 => ?_) (fun c_1 => ?_)
  · replace hE := e_f c_1 hE
    exact wbf_statement_L155 X hr hk hE Y (lv_sub hl [0, 1] rfl)
  · replace hE := e_t c_1 hE
    refine lv_aload_n hx hb dX2_statement_151 rfl (lv_at hl 0 rfl) ?_
    obtain ⟨q_2, g, hE⟩ := e_bind hE
    refine n_call0 (n := 0) [] X Y (mbf_dim l n b X.2.2.2.2.2.2 g) q2112 q2114 qs85 q2115 (by decide +kernel) (by decide) rfl hl.1 (Nat.le_of_ble_eq_true rfl) dX2_statement_152 (by decide) (fun H locs Y => ?_)
    exact wbf_statement_L155 X hr hk hE Y (lv_sub hl [0, 1] rfl)
set_option maxHeartbeats 4000000 in
set_option maxRecDepth 100000 in
theorem wbf_statement_L135 {l : Launch} {b : bP} {As : List Value} {p : Program} {e : Env} {s : State} {m : MethodId} {below : List Frame} {meth : Method} {c : Code} (X : bX p s m (Value.ref b.h :: As).toArray c cX2_statement 2 b) (hr : meth.sig.returnType = none) (hk : meth.locks = false) {n : Nat} {st : bS} {x1 : Int32} {q : bS × Unit} (hE : bf_statement_L135 n st x1 = some q) {H : Heap} {locs : List Loc} {ls : Array Slot} (Y : bY b s st H locs) (hl : lv_has ls 2 [(0, .ref b.h), (1, .int x1)]) : bG l 6 152 b As none q.1 p e s m below meth c H locs (F0 m 135 ls []) := by
  have hx := X.1
  have hb := X.2.1
  have hown := X.2.2.2.1
  have hts := X.2.2.2.2.1
  unfold bf_statement_L135 at hE
  refine lv_iload_n hx hb dX2_statement_135 rfl (lv_at hl 1 rfl) ?_
  refine lv_bipush (v := 10) hx hb dX2_statement_136 (by decide) ?_
  refine lv_icmp_ne (tgt := 145) hx hb dX2_statement_138 (by decide) (fun c_1 => ?_) (fun c_1 => ?_)
  · replace hE := e_f c_1 hE
    exact wbf_statement_L145 X hr hk hE Y (lv_sub hl [0, 1] rfl)
  · replace hE := e_t c_1 hE
    refine lv_aload_n hx hb dX2_statement_141 rfl (lv_at hl 0 rfl) ?_
    obtain ⟨q_2, g, hE⟩ := e_bind hE
    refine n_call0 (n := 0) [] X Y (mbf_numbers l n b X.2.2.2.2.2.2 g) q2108 q2110 qs84 q2111 (by decide +kernel) (by decide) rfl hl.1 (Nat.le_of_ble_eq_true rfl) dX2_statement_142 (by decide) (fun H locs Y => ?_)
    exact wbf_statement_L145 X hr hk hE Y (lv_sub hl [0, 1] rfl)
set_option maxHeartbeats 4000000 in
set_option maxRecDepth 100000 in
theorem wbf_statement_L125 {l : Launch} {b : bP} {As : List Value} {p : Program} {e : Env} {s : State} {m : MethodId} {below : List Frame} {meth : Method} {c : Code} (X : bX p s m (Value.ref b.h :: As).toArray c cX2_statement 2 b) (hr : meth.sig.returnType = none) (hk : meth.locks = false) {n : Nat} {st : bS} {x1 : Int32} {q : bS × Unit} (hE : bf_statement_L125 n st x1 = some q) {H : Heap} {locs : List Loc} {ls : Array Slot} (Y : bY b s st H locs) (hl : lv_has ls 2 [(0, .ref b.h), (1, .int x1)]) : bG l 6 152 b As none q.1 p e s m below meth c H locs (F0 m 125 ls []) := by
  have hx := X.1
  have hb := X.2.1
  have hown := X.2.2.2.1
  have hts := X.2.2.2.2.1
  unfold bf_statement_L125 at hE
  refine lv_iload_n hx hb dX2_statement_125 rfl (lv_at hl 1 rfl) ?_
  refine lv_bipush (v := 9) hx hb dX2_statement_126 (by decide) ?_
  refine lv_icmp_ne (tgt := 135) hx hb dX2_statement_128 (by decide) (fun c_1 => ?_) (fun c_1 => ?_)
  · replace hE := e_f c_1 hE
    exact wbf_statement_L135 X hr hk hE Y (lv_sub hl [0, 1] rfl)
  · replace hE := e_t c_1 hE
    refine lv_aload_n hx hb dX2_statement_131 rfl (lv_at hl 0 rfl) ?_
    obtain ⟨q_2, g, hE⟩ := e_bind hE
    refine n_call0 (n := 0) [] X Y (mbf_target l n b X.2.2.2.2.2.2 g) q2024 q2026 qs63 q2027 (by decide +kernel) (by decide) rfl hl.1 (Nat.le_of_ble_eq_true rfl) dX2_statement_132 (by decide) (fun H locs Y => ?_)
    exact wbf_statement_L135 X hr hk hE Y (lv_sub hl [0, 1] rfl)
set_option maxHeartbeats 4000000 in
set_option maxRecDepth 100000 in
theorem wbf_statement_L110 {l : Launch} {b : bP} {As : List Value} {p : Program} {e : Env} {s : State} {m : MethodId} {below : List Frame} {meth : Method} {c : Code} (X : bX p s m (Value.ref b.h :: As).toArray c cX2_statement 2 b) (hr : meth.sig.returnType = none) (hk : meth.locks = false) {n : Nat} {st : bS} {x1 : Int32} {q : bS × Unit} (hE : bf_statement_L110 n st x1 = some q) {H : Heap} {locs : List Loc} {ls : Array Slot} (Y : bY b s st H locs) (hl : lv_has ls 2 [(0, .ref b.h), (1, .int x1)]) : bG l 6 152 b As none q.1 p e s m below meth c H locs (F0 m 110 ls []) := by
  have hx := X.1
  have hb := X.2.1
  have hown := X.2.2.2.1
  have hts := X.2.2.2.2.1
  unfold bf_statement_L110 at hE
  refine lv_iload_n hx hb dX2_statement_110 rfl (lv_at hl 1 rfl) ?_
  refine lv_bipush (v := 8) hx hb dX2_statement_111 (by decide) ?_
  refine lv_icmp_ne (tgt := 125) hx hb dX2_statement_113 (by decide) (fun c_1 => ?_) (fun c_1 => ?_)
  · replace hE := e_f c_1 hE
    exact wbf_statement_L125 X hr hk hE Y (lv_sub hl [0, 1] rfl)
  · replace hE := e_t c_1 hE
    refine lv_aload_n hx hb dX2_statement_116 rfl (lv_at hl 0 rfl) ?_
    refine lv_iconst (v := 0) hx hb dX2_statement_117 (by decide) ?_
    refine lv_aload_n hx hb dX2_statement_118 rfl (lv_at hl 0 rfl) ?_
    obtain ⟨q_2, g, hE⟩ := e_bind hE
    refine n_call1 (n := 0) [] X Y (mbf_variable l n b X.2.2.2.2.2.2 g) q2032 q2034 qs65 q2035 (by decide +kernel) (by decide) rfl hl.1 (Nat.le_of_ble_eq_true rfl) dX2_statement_119 (by decide) (fun H locs Y => ?_)
    obtain ⟨q_3, g, hE⟩ := e_bind hE
    refine n_call0 (n := 2) [.int (0 : Int32), .int q_2.2] X Y (mbf_setArg l n b X.2.2.2.2.2.2 g) q2036 q2038 qs66 q2039 (by decide +kernel) (by decide) rfl hl.1 (Nat.le_of_ble_eq_true rfl) dX2_statement_122 (by decide) (fun H locs Y => ?_)
    exact wbf_statement_L125 X hr hk hE Y (lv_sub hl [0, 1] rfl)
set_option maxHeartbeats 4000000 in
set_option maxRecDepth 100000 in
theorem wbf_statement_L100 {l : Launch} {b : bP} {As : List Value} {p : Program} {e : Env} {s : State} {m : MethodId} {below : List Frame} {meth : Method} {c : Code} (X : bX p s m (Value.ref b.h :: As).toArray c cX2_statement 2 b) (hr : meth.sig.returnType = none) (hk : meth.locks = false) {n : Nat} {st : bS} {x1 : Int32} {q : bS × Unit} (hE : bf_statement_L100 n st x1 = some q) {H : Heap} {locs : List Loc} {ls : Array Slot} (Y : bY b s st H locs) (hl : lv_has ls 2 [(0, .ref b.h), (1, .int x1)]) : bG l 6 152 b As none q.1 p e s m below meth c H locs (F0 m 100 ls []) := by
  have hx := X.1
  have hb := X.2.1
  have hown := X.2.2.2.1
  have hts := X.2.2.2.2.1
  unfold bf_statement_L100 at hE
  refine lv_iload_n hx hb dX2_statement_100 rfl (lv_at hl 1 rfl) ?_
  refine lv_bipush (v := 7) hx hb dX2_statement_101 (by decide) ?_
  refine lv_icmp_ne (tgt := 110) hx hb dX2_statement_103 (by decide) (fun c_1 => ?_) (fun c_1 => ?_)
  · replace hE := e_f c_1 hE
    exact wbf_statement_L110 X hr hk hE Y (lv_sub hl [0, 1] rfl)
  · replace hE := e_t c_1 hE
    refine lv_aload_n hx hb dX2_statement_106 rfl (lv_at hl 0 rfl) ?_
    obtain ⟨q_2, g, hE⟩ := e_bind hE
    refine n_call0 (n := 0) [] X Y (mbf_loop l n b X.2.2.2.2.2.2 g) q2104 q2106 qs83 q2107 (by decide +kernel) (by decide) rfl hl.1 (Nat.le_of_ble_eq_true rfl) dX2_statement_107 (by decide) (fun H locs Y => ?_)
    exact wbf_statement_L110 X hr hk hE Y (lv_sub hl [0, 1] rfl)
set_option maxHeartbeats 4000000 in
set_option maxRecDepth 100000 in
theorem wbf_statement_L91 {l : Launch} {b : bP} {As : List Value} {p : Program} {e : Env} {s : State} {m : MethodId} {below : List Frame} {meth : Method} {c : Code} (X : bX p s m (Value.ref b.h :: As).toArray c cX2_statement 2 b) (hr : meth.sig.returnType = none) (hk : meth.locks = false) {n : Nat} {st : bS} {x1 : Int32} {q : bS × Unit} (hE : bf_statement_L91 n st x1 = some q) {H : Heap} {locs : List Loc} {ls : Array Slot} (Y : bY b s st H locs) (hl : lv_has ls 2 [(0, .ref b.h), (1, .int x1)]) : bG l 6 152 b As none q.1 p e s m below meth c H locs (F0 m 91 ls []) := by
  have hx := X.1
  have hb := X.2.1
  have hown := X.2.2.2.1
  have hts := X.2.2.2.2.1
  unfold bf_statement_L91 at hE
  refine lv_iload_n hx hb dX2_statement_91 rfl (lv_at hl 1 rfl) ?_
  refine lv_iconst (v := 4) hx hb dX2_statement_92 (by decide) ?_
  refine lv_icmp_ne (tgt := 100) hx hb dX2_statement_93 (by decide) (fun c_1 => ?_) (fun c_1 => ?_)
  · replace hE := e_f c_1 hE
    exact wbf_statement_L100 X hr hk hE Y (lv_sub hl [0, 1] rfl)
  · replace hE := e_t c_1 hE
    refine lv_aload_n hx hb dX2_statement_96 rfl (lv_at hl 0 rfl) ?_
    obtain ⟨q_2, g, hE⟩ := e_bind hE
    refine n_call0 (n := 0) [] X Y (mbf_choice l n b X.2.2.2.2.2.2 g) q2100 q2102 qs82 q2103 (by decide +kernel) (by decide) rfl hl.1 (Nat.le_of_ble_eq_true rfl) dX2_statement_97 (by decide) (fun H locs Y => ?_)
    exact wbf_statement_L100 X hr hk hE Y (lv_sub hl [0, 1] rfl)
set_option maxHeartbeats 4000000 in
set_option maxRecDepth 100000 in
theorem wbf_statement_L82 {l : Launch} {b : bP} {As : List Value} {p : Program} {e : Env} {s : State} {m : MethodId} {below : List Frame} {meth : Method} {c : Code} (X : bX p s m (Value.ref b.h :: As).toArray c cX2_statement 2 b) (hr : meth.sig.returnType = none) (hk : meth.locks = false) {n : Nat} {st : bS} {x1 : Int32} {q : bS × Unit} (hE : bf_statement_L82 n st x1 = some q) {H : Heap} {locs : List Loc} {ls : Array Slot} (Y : bY b s st H locs) (hl : lv_has ls 2 [(0, .ref b.h), (1, .int x1)]) : bG l 6 152 b As none q.1 p e s m below meth c H locs (F0 m 82 ls []) := by
  have hx := X.1
  have hb := X.2.1
  have hown := X.2.2.2.1
  have hts := X.2.2.2.2.1
  unfold bf_statement_L82 at hE
  refine lv_aload_n hx hb dX2_statement_82 rfl (lv_at hl 0 rfl) ?_
  refine lv_iconst (v := 0) hx hb dX2_statement_83 (by decide) ?_
  refine lv_aload_n hx hb dX2_statement_84 rfl (lv_at hl 0 rfl) ?_
  obtain ⟨q_1, g, hE⟩ := e_bind hE
  refine n_call1 (n := 0) [] X Y (mbf_lineNumber l n b X.2.2.2.2.2.2 g) q1959 q1961 qs54 q1962 (by decide +kernel) (by decide) rfl hl.1 (Nat.le_of_ble_eq_true rfl) dX2_statement_85 (by decide) (fun H locs Y => ?_)
  obtain ⟨q_2, g, hE⟩ := e_bind hE
  refine n_call0 (n := 2) [.int (0 : Int32), .int q_1.2] X Y (mbf_setArg l n b X.2.2.2.2.2.2 g) q2036 q2038 qs66 q2039 (by decide +kernel) (by decide) rfl hl.1 (Nat.le_of_ble_eq_true rfl) dX2_statement_88 (by decide) (fun H locs Y => ?_)
  exact wbf_statement_L91 X hr hk hE Y (lv_sub hl [0, 1] rfl)
set_option maxHeartbeats 4000000 in
set_option maxRecDepth 100000 in
theorem wbf_statement_L72 {l : Launch} {b : bP} {As : List Value} {p : Program} {e : Env} {s : State} {m : MethodId} {below : List Frame} {meth : Method} {c : Code} (X : bX p s m (Value.ref b.h :: As).toArray c cX2_statement 2 b) (hr : meth.sig.returnType = none) (hk : meth.locks = false) {n : Nat} {st : bS} {x1 : Int32} {q : bS × Unit} (hE : bf_statement_L72 n st x1 = some q) {H : Heap} {locs : List Loc} {ls : Array Slot} (Y : bY b s st H locs) (hl : lv_has ls 2 [(0, .ref b.h), (1, .int x1)]) : bG l 6 152 b As none q.1 p e s m below meth c H locs (F0 m 72 ls []) := by
  have hx := X.1
  have hb := X.2.1
  have hown := X.2.2.2.1
  have hts := X.2.2.2.2.1
  unfold bf_statement_L72 at hE
  refine lv_iload_n hx hb dX2_statement_72 rfl (lv_at hl 1 rfl) ?_
  refine lv_iconst (v := 3) hx hb dX2_statement_73 (by decide) ?_
  refine lv_icmp_eq (tgt := 82) hx hb dX2_statement_74 (by decide) (fun c_1 => ?_) (fun c_1 => ?_)
  · replace hE := e_t c_1 hE
    exact wbf_statement_L82 X hr hk hE Y (lv_sub hl [0, 1] rfl)
  · replace hE := e_f c_1 hE
    refine lv_iload_n hx hb dX2_statement_77 rfl (lv_at hl 1 rfl) ?_
    refine lv_iconst (v := 5) hx hb dX2_statement_78 (by decide) ?_
    refine lv_icmp_ne (tgt := 91) hx hb dX2_statement_79 (by decide) (fun c_2 => ?_) (fun c_2 => ?_)
    · replace hE := e_f c_2 hE
      exact wbf_statement_L91 X hr hk hE Y (lv_sub hl [0, 1] rfl)
    · replace hE := e_t c_2 hE
      exact wbf_statement_L82 X hr hk hE Y (lv_sub hl [0, 1] rfl)
set_option maxHeartbeats 4000000 in
set_option maxRecDepth 100000 in
theorem wbf_statement_L63 {l : Launch} {b : bP} {As : List Value} {p : Program} {e : Env} {s : State} {m : MethodId} {below : List Frame} {meth : Method} {c : Code} (X : bX p s m (Value.ref b.h :: As).toArray c cX2_statement 2 b) (hr : meth.sig.returnType = none) (hk : meth.locks = false) {n : Nat} {st : bS} {x1 : Int32} {q : bS × Unit} (hE : bf_statement_L63 n st x1 = some q) {H : Heap} {locs : List Loc} {ls : Array Slot} (Y : bY b s st H locs) (hl : lv_has ls 2 [(0, .ref b.h), (1, .int x1)]) : bG l 6 152 b As none q.1 p e s m below meth c H locs (F0 m 63 ls []) := by
  have hx := X.1
  have hb := X.2.1
  have hown := X.2.2.2.1
  have hts := X.2.2.2.2.1
  unfold bf_statement_L63 at hE
  refine lv_iload_n hx hb dX2_statement_63 rfl (lv_at hl 1 rfl) ?_
  refine lv_iconst (v := 2) hx hb dX2_statement_64 (by decide) ?_
  refine lv_icmp_ne (tgt := 72) hx hb dX2_statement_65 (by decide) (fun c_1 => ?_) (fun c_1 => ?_)
  · replace hE := e_f c_1 hE
    exact wbf_statement_L72 X hr hk hE Y (lv_sub hl [0, 1] rfl)
  · replace hE := e_t c_1 hE
    refine lv_aload_n hx hb dX2_statement_68 rfl (lv_at hl 0 rfl) ?_
    obtain ⟨q_2, g, hE⟩ := e_bind hE
    refine n_call0 (n := 0) [] X Y (mbf_condition l n b X.2.2.2.2.2.2 g) q2096 q2098 qs81 q2099 (by decide +kernel) (by decide) rfl hl.1 (Nat.le_of_ble_eq_true rfl) dX2_statement_69 (by decide) (fun H locs Y => ?_)
    exact wbf_statement_L72 X hr hk hE Y (lv_sub hl [0, 1] rfl)
set_option maxHeartbeats 4000000 in
set_option maxRecDepth 100000 in
theorem wbf_statement_L48 {l : Launch} {b : bP} {As : List Value} {p : Program} {e : Env} {s : State} {m : MethodId} {below : List Frame} {meth : Method} {c : Code} (X : bX p s m (Value.ref b.h :: As).toArray c cX2_statement 2 b) (hr : meth.sig.returnType = none) (hk : meth.locks = false) {n : Nat} {st : bS} {x1 : Int32} {q : bS × Unit} (hE : bf_statement_L48 n st x1 = some q) {H : Heap} {locs : List Loc} {ls : Array Slot} (Y : bY b s st H locs) (hl : lv_has ls 2 [(0, .ref b.h), (1, .int x1)]) : bG l 6 152 b As none q.1 p e s m below meth c H locs (F0 m 48 ls []) := by
  have hx := X.1
  have hb := X.2.1
  have hown := X.2.2.2.1
  have hts := X.2.2.2.2.1
  unfold bf_statement_L48 at hE
  refine lv_iload_n hx hb dX2_statement_48 rfl (lv_at hl 1 rfl) ?_
  refine lv_iconst (v := 1) hx hb dX2_statement_49 (by decide) ?_
  refine lv_icmp_ne (tgt := 63) hx hb dX2_statement_50 (by decide) (fun c_1 => ?_) (fun c_1 => ?_)
  · replace hE := e_f c_1 hE
    exact wbf_statement_L63 X hr hk hE Y (lv_sub hl [0, 1] rfl)
  · replace hE := e_t c_1 hE
    refine lv_aload_n hx hb dX2_statement_53 rfl (lv_at hl 0 rfl) ?_
    refine lv_iconst (v := 0) hx hb dX2_statement_54 (by decide) ?_
    refine lv_aload_n hx hb dX2_statement_55 rfl (lv_at hl 0 rfl) ?_
    refine lv_iconst (v := 0) hx hb dX2_statement_56 (by decide) ?_
    obtain ⟨q_2, g, hE⟩ := e_bind hE
    refine n_call1 (n := 1) [.int (0 : Int32)] X Y (mbf_expression l n b X.2.2.2.2.2.2 g) q2056 q2058 qs71 q2059 (by decide +kernel) (by decide) rfl hl.1 (Nat.le_of_ble_eq_true rfl) dX2_statement_57 (by decide) (fun H locs Y => ?_)
    obtain ⟨q_3, g, hE⟩ := e_bind hE
    refine n_call0 (n := 2) [.int (0 : Int32), .int q_2.2] X Y (mbf_setExpr l n b X.2.2.2.2.2.2 g) q2088 q2090 qs79 q2091 (by decide +kernel) (by decide) rfl hl.1 (Nat.le_of_ble_eq_true rfl) dX2_statement_60 (by decide) (fun H locs Y => ?_)
    exact wbf_statement_L63 X hr hk hE Y (lv_sub hl [0, 1] rfl)
set_option maxHeartbeats 4000000 in
set_option maxRecDepth 100000 in
theorem mbf_statement (l : Launch) (n : Nat) (b : bP) (ok : bOk b) {st : bS} {q : bS × Unit} (hE : bf_statement n st = some q) : bMet l yX2_statement cX2_statement 2 none 6 152 b [] st none q.1 := by
  refine b_ofW (by decide) rfl ok (Nat.le_of_ble_eq_true rfl) (fun p e s m below meth c ls X Y hr hk hl => ?_)
  have hl : lv_has ls 2 [(0, .ref b.h)] := hl
  generalize s.heap = H at Y ⊢
  generalize ([] : List Loc) = locs at Y ⊢
  have hx := X.1
  have hb := X.2.1
  have hown := X.2.2.2.1
  have hts := X.2.2.2.2.1
  unfold bf_statement at hE
  refine lv_aload_n hx hb dX2_statement_0 rfl (lv_at hl 0 rfl) ?_
  refine lv_iconst (v := 0) hx hb dX2_statement_1 (by decide) ?_
  refine lv_bipush (v := 16) hx hb dX2_statement_2 (by decide) ?_
  obtain ⟨q_1, g, hE⟩ := e_bind hE
  refine n_call1 (n := 2) [.int (0 : Int32), .int (16 : Int32)] X Y (mbf_takeWord l n b X.2.2.2.2.2.2 g) q1975 q1977 qs58 q1978 (by decide +kernel) (by decide) rfl hl.1 (Nat.le_of_ble_eq_true rfl) dX2_statement_4 (by decide) (fun H locs Y => ?_)
  refine lv_istore_n (lv' := [(1, .int q_1.2), (0, .ref b.h)]) hx hb dX2_statement_7 rfl hl (by decide) rfl (fun ls hl => ?_)
  refine lv_aload_n hx hb dX2_statement_8 rfl (lv_at hl 1 rfl) ?_
  refine b_geta X Y 11 (by decide) (by decide) q1814 dX2_statement_9 ?_
  refine lv_bipush (v := 24) hx hb dX2_statement_12 (by decide) ?_
  refine lv_iload_n hx hb dX2_statement_14 rfl (lv_at hl 0 rfl) ?_
  obtain ⟨st_2, g, hE⟩ := e_bind hE
  refine n_iast X Y 3 11 rfl rfl g dX2_statement_15 (fun H locs Y => ?_)
  refine lv_aload_n hx hb dX2_statement_16 rfl (lv_at hl 1 rfl) ?_
  refine b_geti X Y 7 rfl (by decide) rfl q1810 dX2_statement_17 ?_
  refine lv_if_eq (tgt := 24) hx hb dX2_statement_20 (by decide) (fun c_3 => ?_) (fun c_3 => ?_)
  · replace hE := e_t c_3 hE
    refine lv_iload_n hx hb dX2_statement_24 rfl (lv_at hl 0 rfl) ?_
    refine lv_if_ne (tgt := 48) hx hb dX2_statement_25 (by decide) (fun c_4 => ?_) (fun c_4 => ?_)
    · replace hE := e_f c_4 hE
      exact wbf_statement_L48 X hr hk hE Y (lv_sub hl [1, 0] rfl)
    · replace hE := e_t c_4 hE
      refine lv_aload_n hx hb dX2_statement_28 rfl (lv_at hl 1 rfl) ?_
      obtain ⟨q_5, g, hE⟩ := e_bind hE
      refine n_call0 (n := 0) [] X Y (mbf_target l n b X.2.2.2.2.2.2 g) q2024 q2026 qs63 q2027 (by decide +kernel) (by decide) rfl hl.1 (Nat.le_of_ble_eq_true rfl) dX2_statement_29 (by decide) (fun H locs Y => ?_)
      refine lv_aload_n hx hb dX2_statement_32 rfl (lv_at hl 1 rfl) ?_
      refine lv_bipush (v := 61) hx hb dX2_statement_33 (by decide) ?_
      obtain ⟨q_6, g, hE⟩ := e_bind hE
      refine n_call0 (n := 1) [.int (61 : Int32)] X Y (mbf_need l n b X.2.2.2.2.2.2 g) q2048 q2050 qs69 q2051 (by decide +kernel) (by decide) rfl hl.1 (Nat.le_of_ble_eq_true rfl) dX2_statement_35 (by decide) (fun H locs Y => ?_)
      refine lv_aload_n hx hb dX2_statement_38 rfl (lv_at hl 1 rfl) ?_
      refine lv_iconst (v := 2) hx hb dX2_statement_39 (by decide) ?_
      refine lv_aload_n hx hb dX2_statement_40 rfl (lv_at hl 1 rfl) ?_
      refine lv_iconst (v := 0) hx hb dX2_statement_41 (by decide) ?_
      obtain ⟨q_7, g, hE⟩ := e_bind hE
      refine n_call1 (n := 1) [.int (0 : Int32)] X Y (mbf_expression l n b X.2.2.2.2.2.2 g) q2056 q2058 qs71 q2059 (by decide +kernel) (by decide) rfl hl.1 (Nat.le_of_ble_eq_true rfl) dX2_statement_42 (by decide) (fun H locs Y => ?_)
      obtain ⟨q_8, g, hE⟩ := e_bind hE
      refine n_call0 (n := 2) [.int (2 : Int32), .int q_7.2] X Y (mbf_setExpr l n b X.2.2.2.2.2.2 g) q2088 q2090 qs79 q2091 (by decide +kernel) (by decide) rfl hl.1 (Nat.le_of_ble_eq_true rfl) dX2_statement_45 (by decide) (fun H locs Y => ?_)
      exact wbf_statement_L48 X hr hk hE Y (lv_sub hl [1, 0] rfl)
  · replace hE := e_f c_3 hE
    cases hE
    exact b_vret X Y hr hk dX2_statement_23
/-! BasicMachineModel.slotOf(I)I -/
set_option maxHeartbeats 4000000 in
set_option maxRecDepth 100000 in
theorem wbf_slotOf_S2_ {l : Launch} {b : bP} {As : List Value} {p : Program} {e : Env} {s : State} {m : MethodId} {below : List Frame} {meth : Method} {c : Code} (X : bX p s m (Value.ref b.h :: As).toArray c cX2_slotOf 3 b) (hr : meth.sig.returnType = (some .int)) (hk : meth.locks = false) (n : Nat) {q : bS × Int32} : ∀ k : Nat, (∀ {st : bS} {x1 : Int32} {x2 : Int32}, bf_slotOf_S2 n k st x1 x2 = some q → ∀ {H : Heap} {locs : List Loc} {ls : Array Slot}, bY b s st H locs → lv_has ls 3 [(0, .ref b.h), (1, .int x1), (2, .int x2)] → bG l 0 0 b As (some (.int q.2)) q.1 p e s m below meth c H locs (F0 m 2 ls [])) := by
  have hx := X.1
  have hb := X.2.1
  have hown := X.2.2.2.1
  have hts := X.2.2.2.2.1
  intro k
  induction k with
  | zero => exact fun h => nomatch (show none = some q from h)
  | succ k ih =>
    intro st x1 x2 hE H locs ls Y hl
    replace hE : bf_slotOf_B2 n (bf_slotOf_S2 n k) st x1 x2 = some q := hE
    unfold bf_slotOf_B2 at hE
    refine lv_iload_n hx hb dX2_slotOf_2 rfl (lv_at hl 2 rfl) ?_
    refine lv_bipush (v := 24) hx hb dX2_slotOf_3 (by decide) ?_
    refine lv_icmp_ge (tgt := 26) hx hb dX2_slotOf_5 (by decide) (fun c_1 => ?_) (fun c_1 => ?_)
    · replace hE := e_t c_1 hE
      refine lv_iconst (v := -1) hx hb dX2_slotOf_26 (by decide) ?_
      cases hE
      exact b_iret X Y hr hk dX2_slotOf_27
    · replace hE := e_f c_1 hE
      refine lv_aload_n hx hb dX2_slotOf_8 rfl (lv_at hl 0 rfl) ?_
      refine b_geta X Y 10 (by decide) (by decide) q1813 dX2_slotOf_9 ?_
      refine lv_iload_n hx hb dX2_slotOf_12 rfl (lv_at hl 2 rfl) ?_
      obtain ⟨v_2, g, hE⟩ := e_bind hE
      refine n_iald X Y 2 10 rfl rfl g dX2_slotOf_13 ?_
      refine lv_iload_n hx hb dX2_slotOf_14 rfl (lv_at hl 1 rfl) ?_
      refine lv_icmp_ne (tgt := 20) hx hb dX2_slotOf_15 (by decide) (fun c_3 => ?_) (fun c_3 => ?_)
      · replace hE := e_f c_3 hE
        refine lv_iinc (v := (x2 + (1 : Int32))) (lv' := [(2, .int (x2 + (1 : Int32))), (0, .ref b.h), (1, .int x1)]) hx hb dX2_slotOf_20 hl (k := 2) rfl rfl (by decide) rfl (fun ls hl => ?_)
        refine lv_goto (tgt := 2) hx hb dX2_slotOf_23 (by decide) ?_
        exact ih hE Y (lv_sub hl [1, 2, 0] rfl)
      · replace hE := e_t c_3 hE
        refine lv_iload_n hx hb dX2_slotOf_18 rfl (lv_at hl 2 rfl) ?_
        cases hE
        exact b_iret X Y hr hk dX2_slotOf_19
set_option maxHeartbeats 4000000 in
set_option maxRecDepth 100000 in
theorem wbf_slotOf_S2 {l : Launch} {b : bP} {As : List Value} {p : Program} {e : Env} {s : State} {m : MethodId} {below : List Frame} {meth : Method} {c : Code} (X : bX p s m (Value.ref b.h :: As).toArray c cX2_slotOf 3 b) (hr : meth.sig.returnType = (some .int)) (hk : meth.locks = false) (n : Nat) {q : bS × Int32} : (∀ {st : bS} {x1 : Int32} {x2 : Int32}, bf_slotOf_S2 n n st x1 x2 = some q → ∀ {H : Heap} {locs : List Loc} {ls : Array Slot}, bY b s st H locs → lv_has ls 3 [(0, .ref b.h), (1, .int x1), (2, .int x2)] → bG l 0 0 b As (some (.int q.2)) q.1 p e s m below meth c H locs (F0 m 2 ls [])) := wbf_slotOf_S2_ X hr hk n n
set_option maxHeartbeats 4000000 in
set_option maxRecDepth 100000 in
theorem mbf_slotOf (l : Launch) (n : Nat) (b : bP) (ok : bOk b) {st : bS} {a1 : Int32} {q : bS × Int32} (hE : bf_slotOf n st a1 = some q) : bMet l yX2_slotOf cX2_slotOf 3 (some .int) 0 0 b [.int a1] st (some (.int q.2)) q.1 := by
  refine b_ofW (by decide) rfl ok (Nat.le_of_ble_eq_true rfl) (fun p e s m below meth c ls X Y hr hk hl => ?_)
  have hl : lv_has ls 3 [(0, .ref b.h), (1, .int a1)] := hl
  generalize s.heap = H at Y ⊢
  generalize ([] : List Loc) = locs at Y ⊢
  have hx := X.1
  have hb := X.2.1
  have hown := X.2.2.2.1
  have hts := X.2.2.2.2.1
  unfold bf_slotOf at hE
  refine lv_iconst (v := 0) hx hb dX2_slotOf_0 (by decide) ?_
  refine lv_istore_n (lv' := [(2, .int (0 : Int32)), (0, .ref b.h), (1, .int a1)]) hx hb dX2_slotOf_1 rfl hl (by decide) rfl (fun ls hl => ?_)
  exact (wbf_slotOf_S2 X hr hk n) hE Y (lv_sub hl [1, 2, 0] rfl)
/-! BasicMachineModel.copyTo(I)V -/
set_option maxHeartbeats 4000000 in
set_option maxRecDepth 100000 in
theorem wbf_copyTo_S101_ {l : Launch} {b : bP} {As : List Value} {p : Program} {e : Env} {s : State} {m : MethodId} {below : List Frame} {meth : Method} {c : Code} (X : bX p s m (Value.ref b.h :: As).toArray c cX2_copyTo 3 b) (hr : meth.sig.returnType = none) (hk : meth.locks = false) (n : Nat) {q : bS × Unit} : ∀ k : Nat, (∀ {st : bS} {x1 : Int32} {x2 : Int32}, bf_copyTo_S101 n k st x1 x2 = some q → ∀ {H : Heap} {locs : List Loc} {ls : Array Slot}, bY b s st H locs → lv_has ls 3 [(0, .ref b.h), (1, .int x1), (2, .int x2)] → bG l 0 0 b As none q.1 p e s m below meth c H locs (F0 m 101 ls [])) := by
  have hx := X.1
  have hb := X.2.1
  have hown := X.2.2.2.1
  have hts := X.2.2.2.2.1
  intro k
  induction k with
  | zero => exact fun h => nomatch (show none = some q from h)
  | succ k ih =>
    intro st x1 x2 hE H locs ls Y hl
    replace hE : bf_copyTo_B101 n (bf_copyTo_S101 n k) st x1 x2 = some q := hE
    unfold bf_copyTo_B101 at hE
    refine lv_iload_n hx hb dX2_copyTo_101 rfl (lv_at hl 2 rfl) ?_
    refine lv_aload_n hx hb dX2_copyTo_102 rfl (lv_at hl 0 rfl) ?_
    refine b_geti X Y 6 rfl (by decide) rfl q1809 dX2_copyTo_103 ?_
    refine lv_icmp_ge (tgt := 137) hx hb dX2_copyTo_106 (by decide) (fun c_1 => ?_) (fun c_1 => ?_)
    · replace hE := e_t c_1 hE
      cases hE
      exact b_vret X Y hr hk dX2_copyTo_137
    · replace hE := e_f c_1 hE
      refine lv_aload_n hx hb dX2_copyTo_109 rfl (lv_at hl 0 rfl) ?_
      refine b_geta X Y 14 (by decide) (by decide) q1817 dX2_copyTo_110 ?_
      refine lv_iload_n hx hb dX2_copyTo_113 rfl (lv_at hl 1 rfl) ?_
      refine lv_sipush (v := 160) hx hb dX2_copyTo_114 (by decide) ?_
      refine lv_imul hx hb dX2_copyTo_117 ?_
      refine lv_iload_n hx hb dX2_copyTo_118 rfl (lv_at hl 2 rfl) ?_
      refine lv_iadd hx hb dX2_copyTo_119 ?_
      refine lv_aload_n hx hb dX2_copyTo_120 rfl (lv_at hl 0 rfl) ?_
      refine b_geta X Y 14 (by decide) (by decide) q1817 dX2_copyTo_121 ?_
      refine lv_sipush (v := 3840) hx hb dX2_copyTo_124 (by decide) ?_
      refine lv_iload_n hx hb dX2_copyTo_127 rfl (lv_at hl 2 rfl) ?_
      refine lv_iadd hx hb dX2_copyTo_128 ?_
      obtain ⟨v_2, g, hE⟩ := e_bind hE
      refine n_iald X Y 6 14 rfl rfl g dX2_copyTo_129 ?_
      obtain ⟨st_3, g, hE⟩ := e_bind hE
      refine n_iast X Y 6 14 rfl rfl g dX2_copyTo_130 (fun H locs Y => ?_)
      refine lv_iinc (v := (x2 + (1 : Int32))) (lv' := [(2, .int (x2 + (1 : Int32))), (0, .ref b.h), (1, .int x1)]) hx hb dX2_copyTo_131 hl (k := 2) rfl rfl (by decide) rfl (fun ls hl => ?_)
      refine lv_goto (tgt := 101) hx hb dX2_copyTo_134 (by decide) ?_
      exact ih hE Y (lv_sub hl [1, 2, 0] rfl)
set_option maxHeartbeats 4000000 in
set_option maxRecDepth 100000 in
theorem wbf_copyTo_S101 {l : Launch} {b : bP} {As : List Value} {p : Program} {e : Env} {s : State} {m : MethodId} {below : List Frame} {meth : Method} {c : Code} (X : bX p s m (Value.ref b.h :: As).toArray c cX2_copyTo 3 b) (hr : meth.sig.returnType = none) (hk : meth.locks = false) (n : Nat) {q : bS × Unit} : (∀ {st : bS} {x1 : Int32} {x2 : Int32}, bf_copyTo_S101 n n st x1 x2 = some q → ∀ {H : Heap} {locs : List Loc} {ls : Array Slot}, bY b s st H locs → lv_has ls 3 [(0, .ref b.h), (1, .int x1), (2, .int x2)] → bG l 0 0 b As none q.1 p e s m below meth c H locs (F0 m 101 ls [])) := wbf_copyTo_S101_ X hr hk n n
set_option maxHeartbeats 4000000 in
set_option maxRecDepth 100000 in
theorem wbf_copyTo_S63_ {l : Launch} {b : bP} {As : List Value} {p : Program} {e : Env} {s : State} {m : MethodId} {below : List Frame} {meth : Method} {c : Code} (X : bX p s m (Value.ref b.h :: As).toArray c cX2_copyTo 3 b) (hr : meth.sig.returnType = none) (hk : meth.locks = false) (n : Nat) {q : bS × Unit} : ∀ k : Nat, (∀ {st : bS} {x1 : Int32} {x2 : Int32}, bf_copyTo_S63 n k st x1 x2 = some q → ∀ {H : Heap} {locs : List Loc} {ls : Array Slot}, bY b s st H locs → lv_has ls 3 [(0, .ref b.h), (1, .int x1), (2, .int x2)] → bG l 0 0 b As none q.1 p e s m below meth c H locs (F0 m 63 ls [])) := by
  have hx := X.1
  have hb := X.2.1
  have hown := X.2.2.2.1
  have hts := X.2.2.2.2.1
  intro k
  induction k with
  | zero => exact fun h => nomatch (show none = some q from h)
  | succ k ih =>
    intro st x1 x2 hE H locs ls Y hl
    replace hE : bf_copyTo_B63 n (bf_copyTo_S63 n k) st x1 x2 = some q := hE
    unfold bf_copyTo_B63 at hE
    refine lv_iload_n hx hb dX2_copyTo_63 rfl (lv_at hl 2 rfl) ?_
    refine lv_iconst (v := 4) hx hb dX2_copyTo_64 (by decide) ?_
    refine lv_icmp_ge (tgt := 99) hx hb dX2_copyTo_65 (by decide) (fun c_1 => ?_) (fun c_1 => ?_)
    · replace hE := e_t c_1 hE
      refine lv_iconst (v := 0) hx hb dX2_copyTo_99 (by decide) ?_
      refine lv_istore_n (lv' := [(2, .int (0 : Int32)), (0, .ref b.h), (1, .int x1)]) hx hb dX2_copyTo_100 rfl hl (by decide) rfl (fun ls hl => ?_)
      exact (wbf_copyTo_S101 X hr hk n) hE Y (lv_sub hl [1, 2, 0] rfl)
    · replace hE := e_f c_1 hE
      refine lv_aload_n hx hb dX2_copyTo_68 rfl (lv_at hl 0 rfl) ?_
      refine b_geta X Y 13 (by decide) (by decide) q1816 dX2_copyTo_69 ?_
      refine lv_iload_n hx hb dX2_copyTo_72 rfl (lv_at hl 1 rfl) ?_
      refine lv_iconst (v := 4) hx hb dX2_copyTo_73 (by decide) ?_
      refine lv_imul hx hb dX2_copyTo_74 ?_
      refine lv_iload_n hx hb dX2_copyTo_75 rfl (lv_at hl 2 rfl) ?_
      refine lv_iadd hx hb dX2_copyTo_76 ?_
      refine lv_aload_n hx hb dX2_copyTo_77 rfl (lv_at hl 0 rfl) ?_
      refine b_geta X Y 13 (by decide) (by decide) q1816 dX2_copyTo_78 ?_
      refine lv_bipush (v := 96) hx hb dX2_copyTo_81 (by decide) ?_
      refine lv_iload_n hx hb dX2_copyTo_83 rfl (lv_at hl 2 rfl) ?_
      refine lv_iadd hx hb dX2_copyTo_84 ?_
      obtain ⟨v_2, g, hE⟩ := e_bind hE
      refine n_iald X Y 5 13 rfl rfl g dX2_copyTo_85 ?_
      refine lv_iload_n hx hb dX2_copyTo_86 rfl (lv_at hl 1 rfl) ?_
      refine lv_sipush (v := 160) hx hb dX2_copyTo_87 (by decide) ?_
      refine lv_imul hx hb dX2_copyTo_90 ?_
      refine lv_iadd hx hb dX2_copyTo_91 ?_
      obtain ⟨st_3, g, hE⟩ := e_bind hE
      refine n_iast X Y 5 13 rfl rfl g dX2_copyTo_92 (fun H locs Y => ?_)
      refine lv_iinc (v := (x2 + (1 : Int32))) (lv' := [(2, .int (x2 + (1 : Int32))), (0, .ref b.h), (1, .int x1)]) hx hb dX2_copyTo_93 hl (k := 2) rfl rfl (by decide) rfl (fun ls hl => ?_)
      refine lv_goto (tgt := 63) hx hb dX2_copyTo_96 (by decide) ?_
      exact ih hE Y (lv_sub hl [1, 2, 0] rfl)
set_option maxHeartbeats 4000000 in
set_option maxRecDepth 100000 in
theorem wbf_copyTo_S63 {l : Launch} {b : bP} {As : List Value} {p : Program} {e : Env} {s : State} {m : MethodId} {below : List Frame} {meth : Method} {c : Code} (X : bX p s m (Value.ref b.h :: As).toArray c cX2_copyTo 3 b) (hr : meth.sig.returnType = none) (hk : meth.locks = false) (n : Nat) {q : bS × Unit} : (∀ {st : bS} {x1 : Int32} {x2 : Int32}, bf_copyTo_S63 n n st x1 x2 = some q → ∀ {H : Heap} {locs : List Loc} {ls : Array Slot}, bY b s st H locs → lv_has ls 3 [(0, .ref b.h), (1, .int x1), (2, .int x2)] → bG l 0 0 b As none q.1 p e s m below meth c H locs (F0 m 63 ls [])) := wbf_copyTo_S63_ X hr hk n n
set_option maxHeartbeats 4000000 in
set_option maxRecDepth 100000 in
theorem wbf_copyTo_S28_ {l : Launch} {b : bP} {As : List Value} {p : Program} {e : Env} {s : State} {m : MethodId} {below : List Frame} {meth : Method} {c : Code} (X : bX p s m (Value.ref b.h :: As).toArray c cX2_copyTo 3 b) (hr : meth.sig.returnType = none) (hk : meth.locks = false) (n : Nat) {q : bS × Unit} : ∀ k : Nat, (∀ {st : bS} {x1 : Int32} {x2 : Int32}, bf_copyTo_S28 n k st x1 x2 = some q → ∀ {H : Heap} {locs : List Loc} {ls : Array Slot}, bY b s st H locs → lv_has ls 3 [(0, .ref b.h), (1, .int x1), (2, .int x2)] → bG l 0 0 b As none q.1 p e s m below meth c H locs (F0 m 28 ls [])) := by
  have hx := X.1
  have hb := X.2.1
  have hown := X.2.2.2.1
  have hts := X.2.2.2.2.1
  intro k
  induction k with
  | zero => exact fun h => nomatch (show none = some q from h)
  | succ k ih =>
    intro st x1 x2 hE H locs ls Y hl
    replace hE : bf_copyTo_B28 n (bf_copyTo_S28 n k) st x1 x2 = some q := hE
    unfold bf_copyTo_B28 at hE
    refine lv_iload_n hx hb dX2_copyTo_28 rfl (lv_at hl 2 rfl) ?_
    refine lv_bipush (v := 8) hx hb dX2_copyTo_29 (by decide) ?_
    refine lv_icmp_ge (tgt := 61) hx hb dX2_copyTo_31 (by decide) (fun c_1 => ?_) (fun c_1 => ?_)
    · replace hE := e_t c_1 hE
      refine lv_iconst (v := 0) hx hb dX2_copyTo_61 (by decide) ?_
      refine lv_istore_n (lv' := [(2, .int (0 : Int32)), (0, .ref b.h), (1, .int x1)]) hx hb dX2_copyTo_62 rfl hl (by decide) rfl (fun ls hl => ?_)
      exact (wbf_copyTo_S63 X hr hk n) hE Y (lv_sub hl [1, 2, 0] rfl)
    · replace hE := e_f c_1 hE
      refine lv_aload_n hx hb dX2_copyTo_34 rfl (lv_at hl 0 rfl) ?_
      refine b_geta X Y 12 (by decide) (by decide) q1815 dX2_copyTo_35 ?_
      refine lv_iload_n hx hb dX2_copyTo_38 rfl (lv_at hl 1 rfl) ?_
      refine lv_bipush (v := 8) hx hb dX2_copyTo_39 (by decide) ?_
      refine lv_imul hx hb dX2_copyTo_41 ?_
      refine lv_iload_n hx hb dX2_copyTo_42 rfl (lv_at hl 2 rfl) ?_
      refine lv_iadd hx hb dX2_copyTo_43 ?_
      refine lv_aload_n hx hb dX2_copyTo_44 rfl (lv_at hl 0 rfl) ?_
      refine b_geta X Y 12 (by decide) (by decide) q1815 dX2_copyTo_45 ?_
      refine lv_sipush (v := 192) hx hb dX2_copyTo_48 (by decide) ?_
      refine lv_iload_n hx hb dX2_copyTo_51 rfl (lv_at hl 2 rfl) ?_
      refine lv_iadd hx hb dX2_copyTo_52 ?_
      obtain ⟨v_2, g, hE⟩ := e_bind hE
      refine n_iald X Y 4 12 rfl rfl g dX2_copyTo_53 ?_
      obtain ⟨st_3, g, hE⟩ := e_bind hE
      refine n_iast X Y 4 12 rfl rfl g dX2_copyTo_54 (fun H locs Y => ?_)
      refine lv_iinc (v := (x2 + (1 : Int32))) (lv' := [(2, .int (x2 + (1 : Int32))), (0, .ref b.h), (1, .int x1)]) hx hb dX2_copyTo_55 hl (k := 2) rfl rfl (by decide) rfl (fun ls hl => ?_)
      refine lv_goto (tgt := 28) hx hb dX2_copyTo_58 (by decide) ?_
      exact ih hE Y (lv_sub hl [1, 2, 0] rfl)
set_option maxHeartbeats 4000000 in
set_option maxRecDepth 100000 in
theorem wbf_copyTo_S28 {l : Launch} {b : bP} {As : List Value} {p : Program} {e : Env} {s : State} {m : MethodId} {below : List Frame} {meth : Method} {c : Code} (X : bX p s m (Value.ref b.h :: As).toArray c cX2_copyTo 3 b) (hr : meth.sig.returnType = none) (hk : meth.locks = false) (n : Nat) {q : bS × Unit} : (∀ {st : bS} {x1 : Int32} {x2 : Int32}, bf_copyTo_S28 n n st x1 x2 = some q → ∀ {H : Heap} {locs : List Loc} {ls : Array Slot}, bY b s st H locs → lv_has ls 3 [(0, .ref b.h), (1, .int x1), (2, .int x2)] → bG l 0 0 b As none q.1 p e s m below meth c H locs (F0 m 28 ls [])) := wbf_copyTo_S28_ X hr hk n n
set_option maxHeartbeats 4000000 in
set_option maxRecDepth 100000 in
theorem mbf_copyTo (l : Launch) (n : Nat) (b : bP) (ok : bOk b) {st : bS} {a1 : Int32} {q : bS × Unit} (hE : bf_copyTo n st a1 = some q) : bMet l yX2_copyTo cX2_copyTo 3 none 0 0 b [.int a1] st none q.1 := by
  refine b_ofW (by decide) rfl ok (Nat.le_of_ble_eq_true rfl) (fun p e s m below meth c ls X Y hr hk hl => ?_)
  have hl : lv_has ls 3 [(0, .ref b.h), (1, .int a1)] := hl
  generalize s.heap = H at Y ⊢
  generalize ([] : List Loc) = locs at Y ⊢
  have hx := X.1
  have hb := X.2.1
  have hown := X.2.2.2.1
  have hts := X.2.2.2.2.1
  unfold bf_copyTo at hE
  refine lv_aload_n hx hb dX2_copyTo_0 rfl (lv_at hl 0 rfl) ?_
  refine b_geta X Y 10 (by decide) (by decide) q1813 dX2_copyTo_1 ?_
  refine lv_iload_n hx hb dX2_copyTo_4 rfl (lv_at hl 1 rfl) ?_
  refine lv_aload_n hx hb dX2_copyTo_5 rfl (lv_at hl 0 rfl) ?_
  refine b_geta X Y 10 (by decide) (by decide) q1813 dX2_copyTo_6 ?_
  refine lv_bipush (v := 24) hx hb dX2_copyTo_9 (by decide) ?_
  obtain ⟨v_1, g, hE⟩ := e_bind hE
  refine n_iald X Y 2 10 rfl rfl g dX2_copyTo_11 ?_
  obtain ⟨st_2, g, hE⟩ := e_bind hE
  refine n_iast X Y 2 10 rfl rfl g dX2_copyTo_12 (fun H locs Y => ?_)
  refine lv_aload_n hx hb dX2_copyTo_13 rfl (lv_at hl 0 rfl) ?_
  refine b_geta X Y 11 (by decide) (by decide) q1814 dX2_copyTo_14 ?_
  refine lv_iload_n hx hb dX2_copyTo_17 rfl (lv_at hl 1 rfl) ?_
  refine lv_aload_n hx hb dX2_copyTo_18 rfl (lv_at hl 0 rfl) ?_
  refine b_geta X Y 11 (by decide) (by decide) q1814 dX2_copyTo_19 ?_
  refine lv_bipush (v := 24) hx hb dX2_copyTo_22 (by decide) ?_
  obtain ⟨v_3, g, hE⟩ := e_bind hE
  refine n_iald X Y 3 11 rfl rfl g dX2_copyTo_24 ?_
  obtain ⟨st_4, g, hE⟩ := e_bind hE
  refine n_iast X Y 3 11 rfl rfl g dX2_copyTo_25 (fun H locs Y => ?_)
  refine lv_iconst (v := 0) hx hb dX2_copyTo_26 (by decide) ?_
  refine lv_istore_n (lv' := [(2, .int (0 : Int32)), (0, .ref b.h), (1, .int a1)]) hx hb dX2_copyTo_27 rfl hl (by decide) rfl (fun ls hl => ?_)
  exact (wbf_copyTo_S28 X hr hk n) hE Y (lv_sub hl [1, 2, 0] rfl)
/-! BasicMachineModel.lines()I -/
set_option maxHeartbeats 4000000 in
set_option maxRecDepth 100000 in
theorem wbf_lines_S4_ {l : Launch} {b : bP} {As : List Value} {p : Program} {e : Env} {s : State} {m : MethodId} {below : List Frame} {meth : Method} {c : Code} (X : bX p s m (Value.ref b.h :: As).toArray c cX2_lines 3 b) (hr : meth.sig.returnType = (some .int)) (hk : meth.locks = false) (n : Nat) {q : bS × Int32} : ∀ k : Nat, (∀ {st : bS} {x1 : Int32} {x2 : Int32}, bf_lines_S4 n k 0 st x1 x2 = some q → ∀ {H : Heap} {locs : List Loc} {ls : Array Slot}, bY b s st H locs → lv_has ls 3 [(0, .ref b.h), (1, .int x1), (2, .int x2)] → bG l 0 0 b As (some (.int q.2)) q.1 p e s m below meth c H locs (F0 m 4 ls [])) ∧ (∀ {st : bS} {x1 : Int32} {x2 : Int32}, bf_lines_S4 n k 1 st x1 x2 = some q → ∀ {H : Heap} {locs : List Loc} {ls : Array Slot}, bY b s st H locs → lv_has ls 3 [(0, .ref b.h), (1, .int x1), (2, .int x2)] → bG l 0 0 b As (some (.int q.2)) q.1 p e s m below meth c H locs (F0 m 22 ls [])) := by
  have hx := X.1
  have hb := X.2.1
  have hown := X.2.2.2.1
  have hts := X.2.2.2.2.1
  intro k
  induction k with
  | zero => exact ⟨(fun h => nomatch (show none = some q from h)), (fun h => nomatch (show none = some q from h))⟩
  | succ k ih =>
    obtain ⟨ih0, ih1⟩ := ih
    refine ⟨?_, ?_⟩
    · intro st x1 x2 hE H locs ls Y hl
      replace hE : bf_lines_B4 n (bf_lines_S4 n k) st x1 x2 = some q := hE
      unfold bf_lines_B4 at hE
      refine lv_iload_n hx hb dX2_lines_4 rfl (lv_at hl 2 rfl) ?_
      refine lv_bipush (v := 24) hx hb dX2_lines_5 (by decide) ?_
      refine lv_icmp_ge (tgt := 28) hx hb dX2_lines_7 (by decide) (fun c_1 => ?_) (fun c_1 => ?_)
      · replace hE := e_t c_1 hE
        refine lv_iload_n hx hb dX2_lines_28 rfl (lv_at hl 1 rfl) ?_
        cases hE
        exact b_iret X Y hr hk dX2_lines_29
      · replace hE := e_f c_1 hE
        refine lv_aload_n hx hb dX2_lines_10 rfl (lv_at hl 0 rfl) ?_
        refine b_geta X Y 10 (by decide) (by decide) q1813 dX2_lines_11 ?_
        refine lv_iload_n hx hb dX2_lines_14 rfl (lv_at hl 2 rfl) ?_
        obtain ⟨v_2, g, hE⟩ := e_bind hE
        refine n_iald X Y 2 10 rfl rfl g dX2_lines_15 ?_
        refine lv_if_eq (tgt := 22) hx hb dX2_lines_16 (by decide) (fun c_3 => ?_) (fun c_3 => ?_)
        · replace hE := e_t c_3 hE
          exact ih1 hE Y (lv_sub hl [0, 1, 2] rfl)
        · replace hE := e_f c_3 hE
          refine lv_iinc (v := (x1 + (1 : Int32))) (lv' := [(1, .int (x1 + (1 : Int32))), (0, .ref b.h), (2, .int x2)]) hx hb dX2_lines_19 hl (k := 1) rfl rfl (by decide) rfl (fun ls hl => ?_)
          exact ih1 hE Y (lv_sub hl [1, 0, 2] rfl)
    · intro st x1 x2 hE H locs ls Y hl
      replace hE : bf_lines_B22 n (bf_lines_S4 n k) st x1 x2 = some q := hE
      unfold bf_lines_B22 at hE
      refine lv_iinc (v := (x2 + (1 : Int32))) (lv' := [(2, .int (x2 + (1 : Int32))), (0, .ref b.h), (1, .int x1)]) hx hb dX2_lines_22 hl (k := 2) rfl rfl (by decide) rfl (fun ls hl => ?_)
      refine lv_goto (tgt := 4) hx hb dX2_lines_25 (by decide) ?_
      exact ih0 hE Y (lv_sub hl [1, 2, 0] rfl)
set_option maxHeartbeats 4000000 in
set_option maxRecDepth 100000 in
theorem wbf_lines_S4 {l : Launch} {b : bP} {As : List Value} {p : Program} {e : Env} {s : State} {m : MethodId} {below : List Frame} {meth : Method} {c : Code} (X : bX p s m (Value.ref b.h :: As).toArray c cX2_lines 3 b) (hr : meth.sig.returnType = (some .int)) (hk : meth.locks = false) (n : Nat) {q : bS × Int32} : (∀ {st : bS} {x1 : Int32} {x2 : Int32}, bf_lines_S4 n n 0 st x1 x2 = some q → ∀ {H : Heap} {locs : List Loc} {ls : Array Slot}, bY b s st H locs → lv_has ls 3 [(0, .ref b.h), (1, .int x1), (2, .int x2)] → bG l 0 0 b As (some (.int q.2)) q.1 p e s m below meth c H locs (F0 m 4 ls [])) ∧ (∀ {st : bS} {x1 : Int32} {x2 : Int32}, bf_lines_S4 n n 1 st x1 x2 = some q → ∀ {H : Heap} {locs : List Loc} {ls : Array Slot}, bY b s st H locs → lv_has ls 3 [(0, .ref b.h), (1, .int x1), (2, .int x2)] → bG l 0 0 b As (some (.int q.2)) q.1 p e s m below meth c H locs (F0 m 22 ls [])) := wbf_lines_S4_ X hr hk n n
set_option maxHeartbeats 4000000 in
set_option maxRecDepth 100000 in
theorem mbf_lines (l : Launch) (n : Nat) (b : bP) (ok : bOk b) {st : bS} {q : bS × Int32} (hE : bf_lines n st = some q) : bMet l yX2_lines cX2_lines 3 (some .int) 0 0 b [] st (some (.int q.2)) q.1 := by
  refine b_ofW (by decide) rfl ok (Nat.le_of_ble_eq_true rfl) (fun p e s m below meth c ls X Y hr hk hl => ?_)
  have hl : lv_has ls 3 [(0, .ref b.h)] := hl
  generalize s.heap = H at Y ⊢
  generalize ([] : List Loc) = locs at Y ⊢
  have hx := X.1
  have hb := X.2.1
  have hown := X.2.2.2.1
  have hts := X.2.2.2.2.1
  unfold bf_lines at hE
  refine lv_iconst (v := 0) hx hb dX2_lines_0 (by decide) ?_
  refine lv_istore_n (lv' := [(1, .int (0 : Int32)), (0, .ref b.h)]) hx hb dX2_lines_1 rfl hl (by decide) rfl (fun ls hl => ?_)
  refine lv_iconst (v := 0) hx hb dX2_lines_2 (by decide) ?_
  refine lv_istore_n (lv' := [(2, .int (0 : Int32)), (1, .int (0 : Int32)), (0, .ref b.h)]) hx hb dX2_lines_3 rfl hl (by decide) rfl (fun ls hl => ?_)
  exact (wbf_lines_S4 X hr hk n).1 hE Y (lv_sub hl [2, 1, 0] rfl)
/-! BasicMachineModel.enter()I -/
set_option maxHeartbeats 4000000 in
set_option maxRecDepth 100000 in
theorem wbf_enter_L213 {l : Launch} {b : bP} {As : List Value} {p : Program} {e : Env} {s : State} {m : MethodId} {below : List Frame} {meth : Method} {c : Code} (X : bX p s m (Value.ref b.h :: As).toArray c cX2_enter 3 b) (hr : meth.sig.returnType = (some .int)) (hk : meth.locks = false) {n : Nat} {st : bS} {x2 : Int32} {q : bS × Int32} (hE : bf_enter_L213 n st x2 = some q) {H : Heap} {locs : List Loc} {ls : Array Slot} (Y : bY b s st H locs) (hl : lv_has ls 3 [(0, .ref b.h), (2, .int x2)]) : bG l 7 173 b As (some (.int q.2)) q.1 p e s m below meth c H locs (F0 m 213 ls []) := by
  have hx := X.1
  have hb := X.2.1
  have hown := X.2.2.2.1
  have hts := X.2.2.2.2.1
  unfold bf_enter_L213 at hE
  refine lv_iload_n hx hb dX2_enter_213 rfl (lv_at hl 1 rfl) ?_
  refine lv_if_ge (tgt := 223) hx hb dX2_enter_214 (by decide) (fun c_1 => ?_) (fun c_1 => ?_)
  · replace hE := e_t c_1 hE
    refine lv_aload_n hx hb dX2_enter_223 rfl (lv_at hl 0 rfl) ?_
    refine lv_iload_n hx hb dX2_enter_224 rfl (lv_at hl 1 rfl) ?_
    obtain ⟨q_2, g, hE⟩ := e_bind hE
    refine n_call0 (n := 1) [.int x2] X Y (mbf_copyTo l n b X.2.2.2.2.2.2 g) q2136 q2138 qs91 q2139 (by decide +kernel) (by decide) rfl hl.1 (Nat.le_of_ble_eq_true rfl) dX2_enter_225 (by decide) (fun H locs Y => ?_)
    refine lv_aload_n hx hb dX2_enter_228 rfl (lv_at hl 0 rfl) ?_
    refine lv_aload_n hx hb dX2_enter_229 rfl (lv_at hl 0 rfl) ?_
    obtain ⟨q_3, g, hE⟩ := e_bind hE
    refine n_call1 (n := 0) [] X Y (mbf_lines l n b X.2.2.2.2.2.2 g) q2132 q2134 qs90 q2135 (by decide +kernel) (by decide) rfl hl.1 (Nat.le_of_ble_eq_true rfl) dX2_enter_230 (by decide) (fun H locs Y => ?_)
    obtain ⟨q_4, g, hE⟩ := e_bind hE
    refine n_call1 (n := 1) [.int q_3.2] X Y (mbf_fine l n b X.2.2.2.2.2.2 g) q1951 q1953 qs53 q1954 (by decide +kernel) (by decide) rfl hl.1 (Nat.le_of_ble_eq_true rfl) dX2_enter_233 (by decide) (fun H locs Y => ?_)
    cases hE
    exact b_iret X Y hr hk dX2_enter_236
  · replace hE := e_f c_1 hE
    refine lv_aload_n hx hb dX2_enter_217 rfl (lv_at hl 0 rfl) ?_
    refine lv_iconst (v := 3) hx hb dX2_enter_218 (by decide) ?_
    obtain ⟨q_5, g, hE⟩ := e_bind hE
    refine n_call1 (n := 1) [.int (3 : Int32)] X Y (mbf_refuse l n b X.2.2.2.2.2.2 g) q1947 q1949 qs52 q1950 (by decide +kernel) (by decide) rfl hl.1 (Nat.le_of_ble_eq_true rfl) dX2_enter_219 (by decide) (fun H locs Y => ?_)
    cases hE
    exact b_iret X Y hr hk dX2_enter_222
set_option maxHeartbeats 4000000 in
set_option maxRecDepth 100000 in
theorem wbf_enter_L140 {l : Launch} {b : bP} {As : List Value} {p : Program} {e : Env} {s : State} {m : MethodId} {below : List Frame} {meth : Method} {c : Code} (X : bX p s m (Value.ref b.h :: As).toArray c cX2_enter 3 b) (hr : meth.sig.returnType = (some .int)) (hk : meth.locks = false) {n : Nat} {st : bS} {x1 : Int32} {q : bS × Int32} (hE : bf_enter_L140 n st x1 = some q) {H : Heap} {locs : List Loc} {ls : Array Slot} (Y : bY b s st H locs) (hl : lv_has ls 3 [(0, .ref b.h), (1, .int x1)]) : bG l 7 173 b As (some (.int q.2)) q.1 p e s m below meth c H locs (F0 m 140 ls []) := by
  have hx := X.1
  have hb := X.2.1
  have hown := X.2.2.2.1
  have hts := X.2.2.2.2.1
  unfold bf_enter_L140 at hE
  refine lv_aload_n hx hb dX2_enter_140 rfl (lv_at hl 0 rfl) ?_
  refine b_geti X Y 7 rfl (by decide) rfl q1810 dX2_enter_141 ?_
  refine lv_if_eq (tgt := 161) hx hb dX2_enter_144 (by decide) (fun c_1 => ?_) (fun c_1 => ?_)
  · replace hE := e_t c_1 hE
    refine lv_aload_n hx hb dX2_enter_161 rfl (lv_at hl 0 rfl) ?_
    refine lv_aload_n hx hb dX2_enter_162 rfl (lv_at hl 0 rfl) ?_
    refine b_geta X Y 10 (by decide) (by decide) q1813 dX2_enter_163 ?_
    refine lv_bipush (v := 24) hx hb dX2_enter_166 (by decide) ?_
    obtain ⟨v_2, g, hE⟩ := e_bind hE
    refine n_iald X Y 2 10 rfl rfl g dX2_enter_168 ?_
    obtain ⟨q_3, g, hE⟩ := e_bind hE
    refine n_call1 (n := 1) [.int v_2] X Y (mbf_slotOf l n b X.2.2.2.2.2.2 g) q2128 q2130 qs89 q2131 (by decide +kernel) (by decide) rfl hl.1 (Nat.le_of_ble_eq_true rfl) dX2_enter_169 (by decide) (fun H locs Y => ?_)
    refine lv_istore_n (lv' := [(2, .int q_3.2), (0, .ref b.h), (1, .int x1)]) hx hb dX2_enter_172 rfl hl (by decide) rfl (fun ls hl => ?_)
    refine lv_iload_n hx hb dX2_enter_173 rfl (lv_at hl 2 rfl) ?_
    refine lv_if_eq (tgt := 203) hx hb dX2_enter_174 (by decide) (fun c_4 => ?_) (fun c_4 => ?_)
    · replace hE := e_t c_4 hE
      refine lv_iload_n hx hb dX2_enter_203 rfl (lv_at hl 0 rfl) ?_
      refine lv_if_ge (tgt := 213) hx hb dX2_enter_204 (by decide) (fun c_5 => ?_) (fun c_5 => ?_)
      · replace hE := e_t c_5 hE
        exact wbf_enter_L213 X hr hk hE Y (lv_sub hl [1, 0] rfl)
      · replace hE := e_f c_5 hE
        refine lv_aload_n hx hb dX2_enter_207 rfl (lv_at hl 1 rfl) ?_
        refine lv_iconst (v := 0) hx hb dX2_enter_208 (by decide) ?_
        obtain ⟨q_6, g, hE⟩ := e_bind hE
        refine n_call1 (n := 1) [.int (0 : Int32)] X Y (mbf_slotOf l n b X.2.2.2.2.2.2 g) q2128 q2130 qs89 q2131 (by decide +kernel) (by decide) rfl hl.1 (Nat.le_of_ble_eq_true rfl) dX2_enter_209 (by decide) (fun H locs Y => ?_)
        refine lv_istore_n (lv' := [(2, .int q_6.2), (0, .ref b.h), (1, .int x1)]) hx hb dX2_enter_212 rfl hl (by decide) rfl (fun ls hl => ?_)
        exact wbf_enter_L213 X hr hk hE Y (lv_sub hl [1, 0] rfl)
    · replace hE := e_f c_4 hE
      refine lv_iload_n hx hb dX2_enter_177 rfl (lv_at hl 0 rfl) ?_
      refine lv_if_ge (tgt := 187) hx hb dX2_enter_178 (by decide) (fun c_7 => ?_) (fun c_7 => ?_)
      · replace hE := e_t c_7 hE
        refine lv_aload_n hx hb dX2_enter_187 rfl (lv_at hl 1 rfl) ?_
        refine b_geta X Y 10 (by decide) (by decide) q1813 dX2_enter_188 ?_
        refine lv_iload_n hx hb dX2_enter_191 rfl (lv_at hl 0 rfl) ?_
        refine lv_iconst (v := 0) hx hb dX2_enter_192 (by decide) ?_
        obtain ⟨st_8, g, hE⟩ := e_bind hE
        refine n_iast X Y 2 10 rfl rfl g dX2_enter_193 (fun H locs Y => ?_)
        refine lv_aload_n hx hb dX2_enter_194 rfl (lv_at hl 1 rfl) ?_
        refine lv_aload_n hx hb dX2_enter_195 rfl (lv_at hl 1 rfl) ?_
        obtain ⟨q_9, g, hE⟩ := e_bind hE
        refine n_call1 (n := 0) [] X Y (mbf_lines l n b X.2.2.2.2.2.2 g) q2132 q2134 qs90 q2135 (by decide +kernel) (by decide) rfl hl.1 (Nat.le_of_ble_eq_true rfl) dX2_enter_196 (by decide) (fun H locs Y => ?_)
        obtain ⟨q_10, g, hE⟩ := e_bind hE
        refine n_call1 (n := 1) [.int q_9.2] X Y (mbf_fine l n b X.2.2.2.2.2.2 g) q1951 q1953 qs53 q1954 (by decide +kernel) (by decide) rfl hl.1 (Nat.le_of_ble_eq_true rfl) dX2_enter_199 (by decide) (fun H locs Y => ?_)
        cases hE
        exact b_iret X Y hr hk dX2_enter_202
      · replace hE := e_f c_7 hE
        refine lv_aload_n hx hb dX2_enter_181 rfl (lv_at hl 1 rfl) ?_
        refine lv_iconst (v := 2) hx hb dX2_enter_182 (by decide) ?_
        obtain ⟨q_11, g, hE⟩ := e_bind hE
        refine n_call1 (n := 1) [.int (2 : Int32)] X Y (mbf_refuse l n b X.2.2.2.2.2.2 g) q1947 q1949 qs52 q1950 (by decide +kernel) (by decide) rfl hl.1 (Nat.le_of_ble_eq_true rfl) dX2_enter_183 (by decide) (fun H locs Y => ?_)
        cases hE
        exact b_iret X Y hr hk dX2_enter_186
  · replace hE := e_f c_1 hE
    refine lv_aload_n hx hb dX2_enter_147 rfl (lv_at hl 0 rfl) ?_
    refine lv_aload_n hx hb dX2_enter_148 rfl (lv_at hl 0 rfl) ?_
    refine b_geti X Y 4 rfl (by decide) rfl q1807 dX2_enter_149 ?_
    obtain ⟨st_12, g, hE⟩ := e_bind hE
    refine n_put X Y 3 rfl (by decide) g rfl rfl rfl q1806 dX2_enter_152 (fun H locs Y => ?_)
    refine lv_aload_n hx hb dX2_enter_155 rfl (lv_at hl 0 rfl) ?_
    refine lv_iconst (v := 1) hx hb dX2_enter_156 (by decide) ?_
    obtain ⟨q_13, g, hE⟩ := e_bind hE
    refine n_call1 (n := 1) [.int (1 : Int32)] X Y (mbf_refuse l n b X.2.2.2.2.2.2 g) q1947 q1949 qs52 q1950 (by decide +kernel) (by decide) rfl hl.1 (Nat.le_of_ble_eq_true rfl) dX2_enter_157 (by decide) (fun H locs Y => ?_)
    cases hE
    exact b_iret X Y hr hk dX2_enter_160
set_option maxHeartbeats 4000000 in
set_option maxRecDepth 100000 in
theorem wbf_enter_L124 {l : Launch} {b : bP} {As : List Value} {p : Program} {e : Env} {s : State} {m : MethodId} {below : List Frame} {meth : Method} {c : Code} (X : bX p s m (Value.ref b.h :: As).toArray c cX2_enter 3 b) (hr : meth.sig.returnType = (some .int)) (hk : meth.locks = false) {n : Nat} {st : bS} {z124_0 : Int32} {q : bS × Int32} (hE : bf_enter_L124 n st z124_0 = some q) {H : Heap} {locs : List Loc} {ls : Array Slot} (Y : bY b s st H locs) (hl : lv_has ls 3 [(0, .ref b.h)]) : bG l 7 173 b As (some (.int q.2)) q.1 p e s m below meth c H locs (F0 m 124 ls [.int z124_0]) := by
  have hx := X.1
  have hb := X.2.1
  have hown := X.2.2.2.1
  have hts := X.2.2.2.2.1
  unfold bf_enter_L124 at hE
  refine lv_istore_n (lv' := [(1, .int z124_0), (0, .ref b.h)]) hx hb dX2_enter_124 rfl hl (by decide) rfl (fun ls hl => ?_)
  refine lv_iload_n hx hb dX2_enter_125 rfl (lv_at hl 0 rfl) ?_
  refine lv_if_ne (tgt := 140) hx hb dX2_enter_126 (by decide) (fun c_1 => ?_) (fun c_1 => ?_)
  · replace hE := e_f c_1 hE
    exact wbf_enter_L140 X hr hk hE Y (lv_sub hl [1, 0] rfl)
  · replace hE := e_t c_1 hE
    refine lv_aload_n hx hb dX2_enter_129 rfl (lv_at hl 1 rfl) ?_
    refine b_geti X Y 7 rfl (by decide) rfl q1810 dX2_enter_130 ?_
    refine lv_if_ne (tgt := 140) hx hb dX2_enter_133 (by decide) (fun c_2 => ?_) (fun c_2 => ?_)
    · replace hE := e_f c_2 hE
      exact wbf_enter_L140 X hr hk hE Y (lv_sub hl [1, 0] rfl)
    · replace hE := e_t c_2 hE
      refine lv_aload_n hx hb dX2_enter_136 rfl (lv_at hl 1 rfl) ?_
      obtain ⟨q_3, g, hE⟩ := e_bind hE
      refine n_call0 (n := 0) [] X Y (mbf_statement l n b X.2.2.2.2.2.2 g) q1971 q1973 qs57 q1974 (by decide +kernel) (by decide) rfl hl.1 (Nat.le_of_ble_eq_true rfl) dX2_enter_137 (by decide) (fun H locs Y => ?_)
      exact wbf_enter_L140 X hr hk hE Y (lv_sub hl [1, 0] rfl)
set_option maxHeartbeats 4000000 in
set_option maxRecDepth 100000 in
theorem wbf_enter_L123 {l : Launch} {b : bP} {As : List Value} {p : Program} {e : Env} {s : State} {m : MethodId} {below : List Frame} {meth : Method} {c : Code} (X : bX p s m (Value.ref b.h :: As).toArray c cX2_enter 3 b) (hr : meth.sig.returnType = (some .int)) (hk : meth.locks = false) {n : Nat} {st : bS} {q : bS × Int32} (hE : bf_enter_L123 n st = some q) {H : Heap} {locs : List Loc} {ls : Array Slot} (Y : bY b s st H locs) (hl : lv_has ls 3 [(0, .ref b.h)]) : bG l 7 173 b As (some (.int q.2)) q.1 p e s m below meth c H locs (F0 m 123 ls []) := by
  have hx := X.1
  have hb := X.2.1
  have hown := X.2.2.2.1
  have hts := X.2.2.2.2.1
  unfold bf_enter_L123 at hE
  refine lv_iconst (v := 0) hx hb dX2_enter_123 (by decide) ?_
  exact wbf_enter_L124 X hr hk hE Y (lv_sub hl [0] rfl)
set_option maxHeartbeats 4000000 in
set_option maxRecDepth 100000 in
theorem wbf_enter_S7_ {l : Launch} {b : bP} {As : List Value} {p : Program} {e : Env} {s : State} {m : MethodId} {below : List Frame} {meth : Method} {c : Code} (X : bX p s m (Value.ref b.h :: As).toArray c cX2_enter 3 b) (hr : meth.sig.returnType = (some .int)) (hk : meth.locks = false) (n : Nat) {q : bS × Int32} : ∀ k : Nat, (∀ {st : bS} {x1 : Int32}, bf_enter_S7 n k 0 st x1 = some q → ∀ {H : Heap} {locs : List Loc} {ls : Array Slot}, bY b s st H locs → lv_has ls 3 [(0, .ref b.h), (1, .int x1)] → bG l 7 173 b As (some (.int q.2)) q.1 p e s m below meth c H locs (F0 m 7 ls [])) ∧ (∀ {st : bS} {x1 : Int32}, bf_enter_S7 n k 1 st x1 = some q → ∀ {H : Heap} {locs : List Loc} {ls : Array Slot}, bY b s st H locs → lv_has ls 3 [(0, .ref b.h), (1, .int x1)] → bG l 7 173 b As (some (.int q.2)) q.1 p e s m below meth c H locs (F0 m 54 ls [])) := by
  have hx := X.1
  have hb := X.2.1
  have hown := X.2.2.2.1
  have hts := X.2.2.2.2.1
  intro k
  induction k with
  | zero => exact ⟨(fun h => nomatch (show none = some q from h)), (fun h => nomatch (show none = some q from h))⟩
  | succ k ih =>
    obtain ⟨ih0, ih1⟩ := ih
    refine ⟨?_, ?_⟩
    · intro st x1 hE H locs ls Y hl
      replace hE : bf_enter_B7 n (bf_enter_S7 n k) st x1 = some q := hE
      unfold bf_enter_B7 at hE
      refine lv_iload_n hx hb dX2_enter_7 rfl (lv_at hl 1 rfl) ?_
      refine lv_aload_n hx hb dX2_enter_8 rfl (lv_at hl 0 rfl) ?_
      refine b_geti X Y 1 rfl (by decide) rfl q1804 dX2_enter_9 ?_
      refine lv_icmp_ge (tgt := 60) hx hb dX2_enter_12 (by decide) (fun c_1 => ?_) (fun c_1 => ?_)
      · replace hE := e_t c_1 hE
        refine lv_aload_n hx hb dX2_enter_60 rfl (lv_at hl 0 rfl) ?_
        refine lv_iconst (v := 0) hx hb dX2_enter_61 (by decide) ?_
        obtain ⟨st_2, g, hE⟩ := e_bind hE
        refine n_put X Y 1 rfl (by decide) g rfl rfl rfl q1804 dX2_enter_62 (fun H locs Y => ?_)
        refine lv_aload_n hx hb dX2_enter_65 rfl (lv_at hl 0 rfl) ?_
        refine lv_iconst (v := 0) hx hb dX2_enter_66 (by decide) ?_
        obtain ⟨st_3, g, hE⟩ := e_bind hE
        refine n_put X Y 4 rfl (by decide) g rfl rfl rfl q1807 dX2_enter_67 (fun H locs Y => ?_)
        refine lv_aload_n hx hb dX2_enter_70 rfl (lv_at hl 0 rfl) ?_
        refine lv_iconst (v := 0) hx hb dX2_enter_71 (by decide) ?_
        obtain ⟨st_4, g, hE⟩ := e_bind hE
        refine n_put X Y 5 rfl (by decide) g rfl rfl rfl q1808 dX2_enter_72 (fun H locs Y => ?_)
        refine lv_aload_n hx hb dX2_enter_75 rfl (lv_at hl 0 rfl) ?_
        refine lv_iconst (v := 0) hx hb dX2_enter_76 (by decide) ?_
        obtain ⟨st_5, g, hE⟩ := e_bind hE
        refine n_put X Y 6 rfl (by decide) g rfl rfl rfl q1809 dX2_enter_77 (fun H locs Y => ?_)
        refine lv_aload_n hx hb dX2_enter_80 rfl (lv_at hl 0 rfl) ?_
        refine lv_iconst (v := 0) hx hb dX2_enter_81 (by decide) ?_
        obtain ⟨st_6, g, hE⟩ := e_bind hE
        refine n_put X Y 7 rfl (by decide) g rfl rfl rfl q1810 dX2_enter_82 (fun H locs Y => ?_)
        refine lv_aload_n hx hb dX2_enter_85 rfl (lv_at hl 0 rfl) ?_
        refine lv_iconst (v := -1) hx hb dX2_enter_86 (by decide) ?_
        obtain ⟨st_7, g, hE⟩ := e_bind hE
        refine n_put X Y 3 rfl (by decide) g rfl rfl rfl q1806 dX2_enter_87 (fun H locs Y => ?_)
        refine lv_aload_n hx hb dX2_enter_90 rfl (lv_at hl 0 rfl) ?_
        refine b_geta X Y 10 (by decide) (by decide) q1813 dX2_enter_91 ?_
        refine lv_bipush (v := 24) hx hb dX2_enter_94 (by decide) ?_
        refine lv_aload_n hx hb dX2_enter_96 rfl (lv_at hl 0 rfl) ?_
        obtain ⟨q_8, g, hE⟩ := e_bind hE
        refine n_call1 (n := 0) [] X Y (mbf_lineNumber l n b X.2.2.2.2.2.2 g) q1959 q1961 qs54 q1962 (by decide +kernel) (by decide) rfl hl.1 (Nat.le_of_ble_eq_true rfl) dX2_enter_97 (by decide) (fun H locs Y => ?_)
        obtain ⟨st_9, g, hE⟩ := e_bind hE
        refine n_iast X Y 2 10 rfl rfl g dX2_enter_100 (fun H locs Y => ?_)
        refine lv_aload_n hx hb dX2_enter_101 rfl (lv_at hl 0 rfl) ?_
        refine b_geti X Y 7 rfl (by decide) rfl q1810 dX2_enter_102 ?_
        refine lv_if_ne (tgt := 123) hx hb dX2_enter_105 (by decide) (fun c_10 => ?_) (fun c_10 => ?_)
        · replace hE := e_f c_10 hE
          exact wbf_enter_L123 X hr hk hE Y (lv_sub hl [0] rfl)
        · replace hE := e_t c_10 hE
          refine lv_aload_n hx hb dX2_enter_108 rfl (lv_at hl 0 rfl) ?_
          refine b_geti X Y 4 rfl (by decide) rfl q1807 dX2_enter_109 ?_
          refine lv_aload_n hx hb dX2_enter_112 rfl (lv_at hl 0 rfl) ?_
          refine b_geti X Y 2 rfl (by decide) rfl q1805 dX2_enter_113 ?_
          refine lv_icmp_ne (tgt := 123) hx hb dX2_enter_116 (by decide) (fun c_11 => ?_) (fun c_11 => ?_)
          · replace hE := e_f c_11 hE
            exact wbf_enter_L123 X hr hk hE Y (lv_sub hl [0] rfl)
          · replace hE := e_t c_11 hE
            refine lv_iconst (v := 1) hx hb dX2_enter_119 (by decide) ?_
            refine lv_goto (tgt := 124) hx hb dX2_enter_120 (by decide) ?_
            exact wbf_enter_L124 X hr hk hE Y (lv_sub hl [0] rfl)
      · replace hE := e_f c_1 hE
        refine lv_aload_n hx hb dX2_enter_15 rfl (lv_at hl 0 rfl) ?_
        refine b_geta X Y 8 (by decide) (by decide) q1811 dX2_enter_16 ?_
        refine lv_iload_n hx hb dX2_enter_19 rfl (lv_at hl 1 rfl) ?_
        obtain ⟨v_12, g, hE⟩ := e_bind hE
        refine n_cald X Y 0 8 rfl rfl g dX2_enter_20 ?_
        refine lv_bipush (v := 32) hx hb dX2_enter_21 (by decide) ?_
        refine lv_icmp_ne (tgt := 29) hx hb dX2_enter_23 (by decide) (fun c_13 => ?_) (fun c_13 => ?_)
        · replace hE := e_f c_13 hE
          refine lv_aload_n hx hb dX2_enter_29 rfl (lv_at hl 0 rfl) ?_
          refine b_geta X Y 9 (by decide) (by decide) q1812 dX2_enter_30 ?_
          refine lv_aload_n hx hb dX2_enter_33 rfl (lv_at hl 0 rfl) ?_
          refine b_geti X Y 2 rfl (by decide) rfl q1805 dX2_enter_34 ?_
          refine lv_aload_n hx hb dX2_enter_37 rfl (lv_at hl 0 rfl) ?_
          refine b_geta X Y 8 (by decide) (by decide) q1811 dX2_enter_38 ?_
          refine lv_iload_n hx hb dX2_enter_41 rfl (lv_at hl 1 rfl) ?_
          obtain ⟨v_14, g, hE⟩ := e_bind hE
          refine n_cald X Y 0 8 rfl rfl g dX2_enter_42 ?_
          obtain ⟨st_15, g, hE⟩ := e_bind hE
          refine n_cast X Y 1 9 rfl rfl g dX2_enter_43 (fun H locs Y => ?_)
          refine lv_aload_n hx hb dX2_enter_44 rfl (lv_at hl 0 rfl) ?_
          refine lv_dup hx hb dX2_enter_45 rfl ?_
          refine b_geti X Y 2 rfl (by decide) rfl q1805 dX2_enter_46 ?_
          refine lv_iconst (v := 1) hx hb dX2_enter_49 (by decide) ?_
          refine lv_iadd hx hb dX2_enter_50 ?_
          obtain ⟨st_16, g, hE⟩ := e_bind hE
          refine n_put X Y 2 rfl (by decide) g rfl rfl rfl q1805 dX2_enter_51 (fun H locs Y => ?_)
          exact ih1 hE Y (lv_sub hl [0, 1] rfl)
        · replace hE := e_t c_13 hE
          refine lv_goto (tgt := 54) hx hb dX2_enter_26 (by decide) ?_
          exact ih1 hE Y (lv_sub hl [0, 1] rfl)
    · intro st x1 hE H locs ls Y hl
      replace hE : bf_enter_B54 n (bf_enter_S7 n k) st x1 = some q := hE
      unfold bf_enter_B54 at hE
      refine lv_iinc (v := (x1 + (1 : Int32))) (lv' := [(1, .int (x1 + (1 : Int32))), (0, .ref b.h)]) hx hb dX2_enter_54 hl (k := 1) rfl rfl (by decide) rfl (fun ls hl => ?_)
      refine lv_goto (tgt := 7) hx hb dX2_enter_57 (by decide) ?_
      exact ih0 hE Y (lv_sub hl [1, 0] rfl)
set_option maxHeartbeats 4000000 in
set_option maxRecDepth 100000 in
theorem wbf_enter_S7 {l : Launch} {b : bP} {As : List Value} {p : Program} {e : Env} {s : State} {m : MethodId} {below : List Frame} {meth : Method} {c : Code} (X : bX p s m (Value.ref b.h :: As).toArray c cX2_enter 3 b) (hr : meth.sig.returnType = (some .int)) (hk : meth.locks = false) (n : Nat) {q : bS × Int32} : (∀ {st : bS} {x1 : Int32}, bf_enter_S7 n n 0 st x1 = some q → ∀ {H : Heap} {locs : List Loc} {ls : Array Slot}, bY b s st H locs → lv_has ls 3 [(0, .ref b.h), (1, .int x1)] → bG l 7 173 b As (some (.int q.2)) q.1 p e s m below meth c H locs (F0 m 7 ls [])) ∧ (∀ {st : bS} {x1 : Int32}, bf_enter_S7 n n 1 st x1 = some q → ∀ {H : Heap} {locs : List Loc} {ls : Array Slot}, bY b s st H locs → lv_has ls 3 [(0, .ref b.h), (1, .int x1)] → bG l 7 173 b As (some (.int q.2)) q.1 p e s m below meth c H locs (F0 m 54 ls [])) := wbf_enter_S7_ X hr hk n n
set_option maxHeartbeats 4000000 in
set_option maxRecDepth 100000 in
theorem mbf_enter (l : Launch) (n : Nat) (b : bP) (ok : bOk b) {st : bS} {q : bS × Int32} (hE : bf_enter n st = some q) : bMet l yX2_enter cX2_enter 3 (some .int) 7 173 b [] st (some (.int q.2)) q.1 := by
  refine b_ofW (by decide) rfl ok (Nat.le_of_ble_eq_true rfl) (fun p e s m below meth c ls X Y hr hk hl => ?_)
  have hl : lv_has ls 3 [(0, .ref b.h)] := hl
  generalize s.heap = H at Y ⊢
  generalize ([] : List Loc) = locs at Y ⊢
  have hx := X.1
  have hb := X.2.1
  have hown := X.2.2.2.1
  have hts := X.2.2.2.2.1
  unfold bf_enter at hE
  refine lv_aload_n hx hb dX2_enter_0 rfl (lv_at hl 0 rfl) ?_
  refine lv_iconst (v := 0) hx hb dX2_enter_1 (by decide) ?_
  obtain ⟨st_1, g, hE⟩ := e_bind hE
  refine n_put X Y 2 rfl (by decide) g rfl rfl rfl q1805 dX2_enter_2 (fun H locs Y => ?_)
  refine lv_iconst (v := 0) hx hb dX2_enter_5 (by decide) ?_
  refine lv_istore_n (lv' := [(1, .int (0 : Int32)), (0, .ref b.h)]) hx hb dX2_enter_6 rfl hl (by decide) rfl (fun ls hl => ?_)
  exact (wbf_enter_S7 X hr hk n).1 hE Y (lv_sub hl [1, 0] rfl)
/-! BasicMachineModel.errorAt()I -/
set_option maxHeartbeats 4000000 in
set_option maxRecDepth 100000 in
theorem mbf_errorAt (l : Launch) (n : Nat) (b : bP) (ok : bOk b) {st : bS} {q : bS × Int32} (hE : bf_errorAt n st = some q) : bMet l yX2_errorAt cX2_errorAt 1 (some .int) 1 21 b [] st (some (.int q.2)) q.1 := by
  refine b_ofW (by decide) rfl ok (Nat.le_of_ble_eq_true rfl) (fun p e s m below meth c ls X Y hr hk hl => ?_)
  have hl : lv_has ls 1 [(0, .ref b.h)] := hl
  generalize s.heap = H at Y ⊢
  generalize ([] : List Loc) = locs at Y ⊢
  have hx := X.1
  have hb := X.2.1
  have hown := X.2.2.2.1
  have hts := X.2.2.2.2.1
  unfold bf_errorAt at hE
  refine lv_aload_n hx hb dX2_errorAt_0 rfl (lv_at hl 0 rfl) ?_
  refine lv_aload_n hx hb dX2_errorAt_1 rfl (lv_at hl 0 rfl) ?_
  refine b_geti X Y 3 rfl (by decide) rfl q1806 dX2_errorAt_2 ?_
  obtain ⟨q_1, g, hE⟩ := e_bind hE
  refine n_call1 (n := 1) [.int (st.1 3)] X Y (mbf_fine l n b X.2.2.2.2.2.2 g) q1951 q1953 qs53 q1954 (by decide +kernel) (by decide) rfl hl.1 (Nat.le_of_ble_eq_true rfl) dX2_errorAt_5 (by decide) (fun H locs Y => ?_)
  cases hE
  exact b_iret X Y hr hk dX2_errorAt_8
/-! BasicMachineModel.wipe()I -/
set_option maxHeartbeats 4000000 in
set_option maxRecDepth 100000 in
theorem wbf_wipe_S7_ {l : Launch} {b : bP} {As : List Value} {p : Program} {e : Env} {s : State} {m : MethodId} {below : List Frame} {meth : Method} {c : Code} (X : bX p s m (Value.ref b.h :: As).toArray c cX2_wipe 3 b) (hr : meth.sig.returnType = (some .int)) (hk : meth.locks = false) (n : Nat) {q : bS × Int32} : ∀ k : Nat, (∀ {st : bS} {x1 : Int32} {x2 : Int32}, bf_wipe_S7 n k st x1 x2 = some q → ∀ {H : Heap} {locs : List Loc} {ls : Array Slot}, bY b s st H locs → lv_has ls 3 [(0, .ref b.h), (1, .int x1), (2, .int x2)] → bG l 1 22 b As (some (.int q.2)) q.1 p e s m below meth c H locs (F0 m 7 ls [])) := by
  have hx := X.1
  have hb := X.2.1
  have hown := X.2.2.2.1
  have hts := X.2.2.2.2.1
  intro k
  induction k with
  | zero => exact fun h => nomatch (show none = some q from h)
  | succ k ih =>
    intro st x1 x2 hE H locs ls Y hl
    replace hE : bf_wipe_B7 n (bf_wipe_S7 n k) st x1 x2 = some q := hE
    unfold bf_wipe_B7 at hE
    refine lv_iload_n hx hb dX2_wipe_7 rfl (lv_at hl 2 rfl) ?_
    refine lv_bipush (v := 24) hx hb dX2_wipe_8 (by decide) ?_
    refine lv_icmp_ge (tgt := 26) hx hb dX2_wipe_10 (by decide) (fun c_1 => ?_) (fun c_1 => ?_)
    · replace hE := e_t c_1 hE
      refine lv_aload_n hx hb dX2_wipe_26 rfl (lv_at hl 0 rfl) ?_
      refine lv_iload_n hx hb dX2_wipe_27 rfl (lv_at hl 1 rfl) ?_
      obtain ⟨q_2, g, hE⟩ := e_bind hE
      refine n_call1 (n := 1) [.int x1] X Y (mbf_fine l n b X.2.2.2.2.2.2 g) q1951 q1953 qs53 q1954 (by decide +kernel) (by decide) rfl hl.1 (Nat.le_of_ble_eq_true rfl) dX2_wipe_28 (by decide) (fun H locs Y => ?_)
      cases hE
      exact b_iret X Y hr hk dX2_wipe_31
    · replace hE := e_f c_1 hE
      refine lv_aload_n hx hb dX2_wipe_13 rfl (lv_at hl 0 rfl) ?_
      refine b_geta X Y 10 (by decide) (by decide) q1813 dX2_wipe_14 ?_
      refine lv_iload_n hx hb dX2_wipe_17 rfl (lv_at hl 2 rfl) ?_
      refine lv_iconst (v := 0) hx hb dX2_wipe_18 (by decide) ?_
      obtain ⟨st_3, g, hE⟩ := e_bind hE
      refine n_iast X Y 2 10 rfl rfl g dX2_wipe_19 (fun H locs Y => ?_)
      refine lv_iinc (v := (x2 + (1 : Int32))) (lv' := [(2, .int (x2 + (1 : Int32))), (0, .ref b.h), (1, .int x1)]) hx hb dX2_wipe_20 hl (k := 2) rfl rfl (by decide) rfl (fun ls hl => ?_)
      refine lv_goto (tgt := 7) hx hb dX2_wipe_23 (by decide) ?_
      exact ih hE Y (lv_sub hl [1, 2, 0] rfl)
set_option maxHeartbeats 4000000 in
set_option maxRecDepth 100000 in
theorem wbf_wipe_S7 {l : Launch} {b : bP} {As : List Value} {p : Program} {e : Env} {s : State} {m : MethodId} {below : List Frame} {meth : Method} {c : Code} (X : bX p s m (Value.ref b.h :: As).toArray c cX2_wipe 3 b) (hr : meth.sig.returnType = (some .int)) (hk : meth.locks = false) (n : Nat) {q : bS × Int32} : (∀ {st : bS} {x1 : Int32} {x2 : Int32}, bf_wipe_S7 n n st x1 x2 = some q → ∀ {H : Heap} {locs : List Loc} {ls : Array Slot}, bY b s st H locs → lv_has ls 3 [(0, .ref b.h), (1, .int x1), (2, .int x2)] → bG l 1 22 b As (some (.int q.2)) q.1 p e s m below meth c H locs (F0 m 7 ls [])) := wbf_wipe_S7_ X hr hk n n
set_option maxHeartbeats 4000000 in
set_option maxRecDepth 100000 in
theorem mbf_wipe (l : Launch) (n : Nat) (b : bP) (ok : bOk b) {st : bS} {q : bS × Int32} (hE : bf_wipe n st = some q) : bMet l yX2_wipe cX2_wipe 3 (some .int) 1 22 b [] st (some (.int q.2)) q.1 := by
  refine b_ofW (by decide) rfl ok (Nat.le_of_ble_eq_true rfl) (fun p e s m below meth c ls X Y hr hk hl => ?_)
  have hl : lv_has ls 3 [(0, .ref b.h)] := hl
  generalize s.heap = H at Y ⊢
  generalize ([] : List Loc) = locs at Y ⊢
  have hx := X.1
  have hb := X.2.1
  have hown := X.2.2.2.1
  have hts := X.2.2.2.2.1
  unfold bf_wipe at hE
  refine lv_aload_n hx hb dX2_wipe_0 rfl (lv_at hl 0 rfl) ?_
  obtain ⟨q_1, g, hE⟩ := e_bind hE
  refine n_call1 (n := 0) [] X Y (mbf_lines l n b X.2.2.2.2.2.2 g) q2132 q2134 qs90 q2135 (by decide +kernel) (by decide) rfl hl.1 (Nat.le_of_ble_eq_true rfl) dX2_wipe_1 (by decide) (fun H locs Y => ?_)
  refine lv_istore_n (lv' := [(1, .int q_1.2), (0, .ref b.h)]) hx hb dX2_wipe_4 rfl hl (by decide) rfl (fun ls hl => ?_)
  refine lv_iconst (v := 0) hx hb dX2_wipe_5 (by decide) ?_
  refine lv_istore_n (lv' := [(2, .int (0 : Int32)), (1, .int q_1.2), (0, .ref b.h)]) hx hb dX2_wipe_6 rfl hl (by decide) rfl (fun ls hl => ?_)
  exact (wbf_wipe_S7 X hr hk n) hE Y (lv_sub hl [2, 1, 0] rfl)
/-! BasicMachineModel.kept(D)D -/
set_option maxHeartbeats 4000000 in
set_option maxRecDepth 100000 in
theorem wbf_kept_L16 {l : Launch} {b : bP} {As : List Value} {p : Program} {e : Env} {s : State} {m : MethodId} {below : List Frame} {meth : Method} {c : Code} (X : bX p s m (Value.ref b.h :: As).toArray c cX2_kept 3 b) (hr : meth.sig.returnType = (some .double)) (hk : meth.locks = false) {n : Nat} {st : bS} {q : bS × UInt64} (hE : bf_kept_L16 n st = some q) {H : Heap} {locs : List Loc} {ls : Array Slot} (Y : bY b s st H locs) (hl : lv_has ls 3 [(0, .ref b.h)]) : bG l 0 0 b As (some (.double q.2)) q.1 p e s m below meth c H locs (F0 m 16 ls []) := by
  have hx := X.1
  have hb := X.2.1
  have hown := X.2.2.2.1
  have hts := X.2.2.2.2.1
  unfold bf_kept_L16 at hE
  refine lv_aload_n hx hb dX2_kept_16 rfl (lv_at hl 0 rfl) ?_
  refine lv_iconst (v := 4) hx hb dX2_kept_17 (by decide) ?_
  obtain ⟨st_1, g, hE⟩ := e_bind hE
  refine n_put X Y 27 rfl (by decide) g rfl rfl rfl q1830 dX2_kept_18 (fun H locs Y => ?_)
  refine lv_dconst0 hx hb dX2_kept_21 ?_
  cases hE
  exact b_dret X Y hr hk dX2_kept_22
set_option maxHeartbeats 4000000 in
set_option maxRecDepth 100000 in
theorem mbf_kept (l : Launch) (n : Nat) (b : bP) (ok : bOk b) {st : bS} {a1 : UInt64} {q : bS × UInt64} (hE : bf_kept n st a1 = some q) : bMet l yX2_kept cX2_kept 3 (some .double) 0 0 b [.double a1] st (some (.double q.2)) q.1 := by
  refine b_ofW (by decide) rfl ok (Nat.le_of_ble_eq_true rfl) (fun p e s m below meth c ls X Y hr hk hl => ?_)
  have hl : lv_has ls 3 [(0, .ref b.h), (1, .double a1)] := hl
  generalize s.heap = H at Y ⊢
  generalize ([] : List Loc) = locs at Y ⊢
  have hx := X.1
  have hb := X.2.1
  have hown := X.2.2.2.1
  have hts := X.2.2.2.2.1
  unfold bf_kept at hE
  refine lv_dload_n hx hb dX2_kept_0 rfl (lv_at hl 1 rfl) ?_
  refine lv_ldc2d (v := (4877398396442247168 : UInt64)) hx hb hown (hts _ q2197) dX2_kept_1 ?_
  refine lv_dcmp hx hb dX2_kept_4 ?_
  refine lv_if_gt (tgt := 16) hx hb dX2_kept_5 (by decide) (fun c_1 => ?_) (fun c_1 => ?_)
  · replace hE := e_t c_1 hE
    exact wbf_kept_L16 X hr hk hE Y (lv_sub hl [0] rfl)
  · replace hE := e_f c_1 hE
    refine lv_dload_n hx hb dX2_kept_8 rfl (lv_at hl 1 rfl) ?_
    refine lv_ldc2d (v := (14100770433297022976 : UInt64)) hx hb hown (hts _ q2198) dX2_kept_9 ?_
    refine lv_dcmp hx hb dX2_kept_12 ?_
    refine lv_if_ge (tgt := 23) hx hb dX2_kept_13 (by decide) (fun c_2 => ?_) (fun c_2 => ?_)
    · replace hE := e_t c_2 hE
      refine lv_dload_n hx hb dX2_kept_23 rfl (lv_at hl 1 rfl) ?_
      cases hE
      exact b_dret X Y hr hk dX2_kept_24
    · replace hE := e_f c_2 hE
      exact wbf_kept_L16 X hr hk hE Y (lv_sub hl [0] rfl)
/-! BasicMachineModel.divided(DD)D -/
set_option maxHeartbeats 4000000 in
set_option maxRecDepth 100000 in
theorem mbf_divided (l : Launch) (n : Nat) (b : bP) (ok : bOk b) {st : bS} {a1 : UInt64} {a3 : UInt64} {q : bS × UInt64} (hE : bf_divided n st a1 a3 = some q) : bMet l yX2_divided cX2_divided 5 (some .double) 1 22 b [.double a1, .double a3] st (some (.double q.2)) q.1 := by
  refine b_ofW (by decide) rfl ok (Nat.le_of_ble_eq_true rfl) (fun p e s m below meth c ls X Y hr hk hl => ?_)
  have hl : lv_has ls 5 [(0, .ref b.h), (1, .double a1), (3, .double a3)] := hl
  generalize s.heap = H at Y ⊢
  generalize ([] : List Loc) = locs at Y ⊢
  have hx := X.1
  have hb := X.2.1
  have hown := X.2.2.2.1
  have hts := X.2.2.2.2.1
  unfold bf_divided at hE
  refine lv_dload_n hx hb dX2_divided_0 rfl (lv_at hl 2 rfl) ?_
  refine lv_dconst0 hx hb dX2_divided_1 ?_
  refine lv_dcmp hx hb dX2_divided_2 ?_
  refine lv_if_ne (tgt := 13) hx hb dX2_divided_3 (by decide) (fun c_1 => ?_) (fun c_1 => ?_)
  · replace hE := e_f c_1 hE
    refine lv_aload_n hx hb dX2_divided_13 rfl (lv_at hl 0 rfl) ?_
    refine lv_dload_n hx hb dX2_divided_14 rfl (lv_at hl 1 rfl) ?_
    refine lv_dload_n hx hb dX2_divided_15 rfl (lv_at hl 2 rfl) ?_
    obtain ⟨v_2, g, hE⟩ := e_bind hE
    refine n_ddiv hx hb g dX2_divided_16 ?_
    obtain ⟨q_3, g, hE⟩ := e_bind hE
    refine n_call1 (n := 1) [.double v_2] X Y (mbf_kept l n b X.2.2.2.2.2.2 g) q2193 q2195 qs102 q2196 (by decide +kernel) (by decide) rfl hl.1 (Nat.le_of_ble_eq_true rfl) dX2_divided_17 (by decide) (fun H locs Y => ?_)
    cases hE
    exact b_dret X Y hr hk dX2_divided_20
  · replace hE := e_t c_1 hE
    refine lv_aload_n hx hb dX2_divided_6 rfl (lv_at hl 0 rfl) ?_
    refine lv_iconst (v := 4) hx hb dX2_divided_7 (by decide) ?_
    obtain ⟨st_4, g, hE⟩ := e_bind hE
    refine n_put X Y 27 rfl (by decide) g rfl rfl rfl q1830 dX2_divided_8 (fun H locs Y => ?_)
    refine lv_dconst0 hx hb dX2_divided_11 ?_
    cases hE
    exact b_dret X Y hr hk dX2_divided_12
/-! BasicMachineModel.floor(D)D -/
set_option maxHeartbeats 4000000 in
set_option maxRecDepth 100000 in
theorem mbf_floor (l : Launch) (n : Nat) (b : bP) (ok : bOk b) {st : bS} {a1 : UInt64} {q : bS × UInt64} (hE : bf_floor n st a1 = some q) : bMet l yX2_floor cX2_floor 5 (some .double) 0 0 b [.double a1] st (some (.double q.2)) q.1 := by
  refine b_ofW (by decide) rfl ok (Nat.le_of_ble_eq_true rfl) (fun p e s m below meth c ls X Y hr hk hl => ?_)
  have hl : lv_has ls 5 [(0, .ref b.h), (1, .double a1)] := hl
  generalize s.heap = H at Y ⊢
  generalize ([] : List Loc) = locs at Y ⊢
  have hx := X.1
  have hb := X.2.1
  have hown := X.2.2.2.1
  have hts := X.2.2.2.2.1
  unfold bf_floor at hE
  refine lv_dload_n hx hb dX2_floor_0 rfl (lv_at hl 1 rfl) ?_
  refine lv_d2l hx hb dX2_floor_1 ?_
  obtain ⟨x3_1, g, hE⟩ := e_bind hE
  refine n_topl g ?_
  refine lv_lstore_n (lv' := [(3, .long x3_1), (0, .ref b.h), (1, .double a1)]) hx hb dX2_floor_2 rfl hl (by decide) rfl (fun ls hl => ?_)
  refine lv_lload_n hx hb dX2_floor_3 rfl (lv_at hl 0 rfl) ?_
  refine lv_l2d hx hb dX2_floor_4 ?_
  refine lv_dload_n hx hb dX2_floor_5 rfl (lv_at hl 2 rfl) ?_
  refine lv_dcmp hx hb dX2_floor_6 ?_
  refine lv_if_le (tgt := 16) hx hb dX2_floor_7 (by decide) (fun c_2 => ?_) (fun c_2 => ?_)
  · replace hE := e_t c_2 hE
    refine lv_lload_n hx hb dX2_floor_16 rfl (lv_at hl 0 rfl) ?_
    refine lv_l2d hx hb dX2_floor_17 ?_
    cases hE
    exact b_dret X Y hr hk dX2_floor_18
  · replace hE := e_f c_2 hE
    refine lv_lload_n hx hb dX2_floor_10 rfl (lv_at hl 0 rfl) ?_
    refine lv_lconst (v := 1) hx hb dX2_floor_11 (by decide) ?_
    refine lv_lsub hx hb dX2_floor_12 ?_
    refine lv_goto (tgt := 17) hx hb dX2_floor_13 (by decide) ?_
    refine lv_l2d hx hb dX2_floor_17 ?_
    cases hE
    exact b_dret X Y hr hk dX2_floor_18
/-! BasicMachineModel.power(DD)D -/
set_option maxHeartbeats 4000000 in
set_option maxRecDepth 100000 in
theorem wbf_power_L24 {l : Launch} {b : bP} {As : List Value} {p : Program} {e : Env} {s : State} {m : MethodId} {below : List Frame} {meth : Method} {c : Code} (X : bX p s m (Value.ref b.h :: As).toArray c cX2_power 9 b) (hr : meth.sig.returnType = (some .double)) (hk : meth.locks = false) {n : Nat} {st : bS} {q : bS × UInt64} (hE : bf_power_L24 n st = some q) {H : Heap} {locs : List Loc} {ls : Array Slot} (Y : bY b s st H locs) (hl : lv_has ls 9 [(0, .ref b.h)]) : bG l 2 46 b As (some (.double q.2)) q.1 p e s m below meth c H locs (F0 m 24 ls []) := by
  have hx := X.1
  have hb := X.2.1
  have hown := X.2.2.2.1
  have hts := X.2.2.2.2.1
  unfold bf_power_L24 at hE
  refine lv_aload_n hx hb dX2_power_24 rfl (lv_at hl 0 rfl) ?_
  refine lv_iconst (v := 4) hx hb dX2_power_25 (by decide) ?_
  obtain ⟨st_1, g, hE⟩ := e_bind hE
  refine n_put X Y 27 rfl (by decide) g rfl rfl rfl q1830 dX2_power_26 (fun H locs Y => ?_)
  refine lv_dconst0 hx hb dX2_power_29 ?_
  cases hE
  exact b_dret X Y hr hk dX2_power_30
set_option maxHeartbeats 4000000 in
set_option maxRecDepth 100000 in
theorem wbf_power_L82 {l : Launch} {b : bP} {As : List Value} {p : Program} {e : Env} {s : State} {m : MethodId} {below : List Frame} {meth : Method} {c : Code} (X : bX p s m (Value.ref b.h :: As).toArray c cX2_power 9 b) (hr : meth.sig.returnType = (some .double)) (hk : meth.locks = false) {n : Nat} {st : bS} {x5 : Int32} {x6 : UInt64} {q : bS × UInt64} (hE : bf_power_L82 n st x5 x6 = some q) {H : Heap} {locs : List Loc} {ls : Array Slot} (Y : bY b s st H locs) (hl : lv_has ls 9 [(0, .ref b.h), (5, .int x5), (6, .double x6)]) : bG l 2 46 b As (some (.double q.2)) q.1 p e s m below meth c H locs (F0 m 82 ls []) := by
  have hx := X.1
  have hb := X.2.1
  have hown := X.2.2.2.1
  have hts := X.2.2.2.2.1
  unfold bf_power_L82 at hE
  refine lv_iload hx hb dX2_power_82 (lv_at hl 1 rfl) ?_
  refine lv_if_ge (tgt := 104) hx hb dX2_power_84 (by decide) (fun c_1 => ?_) (fun c_1 => ?_)
  · replace hE := e_t c_1 hE
    refine lv_dload hx hb dX2_power_104 (lv_at hl 2 rfl) ?_
    cases hE
    exact b_dret X Y hr hk dX2_power_106
  · replace hE := e_f c_1 hE
    refine lv_aload_n hx hb dX2_power_87 rfl (lv_at hl 0 rfl) ?_
    refine b_geti X Y 27 rfl (by decide) rfl q1830 dX2_power_88 ?_
    refine lv_if_ne (tgt := 104) hx hb dX2_power_91 (by decide) (fun c_2 => ?_) (fun c_2 => ?_)
    · replace hE := e_f c_2 hE
      refine lv_dload hx hb dX2_power_104 (lv_at hl 2 rfl) ?_
      cases hE
      exact b_dret X Y hr hk dX2_power_106
    · replace hE := e_t c_2 hE
      refine lv_aload_n hx hb dX2_power_94 rfl (lv_at hl 0 rfl) ?_
      refine lv_dconst1 hx hb dX2_power_95 ?_
      refine lv_dload hx hb dX2_power_96 (lv_at hl 2 rfl) ?_
      obtain ⟨q_3, g, hE⟩ := e_bind hE
      refine n_call1 (n := 2) [.double FP.dconst1, .double x6] X Y (mbf_divided l n b X.2.2.2.2.2.2 g) q2199 q2201 qs103 q2202 (by decide +kernel) (by decide) rfl hl.1 (Nat.le_of_ble_eq_true rfl) dX2_power_98 (by decide) (fun H locs Y => ?_)
      refine lv_goto (tgt := 106) hx hb dX2_power_101 (by decide) ?_
      cases hE
      exact b_dret X Y hr hk dX2_power_106
set_option maxHeartbeats 4000000 in
set_option maxRecDepth 100000 in
theorem wbf_power_S41_ {l : Launch} {b : bP} {As : List Value} {p : Program} {e : Env} {s : State} {m : MethodId} {below : List Frame} {meth : Method} {c : Code} (X : bX p s m (Value.ref b.h :: As).toArray c cX2_power 9 b) (hr : meth.sig.returnType = (some .double)) (hk : meth.locks = false) (n : Nat) {q : bS × UInt64} : ∀ k : Nat, (∀ {st : bS} {x1 : UInt64} {x5 : Int32} {x6 : UInt64} {x8 : Int32} {z56_0 : Int32} {z56_1 : Int32}, bf_power_S41 n k 0 st x1 x5 x6 x8 z56_0 z56_1 = some q → ∀ {H : Heap} {locs : List Loc} {ls : Array Slot}, bY b s st H locs → lv_has ls 9 [(0, .ref b.h), (1, .double x1), (5, .int x5), (6, .double x6), (8, .int x8)] → bG l 2 46 b As (some (.double q.2)) q.1 p e s m below meth c H locs (F0 m 41 ls [])) ∧ (∀ {st : bS} {x1 : UInt64} {x5 : Int32} {x6 : UInt64} {x8 : Int32} {z56_0 : Int32} {z56_1 : Int32}, bf_power_S41 n k 1 st x1 x5 x6 x8 z56_0 z56_1 = some q → ∀ {H : Heap} {locs : List Loc} {ls : Array Slot}, bY b s st H locs → lv_has ls 9 [(0, .ref b.h), (1, .double x1), (5, .int x5), (6, .double x6), (8, .int x8)] → bG l 2 46 b As (some (.double q.2)) q.1 p e s m below meth c H locs (F0 m 56 ls [.int z56_1, .int z56_0])) := by
  have hx := X.1
  have hb := X.2.1
  have hown := X.2.2.2.1
  have hts := X.2.2.2.2.1
  intro k
  induction k with
  | zero => exact ⟨(fun h => nomatch (show none = some q from h)), (fun h => nomatch (show none = some q from h))⟩
  | succ k ih =>
    obtain ⟨ih0, ih1⟩ := ih
    refine ⟨?_, ?_⟩
    · intro st x1 x5 x6 x8 z56_0 z56_1 hE H locs ls Y hl
      replace hE : bf_power_B41 n (bf_power_S41 n k) st x1 x5 x6 x8 z56_0 z56_1 = some q := hE
      unfold bf_power_B41 at hE
      refine lv_iload hx hb dX2_power_41 (lv_at hl 4 rfl) ?_
      refine lv_iload hx hb dX2_power_43 (lv_at hl 2 rfl) ?_
      refine lv_if_ge (tgt := 54) hx hb dX2_power_45 (by decide) (fun c_1 => ?_) (fun c_1 => ?_)
      · replace hE := e_t c_1 hE
        refine lv_iload hx hb dX2_power_54 (lv_at hl 2 rfl) ?_
        exact ih1 hE Y (lv_sub hl [0, 1, 2, 3, 4] rfl)
      · replace hE := e_f c_1 hE
        refine lv_iload hx hb dX2_power_48 (lv_at hl 2 rfl) ?_
        refine lv_ineg hx hb dX2_power_50 ?_
        refine lv_goto (tgt := 56) hx hb dX2_power_51 (by decide) ?_
        exact ih1 hE Y (lv_sub hl [0, 1, 2, 3, 4] rfl)
    · intro st x1 x5 x6 x8 z56_0 z56_1 hE H locs ls Y hl
      replace hE : bf_power_B56 n (bf_power_S41 n k) st x1 x5 x6 x8 z56_0 z56_1 = some q := hE
      unfold bf_power_B56 at hE
      refine lv_icmp_ge (tgt := 82) hx hb dX2_power_56 (by decide) (fun c_1 => ?_) (fun c_1 => ?_)
      · replace hE := e_t c_1 hE
        exact wbf_power_L82 X hr hk hE Y (lv_sub hl [0, 2, 3] rfl)
      · replace hE := e_f c_1 hE
        refine lv_aload_n hx hb dX2_power_59 rfl (lv_at hl 0 rfl) ?_
        refine b_geti X Y 27 rfl (by decide) rfl q1830 dX2_power_60 ?_
        refine lv_if_ne (tgt := 82) hx hb dX2_power_63 (by decide) (fun c_2 => ?_) (fun c_2 => ?_)
        · replace hE := e_f c_2 hE
          exact wbf_power_L82 X hr hk hE Y (lv_sub hl [0, 2, 3] rfl)
        · replace hE := e_t c_2 hE
          refine lv_aload_n hx hb dX2_power_66 rfl (lv_at hl 0 rfl) ?_
          refine lv_dload hx hb dX2_power_67 (lv_at hl 3 rfl) ?_
          refine lv_dload_n hx hb dX2_power_69 rfl (lv_at hl 1 rfl) ?_
          obtain ⟨v_3, g, hE⟩ := e_bind hE
          refine n_dmul hx hb g dX2_power_70 ?_
          obtain ⟨q_4, g, hE⟩ := e_bind hE
          refine n_call1 (n := 1) [.double v_3] X Y (mbf_kept l n b X.2.2.2.2.2.2 g) q2193 q2195 qs102 q2196 (by decide +kernel) (by decide) rfl hl.1 (Nat.le_of_ble_eq_true rfl) dX2_power_71 (by decide) (fun H locs Y => ?_)
          refine lv_dstore (lv' := [(6, .double q_4.2), (0, .ref b.h), (1, .double x1), (5, .int x5), (8, .int x8)]) hx hb dX2_power_74 hl (by decide) rfl (fun ls hl => ?_)
          refine lv_iinc (v := (x8 + (1 : Int32))) (lv' := [(8, .int (x8 + (1 : Int32))), (6, .double q_4.2), (0, .ref b.h), (1, .double x1), (5, .int x5)]) hx hb dX2_power_76 hl (k := 4) rfl rfl (by decide) rfl (fun ls hl => ?_)
          refine lv_goto (tgt := 41) hx hb dX2_power_79 (by decide) ?_
          exact ih0 hE Y (lv_sub hl [2, 3, 4, 1, 0] rfl)
set_option maxHeartbeats 4000000 in
set_option maxRecDepth 100000 in
theorem wbf_power_S41 {l : Launch} {b : bP} {As : List Value} {p : Program} {e : Env} {s : State} {m : MethodId} {below : List Frame} {meth : Method} {c : Code} (X : bX p s m (Value.ref b.h :: As).toArray c cX2_power 9 b) (hr : meth.sig.returnType = (some .double)) (hk : meth.locks = false) (n : Nat) {q : bS × UInt64} : (∀ {st : bS} {x1 : UInt64} {x5 : Int32} {x6 : UInt64} {x8 : Int32} {z56_0 : Int32} {z56_1 : Int32}, bf_power_S41 n n 0 st x1 x5 x6 x8 z56_0 z56_1 = some q → ∀ {H : Heap} {locs : List Loc} {ls : Array Slot}, bY b s st H locs → lv_has ls 9 [(0, .ref b.h), (1, .double x1), (5, .int x5), (6, .double x6), (8, .int x8)] → bG l 2 46 b As (some (.double q.2)) q.1 p e s m below meth c H locs (F0 m 41 ls [])) ∧ (∀ {st : bS} {x1 : UInt64} {x5 : Int32} {x6 : UInt64} {x8 : Int32} {z56_0 : Int32} {z56_1 : Int32}, bf_power_S41 n n 1 st x1 x5 x6 x8 z56_0 z56_1 = some q → ∀ {H : Heap} {locs : List Loc} {ls : Array Slot}, bY b s st H locs → lv_has ls 9 [(0, .ref b.h), (1, .double x1), (5, .int x5), (6, .double x6), (8, .int x8)] → bG l 2 46 b As (some (.double q.2)) q.1 p e s m below meth c H locs (F0 m 56 ls [.int z56_1, .int z56_0])) := wbf_power_S41_ X hr hk n n
set_option maxHeartbeats 4000000 in
set_option maxRecDepth 100000 in
theorem mbf_power (l : Launch) (n : Nat) (b : bP) (ok : bOk b) {st : bS} {a1 : UInt64} {a3 : UInt64} {q : bS × UInt64} (hE : bf_power n st a1 a3 = some q) : bMet l yX2_power cX2_power 9 (some .double) 2 46 b [.double a1, .double a3] st (some (.double q.2)) q.1 := by
  refine b_ofW (by decide) rfl ok (Nat.le_of_ble_eq_true rfl) (fun p e s m below meth c ls X Y hr hk hl => ?_)
  have hl : lv_has ls 9 [(0, .ref b.h), (1, .double a1), (3, .double a3)] := hl
  generalize s.heap = H at Y ⊢
  generalize ([] : List Loc) = locs at Y ⊢
  have hx := X.1
  have hb := X.2.1
  have hown := X.2.2.2.1
  have hts := X.2.2.2.2.1
  unfold bf_power at hE
  refine lv_dload_n hx hb dX2_power_0 rfl (lv_at hl 2 rfl) ?_
  refine lv_ldc2d (v := (13849694754071117824 : UInt64)) hx hb hown (hts _ q2207) dX2_power_1 ?_
  refine lv_dcmp hx hb dX2_power_4 ?_
  refine lv_if_lt (tgt := 24) hx hb dX2_power_5 (by decide) (fun c_1 => ?_) (fun c_1 => ?_)
  · replace hE := e_t c_1 hE
    exact wbf_power_L24 X hr hk hE Y (lv_sub hl [0] rfl)
  · replace hE := e_f c_1 hE
    refine lv_dload_n hx hb dX2_power_8 rfl (lv_at hl 2 rfl) ?_
    refine lv_ldc2d (v := (4626322717216342016 : UInt64)) hx hb hown (hts _ q2208) dX2_power_9 ?_
    refine lv_dcmp hx hb dX2_power_12 ?_
    refine lv_if_gt (tgt := 24) hx hb dX2_power_13 (by decide) (fun c_2 => ?_) (fun c_2 => ?_)
    · replace hE := e_t c_2 hE
      exact wbf_power_L24 X hr hk hE Y (lv_sub hl [0] rfl)
    · replace hE := e_f c_2 hE
      refine lv_dload_n hx hb dX2_power_16 rfl (lv_at hl 2 rfl) ?_
      refine lv_d2l hx hb dX2_power_17 ?_
      refine lv_l2d hx hb dX2_power_18 ?_
      refine lv_dload_n hx hb dX2_power_19 rfl (lv_at hl 2 rfl) ?_
      refine lv_dcmp hx hb dX2_power_20 ?_
      refine lv_if_eq (tgt := 31) hx hb dX2_power_21 (by decide) (fun c_3 => ?_) (fun c_3 => ?_)
      · replace hE := e_t c_3 hE
        refine lv_dload_n hx hb dX2_power_31 rfl (lv_at hl 2 rfl) ?_
        refine lv_d2i hx hb dX2_power_32 ?_
        obtain ⟨x5_4, g, hE⟩ := e_bind hE
        refine n_topi g ?_
        refine lv_istore (lv' := [(5, .int x5_4), (0, .ref b.h), (1, .double a1), (3, .double a3)]) hx hb dX2_power_33 hl (by decide) rfl (fun ls hl => ?_)
        refine lv_dconst1 hx hb dX2_power_35 ?_
        refine lv_dstore (lv' := [(6, .double FP.dconst1), (5, .int x5_4), (0, .ref b.h), (1, .double a1), (3, .double a3)]) hx hb dX2_power_36 hl (by decide) rfl (fun ls hl => ?_)
        refine lv_iconst (v := 0) hx hb dX2_power_38 (by decide) ?_
        refine lv_istore (lv' := [(8, .int (0 : Int32)), (6, .double FP.dconst1), (5, .int x5_4), (0, .ref b.h), (1, .double a1), (3, .double a3)]) hx hb dX2_power_39 hl (by decide) rfl (fun ls hl => ?_)
        exact (wbf_power_S41 X hr hk n).1 hE Y (lv_sub hl [3, 4, 2, 1, 0] rfl)
      · replace hE := e_f c_3 hE
        exact wbf_power_L24 X hr hk hE Y (lv_sub hl [0] rfl)
/-! BasicMachineModel.two(IDD)D -/
set_option maxHeartbeats 4000000 in
set_option maxRecDepth 100000 in
theorem mbf_two (l : Launch) (n : Nat) (b : bP) (ok : bOk b) {st : bS} {a1 : Int32} {a2 : UInt64} {a4 : UInt64} {q : bS × UInt64} (hE : bf_two n st a1 a2 a4 = some q) : bMet l yX2_two cX2_two 6 (some .double) 3 74 b [.int a1, .double a2, .double a4] st (some (.double q.2)) q.1 := by
  refine b_ofW (by decide) rfl ok (Nat.le_of_ble_eq_true rfl) (fun p e s m below meth c ls X Y hr hk hl => ?_)
  have hl : lv_has ls 6 [(0, .ref b.h), (1, .int a1), (2, .double a2), (4, .double a4)] := hl
  generalize s.heap = H at Y ⊢
  generalize ([] : List Loc) = locs at Y ⊢
  have hx := X.1
  have hb := X.2.1
  have hown := X.2.2.2.1
  have hts := X.2.2.2.2.1
  unfold bf_two at hE
  refine lv_iload_n hx hb dX2_two_0 rfl (lv_at hl 1 rfl) ?_
  refine lv_iconst (v := 3) hx hb dX2_two_1 (by decide) ?_
  refine lv_icmp_ne (tgt := 14) hx hb dX2_two_2 (by decide) (fun c_1 => ?_) (fun c_1 => ?_)
  · replace hE := e_f c_1 hE
    refine lv_iload_n hx hb dX2_two_14 rfl (lv_at hl 1 rfl) ?_
    refine lv_iconst (v := 4) hx hb dX2_two_15 (by decide) ?_
    refine lv_icmp_ne (tgt := 28) hx hb dX2_two_16 (by decide) (fun c_2 => ?_) (fun c_2 => ?_)
    · replace hE := e_f c_2 hE
      refine lv_iload_n hx hb dX2_two_28 rfl (lv_at hl 1 rfl) ?_
      refine lv_iconst (v := 5) hx hb dX2_two_29 (by decide) ?_
      refine lv_icmp_ne (tgt := 42) hx hb dX2_two_30 (by decide) (fun c_3 => ?_) (fun c_3 => ?_)
      · replace hE := e_f c_3 hE
        refine lv_iload_n hx hb dX2_two_42 rfl (lv_at hl 1 rfl) ?_
        refine lv_bipush (v := 6) hx hb dX2_two_43 (by decide) ?_
        refine lv_icmp_ne (tgt := 58) hx hb dX2_two_45 (by decide) (fun c_4 => ?_) (fun c_4 => ?_)
        · replace hE := e_f c_4 hE
          refine lv_aload_n hx hb dX2_two_58 rfl (lv_at hl 0 rfl) ?_
          refine lv_dload_n hx hb dX2_two_59 rfl (lv_at hl 2 rfl) ?_
          refine lv_dload hx hb dX2_two_60 (lv_at hl 3 rfl) ?_
          obtain ⟨q_5, g, hE⟩ := e_bind hE
          refine n_call1 (n := 2) [.double a2, .double a4] X Y (mbf_power l n b X.2.2.2.2.2.2 g) q2203 q2205 qs104 q2206 (by decide +kernel) (by decide) rfl hl.1 (Nat.le_of_ble_eq_true rfl) dX2_two_62 (by decide) (fun H locs Y => ?_)
          cases hE
          exact b_dret X Y hr hk dX2_two_65
        · replace hE := e_t c_4 hE
          refine lv_aload_n hx hb dX2_two_48 rfl (lv_at hl 0 rfl) ?_
          refine lv_dload_n hx hb dX2_two_49 rfl (lv_at hl 2 rfl) ?_
          refine lv_dload hx hb dX2_two_50 (lv_at hl 3 rfl) ?_
          obtain ⟨q_6, g, hE⟩ := e_bind hE
          refine n_call1 (n := 2) [.double a2, .double a4] X Y (mbf_divided l n b X.2.2.2.2.2.2 g) q2199 q2201 qs103 q2202 (by decide +kernel) (by decide) rfl hl.1 (Nat.le_of_ble_eq_true rfl) dX2_two_52 (by decide) (fun H locs Y => ?_)
          refine lv_goto (tgt := 65) hx hb dX2_two_55 (by decide) ?_
          cases hE
          exact b_dret X Y hr hk dX2_two_65
      · replace hE := e_t c_3 hE
        refine lv_aload_n hx hb dX2_two_33 rfl (lv_at hl 0 rfl) ?_
        refine lv_dload_n hx hb dX2_two_34 rfl (lv_at hl 2 rfl) ?_
        refine lv_dload hx hb dX2_two_35 (lv_at hl 3 rfl) ?_
        obtain ⟨v_7, g, hE⟩ := e_bind hE
        refine n_dmul hx hb g dX2_two_37 ?_
        obtain ⟨q_8, g, hE⟩ := e_bind hE
        refine n_call1 (n := 1) [.double v_7] X Y (mbf_kept l n b X.2.2.2.2.2.2 g) q2193 q2195 qs102 q2196 (by decide +kernel) (by decide) rfl hl.1 (Nat.le_of_ble_eq_true rfl) dX2_two_38 (by decide) (fun H locs Y => ?_)
        cases hE
        exact b_dret X Y hr hk dX2_two_41
    · replace hE := e_t c_2 hE
      refine lv_aload_n hx hb dX2_two_19 rfl (lv_at hl 0 rfl) ?_
      refine lv_dload_n hx hb dX2_two_20 rfl (lv_at hl 2 rfl) ?_
      refine lv_dload hx hb dX2_two_21 (lv_at hl 3 rfl) ?_
      obtain ⟨v_9, g, hE⟩ := e_bind hE
      refine n_dsub hx hb g dX2_two_23 ?_
      obtain ⟨q_10, g, hE⟩ := e_bind hE
      refine n_call1 (n := 1) [.double v_9] X Y (mbf_kept l n b X.2.2.2.2.2.2 g) q2193 q2195 qs102 q2196 (by decide +kernel) (by decide) rfl hl.1 (Nat.le_of_ble_eq_true rfl) dX2_two_24 (by decide) (fun H locs Y => ?_)
      cases hE
      exact b_dret X Y hr hk dX2_two_27
  · replace hE := e_t c_1 hE
    refine lv_aload_n hx hb dX2_two_5 rfl (lv_at hl 0 rfl) ?_
    refine lv_dload_n hx hb dX2_two_6 rfl (lv_at hl 2 rfl) ?_
    refine lv_dload hx hb dX2_two_7 (lv_at hl 3 rfl) ?_
    obtain ⟨v_11, g, hE⟩ := e_bind hE
    refine n_dadd hx hb g dX2_two_9 ?_
    obtain ⟨q_12, g, hE⟩ := e_bind hE
    refine n_call1 (n := 1) [.double v_11] X Y (mbf_kept l n b X.2.2.2.2.2.2 g) q2193 q2195 qs102 q2196 (by decide +kernel) (by decide) rfl hl.1 (Nat.le_of_ble_eq_true rfl) dX2_two_10 (by decide) (fun H locs Y => ?_)
    cases hE
    exact b_dret X Y hr hk dX2_two_13
/-! BasicMachineModel.one(ID)D -/
set_option maxHeartbeats 4000000 in
set_option maxRecDepth 100000 in
theorem mbf_one (l : Launch) (n : Nat) (b : bP) (ok : bOk b) {st : bS} {a1 : Int32} {a2 : UInt64} {q : bS × UInt64} (hE : bf_one n st a1 a2 = some q) : bMet l yX2_one cX2_one 4 (some .double) 1 24 b [.int a1, .double a2] st (some (.double q.2)) q.1 := by
  refine b_ofW (by decide) rfl ok (Nat.le_of_ble_eq_true rfl) (fun p e s m below meth c ls X Y hr hk hl => ?_)
  have hl : lv_has ls 4 [(0, .ref b.h), (1, .int a1), (2, .double a2)] := hl
  generalize s.heap = H at Y ⊢
  generalize ([] : List Loc) = locs at Y ⊢
  have hx := X.1
  have hb := X.2.1
  have hown := X.2.2.2.1
  have hts := X.2.2.2.2.1
  unfold bf_one at hE
  refine lv_iload_n hx hb dX2_one_0 rfl (lv_at hl 1 rfl) ?_
  refine lv_bipush (v := 8) hx hb dX2_one_1 (by decide) ?_
  refine lv_icmp_ne (tgt := 9) hx hb dX2_one_3 (by decide) (fun c_1 => ?_) (fun c_1 => ?_)
  · replace hE := e_f c_1 hE
    refine lv_iload_n hx hb dX2_one_9 rfl (lv_at hl 1 rfl) ?_
    refine lv_bipush (v := 9) hx hb dX2_one_10 (by decide) ?_
    refine lv_icmp_ne (tgt := 28) hx hb dX2_one_12 (by decide) (fun c_2 => ?_) (fun c_2 => ?_)
    · replace hE := e_f c_2 hE
      refine lv_iload_n hx hb dX2_one_28 rfl (lv_at hl 1 rfl) ?_
      refine lv_bipush (v := 10) hx hb dX2_one_29 (by decide) ?_
      refine lv_icmp_ne (tgt := 40) hx hb dX2_one_31 (by decide) (fun c_3 => ?_) (fun c_3 => ?_)
      · replace hE := e_f c_3 hE
        refine lv_dload_n hx hb dX2_one_40 rfl (lv_at hl 2 rfl) ?_
        refine lv_dconst0 hx hb dX2_one_41 ?_
        refine lv_dcmp hx hb dX2_one_42 ?_
        refine lv_if_ge (tgt := 52) hx hb dX2_one_43 (by decide) (fun c_4 => ?_) (fun c_4 => ?_)
        · replace hE := e_t c_4 hE
          refine lv_dload_n hx hb dX2_one_52 rfl (lv_at hl 2 rfl) ?_
          refine lv_dconst0 hx hb dX2_one_53 ?_
          refine lv_dcmp hx hb dX2_one_54 ?_
          refine lv_if_le (tgt := 62) hx hb dX2_one_55 (by decide) (fun c_5 => ?_) (fun c_5 => ?_)
          · replace hE := e_t c_5 hE
            refine lv_dconst0 hx hb dX2_one_62 ?_
            cases hE
            exact b_dret X Y hr hk dX2_one_63
          · replace hE := e_f c_5 hE
            refine lv_dconst1 hx hb dX2_one_58 ?_
            refine lv_goto (tgt := 63) hx hb dX2_one_59 (by decide) ?_
            cases hE
            exact b_dret X Y hr hk dX2_one_63
        · replace hE := e_f c_4 hE
          refine lv_ldc2d (v := (13830554455654793216 : UInt64)) hx hb hown (hts _ q2217) dX2_one_46 ?_
          refine lv_goto (tgt := 63) hx hb dX2_one_49 (by decide) ?_
          cases hE
          exact b_dret X Y hr hk dX2_one_63
      · replace hE := e_t c_3 hE
        refine lv_aload_n hx hb dX2_one_34 rfl (lv_at hl 0 rfl) ?_
        refine lv_dload_n hx hb dX2_one_35 rfl (lv_at hl 2 rfl) ?_
        obtain ⟨q_6, g, hE⟩ := e_bind hE
        refine n_call1 (n := 1) [.double a2] X Y (mbf_floor l n b X.2.2.2.2.2.2 g) q2213 q2215 qs106 q2216 (by decide +kernel) (by decide) rfl hl.1 (Nat.le_of_ble_eq_true rfl) dX2_one_36 (by decide) (fun H locs Y => ?_)
        cases hE
        exact b_dret X Y hr hk dX2_one_39
    · replace hE := e_t c_2 hE
      refine lv_dload_n hx hb dX2_one_15 rfl (lv_at hl 2 rfl) ?_
      refine lv_dconst0 hx hb dX2_one_16 ?_
      refine lv_dcmp hx hb dX2_one_17 ?_
      refine lv_if_ge (tgt := 26) hx hb dX2_one_18 (by decide) (fun c_7 => ?_) (fun c_7 => ?_)
      · replace hE := e_t c_7 hE
        refine lv_dload_n hx hb dX2_one_26 rfl (lv_at hl 2 rfl) ?_
        cases hE
        exact b_dret X Y hr hk dX2_one_27
      · replace hE := e_f c_7 hE
        refine lv_dload_n hx hb dX2_one_21 rfl (lv_at hl 2 rfl) ?_
        refine lv_dneg hx hb dX2_one_22 ?_
        refine lv_goto (tgt := 27) hx hb dX2_one_23 (by decide) ?_
        cases hE
        exact b_dret X Y hr hk dX2_one_27
  · replace hE := e_t c_1 hE
    refine lv_dload_n hx hb dX2_one_6 rfl (lv_at hl 2 rfl) ?_
    refine lv_dneg hx hb dX2_one_7 ?_
    cases hE
    exact b_dret X Y hr hk dX2_one_8
/-! BasicMachineModel.plain(I)D -/
set_option maxHeartbeats 4000000 in
set_option maxRecDepth 100000 in
theorem wbf_plain_S5_ {l : Launch} {b : bP} {As : List Value} {p : Program} {e : Env} {s : State} {m : MethodId} {below : List Frame} {meth : Method} {c : Code} (X : bX p s m (Value.ref b.h :: As).toArray c cX2_plain 5 b) (hr : meth.sig.returnType = (some .double)) (hk : meth.locks = false) (n : Nat) {q : bS × UInt64} : ∀ k : Nat, (∀ {st : bS} {x1 : Int32} {x2 : UInt64} {x4 : Int32}, bf_plain_S5 n k st x1 x2 x4 = some q → ∀ {H : Heap} {locs : List Loc} {ls : Array Slot}, bY b s st H locs → lv_has ls 5 [(0, .ref b.h), (1, .int x1), (2, .double x2), (4, .int x4)] → bG l 0 0 b As (some (.double q.2)) q.1 p e s m below meth c H locs (F0 m 5 ls [])) := by
  have hx := X.1
  have hb := X.2.1
  have hown := X.2.2.2.1
  have hts := X.2.2.2.2.1
  intro k
  induction k with
  | zero => exact fun h => nomatch (show none = some q from h)
  | succ k ih =>
    intro st x1 x2 x4 hE H locs ls Y hl
    replace hE : bf_plain_B5 n (bf_plain_S5 n k) st x1 x2 x4 = some q := hE
    unfold bf_plain_B5 at hE
    refine lv_iload hx hb dX2_plain_5 (lv_at hl 3 rfl) ?_
    refine lv_aload_n hx hb dX2_plain_7 rfl (lv_at hl 0 rfl) ?_
    refine b_geta X Y 14 (by decide) (by decide) q1817 dX2_plain_8 ?_
    refine lv_iload_n hx hb dX2_plain_11 rfl (lv_at hl 1 rfl) ?_
    refine lv_iconst (v := 1) hx hb dX2_plain_12 (by decide) ?_
    refine lv_iadd hx hb dX2_plain_13 ?_
    obtain ⟨v_1, g, hE⟩ := e_bind hE
    refine n_iald X Y 6 14 rfl rfl g dX2_plain_14 ?_
    refine lv_icmp_ge (tgt := 30) hx hb dX2_plain_15 (by decide) (fun c_2 => ?_) (fun c_2 => ?_)
    · replace hE := e_t c_2 hE
      refine lv_aload_n hx hb dX2_plain_30 rfl (lv_at hl 0 rfl) ?_
      refine b_geta X Y 14 (by decide) (by decide) q1817 dX2_plain_31 ?_
      refine lv_iload_n hx hb dX2_plain_34 rfl (lv_at hl 1 rfl) ?_
      obtain ⟨v_3, g, hE⟩ := e_bind hE
      refine n_iald X Y 6 14 rfl rfl g dX2_plain_35 ?_
      refine lv_i2d hx hb dX2_plain_36 ?_
      refine lv_dload_n hx hb dX2_plain_37 rfl (lv_at hl 2 rfl) ?_
      obtain ⟨v_4, g, hE⟩ := e_bind hE
      refine n_ddiv hx hb g dX2_plain_38 ?_
      cases hE
      exact b_dret X Y hr hk dX2_plain_39
    · replace hE := e_f c_2 hE
      refine lv_dload_n hx hb dX2_plain_18 rfl (lv_at hl 2 rfl) ?_
      refine lv_ldc2d (v := (4621819117588971520 : UInt64)) hx hb hown (hts _ q2168) dX2_plain_19 ?_
      obtain ⟨v_5, g, hE⟩ := e_bind hE
      refine n_dmul hx hb g dX2_plain_22 ?_
      refine lv_dstore_n (lv' := [(2, .double v_5), (0, .ref b.h), (1, .int x1), (4, .int x4)]) hx hb dX2_plain_23 rfl hl (by decide) rfl (fun ls hl => ?_)
      refine lv_iinc (v := (x4 + (1 : Int32))) (lv' := [(4, .int (x4 + (1 : Int32))), (2, .double v_5), (0, .ref b.h), (1, .int x1)]) hx hb dX2_plain_24 hl (k := 3) rfl rfl (by decide) rfl (fun ls hl => ?_)
      refine lv_goto (tgt := 5) hx hb dX2_plain_27 (by decide) ?_
      exact ih hE Y (lv_sub hl [2, 3, 1, 0] rfl)
set_option maxHeartbeats 4000000 in
set_option maxRecDepth 100000 in
theorem wbf_plain_S5 {l : Launch} {b : bP} {As : List Value} {p : Program} {e : Env} {s : State} {m : MethodId} {below : List Frame} {meth : Method} {c : Code} (X : bX p s m (Value.ref b.h :: As).toArray c cX2_plain 5 b) (hr : meth.sig.returnType = (some .double)) (hk : meth.locks = false) (n : Nat) {q : bS × UInt64} : (∀ {st : bS} {x1 : Int32} {x2 : UInt64} {x4 : Int32}, bf_plain_S5 n n st x1 x2 x4 = some q → ∀ {H : Heap} {locs : List Loc} {ls : Array Slot}, bY b s st H locs → lv_has ls 5 [(0, .ref b.h), (1, .int x1), (2, .double x2), (4, .int x4)] → bG l 0 0 b As (some (.double q.2)) q.1 p e s m below meth c H locs (F0 m 5 ls [])) := wbf_plain_S5_ X hr hk n n
set_option maxHeartbeats 4000000 in
set_option maxRecDepth 100000 in
theorem mbf_plain (l : Launch) (n : Nat) (b : bP) (ok : bOk b) {st : bS} {a1 : Int32} {q : bS × UInt64} (hE : bf_plain n st a1 = some q) : bMet l yX2_plain cX2_plain 5 (some .double) 0 0 b [.int a1] st (some (.double q.2)) q.1 := by
  refine b_ofW (by decide) rfl ok (Nat.le_of_ble_eq_true rfl) (fun p e s m below meth c ls X Y hr hk hl => ?_)
  have hl : lv_has ls 5 [(0, .ref b.h), (1, .int a1)] := hl
  generalize s.heap = H at Y ⊢
  generalize ([] : List Loc) = locs at Y ⊢
  have hx := X.1
  have hb := X.2.1
  have hown := X.2.2.2.1
  have hts := X.2.2.2.2.1
  unfold bf_plain at hE
  refine lv_dconst1 hx hb dX2_plain_0 ?_
  refine lv_dstore_n (lv' := [(2, .double FP.dconst1), (0, .ref b.h), (1, .int a1)]) hx hb dX2_plain_1 rfl hl (by decide) rfl (fun ls hl => ?_)
  refine lv_iconst (v := 0) hx hb dX2_plain_2 (by decide) ?_
  refine lv_istore (lv' := [(4, .int (0 : Int32)), (2, .double FP.dconst1), (0, .ref b.h), (1, .int a1)]) hx hb dX2_plain_3 hl (by decide) rfl (fun ls hl => ?_)
  exact (wbf_plain_S5 X hr hk n) hE Y (lv_sub hl [2, 3, 1, 0] rfl)
/-! BasicMachineModel.placeOf(IDD)I -/
set_option maxHeartbeats 4000000 in
set_option maxRecDepth 100000 in
theorem wbf_placeOf_L49 {l : Launch} {b : bP} {As : List Value} {p : Program} {e : Env} {s : State} {m : MethodId} {below : List Frame} {meth : Method} {c : Code} (X : bX p s m (Value.ref b.h :: As).toArray c cX2_placeOf 10 b) (hr : meth.sig.returnType = (some .int)) (hk : meth.locks = false) {n : Nat} {st : bS} {q : bS × Int32} (hE : bf_placeOf_L49 n st = some q) {H : Heap} {locs : List Loc} {ls : Array Slot} (Y : bY b s st H locs) (hl : lv_has ls 10 [(0, .ref b.h)]) : bG l 0 0 b As (some (.int q.2)) q.1 p e s m below meth c H locs (F0 m 49 ls []) := by
  have hx := X.1
  have hb := X.2.1
  have hown := X.2.2.2.1
  have hts := X.2.2.2.2.1
  unfold bf_placeOf_L49 at hE
  refine lv_aload_n hx hb dX2_placeOf_49 rfl (lv_at hl 0 rfl) ?_
  refine lv_iconst (v := 5) hx hb dX2_placeOf_50 (by decide) ?_
  obtain ⟨st_1, g, hE⟩ := e_bind hE
  refine n_put X Y 27 rfl (by decide) g rfl rfl rfl q1830 dX2_placeOf_51 (fun H locs Y => ?_)
  refine lv_iconst (v := -1) hx hb dX2_placeOf_54 (by decide) ?_
  cases hE
  exact b_iret X Y hr hk dX2_placeOf_55
set_option maxHeartbeats 4000000 in
set_option maxRecDepth 100000 in
theorem mbf_placeOf (l : Launch) (n : Nat) (b : bP) (ok : bOk b) {st : bS} {a1 : Int32} {a2 : UInt64} {a4 : UInt64} {q : bS × Int32} (hE : bf_placeOf n st a1 a2 a4 = some q) : bMet l yX2_placeOf cX2_placeOf 10 (some .int) 0 0 b [.int a1, .double a2, .double a4] st (some (.int q.2)) q.1 := by
  refine b_ofW (by decide) rfl ok (Nat.le_of_ble_eq_true rfl) (fun p e s m below meth c ls X Y hr hk hl => ?_)
  have hl : lv_has ls 10 [(0, .ref b.h), (1, .int a1), (2, .double a2), (4, .double a4)] := hl
  generalize s.heap = H at Y ⊢
  generalize ([] : List Loc) = locs at Y ⊢
  have hx := X.1
  have hb := X.2.1
  have hown := X.2.2.2.1
  have hts := X.2.2.2.2.1
  unfold bf_placeOf at hE
  refine lv_dload_n hx hb dX2_placeOf_0 rfl (lv_at hl 2 rfl) ?_
  refine lv_d2l hx hb dX2_placeOf_1 ?_
  obtain ⟨x6_1, g, hE⟩ := e_bind hE
  refine n_topl g ?_
  refine lv_lstore (lv' := [(6, .long x6_1), (0, .ref b.h), (1, .int a1), (2, .double a2), (4, .double a4)]) hx hb dX2_placeOf_2 hl (by decide) rfl (fun ls hl => ?_)
  refine lv_dload hx hb dX2_placeOf_4 (lv_at hl 4 rfl) ?_
  refine lv_d2l hx hb dX2_placeOf_6 ?_
  obtain ⟨x8_2, g, hE⟩ := e_bind hE
  refine n_topl g ?_
  refine lv_lstore (lv' := [(8, .long x8_2), (6, .long x6_1), (0, .ref b.h), (1, .int a1), (2, .double a2), (4, .double a4)]) hx hb dX2_placeOf_7 hl (by decide) rfl (fun ls hl => ?_)
  refine lv_lload hx hb dX2_placeOf_9 (lv_at hl 1 rfl) ?_
  refine lv_lconst (v := 1) hx hb dX2_placeOf_11 (by decide) ?_
  refine W.lcmp hx hb dX2_placeOf_12 ?_
  refine lv_if_lt (tgt := 49) hx hb dX2_placeOf_13 (by decide) (fun c_3 => ?_) (fun c_3 => ?_)
  · replace hE := e_t c_3 hE
    exact wbf_placeOf_L49 X hr hk hE Y (lv_sub hl [2] rfl)
  · replace hE := e_f c_3 hE
    refine lv_lload hx hb dX2_placeOf_16 (lv_at hl 1 rfl) ?_
    refine lv_aload_n hx hb dX2_placeOf_18 rfl (lv_at hl 2 rfl) ?_
    refine b_geta X Y 38 (by decide) (by decide) q1841 dX2_placeOf_19 ?_
    refine lv_iload_n hx hb dX2_placeOf_22 rfl (lv_at hl 3 rfl) ?_
    obtain ⟨v_4, g, hE⟩ := e_bind hE
    refine n_iald X Y 18 38 rfl rfl g dX2_placeOf_23 ?_
    refine lv_i2l hx hb dX2_placeOf_24 rfl ?_
    refine W.lcmp hx hb dX2_placeOf_25 ?_
    refine lv_if_gt (tgt := 49) hx hb dX2_placeOf_26 (by decide) (fun c_5 => ?_) (fun c_5 => ?_)
    · replace hE := e_t c_5 hE
      exact wbf_placeOf_L49 X hr hk hE Y (lv_sub hl [2] rfl)
    · replace hE := e_f c_5 hE
      refine lv_lload hx hb dX2_placeOf_29 (lv_at hl 0 rfl) ?_
      refine lv_lconst (v := 1) hx hb dX2_placeOf_31 (by decide) ?_
      refine W.lcmp hx hb dX2_placeOf_32 ?_
      refine lv_if_lt (tgt := 49) hx hb dX2_placeOf_33 (by decide) (fun c_6 => ?_) (fun c_6 => ?_)
      · replace hE := e_t c_6 hE
        exact wbf_placeOf_L49 X hr hk hE Y (lv_sub hl [2] rfl)
      · replace hE := e_f c_6 hE
        refine lv_lload hx hb dX2_placeOf_36 (lv_at hl 0 rfl) ?_
        refine lv_aload_n hx hb dX2_placeOf_38 rfl (lv_at hl 2 rfl) ?_
        refine b_geta X Y 39 (by decide) (by decide) q1842 dX2_placeOf_39 ?_
        refine lv_iload_n hx hb dX2_placeOf_42 rfl (lv_at hl 3 rfl) ?_
        obtain ⟨v_7, g, hE⟩ := e_bind hE
        refine n_iald X Y 19 39 rfl rfl g dX2_placeOf_43 ?_
        refine lv_i2l hx hb dX2_placeOf_44 rfl ?_
        refine W.lcmp hx hb dX2_placeOf_45 ?_
        refine lv_if_le (tgt := 56) hx hb dX2_placeOf_46 (by decide) (fun c_8 => ?_) (fun c_8 => ?_)
        · replace hE := e_t c_8 hE
          refine lv_iload_n hx hb dX2_placeOf_56 rfl (lv_at hl 3 rfl) ?_
          refine lv_bipush (v := 36) hx hb dX2_placeOf_57 (by decide) ?_
          refine lv_imul hx hb dX2_placeOf_59 ?_
          refine lv_lload hx hb dX2_placeOf_60 (lv_at hl 1 rfl) ?_
          refine lv_lconst (v := 1) hx hb dX2_placeOf_62 (by decide) ?_
          refine lv_lsub hx hb dX2_placeOf_63 ?_
          refine lv_l2i hx hb dX2_placeOf_64 rfl ?_
          refine lv_bipush (v := 6) hx hb dX2_placeOf_65 (by decide) ?_
          refine lv_imul hx hb dX2_placeOf_67 ?_
          refine lv_iadd hx hb dX2_placeOf_68 ?_
          refine lv_lload hx hb dX2_placeOf_69 (lv_at hl 0 rfl) ?_
          refine lv_lconst (v := 1) hx hb dX2_placeOf_71 (by decide) ?_
          refine lv_lsub hx hb dX2_placeOf_72 ?_
          refine lv_l2i hx hb dX2_placeOf_73 rfl ?_
          refine lv_iadd hx hb dX2_placeOf_74 ?_
          cases hE
          exact b_iret X Y hr hk dX2_placeOf_75
        · replace hE := e_f c_8 hE
          exact wbf_placeOf_L49 X hr hk hE Y (lv_sub hl [2] rfl)
/-! BasicMachineModel.call(II)I -/
set_option maxHeartbeats 4000000 in
set_option maxRecDepth 100000 in
theorem mbf_call (l : Launch) (n : Nat) (b : bP) (ok : bOk b) {st : bS} {a1 : Int32} {a2 : Int32} {q : bS × Int32} (hE : bf_call n st a1 a2 = some q) : bMet l yX2_call cX2_call 4 (some .int) 0 0 b [.int a1, .int a2] st (some (.int q.2)) q.1 := by
  refine b_ofW (by decide) rfl ok (Nat.le_of_ble_eq_true rfl) (fun p e s m below meth c ls X Y hr hk hl => ?_)
  have hl : lv_has ls 4 [(0, .ref b.h), (1, .int a1), (2, .int a2)] := hl
  generalize s.heap = H at Y ⊢
  generalize ([] : List Loc) = locs at Y ⊢
  have hx := X.1
  have hb := X.2.1
  have hown := X.2.2.2.1
  have hts := X.2.2.2.2.1
  unfold bf_call at hE
  refine lv_aload_n hx hb dX2_call_0 rfl (lv_at hl 0 rfl) ?_
  refine b_geti X Y 24 rfl (by decide) rfl q1827 dX2_call_1 ?_
  refine lv_iconst (v := 3) hx hb dX2_call_4 (by decide) ?_
  refine lv_icmp_ne (tgt := 15) hx hb dX2_call_5 (by decide) (fun c_1 => ?_) (fun c_1 => ?_)
  · replace hE := e_f c_1 hE
    refine lv_aload_n hx hb dX2_call_15 rfl (lv_at hl 0 rfl) ?_
    refine b_geta X Y 12 (by decide) (by decide) q1815 dX2_call_16 ?_
    refine lv_aload_n hx hb dX2_call_19 rfl (lv_at hl 0 rfl) ?_
    refine b_geta X Y 37 (by decide) (by decide) q1840 dX2_call_20 ?_
    refine lv_iload_n hx hb dX2_call_23 rfl (lv_at hl 1 rfl) ?_
    obtain ⟨v_2, g, hE⟩ := e_bind hE
    refine n_iald X Y 17 37 rfl rfl g dX2_call_24 ?_
    refine lv_bipush (v := 8) hx hb dX2_call_25 (by decide) ?_
    refine lv_imul hx hb dX2_call_27 ?_
    refine lv_iconst (v := 1) hx hb dX2_call_28 (by decide) ?_
    refine lv_iadd hx hb dX2_call_29 ?_
    obtain ⟨v_3, g, hE⟩ := e_bind hE
    refine n_iald X Y 4 12 rfl rfl g dX2_call_30 ?_
    refine lv_istore_n (lv' := [(3, .int v_3), (0, .ref b.h), (1, .int a1), (2, .int a2)]) hx hb dX2_call_31 rfl hl (by decide) rfl (fun ls hl => ?_)
    refine lv_aload_n hx hb dX2_call_32 rfl (lv_at hl 1 rfl) ?_
    refine b_geta X Y 43 (by decide) (by decide) q1846 dX2_call_33 ?_
    refine lv_aload_n hx hb dX2_call_36 rfl (lv_at hl 1 rfl) ?_
    refine b_geti X Y 24 rfl (by decide) rfl q1827 dX2_call_37 ?_
    refine lv_iload_n hx hb dX2_call_40 rfl (lv_at hl 3 rfl) ?_
    obtain ⟨st_4, g, hE⟩ := e_bind hE
    refine n_iast X Y 23 43 rfl rfl g dX2_call_41 (fun H locs Y => ?_)
    refine lv_aload_n hx hb dX2_call_42 rfl (lv_at hl 1 rfl) ?_
    refine b_geta X Y 44 (by decide) (by decide) q1847 dX2_call_43 ?_
    refine lv_aload_n hx hb dX2_call_46 rfl (lv_at hl 1 rfl) ?_
    refine b_geti X Y 24 rfl (by decide) rfl q1827 dX2_call_47 ?_
    refine lv_iload_n hx hb dX2_call_50 rfl (lv_at hl 0 rfl) ?_
    obtain ⟨st_5, g, hE⟩ := e_bind hE
    refine n_iast X Y 24 44 rfl rfl g dX2_call_51 (fun H locs Y => ?_)
    refine lv_aload_n hx hb dX2_call_52 rfl (lv_at hl 1 rfl) ?_
    refine b_geta X Y 34 (by decide) (by decide) q1837 dX2_call_53 ?_
    refine lv_aload_n hx hb dX2_call_56 rfl (lv_at hl 1 rfl) ?_
    refine b_geti X Y 24 rfl (by decide) rfl q1827 dX2_call_57 ?_
    refine lv_aload_n hx hb dX2_call_60 rfl (lv_at hl 1 rfl) ?_
    refine b_geta X Y 29 (by decide) (by decide) q1832 dX2_call_61 ?_
    refine lv_iload_n hx hb dX2_call_64 rfl (lv_at hl 0 rfl) ?_
    obtain ⟨v_6, g, hE⟩ := e_bind hE
    refine n_dald X Y 9 29 rfl rfl g dX2_call_65 ?_
    obtain ⟨st_7, g, hE⟩ := e_bind hE
    refine n_dast X Y 14 34 rfl rfl g dX2_call_66 (fun H locs Y => ?_)
    refine lv_aload_n hx hb dX2_call_67 rfl (lv_at hl 1 rfl) ?_
    refine lv_dup hx hb dX2_call_68 rfl ?_
    refine b_geti X Y 24 rfl (by decide) rfl q1827 dX2_call_69 ?_
    refine lv_iconst (v := 1) hx hb dX2_call_72 (by decide) ?_
    refine lv_iadd hx hb dX2_call_73 ?_
    obtain ⟨st_8, g, hE⟩ := e_bind hE
    refine n_put X Y 24 rfl (by decide) g rfl rfl rfl q1827 dX2_call_74 (fun H locs Y => ?_)
    refine lv_aload_n hx hb dX2_call_77 rfl (lv_at hl 1 rfl) ?_
    refine lv_dup hx hb dX2_call_78 rfl ?_
    refine b_geti X Y 25 rfl (by decide) rfl q1828 dX2_call_79 ?_
    refine lv_iconst (v := 1) hx hb dX2_call_82 (by decide) ?_
    refine lv_isub hx hb dX2_call_83 ?_
    obtain ⟨st_9, g, hE⟩ := e_bind hE
    refine n_put X Y 25 rfl (by decide) g rfl rfl rfl q1828 dX2_call_84 (fun H locs Y => ?_)
    refine lv_aload_n hx hb dX2_call_87 rfl (lv_at hl 1 rfl) ?_
    refine b_geta X Y 29 (by decide) (by decide) q1832 dX2_call_88 ?_
    refine lv_iload_n hx hb dX2_call_91 rfl (lv_at hl 0 rfl) ?_
    refine lv_aload_n hx hb dX2_call_92 rfl (lv_at hl 1 rfl) ?_
    refine b_geta X Y 30 (by decide) (by decide) q1833 dX2_call_93 ?_
    refine lv_aload_n hx hb dX2_call_96 rfl (lv_at hl 1 rfl) ?_
    refine b_geti X Y 25 rfl (by decide) rfl q1828 dX2_call_97 ?_
    obtain ⟨v_10, g, hE⟩ := e_bind hE
    refine n_dald X Y 10 30 rfl rfl g dX2_call_100 ?_
    obtain ⟨st_11, g, hE⟩ := e_bind hE
    refine n_dast X Y 9 29 rfl rfl g dX2_call_101 (fun H locs Y => ?_)
    refine lv_aload_n hx hb dX2_call_102 rfl (lv_at hl 1 rfl) ?_
    refine b_geta X Y 13 (by decide) (by decide) q1816 dX2_call_103 ?_
    refine lv_aload_n hx hb dX2_call_106 rfl (lv_at hl 1 rfl) ?_
    refine b_geta X Y 37 (by decide) (by decide) q1840 dX2_call_107 ?_
    refine lv_iload_n hx hb dX2_call_110 rfl (lv_at hl 2 rfl) ?_
    obtain ⟨v_12, g, hE⟩ := e_bind hE
    refine n_iald X Y 17 37 rfl rfl g dX2_call_111 ?_
    refine lv_iconst (v := 4) hx hb dX2_call_112 (by decide) ?_
    refine lv_imul hx hb dX2_call_113 ?_
    obtain ⟨v_13, g, hE⟩ := e_bind hE
    refine n_iald X Y 5 13 rfl rfl g dX2_call_114 ?_
    cases hE
    exact b_iret X Y hr hk dX2_call_115
  · replace hE := e_t c_1 hE
    refine lv_aload_n hx hb dX2_call_8 rfl (lv_at hl 0 rfl) ?_
    refine lv_iconst (v := 2) hx hb dX2_call_9 (by decide) ?_
    obtain ⟨st_14, g, hE⟩ := e_bind hE
    refine n_put X Y 27 rfl (by decide) g rfl rfl rfl q1830 dX2_call_10 (fun H locs Y => ?_)
    refine lv_iload_n hx hb dX2_call_13 rfl (lv_at hl 2 rfl) ?_
    cases hE
    exact b_iret X Y hr hk dX2_call_14
/-! BasicMachineModel.leave()V -/
set_option maxHeartbeats 4000000 in
set_option maxRecDepth 100000 in
theorem mbf_leave (l : Launch) (n : Nat) (b : bP) (ok : bOk b) {st : bS} {q : bS × Unit} (hE : bf_leave n st = some q) : bMet l yX2_leave cX2_leave 1 none 0 0 b [] st none q.1 := by
  refine b_ofW (by decide) rfl ok (Nat.le_of_ble_eq_true rfl) (fun p e s m below meth c ls X Y hr hk hl => ?_)
  have hl : lv_has ls 1 [(0, .ref b.h)] := hl
  generalize s.heap = H at Y ⊢
  generalize ([] : List Loc) = locs at Y ⊢
  have hx := X.1
  have hb := X.2.1
  have hown := X.2.2.2.1
  have hts := X.2.2.2.2.1
  unfold bf_leave at hE
  refine lv_aload_n hx hb dX2_leave_0 rfl (lv_at hl 0 rfl) ?_
  refine lv_dup hx hb dX2_leave_1 rfl ?_
  refine b_geti X Y 24 rfl (by decide) rfl q1827 dX2_leave_2 ?_
  refine lv_iconst (v := 1) hx hb dX2_leave_5 (by decide) ?_
  refine lv_isub hx hb dX2_leave_6 ?_
  obtain ⟨st_1, g, hE⟩ := e_bind hE
  refine n_put X Y 24 rfl (by decide) g rfl rfl rfl q1827 dX2_leave_7 (fun H locs Y => ?_)
  refine lv_aload_n hx hb dX2_leave_10 rfl (lv_at hl 0 rfl) ?_
  refine b_geta X Y 29 (by decide) (by decide) q1832 dX2_leave_11 ?_
  refine lv_aload_n hx hb dX2_leave_14 rfl (lv_at hl 0 rfl) ?_
  refine b_geta X Y 44 (by decide) (by decide) q1847 dX2_leave_15 ?_
  refine lv_aload_n hx hb dX2_leave_18 rfl (lv_at hl 0 rfl) ?_
  refine b_geti X Y 24 rfl (by decide) rfl q1827 dX2_leave_19 ?_
  obtain ⟨v_2, g, hE⟩ := e_bind hE
  refine n_iald X Y 24 44 rfl rfl g dX2_leave_22 ?_
  refine lv_aload_n hx hb dX2_leave_23 rfl (lv_at hl 0 rfl) ?_
  refine b_geta X Y 34 (by decide) (by decide) q1837 dX2_leave_24 ?_
  refine lv_aload_n hx hb dX2_leave_27 rfl (lv_at hl 0 rfl) ?_
  refine b_geti X Y 24 rfl (by decide) rfl q1827 dX2_leave_28 ?_
  obtain ⟨v_3, g, hE⟩ := e_bind hE
  refine n_dald X Y 14 34 rfl rfl g dX2_leave_31 ?_
  obtain ⟨st_4, g, hE⟩ := e_bind hE
  refine n_dast X Y 9 29 rfl rfl g dX2_leave_32 (fun H locs Y => ?_)
  cases hE
  exact b_vret X Y hr hk dX2_leave_33
/-! BasicMachineModel.operate(II)I -/
set_option maxHeartbeats 4000000 in
set_option maxRecDepth 100000 in
theorem mbf_operate (l : Launch) (n : Nat) (b : bP) (ok : bOk b) {st : bS} {a1 : Int32} {a2 : Int32} {q : bS × Int32} (hE : bf_operate n st a1 a2 = some q) : bMet l yX2_operate cX2_operate 5 (some .int) 4 99 b [.int a1, .int a2] st (some (.int q.2)) q.1 := by
  refine b_ofW (by decide) rfl ok (Nat.le_of_ble_eq_true rfl) (fun p e s m below meth c ls X Y hr hk hl => ?_)
  have hl : lv_has ls 5 [(0, .ref b.h), (1, .int a1), (2, .int a2)] := hl
  generalize s.heap = H at Y ⊢
  generalize ([] : List Loc) = locs at Y ⊢
  have hx := X.1
  have hb := X.2.1
  have hown := X.2.2.2.1
  have hts := X.2.2.2.2.1
  unfold bf_operate at hE
  refine lv_aload_n hx hb dX2_operate_0 rfl (lv_at hl 0 rfl) ?_
  refine b_geta X Y 14 (by decide) (by decide) q1817 dX2_operate_1 ?_
  refine lv_iload_n hx hb dX2_operate_4 rfl (lv_at hl 2 rfl) ?_
  refine lv_iconst (v := 1) hx hb dX2_operate_5 (by decide) ?_
  refine lv_iadd hx hb dX2_operate_6 ?_
  obtain ⟨v_1, g, hE⟩ := e_bind hE
  refine n_iald X Y 6 14 rfl rfl g dX2_operate_7 ?_
  refine lv_istore_n (lv' := [(3, .int v_1), (0, .ref b.h), (1, .int a1), (2, .int a2)]) hx hb dX2_operate_8 rfl hl (by decide) rfl (fun ls hl => ?_)
  refine lv_iload_n hx hb dX2_operate_9 rfl (lv_at hl 2 rfl) ?_
  refine lv_if_ne (tgt := 43) hx hb dX2_operate_10 (by decide) (fun c_2 => ?_) (fun c_2 => ?_)
  · replace hE := e_f c_2 hE
    refine lv_iload_n hx hb dX2_operate_43 rfl (lv_at hl 2 rfl) ?_
    refine lv_iconst (v := 1) hx hb dX2_operate_44 (by decide) ?_
    refine lv_icmp_ne (tgt := 77) hx hb dX2_operate_45 (by decide) (fun c_3 => ?_) (fun c_3 => ?_)
    · replace hE := e_f c_3 hE
      refine lv_iload_n hx hb dX2_operate_77 rfl (lv_at hl 2 rfl) ?_
      refine lv_iconst (v := 2) hx hb dX2_operate_78 (by decide) ?_
      refine lv_icmp_ne (tgt := 146) hx hb dX2_operate_79 (by decide) (fun c_4 => ?_) (fun c_4 => ?_)
      · replace hE := e_f c_4 hE
        refine lv_iload_n hx hb dX2_operate_146 rfl (lv_at hl 2 rfl) ?_
        refine lv_bipush (v := 8) hx hb dX2_operate_147 (by decide) ?_
        refine lv_icmp_ge (tgt := 202) hx hb dX2_operate_149 (by decide) (fun c_5 => ?_) (fun c_5 => ?_)
        · replace hE := e_t c_5 hE
          refine lv_iload_n hx hb dX2_operate_202 rfl (lv_at hl 2 rfl) ?_
          refine lv_bipush (v := 12) hx hb dX2_operate_203 (by decide) ?_
          refine lv_icmp_ge (tgt := 239) hx hb dX2_operate_205 (by decide) (fun c_6 => ?_) (fun c_6 => ?_)
          · replace hE := e_t c_6 hE
            refine lv_iload_n hx hb dX2_operate_239 rfl (lv_at hl 2 rfl) ?_
            refine lv_bipush (v := 13) hx hb dX2_operate_240 (by decide) ?_
            refine lv_icmp_ne (tgt := 254) hx hb dX2_operate_242 (by decide) (fun c_7 => ?_) (fun c_7 => ?_)
            · replace hE := e_f c_7 hE
              refine lv_aload_n hx hb dX2_operate_254 rfl (lv_at hl 1 rfl) ?_
              refine b_geta X Y 37 (by decide) (by decide) q1840 dX2_operate_255 ?_
              refine lv_iload_n hx hb dX2_operate_258 rfl (lv_at hl 0 rfl) ?_
              obtain ⟨v_8, g, hE⟩ := e_bind hE
              refine n_iald X Y 17 37 rfl rfl g dX2_operate_259 ?_
              refine lv_if_ge (tgt := 268) hx hb dX2_operate_260 (by decide) (fun c_9 => ?_) (fun c_9 => ?_)
              · replace hE := e_t c_9 hE
                refine lv_iload_n hx hb dX2_operate_268 rfl (lv_at hl 3 rfl) ?_
                refine lv_iconst (v := 2) hx hb dX2_operate_269 (by decide) ?_
                refine lv_iadd hx hb dX2_operate_270 ?_
                cases hE
                exact b_iret X Y hr hk dX2_operate_271
              · replace hE := e_f c_9 hE
                refine lv_aload_n hx hb dX2_operate_263 rfl (lv_at hl 1 rfl) ?_
                refine lv_iconst (v := 3) hx hb dX2_operate_264 (by decide) ?_
                obtain ⟨st_10, g, hE⟩ := e_bind hE
                refine n_put X Y 27 rfl (by decide) g rfl rfl rfl q1830 dX2_operate_265 (fun H locs Y => ?_)
                refine lv_iload_n hx hb dX2_operate_268 rfl (lv_at hl 3 rfl) ?_
                refine lv_iconst (v := 2) hx hb dX2_operate_269 (by decide) ?_
                refine lv_iadd hx hb dX2_operate_270 ?_
                cases hE
                exact b_iret X Y hr hk dX2_operate_271
            · replace hE := e_t c_7 hE
              refine lv_aload_n hx hb dX2_operate_245 rfl (lv_at hl 1 rfl) ?_
              refine lv_iload_n hx hb dX2_operate_246 rfl (lv_at hl 0 rfl) ?_
              refine lv_iload_n hx hb dX2_operate_247 rfl (lv_at hl 3 rfl) ?_
              refine lv_iconst (v := 2) hx hb dX2_operate_248 (by decide) ?_
              refine lv_iadd hx hb dX2_operate_249 ?_
              obtain ⟨q_11, g, hE⟩ := e_bind hE
              refine n_call1 (n := 2) [.int v_1, .int (a2 + (2 : Int32))] X Y (mbf_call l n b X.2.2.2.2.2.2 g) q2218 q2220 qs107 q2221 (by decide +kernel) (by decide) rfl hl.1 (Nat.le_of_ble_eq_true rfl) dX2_operate_250 (by decide) (fun H locs Y => ?_)
              cases hE
              exact b_iret X Y hr hk dX2_operate_253
          · replace hE := e_f c_6 hE
            refine lv_aload_n hx hb dX2_operate_208 rfl (lv_at hl 1 rfl) ?_
            refine b_geta X Y 30 (by decide) (by decide) q1833 dX2_operate_209 ?_
            refine lv_aload_n hx hb dX2_operate_212 rfl (lv_at hl 1 rfl) ?_
            refine b_geti X Y 25 rfl (by decide) rfl q1828 dX2_operate_213 ?_
            refine lv_iconst (v := 1) hx hb dX2_operate_216 (by decide) ?_
            refine lv_isub hx hb dX2_operate_217 ?_
            refine lv_aload_n hx hb dX2_operate_218 rfl (lv_at hl 1 rfl) ?_
            refine lv_iload_n hx hb dX2_operate_219 rfl (lv_at hl 2 rfl) ?_
            refine lv_aload_n hx hb dX2_operate_220 rfl (lv_at hl 1 rfl) ?_
            refine b_geta X Y 30 (by decide) (by decide) q1833 dX2_operate_221 ?_
            refine lv_aload_n hx hb dX2_operate_224 rfl (lv_at hl 1 rfl) ?_
            refine b_geti X Y 25 rfl (by decide) rfl q1828 dX2_operate_225 ?_
            refine lv_iconst (v := 1) hx hb dX2_operate_228 (by decide) ?_
            refine lv_isub hx hb dX2_operate_229 ?_
            obtain ⟨v_12, g, hE⟩ := e_bind hE
            refine n_dald X Y 10 30 rfl rfl g dX2_operate_230 ?_
            obtain ⟨q_13, g, hE⟩ := e_bind hE
            refine n_call1 (n := 2) [.int a1, .double v_12] X Y (mbf_one l n b X.2.2.2.2.2.2 g) q2209 q2211 qs105 q2212 (by decide +kernel) (by decide) rfl hl.1 (Nat.le_of_ble_eq_true rfl) dX2_operate_231 (by decide) (fun H locs Y => ?_)
            obtain ⟨st_14, g, hE⟩ := e_bind hE
            refine n_dast X Y 10 30 rfl rfl g dX2_operate_234 (fun H locs Y => ?_)
            refine lv_iload_n hx hb dX2_operate_235 rfl (lv_at hl 3 rfl) ?_
            refine lv_iconst (v := 1) hx hb dX2_operate_236 (by decide) ?_
            refine lv_iadd hx hb dX2_operate_237 ?_
            cases hE
            exact b_iret X Y hr hk dX2_operate_238
        · replace hE := e_f c_5 hE
          refine lv_aload_n hx hb dX2_operate_152 rfl (lv_at hl 1 rfl) ?_
          refine lv_dup hx hb dX2_operate_153 rfl ?_
          refine b_geti X Y 25 rfl (by decide) rfl q1828 dX2_operate_154 ?_
          refine lv_iconst (v := 1) hx hb dX2_operate_157 (by decide) ?_
          refine lv_isub hx hb dX2_operate_158 ?_
          obtain ⟨st_15, g, hE⟩ := e_bind hE
          refine n_put X Y 25 rfl (by decide) g rfl rfl rfl q1828 dX2_operate_159 (fun H locs Y => ?_)
          refine lv_aload_n hx hb dX2_operate_162 rfl (lv_at hl 1 rfl) ?_
          refine b_geta X Y 30 (by decide) (by decide) q1833 dX2_operate_163 ?_
          refine lv_aload_n hx hb dX2_operate_166 rfl (lv_at hl 1 rfl) ?_
          refine b_geti X Y 25 rfl (by decide) rfl q1828 dX2_operate_167 ?_
          refine lv_iconst (v := 1) hx hb dX2_operate_170 (by decide) ?_
          refine lv_isub hx hb dX2_operate_171 ?_
          refine lv_aload_n hx hb dX2_operate_172 rfl (lv_at hl 1 rfl) ?_
          refine lv_iload_n hx hb dX2_operate_173 rfl (lv_at hl 2 rfl) ?_
          refine lv_aload_n hx hb dX2_operate_174 rfl (lv_at hl 1 rfl) ?_
          refine b_geta X Y 30 (by decide) (by decide) q1833 dX2_operate_175 ?_
          refine lv_aload_n hx hb dX2_operate_178 rfl (lv_at hl 1 rfl) ?_
          refine b_geti X Y 25 rfl (by decide) rfl q1828 dX2_operate_179 ?_
          refine lv_iconst (v := 1) hx hb dX2_operate_182 (by decide) ?_
          refine lv_isub hx hb dX2_operate_183 ?_
          obtain ⟨v_16, g, hE⟩ := e_bind hE
          refine n_dald X Y 10 30 rfl rfl g dX2_operate_184 ?_
          refine lv_aload_n hx hb dX2_operate_185 rfl (lv_at hl 1 rfl) ?_
          refine b_geta X Y 30 (by decide) (by decide) q1833 dX2_operate_186 ?_
          refine lv_aload_n hx hb dX2_operate_189 rfl (lv_at hl 1 rfl) ?_
          refine b_geti X Y 25 rfl (by decide) rfl q1828 dX2_operate_190 ?_
          obtain ⟨v_17, g, hE⟩ := e_bind hE
          refine n_dald X Y 10 30 rfl rfl g dX2_operate_193 ?_
          obtain ⟨q_18, g, hE⟩ := e_bind hE
          refine n_call1 (n := 3) [.int a1, .double v_16, .double v_17] X Y (mbf_two l n b X.2.2.2.2.2.2 g) q2189 q2191 qs101 q2192 (by decide +kernel) (by decide) rfl hl.1 (Nat.le_of_ble_eq_true rfl) dX2_operate_194 (by decide) (fun H locs Y => ?_)
          obtain ⟨st_19, g, hE⟩ := e_bind hE
          refine n_dast X Y 10 30 rfl rfl g dX2_operate_197 (fun H locs Y => ?_)
          refine lv_iload_n hx hb dX2_operate_198 rfl (lv_at hl 3 rfl) ?_
          refine lv_iconst (v := 1) hx hb dX2_operate_199 (by decide) ?_
          refine lv_iadd hx hb dX2_operate_200 ?_
          cases hE
          exact b_iret X Y hr hk dX2_operate_201
      · replace hE := e_t c_4 hE
        refine lv_aload_n hx hb dX2_operate_82 rfl (lv_at hl 1 rfl) ?_
        refine lv_dup hx hb dX2_operate_83 rfl ?_
        refine b_geti X Y 25 rfl (by decide) rfl q1828 dX2_operate_84 ?_
        refine lv_iconst (v := 1) hx hb dX2_operate_87 (by decide) ?_
        refine lv_isub hx hb dX2_operate_88 ?_
        obtain ⟨st_20, g, hE⟩ := e_bind hE
        refine n_put X Y 25 rfl (by decide) g rfl rfl rfl q1828 dX2_operate_89 (fun H locs Y => ?_)
        refine lv_aload_n hx hb dX2_operate_92 rfl (lv_at hl 1 rfl) ?_
        refine lv_iload_n hx hb dX2_operate_93 rfl (lv_at hl 0 rfl) ?_
        refine lv_aload_n hx hb dX2_operate_94 rfl (lv_at hl 1 rfl) ?_
        refine b_geta X Y 30 (by decide) (by decide) q1833 dX2_operate_95 ?_
        refine lv_aload_n hx hb dX2_operate_98 rfl (lv_at hl 1 rfl) ?_
        refine b_geti X Y 25 rfl (by decide) rfl q1828 dX2_operate_99 ?_
        refine lv_iconst (v := 1) hx hb dX2_operate_102 (by decide) ?_
        refine lv_isub hx hb dX2_operate_103 ?_
        obtain ⟨v_21, g, hE⟩ := e_bind hE
        refine n_dald X Y 10 30 rfl rfl g dX2_operate_104 ?_
        refine lv_aload_n hx hb dX2_operate_105 rfl (lv_at hl 1 rfl) ?_
        refine b_geta X Y 30 (by decide) (by decide) q1833 dX2_operate_106 ?_
        refine lv_aload_n hx hb dX2_operate_109 rfl (lv_at hl 1 rfl) ?_
        refine b_geti X Y 25 rfl (by decide) rfl q1828 dX2_operate_110 ?_
        obtain ⟨v_22, g, hE⟩ := e_bind hE
        refine n_dald X Y 10 30 rfl rfl g dX2_operate_113 ?_
        obtain ⟨q_23, g, hE⟩ := e_bind hE
        refine n_call1 (n := 3) [.int v_1, .double v_21, .double v_22] X Y (mbf_placeOf l n b X.2.2.2.2.2.2 g) q2185 q2187 qs100 q2188 (by decide +kernel) (by decide) rfl hl.1 (Nat.le_of_ble_eq_true rfl) dX2_operate_114 (by decide) (fun H locs Y => ?_)
        refine lv_istore (lv' := [(4, .int q_23.2), (3, .int v_1), (0, .ref b.h), (1, .int a1), (2, .int a2)]) hx hb dX2_operate_117 hl (by decide) rfl (fun ls hl => ?_)
        refine lv_iload hx hb dX2_operate_119 (lv_at hl 0 rfl) ?_
        refine lv_if_lt (tgt := 142) hx hb dX2_operate_121 (by decide) (fun c_24 => ?_) (fun c_24 => ?_)
        · replace hE := e_t c_24 hE
          refine lv_iload_n hx hb dX2_operate_142 rfl (lv_at hl 4 rfl) ?_
          refine lv_iconst (v := 2) hx hb dX2_operate_143 (by decide) ?_
          refine lv_iadd hx hb dX2_operate_144 ?_
          cases hE
          exact b_iret X Y hr hk dX2_operate_145
        · replace hE := e_f c_24 hE
          refine lv_aload_n hx hb dX2_operate_124 rfl (lv_at hl 2 rfl) ?_
          refine b_geta X Y 30 (by decide) (by decide) q1833 dX2_operate_125 ?_
          refine lv_aload_n hx hb dX2_operate_128 rfl (lv_at hl 2 rfl) ?_
          refine b_geti X Y 25 rfl (by decide) rfl q1828 dX2_operate_129 ?_
          refine lv_iconst (v := 1) hx hb dX2_operate_132 (by decide) ?_
          refine lv_isub hx hb dX2_operate_133 ?_
          refine lv_aload_n hx hb dX2_operate_134 rfl (lv_at hl 2 rfl) ?_
          refine b_geta X Y 35 (by decide) (by decide) q1838 dX2_operate_135 ?_
          refine lv_iload hx hb dX2_operate_138 (lv_at hl 0 rfl) ?_
          obtain ⟨v_25, g, hE⟩ := e_bind hE
          refine n_dald X Y 15 35 rfl rfl g dX2_operate_140 ?_
          obtain ⟨st_26, g, hE⟩ := e_bind hE
          refine n_dast X Y 10 30 rfl rfl g dX2_operate_141 (fun H locs Y => ?_)
          refine lv_iload_n hx hb dX2_operate_142 rfl (lv_at hl 4 rfl) ?_
          refine lv_iconst (v := 2) hx hb dX2_operate_143 (by decide) ?_
          refine lv_iadd hx hb dX2_operate_144 ?_
          cases hE
          exact b_iret X Y hr hk dX2_operate_145
    · replace hE := e_t c_3 hE
      refine lv_aload_n hx hb dX2_operate_48 rfl (lv_at hl 1 rfl) ?_
      refine b_geta X Y 30 (by decide) (by decide) q1833 dX2_operate_49 ?_
      refine lv_aload_n hx hb dX2_operate_52 rfl (lv_at hl 1 rfl) ?_
      refine b_geti X Y 25 rfl (by decide) rfl q1828 dX2_operate_53 ?_
      refine lv_aload_n hx hb dX2_operate_56 rfl (lv_at hl 1 rfl) ?_
      refine b_geta X Y 29 (by decide) (by decide) q1832 dX2_operate_57 ?_
      refine lv_iload_n hx hb dX2_operate_60 rfl (lv_at hl 0 rfl) ?_
      obtain ⟨v_27, g, hE⟩ := e_bind hE
      refine n_dald X Y 9 29 rfl rfl g dX2_operate_61 ?_
      obtain ⟨st_28, g, hE⟩ := e_bind hE
      refine n_dast X Y 10 30 rfl rfl g dX2_operate_62 (fun H locs Y => ?_)
      refine lv_aload_n hx hb dX2_operate_63 rfl (lv_at hl 1 rfl) ?_
      refine lv_dup hx hb dX2_operate_64 rfl ?_
      refine b_geti X Y 25 rfl (by decide) rfl q1828 dX2_operate_65 ?_
      refine lv_iconst (v := 1) hx hb dX2_operate_68 (by decide) ?_
      refine lv_iadd hx hb dX2_operate_69 ?_
      obtain ⟨st_29, g, hE⟩ := e_bind hE
      refine n_put X Y 25 rfl (by decide) g rfl rfl rfl q1828 dX2_operate_70 (fun H locs Y => ?_)
      refine lv_iload_n hx hb dX2_operate_73 rfl (lv_at hl 3 rfl) ?_
      refine lv_iconst (v := 2) hx hb dX2_operate_74 (by decide) ?_
      refine lv_iadd hx hb dX2_operate_75 ?_
      cases hE
      exact b_iret X Y hr hk dX2_operate_76
  · replace hE := e_t c_2 hE
    refine lv_aload_n hx hb dX2_operate_13 rfl (lv_at hl 1 rfl) ?_
    refine b_geta X Y 30 (by decide) (by decide) q1833 dX2_operate_14 ?_
    refine lv_aload_n hx hb dX2_operate_17 rfl (lv_at hl 1 rfl) ?_
    refine b_geti X Y 25 rfl (by decide) rfl q1828 dX2_operate_18 ?_
    refine lv_aload_n hx hb dX2_operate_21 rfl (lv_at hl 1 rfl) ?_
    refine lv_iload_n hx hb dX2_operate_22 rfl (lv_at hl 3 rfl) ?_
    refine lv_iconst (v := 1) hx hb dX2_operate_23 (by decide) ?_
    refine lv_iadd hx hb dX2_operate_24 ?_
    obtain ⟨q_30, g, hE⟩ := e_bind hE
    refine n_call1 (n := 1) [.int (a2 + (1 : Int32))] X Y (mbf_plain l n b X.2.2.2.2.2.2 g) q2164 q2166 qs95 q2167 (by decide +kernel) (by decide) rfl hl.1 (Nat.le_of_ble_eq_true rfl) dX2_operate_25 (by decide) (fun H locs Y => ?_)
    obtain ⟨st_31, g, hE⟩ := e_bind hE
    refine n_dast X Y 10 30 rfl rfl g dX2_operate_28 (fun H locs Y => ?_)
    refine lv_aload_n hx hb dX2_operate_29 rfl (lv_at hl 1 rfl) ?_
    refine lv_dup hx hb dX2_operate_30 rfl ?_
    refine b_geti X Y 25 rfl (by decide) rfl q1828 dX2_operate_31 ?_
    refine lv_iconst (v := 1) hx hb dX2_operate_34 (by decide) ?_
    refine lv_iadd hx hb dX2_operate_35 ?_
    obtain ⟨st_32, g, hE⟩ := e_bind hE
    refine n_put X Y 25 rfl (by decide) g rfl rfl rfl q1828 dX2_operate_36 (fun H locs Y => ?_)
    refine lv_iload_n hx hb dX2_operate_39 rfl (lv_at hl 3 rfl) ?_
    refine lv_iconst (v := 3) hx hb dX2_operate_40 (by decide) ?_
    refine lv_iadd hx hb dX2_operate_41 ?_
    cases hE
    exact b_iret X Y hr hk dX2_operate_42
/-! BasicMachineModel.work(I)D -/
set_option maxHeartbeats 4000000 in
set_option maxRecDepth 100000 in
theorem wbf_work_S76_ {l : Launch} {b : bP} {As : List Value} {p : Program} {e : Env} {s : State} {m : MethodId} {below : List Frame} {meth : Method} {c : Code} (X : bX p s m (Value.ref b.h :: As).toArray c cX2_work 3 b) (hr : meth.sig.returnType = (some .double)) (hk : meth.locks = false) (n : Nat) {q : bS × UInt64} : ∀ k : Nat, (∀ {st : bS}, bf_work_S76 n k st = some q → ∀ {H : Heap} {locs : List Loc} {ls : Array Slot}, bY b s st H locs → lv_has ls 3 [(0, .ref b.h)] → bG l 5 123 b As (some (.double q.2)) q.1 p e s m below meth c H locs (F0 m 76 ls [])) := by
  have hx := X.1
  have hb := X.2.1
  have hown := X.2.2.2.1
  have hts := X.2.2.2.2.1
  intro k
  induction k with
  | zero => exact fun h => nomatch (show none = some q from h)
  | succ k ih =>
    intro st hE H locs ls Y hl
    replace hE : bf_work_B76 n (bf_work_S76 n k) st = some q := hE
    unfold bf_work_B76 at hE
    refine lv_aload_n hx hb dX2_work_76 rfl (lv_at hl 0 rfl) ?_
    refine b_geti X Y 24 rfl (by decide) rfl q1827 dX2_work_77 ?_
    refine lv_if_le (tgt := 90) hx hb dX2_work_80 (by decide) (fun c_1 => ?_) (fun c_1 => ?_)
    · replace hE := e_t c_1 hE
      refine lv_dconst0 hx hb dX2_work_90 ?_
      cases hE
      exact b_dret X Y hr hk dX2_work_91
    · replace hE := e_f c_1 hE
      refine lv_aload_n hx hb dX2_work_83 rfl (lv_at hl 0 rfl) ?_
      obtain ⟨q_2, g, hE⟩ := e_bind hE
      refine n_call0 (n := 0) [] X Y (mbf_leave l n b X.2.2.2.2.2.2 g) q2222 q2224 qs108 q2225 (by decide +kernel) (by decide) rfl hl.1 (Nat.le_of_ble_eq_true rfl) dX2_work_84 (by decide) (fun H locs Y => ?_)
      refine lv_goto (tgt := 76) hx hb dX2_work_87 (by decide) ?_
      exact ih hE Y (lv_sub hl [0] rfl)
set_option maxHeartbeats 4000000 in
set_option maxRecDepth 100000 in
theorem wbf_work_S76 {l : Launch} {b : bP} {As : List Value} {p : Program} {e : Env} {s : State} {m : MethodId} {below : List Frame} {meth : Method} {c : Code} (X : bX p s m (Value.ref b.h :: As).toArray c cX2_work 3 b) (hr : meth.sig.returnType = (some .double)) (hk : meth.locks = false) (n : Nat) {q : bS × UInt64} : (∀ {st : bS}, bf_work_S76 n n st = some q → ∀ {H : Heap} {locs : List Loc} {ls : Array Slot}, bY b s st H locs → lv_has ls 3 [(0, .ref b.h)] → bG l 5 123 b As (some (.double q.2)) q.1 p e s m below meth c H locs (F0 m 76 ls [])) := wbf_work_S76_ X hr hk n n
set_option maxHeartbeats 4000000 in
set_option maxRecDepth 100000 in
theorem wbf_work_S12_ {l : Launch} {b : bP} {As : List Value} {p : Program} {e : Env} {s : State} {m : MethodId} {below : List Frame} {meth : Method} {c : Code} (X : bX p s m (Value.ref b.h :: As).toArray c cX2_work 3 b) (hr : meth.sig.returnType = (some .double)) (hk : meth.locks = false) (n : Nat) {q : bS × UInt64} : ∀ k : Nat, (∀ {st : bS} {x2 : Int32}, bf_work_S12 n k st x2 = some q → ∀ {H : Heap} {locs : List Loc} {ls : Array Slot}, bY b s st H locs → lv_has ls 3 [(0, .ref b.h), (2, .int x2)] → bG l 5 123 b As (some (.double q.2)) q.1 p e s m below meth c H locs (F0 m 12 ls [])) := by
  have hx := X.1
  have hb := X.2.1
  have hown := X.2.2.2.1
  have hts := X.2.2.2.2.1
  intro k
  induction k with
  | zero => exact fun h => nomatch (show none = some q from h)
  | succ k ih =>
    intro st x2 hE H locs ls Y hl
    replace hE : bf_work_B12 n (bf_work_S12 n k) st x2 = some q := hE
    unfold bf_work_B12 at hE
    refine lv_aload_n hx hb dX2_work_12 rfl (lv_at hl 0 rfl) ?_
    refine b_geti X Y 27 rfl (by decide) rfl q1830 dX2_work_13 ?_
    refine lv_if_ne (tgt := 76) hx hb dX2_work_16 (by decide) (fun c_1 => ?_) (fun c_1 => ?_)
    · replace hE := e_f c_1 hE
      exact (wbf_work_S76 X hr hk n) hE Y (lv_sub hl [0] rfl)
    · replace hE := e_t c_1 hE
      refine lv_aload_n hx hb dX2_work_19 rfl (lv_at hl 0 rfl) ?_
      refine b_geta X Y 14 (by decide) (by decide) q1817 dX2_work_20 ?_
      refine lv_iload_n hx hb dX2_work_23 rfl (lv_at hl 1 rfl) ?_
      obtain ⟨v_2, g, hE⟩ := e_bind hE
      refine n_iald X Y 6 14 rfl rfl g dX2_work_24 ?_
      refine lv_bipush (v := 14) hx hb dX2_work_25 (by decide) ?_
      refine lv_icmp_eq (tgt := 45) hx hb dX2_work_27 (by decide) (fun c_3 => ?_) (fun c_3 => ?_)
      · replace hE := e_t c_3 hE
        refine lv_aload_n hx hb dX2_work_45 rfl (lv_at hl 0 rfl) ?_
        refine b_geti X Y 24 rfl (by decide) rfl q1827 dX2_work_46 ?_
        refine lv_if_ne (tgt := 59) hx hb dX2_work_49 (by decide) (fun c_4 => ?_) (fun c_4 => ?_)
        · replace hE := e_f c_4 hE
          refine lv_aload_n hx hb dX2_work_59 rfl (lv_at hl 0 rfl) ?_
          obtain ⟨q_5, g, hE⟩ := e_bind hE
          refine n_call0 (n := 0) [] X Y (mbf_leave l n b X.2.2.2.2.2.2 g) q2222 q2224 qs108 q2225 (by decide +kernel) (by decide) rfl hl.1 (Nat.le_of_ble_eq_true rfl) dX2_work_60 (by decide) (fun H locs Y => ?_)
          refine lv_aload_n hx hb dX2_work_63 rfl (lv_at hl 0 rfl) ?_
          refine b_geta X Y 43 (by decide) (by decide) q1846 dX2_work_64 ?_
          refine lv_aload_n hx hb dX2_work_67 rfl (lv_at hl 0 rfl) ?_
          refine b_geti X Y 24 rfl (by decide) rfl q1827 dX2_work_68 ?_
          obtain ⟨v_6, g, hE⟩ := e_bind hE
          refine n_iald X Y 23 43 rfl rfl g dX2_work_71 ?_
          refine lv_istore_n (lv' := [(2, .int v_6), (0, .ref b.h)]) hx hb dX2_work_72 rfl hl (by decide) rfl (fun ls hl => ?_)
          refine lv_goto (tgt := 12) hx hb dX2_work_73 (by decide) ?_
          exact ih hE Y (lv_sub hl [1, 0] rfl)
        · replace hE := e_t c_4 hE
          refine lv_aload_n hx hb dX2_work_52 rfl (lv_at hl 0 rfl) ?_
          refine b_geta X Y 30 (by decide) (by decide) q1833 dX2_work_53 ?_
          refine lv_iconst (v := 0) hx hb dX2_work_56 (by decide) ?_
          obtain ⟨v_7, g, hE⟩ := e_bind hE
          refine n_dald X Y 10 30 rfl rfl g dX2_work_57 ?_
          cases hE
          exact b_dret X Y hr hk dX2_work_58
      · replace hE := e_f c_3 hE
        refine lv_aload_n hx hb dX2_work_30 rfl (lv_at hl 0 rfl) ?_
        refine lv_aload_n hx hb dX2_work_31 rfl (lv_at hl 0 rfl) ?_
        refine b_geta X Y 14 (by decide) (by decide) q1817 dX2_work_32 ?_
        refine lv_iload_n hx hb dX2_work_35 rfl (lv_at hl 1 rfl) ?_
        obtain ⟨v_8, g, hE⟩ := e_bind hE
        refine n_iald X Y 6 14 rfl rfl g dX2_work_36 ?_
        refine lv_iload_n hx hb dX2_work_37 rfl (lv_at hl 1 rfl) ?_
        obtain ⟨q_9, g, hE⟩ := e_bind hE
        refine n_call1 (n := 2) [.int v_8, .int x2] X Y (mbf_operate l n b X.2.2.2.2.2.2 g) q2181 q2183 qs99 q2184 (by decide +kernel) (by decide) rfl hl.1 (Nat.le_of_ble_eq_true rfl) dX2_work_38 (by decide) (fun H locs Y => ?_)
        refine lv_istore_n (lv' := [(2, .int q_9.2), (0, .ref b.h)]) hx hb dX2_work_41 rfl hl (by decide) rfl (fun ls hl => ?_)
        refine lv_goto (tgt := 12) hx hb dX2_work_42 (by decide) ?_
        exact ih hE Y (lv_sub hl [1, 0] rfl)
set_option maxHeartbeats 4000000 in
set_option maxRecDepth 100000 in
theorem wbf_work_S12 {l : Launch} {b : bP} {As : List Value} {p : Program} {e : Env} {s : State} {m : MethodId} {below : List Frame} {meth : Method} {c : Code} (X : bX p s m (Value.ref b.h :: As).toArray c cX2_work 3 b) (hr : meth.sig.returnType = (some .double)) (hk : meth.locks = false) (n : Nat) {q : bS × UInt64} : (∀ {st : bS} {x2 : Int32}, bf_work_S12 n n st x2 = some q → ∀ {H : Heap} {locs : List Loc} {ls : Array Slot}, bY b s st H locs → lv_has ls 3 [(0, .ref b.h), (2, .int x2)] → bG l 5 123 b As (some (.double q.2)) q.1 p e s m below meth c H locs (F0 m 12 ls [])) := wbf_work_S12_ X hr hk n n
set_option maxHeartbeats 4000000 in
set_option maxRecDepth 100000 in
theorem mbf_work (l : Launch) (n : Nat) (b : bP) (ok : bOk b) {st : bS} {a1 : Int32} {q : bS × UInt64} (hE : bf_work n st a1 = some q) : bMet l yX2_work cX2_work 3 (some .double) 5 123 b [.int a1] st (some (.double q.2)) q.1 := by
  refine b_ofW (by decide) rfl ok (Nat.le_of_ble_eq_true rfl) (fun p e s m below meth c ls X Y hr hk hl => ?_)
  have hl : lv_has ls 3 [(0, .ref b.h), (1, .int a1)] := hl
  generalize s.heap = H at Y ⊢
  generalize ([] : List Loc) = locs at Y ⊢
  have hx := X.1
  have hb := X.2.1
  have hown := X.2.2.2.1
  have hts := X.2.2.2.2.1
  unfold bf_work at hE
  refine lv_iload_n hx hb dX2_work_0 rfl (lv_at hl 1 rfl) ?_
  refine lv_istore_n (lv' := [(2, .int a1), (0, .ref b.h), (1, .int a1)]) hx hb dX2_work_1 rfl hl (by decide) rfl (fun ls hl => ?_)
  refine lv_aload_n hx hb dX2_work_2 rfl (lv_at hl 1 rfl) ?_
  refine lv_iconst (v := 0) hx hb dX2_work_3 (by decide) ?_
  obtain ⟨st_1, g, hE⟩ := e_bind hE
  refine n_put X Y 25 rfl (by decide) g rfl rfl rfl q1828 dX2_work_4 (fun H locs Y => ?_)
  refine lv_aload_n hx hb dX2_work_7 rfl (lv_at hl 1 rfl) ?_
  refine lv_iconst (v := 0) hx hb dX2_work_8 (by decide) ?_
  obtain ⟨st_2, g, hE⟩ := e_bind hE
  refine n_put X Y 24 rfl (by decide) g rfl rfl rfl q1827 dX2_work_9 (fun H locs Y => ?_)
  exact (wbf_work_S12 X hr hk n) hE Y (lv_sub hl [1, 0] rfl)
/-! BasicMachineModel.nextSlot(I)I -/
set_option maxHeartbeats 4000000 in
set_option maxRecDepth 100000 in
theorem wbf_nextSlot_S4_ {l : Launch} {b : bP} {As : List Value} {p : Program} {e : Env} {s : State} {m : MethodId} {below : List Frame} {meth : Method} {c : Code} (X : bX p s m (Value.ref b.h :: As).toArray c cX2_nextSlot 4 b) (hr : meth.sig.returnType = (some .int)) (hk : meth.locks = false) (n : Nat) {q : bS × Int32} : ∀ k : Nat, (∀ {st : bS} {x1 : Int32} {x2 : Int32} {x3 : Int32}, bf_nextSlot_S4 n k 0 st x1 x2 x3 = some q → ∀ {H : Heap} {locs : List Loc} {ls : Array Slot}, bY b s st H locs → lv_has ls 4 [(0, .ref b.h), (1, .int x1), (2, .int x2), (3, .int x3)] → bG l 0 0 b As (some (.int q.2)) q.1 p e s m below meth c H locs (F0 m 4 ls [])) ∧ (∀ {st : bS} {x1 : Int32} {x2 : Int32} {x3 : Int32}, bf_nextSlot_S4 n k 1 st x1 x2 x3 = some q → ∀ {H : Heap} {locs : List Loc} {ls : Array Slot}, bY b s st H locs → lv_has ls 4 [(0, .ref b.h), (1, .int x1), (3, .int x3)] → bG l 0 0 b As (some (.int q.2)) q.1 p e s m below meth c H locs (F0 m 39 ls [])) ∧ (∀ {st : bS} {x1 : Int32} {x2 : Int32} {x3 : Int32}, bf_nextSlot_S4 n k 2 st x1 x2 x3 = some q → ∀ {H : Heap} {locs : List Loc} {ls : Array Slot}, bY b s st H locs → lv_has ls 4 [(0, .ref b.h), (1, .int x1), (2, .int x2), (3, .int x3)] → bG l 0 0 b As (some (.int q.2)) q.1 p e s m below meth c H locs (F0 m 41 ls [])) := by
  have hx := X.1
  have hb := X.2.1
  have hown := X.2.2.2.1
  have hts := X.2.2.2.2.1
  intro k
  induction k with
  | zero => exact ⟨(fun h => nomatch (show none = some q from h)), (fun h => nomatch (show none = some q from h)), (fun h => nomatch (show none = some q from h))⟩
  | succ k ih =>
    obtain ⟨ih0, ih1, ih2⟩ := ih
    refine ⟨?_, ?_, ?_⟩
    · intro st x1 x2 x3 hE H locs ls Y hl
      replace hE : bf_nextSlot_B4 n (bf_nextSlot_S4 n k) st x1 x2 x3 = some q := hE
      unfold bf_nextSlot_B4 at hE
      refine lv_iload_n hx hb dX2_nextSlot_4 rfl (lv_at hl 3 rfl) ?_
      refine lv_bipush (v := 24) hx hb dX2_nextSlot_5 (by decide) ?_
      refine lv_icmp_ge (tgt := 47) hx hb dX2_nextSlot_7 (by decide) (fun c_1 => ?_) (fun c_1 => ?_)
      · replace hE := e_t c_1 hE
        refine lv_iload_n hx hb dX2_nextSlot_47 rfl (lv_at hl 2 rfl) ?_
        cases hE
        exact b_iret X Y hr hk dX2_nextSlot_48
      · replace hE := e_f c_1 hE
        refine lv_aload_n hx hb dX2_nextSlot_10 rfl (lv_at hl 0 rfl) ?_
        refine b_geta X Y 10 (by decide) (by decide) q1813 dX2_nextSlot_11 ?_
        refine lv_iload_n hx hb dX2_nextSlot_14 rfl (lv_at hl 3 rfl) ?_
        obtain ⟨v_2, g, hE⟩ := e_bind hE
        refine n_iald X Y 2 10 rfl rfl g dX2_nextSlot_15 ?_
        refine lv_iload_n hx hb dX2_nextSlot_16 rfl (lv_at hl 1 rfl) ?_
        refine lv_icmp_le (tgt := 41) hx hb dX2_nextSlot_17 (by decide) (fun c_3 => ?_) (fun c_3 => ?_)
        · replace hE := e_t c_3 hE
          exact ih2 hE Y (lv_sub hl [0, 1, 2, 3] rfl)
        · replace hE := e_f c_3 hE
          refine lv_iload_n hx hb dX2_nextSlot_20 rfl (lv_at hl 2 rfl) ?_
          refine lv_if_lt (tgt := 39) hx hb dX2_nextSlot_21 (by decide) (fun c_4 => ?_) (fun c_4 => ?_)
          · replace hE := e_t c_4 hE
            exact ih1 hE Y (lv_sub hl [0, 1, 3] rfl)
          · replace hE := e_f c_4 hE
            refine lv_aload_n hx hb dX2_nextSlot_24 rfl (lv_at hl 0 rfl) ?_
            refine b_geta X Y 10 (by decide) (by decide) q1813 dX2_nextSlot_25 ?_
            refine lv_iload_n hx hb dX2_nextSlot_28 rfl (lv_at hl 3 rfl) ?_
            obtain ⟨v_5, g, hE⟩ := e_bind hE
            refine n_iald X Y 2 10 rfl rfl g dX2_nextSlot_29 ?_
            refine lv_aload_n hx hb dX2_nextSlot_30 rfl (lv_at hl 0 rfl) ?_
            refine b_geta X Y 10 (by decide) (by decide) q1813 dX2_nextSlot_31 ?_
            refine lv_iload_n hx hb dX2_nextSlot_34 rfl (lv_at hl 2 rfl) ?_
            obtain ⟨v_6, g, hE⟩ := e_bind hE
            refine n_iald X Y 2 10 rfl rfl g dX2_nextSlot_35 ?_
            refine lv_icmp_ge (tgt := 41) hx hb dX2_nextSlot_36 (by decide) (fun c_7 => ?_) (fun c_7 => ?_)
            · replace hE := e_t c_7 hE
              exact ih2 hE Y (lv_sub hl [0, 1, 2, 3] rfl)
            · replace hE := e_f c_7 hE
              exact ih1 hE Y (lv_sub hl [0, 1, 3] rfl)
    · intro st x1 x2 x3 hE H locs ls Y hl
      replace hE : bf_nextSlot_B39 n (bf_nextSlot_S4 n k) st x1 x2 x3 = some q := hE
      unfold bf_nextSlot_B39 at hE
      refine lv_iload_n hx hb dX2_nextSlot_39 rfl (lv_at hl 2 rfl) ?_
      refine lv_istore_n (lv' := [(2, .int x3), (0, .ref b.h), (1, .int x1), (3, .int x3)]) hx hb dX2_nextSlot_40 rfl hl (by decide) rfl (fun ls hl => ?_)
      exact ih2 hE Y (lv_sub hl [1, 2, 0, 3] rfl)
    · intro st x1 x2 x3 hE H locs ls Y hl
      replace hE : bf_nextSlot_B41 n (bf_nextSlot_S4 n k) st x1 x2 x3 = some q := hE
      unfold bf_nextSlot_B41 at hE
      refine lv_iinc (v := (x3 + (1 : Int32))) (lv' := [(3, .int (x3 + (1 : Int32))), (0, .ref b.h), (1, .int x1), (2, .int x2)]) hx hb dX2_nextSlot_41 hl (k := 3) rfl rfl (by decide) rfl (fun ls hl => ?_)
      refine lv_goto (tgt := 4) hx hb dX2_nextSlot_44 (by decide) ?_
      exact ih0 hE Y (lv_sub hl [1, 2, 3, 0] rfl)
set_option maxHeartbeats 4000000 in
set_option maxRecDepth 100000 in
theorem wbf_nextSlot_S4 {l : Launch} {b : bP} {As : List Value} {p : Program} {e : Env} {s : State} {m : MethodId} {below : List Frame} {meth : Method} {c : Code} (X : bX p s m (Value.ref b.h :: As).toArray c cX2_nextSlot 4 b) (hr : meth.sig.returnType = (some .int)) (hk : meth.locks = false) (n : Nat) {q : bS × Int32} : (∀ {st : bS} {x1 : Int32} {x2 : Int32} {x3 : Int32}, bf_nextSlot_S4 n n 0 st x1 x2 x3 = some q → ∀ {H : Heap} {locs : List Loc} {ls : Array Slot}, bY b s st H locs → lv_has ls 4 [(0, .ref b.h), (1, .int x1), (2, .int x2), (3, .int x3)] → bG l 0 0 b As (some (.int q.2)) q.1 p e s m below meth c H locs (F0 m 4 ls [])) ∧ (∀ {st : bS} {x1 : Int32} {x2 : Int32} {x3 : Int32}, bf_nextSlot_S4 n n 1 st x1 x2 x3 = some q → ∀ {H : Heap} {locs : List Loc} {ls : Array Slot}, bY b s st H locs → lv_has ls 4 [(0, .ref b.h), (1, .int x1), (3, .int x3)] → bG l 0 0 b As (some (.int q.2)) q.1 p e s m below meth c H locs (F0 m 39 ls [])) ∧ (∀ {st : bS} {x1 : Int32} {x2 : Int32} {x3 : Int32}, bf_nextSlot_S4 n n 2 st x1 x2 x3 = some q → ∀ {H : Heap} {locs : List Loc} {ls : Array Slot}, bY b s st H locs → lv_has ls 4 [(0, .ref b.h), (1, .int x1), (2, .int x2), (3, .int x3)] → bG l 0 0 b As (some (.int q.2)) q.1 p e s m below meth c H locs (F0 m 41 ls [])) := wbf_nextSlot_S4_ X hr hk n n
set_option maxHeartbeats 4000000 in
set_option maxRecDepth 100000 in
theorem mbf_nextSlot (l : Launch) (n : Nat) (b : bP) (ok : bOk b) {st : bS} {a1 : Int32} {q : bS × Int32} (hE : bf_nextSlot n st a1 = some q) : bMet l yX2_nextSlot cX2_nextSlot 4 (some .int) 0 0 b [.int a1] st (some (.int q.2)) q.1 := by
  refine b_ofW (by decide) rfl ok (Nat.le_of_ble_eq_true rfl) (fun p e s m below meth c ls X Y hr hk hl => ?_)
  have hl : lv_has ls 4 [(0, .ref b.h), (1, .int a1)] := hl
  generalize s.heap = H at Y ⊢
  generalize ([] : List Loc) = locs at Y ⊢
  have hx := X.1
  have hb := X.2.1
  have hown := X.2.2.2.1
  have hts := X.2.2.2.2.1
  unfold bf_nextSlot at hE
  refine lv_iconst (v := -1) hx hb dX2_nextSlot_0 (by decide) ?_
  refine lv_istore_n (lv' := [(2, .int (-1 : Int32)), (0, .ref b.h), (1, .int a1)]) hx hb dX2_nextSlot_1 rfl hl (by decide) rfl (fun ls hl => ?_)
  refine lv_iconst (v := 0) hx hb dX2_nextSlot_2 (by decide) ?_
  refine lv_istore_n (lv' := [(3, .int (0 : Int32)), (2, .int (-1 : Int32)), (0, .ref b.h), (1, .int a1)]) hx hb dX2_nextSlot_3 rfl hl (by decide) rfl (fun ls hl => ?_)
  exact (wbf_nextSlot_S4 X hr hk n).1 hE Y (lv_sub hl [2, 3, 1, 0] rfl)
/-! BasicMachineModel.goTo(I)I -/
set_option maxHeartbeats 4000000 in
set_option maxRecDepth 100000 in
theorem mbf_goTo (l : Launch) (n : Nat) (b : bP) (ok : bOk b) {st : bS} {a1 : Int32} {q : bS × Int32} (hE : bf_goTo n st a1 = some q) : bMet l yX2_goTo cX2_goTo 3 (some .int) 1 22 b [.int a1] st (some (.int q.2)) q.1 := by
  refine b_ofW (by decide) rfl ok (Nat.le_of_ble_eq_true rfl) (fun p e s m below meth c ls X Y hr hk hl => ?_)
  have hl : lv_has ls 3 [(0, .ref b.h), (1, .int a1)] := hl
  generalize s.heap = H at Y ⊢
  generalize ([] : List Loc) = locs at Y ⊢
  have hx := X.1
  have hb := X.2.1
  have hown := X.2.2.2.1
  have hts := X.2.2.2.2.1
  unfold bf_goTo at hE
  refine lv_aload_n hx hb dX2_goTo_0 rfl (lv_at hl 0 rfl) ?_
  refine lv_iload_n hx hb dX2_goTo_1 rfl (lv_at hl 1 rfl) ?_
  obtain ⟨q_1, g, hE⟩ := e_bind hE
  refine n_call1 (n := 1) [.int a1] X Y (mbf_slotOf l n b X.2.2.2.2.2.2 g) q2128 q2130 qs89 q2131 (by decide +kernel) (by decide) rfl hl.1 (Nat.le_of_ble_eq_true rfl) dX2_goTo_2 (by decide) (fun H locs Y => ?_)
  refine lv_istore_n (lv' := [(2, .int q_1.2), (0, .ref b.h), (1, .int a1)]) hx hb dX2_goTo_5 rfl hl (by decide) rfl (fun ls hl => ?_)
  refine lv_iload_n hx hb dX2_goTo_6 rfl (lv_at hl 0 rfl) ?_
  refine lv_if_ge (tgt := 15) hx hb dX2_goTo_7 (by decide) (fun c_2 => ?_) (fun c_2 => ?_)
  · replace hE := e_t c_2 hE
    refine lv_iload_n hx hb dX2_goTo_15 rfl (lv_at hl 0 rfl) ?_
    cases hE
    exact b_iret X Y hr hk dX2_goTo_16
  · replace hE := e_f c_2 hE
    refine lv_aload_n hx hb dX2_goTo_10 rfl (lv_at hl 1 rfl) ?_
    refine lv_iconst (v := 3) hx hb dX2_goTo_11 (by decide) ?_
    obtain ⟨st_3, g, hE⟩ := e_bind hE
    refine n_put X Y 27 rfl (by decide) g rfl rfl rfl q1830 dX2_goTo_12 (fun H locs Y => ?_)
    refine lv_iload_n hx hb dX2_goTo_15 rfl (lv_at hl 0 rfl) ?_
    cases hE
    exact b_iret X Y hr hk dX2_goTo_16
/-! BasicMachineModel.collect()V -/
set_option maxHeartbeats 4000000 in
set_option maxRecDepth 100000 in
theorem wbf_collect_S11_ {l : Launch} {b : bP} {As : List Value} {p : Program} {e : Env} {s : State} {m : MethodId} {below : List Frame} {meth : Method} {c : Code} (X : bX p s m (Value.ref b.h :: As).toArray c cX2_collect 6 b) (hr : meth.sig.returnType = none) (hk : meth.locks = false) (n : Nat) {q : bS × Unit} : ∀ k : Nat, (∀ {st : bS} {x1 : Int32} {x2 : Int32} {z92_1 : Int32} {z92_2 : UInt64}, bf_collect_S11 n k 0 st x1 x2 z92_1 z92_2 = some q → ∀ {H : Heap} {locs : List Loc} {ls : Array Slot}, bY b s st H locs → lv_has ls 6 [(0, .ref b.h), (1, .int x1)] → bG l 1 24 b As none q.1 p e s m below meth c H locs (F0 m 11 ls [])) ∧ (∀ {st : bS} {x1 : Int32} {x2 : Int32} {z92_1 : Int32} {z92_2 : UInt64}, bf_collect_S11 n k 1 st x1 x2 z92_1 z92_2 = some q → ∀ {H : Heap} {locs : List Loc} {ls : Array Slot}, bY b s st H locs → lv_has ls 6 [(0, .ref b.h), (1, .int x1), (2, .int x2)] → bG l 1 24 b As none q.1 p e s m below meth c H locs (F0 m 31 ls [])) ∧ (∀ {st : bS} {x1 : Int32} {x2 : Int32} {z92_1 : Int32} {z92_2 : UInt64}, bf_collect_S11 n k 2 st x1 x2 z92_1 z92_2 = some q → ∀ {H : Heap} {locs : List Loc} {ls : Array Slot}, bY b s st H locs → lv_has ls 6 [(0, .ref b.h), (1, .int x1), (2, .int x2)] → bG l 1 24 b As none q.1 p e s m below meth c H locs (F0 m 92 ls [.double z92_2, .int z92_1, .ref (b.ad 31)])) ∧ (∀ {st : bS} {x1 : Int32} {x2 : Int32} {z92_1 : Int32} {z92_2 : UInt64}, bf_collect_S11 n k 3 st x1 x2 z92_1 z92_2 = some q → ∀ {H : Heap} {locs : List Loc} {ls : Array Slot}, bY b s st H locs → lv_has ls 6 [(0, .ref b.h), (1, .int x1)] → bG l 1 24 b As none q.1 p e s m below meth c H locs (F0 m 109 ls [])) := by
  have hx := X.1
  have hb := X.2.1
  have hown := X.2.2.2.1
  have hts := X.2.2.2.2.1
  intro k
  induction k with
  | zero => exact ⟨(fun h => nomatch (show none = some q from h)), (fun h => nomatch (show none = some q from h)), (fun h => nomatch (show none = some q from h)), (fun h => nomatch (show none = some q from h))⟩
  | succ k ih =>
    obtain ⟨ih0, ih1, ih2, ih3⟩ := ih
    refine ⟨?_, ?_, ?_, ?_⟩
    · intro st x1 x2 z92_1 z92_2 hE H locs ls Y hl
      replace hE : bf_collect_B11 n (bf_collect_S11 n k) st x1 x2 z92_1 z92_2 = some q := hE
      unfold bf_collect_B11 at hE
      refine lv_iload_n hx hb dX2_collect_11 rfl (lv_at hl 1 rfl) ?_
      refine lv_if_lt (tgt := 123) hx hb dX2_collect_12 (by decide) (fun c_1 => ?_) (fun c_1 => ?_)
      · replace hE := e_t c_1 hE
        cases hE
        exact b_vret X Y hr hk dX2_collect_123
      · replace hE := e_f c_1 hE
        refine lv_aload_n hx hb dX2_collect_15 rfl (lv_at hl 0 rfl) ?_
        refine b_geta X Y 11 (by decide) (by decide) q1814 dX2_collect_16 ?_
        refine lv_iload_n hx hb dX2_collect_19 rfl (lv_at hl 1 rfl) ?_
        obtain ⟨v_2, g, hE⟩ := e_bind hE
        refine n_iald X Y 3 11 rfl rfl g dX2_collect_20 ?_
        refine lv_bipush (v := 10) hx hb dX2_collect_21 (by decide) ?_
        refine lv_icmp_eq (tgt := 29) hx hb dX2_collect_23 (by decide) (fun c_3 => ?_) (fun c_3 => ?_)
        · replace hE := e_t c_3 hE
          refine lv_iconst (v := 0) hx hb dX2_collect_29 (by decide) ?_
          refine lv_istore_n (lv' := [(2, .int (0 : Int32)), (0, .ref b.h), (1, .int x1)]) hx hb dX2_collect_30 rfl hl (by decide) rfl (fun ls hl => ?_)
          exact ih1 hE Y (lv_sub hl [1, 2, 0] rfl)
        · replace hE := e_f c_3 hE
          refine lv_goto (tgt := 109) hx hb dX2_collect_26 (by decide) ?_
          exact ih3 hE Y (lv_sub hl [0, 1] rfl)
    · intro st x1 x2 z92_1 z92_2 hE H locs ls Y hl
      replace hE : bf_collect_B31 n (bf_collect_S11 n k) st x1 x2 z92_1 z92_2 = some q := hE
      unfold bf_collect_B31 at hE
      refine lv_iload_n hx hb dX2_collect_31 rfl (lv_at hl 2 rfl) ?_
      refine lv_aload_n hx hb dX2_collect_32 rfl (lv_at hl 0 rfl) ?_
      refine b_geta X Y 12 (by decide) (by decide) q1815 dX2_collect_33 ?_
      refine lv_iload_n hx hb dX2_collect_36 rfl (lv_at hl 1 rfl) ?_
      refine lv_bipush (v := 8) hx hb dX2_collect_37 (by decide) ?_
      refine lv_imul hx hb dX2_collect_39 ?_
      obtain ⟨v_1, g, hE⟩ := e_bind hE
      refine n_iald X Y 4 12 rfl rfl g dX2_collect_40 ?_
      refine lv_icmp_ge (tgt := 109) hx hb dX2_collect_41 (by decide) (fun c_2 => ?_) (fun c_2 => ?_)
      · replace hE := e_t c_2 hE
        exact ih3 hE Y (lv_sub hl [0, 1] rfl)
      · replace hE := e_f c_2 hE
        refine lv_aload_n hx hb dX2_collect_44 rfl (lv_at hl 0 rfl) ?_
        refine b_geta X Y 13 (by decide) (by decide) q1816 dX2_collect_45 ?_
        refine lv_iload_n hx hb dX2_collect_48 rfl (lv_at hl 1 rfl) ?_
        refine lv_iconst (v := 4) hx hb dX2_collect_49 (by decide) ?_
        refine lv_imul hx hb dX2_collect_50 ?_
        obtain ⟨v_3, g, hE⟩ := e_bind hE
        refine n_iald X Y 5 13 rfl rfl g dX2_collect_51 ?_
        refine lv_iconst (v := 4) hx hb dX2_collect_52 (by decide) ?_
        refine lv_iload_n hx hb dX2_collect_53 rfl (lv_at hl 2 rfl) ?_
        refine lv_imul hx hb dX2_collect_54 ?_
        refine lv_iadd hx hb dX2_collect_55 ?_
        obtain ⟨x3_4, g, hE⟩ := e_bind hE
        refine n_topi g ?_
        refine lv_istore_n (lv' := [(3, .int x3_4), (0, .ref b.h), (1, .int x1), (2, .int x2)]) hx hb dX2_collect_56 rfl hl (by decide) rfl (fun ls hl => ?_)
        refine lv_aload_n hx hb dX2_collect_57 rfl (lv_at hl 1 rfl) ?_
        refine lv_iload_n hx hb dX2_collect_58 rfl (lv_at hl 0 rfl) ?_
        refine lv_iconst (v := 2) hx hb dX2_collect_59 (by decide) ?_
        refine lv_iadd hx hb dX2_collect_60 ?_
        obtain ⟨q_5, g, hE⟩ := e_bind hE
        refine n_call1 (n := 1) [.int (x3_4 + (2 : Int32))] X Y (mbf_plain l n b X.2.2.2.2.2.2 g) q2164 q2166 qs95 q2167 (by decide +kernel) (by decide) rfl hl.1 (Nat.le_of_ble_eq_true rfl) dX2_collect_61 (by decide) (fun H locs Y => ?_)
        refine lv_dstore (lv' := [(4, .double q_5.2), (3, .int x3_4), (0, .ref b.h), (1, .int x1), (2, .int x2)]) hx hb dX2_collect_64 hl (by decide) rfl (fun ls hl => ?_)
        refine lv_aload_n hx hb dX2_collect_66 rfl (lv_at hl 2 rfl) ?_
        refine b_geta X Y 31 (by decide) (by decide) q1834 dX2_collect_67 ?_
        refine lv_aload_n hx hb dX2_collect_70 rfl (lv_at hl 2 rfl) ?_
        refine b_geti X Y 20 rfl (by decide) rfl q1823 dX2_collect_71 ?_
        refine lv_aload_n hx hb dX2_collect_74 rfl (lv_at hl 2 rfl) ?_
        refine b_geta X Y 14 (by decide) (by decide) q1817 dX2_collect_75 ?_
        refine lv_iload_n hx hb dX2_collect_78 rfl (lv_at hl 1 rfl) ?_
        obtain ⟨v_6, g, hE⟩ := e_bind hE
        refine n_iald X Y 6 14 rfl rfl g dX2_collect_79 ?_
        refine lv_iconst (v := 1) hx hb dX2_collect_80 (by decide) ?_
        refine lv_icmp_ne (tgt := 90) hx hb dX2_collect_81 (by decide) (fun c_7 => ?_) (fun c_7 => ?_)
        · replace hE := e_f c_7 hE
          refine lv_dload hx hb dX2_collect_90 (lv_at hl 0 rfl) ?_
          exact ih2 hE Y (lv_sub hl [2, 3, 4] rfl)
        · replace hE := e_t c_7 hE
          refine lv_dload hx hb dX2_collect_84 (lv_at hl 0 rfl) ?_
          refine lv_dneg hx hb dX2_collect_86 ?_
          refine lv_goto (tgt := 92) hx hb dX2_collect_87 (by decide) ?_
          exact ih2 hE Y (lv_sub hl [2, 3, 4] rfl)
    · intro st x1 x2 z92_1 z92_2 hE H locs ls Y hl
      replace hE : bf_collect_B92 n (bf_collect_S11 n k) st x1 x2 z92_1 z92_2 = some q := hE
      unfold bf_collect_B92 at hE
      obtain ⟨st_1, g, hE⟩ := e_bind hE
      refine n_dast X Y 11 31 rfl rfl g dX2_collect_92 (fun H locs Y => ?_)
      refine lv_aload_n hx hb dX2_collect_93 rfl (lv_at hl 0 rfl) ?_
      refine lv_dup hx hb dX2_collect_94 rfl ?_
      refine b_geti X Y 20 rfl (by decide) rfl q1823 dX2_collect_95 ?_
      refine lv_iconst (v := 1) hx hb dX2_collect_98 (by decide) ?_
      refine lv_iadd hx hb dX2_collect_99 ?_
      obtain ⟨st_2, g, hE⟩ := e_bind hE
      refine n_put X Y 20 rfl (by decide) g rfl rfl rfl q1823 dX2_collect_100 (fun H locs Y => ?_)
      refine lv_iinc (v := (x2 + (1 : Int32))) (lv' := [(2, .int (x2 + (1 : Int32))), (0, .ref b.h), (1, .int x1)]) hx hb dX2_collect_103 hl (k := 2) rfl rfl (by decide) rfl (fun ls hl => ?_)
      refine lv_goto (tgt := 31) hx hb dX2_collect_106 (by decide) ?_
      exact ih1 hE Y (lv_sub hl [1, 2, 0] rfl)
    · intro st x1 x2 z92_1 z92_2 hE H locs ls Y hl
      replace hE : bf_collect_B109 n (bf_collect_S11 n k) st x1 x2 z92_1 z92_2 = some q := hE
      unfold bf_collect_B109 at hE
      refine lv_aload_n hx hb dX2_collect_109 rfl (lv_at hl 0 rfl) ?_
      refine lv_aload_n hx hb dX2_collect_110 rfl (lv_at hl 0 rfl) ?_
      refine b_geta X Y 10 (by decide) (by decide) q1813 dX2_collect_111 ?_
      refine lv_iload_n hx hb dX2_collect_114 rfl (lv_at hl 1 rfl) ?_
      obtain ⟨v_1, g, hE⟩ := e_bind hE
      refine n_iald X Y 2 10 rfl rfl g dX2_collect_115 ?_
      obtain ⟨q_2, g, hE⟩ := e_bind hE
      refine n_call1 (n := 1) [.int v_1] X Y (mbf_nextSlot l n b X.2.2.2.2.2.2 g) q2160 q2162 qs94 q2163 (by decide +kernel) (by decide) rfl hl.1 (Nat.le_of_ble_eq_true rfl) dX2_collect_116 (by decide) (fun H locs Y => ?_)
      refine lv_istore_n (lv' := [(1, .int q_2.2), (0, .ref b.h)]) hx hb dX2_collect_119 rfl hl (by decide) rfl (fun ls hl => ?_)
      refine lv_goto (tgt := 11) hx hb dX2_collect_120 (by decide) ?_
      exact ih0 hE Y (lv_sub hl [1, 0] rfl)
set_option maxHeartbeats 4000000 in
set_option maxRecDepth 100000 in
theorem wbf_collect_S11 {l : Launch} {b : bP} {As : List Value} {p : Program} {e : Env} {s : State} {m : MethodId} {below : List Frame} {meth : Method} {c : Code} (X : bX p s m (Value.ref b.h :: As).toArray c cX2_collect 6 b) (hr : meth.sig.returnType = none) (hk : meth.locks = false) (n : Nat) {q : bS × Unit} : (∀ {st : bS} {x1 : Int32} {x2 : Int32} {z92_1 : Int32} {z92_2 : UInt64}, bf_collect_S11 n n 0 st x1 x2 z92_1 z92_2 = some q → ∀ {H : Heap} {locs : List Loc} {ls : Array Slot}, bY b s st H locs → lv_has ls 6 [(0, .ref b.h), (1, .int x1)] → bG l 1 24 b As none q.1 p e s m below meth c H locs (F0 m 11 ls [])) ∧ (∀ {st : bS} {x1 : Int32} {x2 : Int32} {z92_1 : Int32} {z92_2 : UInt64}, bf_collect_S11 n n 1 st x1 x2 z92_1 z92_2 = some q → ∀ {H : Heap} {locs : List Loc} {ls : Array Slot}, bY b s st H locs → lv_has ls 6 [(0, .ref b.h), (1, .int x1), (2, .int x2)] → bG l 1 24 b As none q.1 p e s m below meth c H locs (F0 m 31 ls [])) ∧ (∀ {st : bS} {x1 : Int32} {x2 : Int32} {z92_1 : Int32} {z92_2 : UInt64}, bf_collect_S11 n n 2 st x1 x2 z92_1 z92_2 = some q → ∀ {H : Heap} {locs : List Loc} {ls : Array Slot}, bY b s st H locs → lv_has ls 6 [(0, .ref b.h), (1, .int x1), (2, .int x2)] → bG l 1 24 b As none q.1 p e s m below meth c H locs (F0 m 92 ls [.double z92_2, .int z92_1, .ref (b.ad 31)])) ∧ (∀ {st : bS} {x1 : Int32} {x2 : Int32} {z92_1 : Int32} {z92_2 : UInt64}, bf_collect_S11 n n 3 st x1 x2 z92_1 z92_2 = some q → ∀ {H : Heap} {locs : List Loc} {ls : Array Slot}, bY b s st H locs → lv_has ls 6 [(0, .ref b.h), (1, .int x1)] → bG l 1 24 b As none q.1 p e s m below meth c H locs (F0 m 109 ls [])) := wbf_collect_S11_ X hr hk n n
set_option maxHeartbeats 4000000 in
set_option maxRecDepth 100000 in
theorem mbf_collect (l : Launch) (n : Nat) (b : bP) (ok : bOk b) {st : bS} {q : bS × Unit} (hE : bf_collect n st = some q) : bMet l yX2_collect cX2_collect 6 none 1 24 b [] st none q.1 := by
  refine b_ofW (by decide) rfl ok (Nat.le_of_ble_eq_true rfl) (fun p e s m below meth c ls X Y hr hk hl => ?_)
  have hl : lv_has ls 6 [(0, .ref b.h)] := hl
  generalize s.heap = H at Y ⊢
  generalize ([] : List Loc) = locs at Y ⊢
  have hx := X.1
  have hb := X.2.1
  have hown := X.2.2.2.1
  have hts := X.2.2.2.2.1
  unfold bf_collect at hE
  refine lv_aload_n hx hb dX2_collect_0 rfl (lv_at hl 0 rfl) ?_
  refine lv_iconst (v := 0) hx hb dX2_collect_1 (by decide) ?_
  obtain ⟨st_1, g, hE⟩ := e_bind hE
  refine n_put X Y 20 rfl (by decide) g rfl rfl rfl q1823 dX2_collect_2 (fun H locs Y => ?_)
  refine lv_aload_n hx hb dX2_collect_5 rfl (lv_at hl 0 rfl) ?_
  refine lv_iconst (v := 0) hx hb dX2_collect_6 (by decide) ?_
  obtain ⟨q_2, g, hE⟩ := e_bind hE
  refine n_call1 (n := 1) [.int (0 : Int32)] X Y (mbf_nextSlot l n b X.2.2.2.2.2.2 g) q2160 q2162 qs94 q2163 (by decide +kernel) (by decide) rfl hl.1 (Nat.le_of_ble_eq_true rfl) dX2_collect_7 (by decide) (fun H locs Y => ?_)
  refine lv_istore_n (lv' := [(1, .int q_2.2), (0, .ref b.h)]) hx hb dX2_collect_10 rfl hl (by decide) rfl (fun ls hl => ?_)
  exact (wbf_collect_S11 X hr hk n).1 hE Y (lv_sub hl [1, 0] rfl)
/-! BasicMachineModel.assign(IZ)V -/
set_option maxHeartbeats 4000000 in
set_option maxRecDepth 100000 in
theorem wbf_assign_L155 {l : Launch} {b : bP} {As : List Value} {p : Program} {e : Env} {s : State} {m : MethodId} {below : List Frame} {meth : Method} {c : Code} (X : bX p s m (Value.ref b.h :: As).toArray c cX2_assign 9 b) (hr : meth.sig.returnType = none) (hk : meth.locks = false) {n : Nat} {st : bS} {x3 : Int32} {x4 : Int32} {x5 : UInt64} {q : bS × Unit} (hE : bf_assign_L155 n st x3 x4 x5 = some q) {H : Heap} {locs : List Loc} {ls : Array Slot} (Y : bY b s st H locs) (hl : lv_has ls 9 [(0, .ref b.h), (3, .int x3), (4, .int x4), (5, .double x5)]) : bG l 6 145 b As none q.1 p e s m below meth c H locs (F0 m 155 ls []) := by
  have hx := X.1
  have hb := X.2.1
  have hown := X.2.2.2.1
  have hts := X.2.2.2.2.1
  unfold bf_assign_L155 at hE
  refine lv_aload_n hx hb dX2_assign_155 rfl (lv_at hl 0 rfl) ?_
  refine b_geti X Y 27 rfl (by decide) rfl q1830 dX2_assign_156 ?_
  refine lv_if_eq (tgt := 163) hx hb dX2_assign_159 (by decide) (fun c_1 => ?_) (fun c_1 => ?_)
  · replace hE := e_t c_1 hE
    refine lv_iload_n hx hb dX2_assign_163 rfl (lv_at hl 1 rfl) ?_
    refine lv_bipush (v := 25) hx hb dX2_assign_164 (by decide) ?_
    refine lv_icmp_le (tgt := 181) hx hb dX2_assign_166 (by decide) (fun c_2 => ?_) (fun c_2 => ?_)
    · replace hE := e_t c_2 hE
      refine lv_aload_n hx hb dX2_assign_181 rfl (lv_at hl 0 rfl) ?_
      refine b_geta X Y 29 (by decide) (by decide) q1832 dX2_assign_182 ?_
      refine lv_iload_n hx hb dX2_assign_185 rfl (lv_at hl 1 rfl) ?_
      refine lv_dload hx hb dX2_assign_186 (lv_at hl 3 rfl) ?_
      obtain ⟨st_3, g, hE⟩ := e_bind hE
      refine n_dast X Y 9 29 rfl rfl g dX2_assign_188 (fun H locs Y => ?_)
      cases hE
      exact b_vret X Y hr hk dX2_assign_189
    · replace hE := e_f c_2 hE
      refine lv_aload_n hx hb dX2_assign_169 rfl (lv_at hl 0 rfl) ?_
      refine b_geta X Y 35 (by decide) (by decide) q1838 dX2_assign_170 ?_
      refine lv_iload hx hb dX2_assign_173 (lv_at hl 2 rfl) ?_
      refine lv_dload hx hb dX2_assign_175 (lv_at hl 3 rfl) ?_
      obtain ⟨st_4, g, hE⟩ := e_bind hE
      refine n_dast X Y 15 35 rfl rfl g dX2_assign_177 (fun H locs Y => ?_)
      refine lv_goto (tgt := 189) hx hb dX2_assign_178 (by decide) ?_
      cases hE
      exact b_vret X Y hr hk dX2_assign_189
  · replace hE := e_f c_1 hE
    cases hE
    exact b_vret X Y hr hk dX2_assign_162
set_option maxHeartbeats 4000000 in
set_option maxRecDepth 100000 in
theorem wbf_assign_L81 {l : Launch} {b : bP} {As : List Value} {p : Program} {e : Env} {s : State} {m : MethodId} {below : List Frame} {meth : Method} {c : Code} (X : bX p s m (Value.ref b.h :: As).toArray c cX2_assign 9 b) (hr : meth.sig.returnType = none) (hk : meth.locks = false) {n : Nat} {st : bS} {x1 : Int32} {x2 : Int32} {x3 : Int32} {x4 : Int32} {q : bS × Unit} (hE : bf_assign_L81 n st x1 x2 x3 x4 = some q) {H : Heap} {locs : List Loc} {ls : Array Slot} (Y : bY b s st H locs) (hl : lv_has ls 9 [(0, .ref b.h), (1, .int x1), (2, .int x2), (3, .int x3), (4, .int x4)]) : bG l 6 145 b As none q.1 p e s m below meth c H locs (F0 m 81 ls []) := by
  have hx := X.1
  have hb := X.2.1
  have hown := X.2.2.2.1
  have hts := X.2.2.2.2.1
  unfold bf_assign_L81 at hE
  refine lv_aload_n hx hb dX2_assign_81 rfl (lv_at hl 0 rfl) ?_
  refine b_geti X Y 27 rfl (by decide) rfl q1830 dX2_assign_82 ?_
  refine lv_if_eq (tgt := 89) hx hb dX2_assign_85 (by decide) (fun c_1 => ?_) (fun c_1 => ?_)
  · replace hE := e_t c_1 hE
    refine lv_dconst0 hx hb dX2_assign_89 ?_
    refine lv_dstore (lv' := [(5, .double FP.dconst0), (0, .ref b.h), (1, .int x1), (2, .int x2), (3, .int x3), (4, .int x4)]) hx hb dX2_assign_90 hl (by decide) rfl (fun ls hl => ?_)
    refine lv_iload_n hx hb dX2_assign_92 rfl (lv_at hl 3 rfl) ?_
    refine lv_if_ne (tgt := 115) hx hb dX2_assign_93 (by decide) (fun c_2 => ?_) (fun c_2 => ?_)
    · replace hE := e_f c_2 hE
      refine lv_aload_n hx hb dX2_assign_115 rfl (lv_at hl 1 rfl) ?_
      refine b_geti X Y 19 rfl (by decide) rfl q1822 dX2_assign_116 ?_
      refine lv_aload_n hx hb dX2_assign_119 rfl (lv_at hl 1 rfl) ?_
      refine b_geti X Y 20 rfl (by decide) rfl q1823 dX2_assign_120 ?_
      refine lv_icmp_ne (tgt := 134) hx hb dX2_assign_123 (by decide) (fun c_3 => ?_) (fun c_3 => ?_)
      · replace hE := e_f c_3 hE
        refine lv_aload_n hx hb dX2_assign_134 rfl (lv_at hl 1 rfl) ?_
        refine b_geta X Y 31 (by decide) (by decide) q1834 dX2_assign_135 ?_
        refine lv_aload_n hx hb dX2_assign_138 rfl (lv_at hl 1 rfl) ?_
        refine b_geti X Y 19 rfl (by decide) rfl q1822 dX2_assign_139 ?_
        obtain ⟨v_4, g, hE⟩ := e_bind hE
        refine n_dald X Y 11 31 rfl rfl g dX2_assign_142 ?_
        refine lv_dstore (lv' := [(5, .double v_4), (0, .ref b.h), (1, .int x1), (2, .int x2), (3, .int x3), (4, .int x4)]) hx hb dX2_assign_143 hl (by decide) rfl (fun ls hl => ?_)
        refine lv_aload_n hx hb dX2_assign_145 rfl (lv_at hl 1 rfl) ?_
        refine lv_dup hx hb dX2_assign_146 rfl ?_
        refine b_geti X Y 19 rfl (by decide) rfl q1822 dX2_assign_147 ?_
        refine lv_iconst (v := 1) hx hb dX2_assign_150 (by decide) ?_
        refine lv_iadd hx hb dX2_assign_151 ?_
        obtain ⟨st_5, g, hE⟩ := e_bind hE
        refine n_put X Y 19 rfl (by decide) g rfl rfl rfl q1822 dX2_assign_152 (fun H locs Y => ?_)
        exact wbf_assign_L155 X hr hk hE Y (lv_sub hl [1, 4, 5, 0] rfl)
      · replace hE := e_t c_3 hE
        refine lv_aload_n hx hb dX2_assign_126 rfl (lv_at hl 1 rfl) ?_
        refine lv_iconst (v := 3) hx hb dX2_assign_127 (by decide) ?_
        obtain ⟨st_6, g, hE⟩ := e_bind hE
        refine n_put X Y 27 rfl (by decide) g rfl rfl rfl q1830 dX2_assign_128 (fun H locs Y => ?_)
        refine lv_goto (tgt := 155) hx hb dX2_assign_131 (by decide) ?_
        exact wbf_assign_L155 X hr hk hE Y (lv_sub hl [1, 4, 5, 0] rfl)
    · replace hE := e_t c_2 hE
      refine lv_aload_n hx hb dX2_assign_96 rfl (lv_at hl 1 rfl) ?_
      refine lv_aload_n hx hb dX2_assign_97 rfl (lv_at hl 1 rfl) ?_
      refine b_geta X Y 13 (by decide) (by decide) q1816 dX2_assign_98 ?_
      refine lv_iload_n hx hb dX2_assign_101 rfl (lv_at hl 2 rfl) ?_
      refine lv_iconst (v := 4) hx hb dX2_assign_102 (by decide) ?_
      refine lv_imul hx hb dX2_assign_103 ?_
      refine lv_iconst (v := 2) hx hb dX2_assign_104 (by decide) ?_
      refine lv_iadd hx hb dX2_assign_105 ?_
      obtain ⟨v_7, g, hE⟩ := e_bind hE
      refine n_iald X Y 5 13 rfl rfl g dX2_assign_106 ?_
      obtain ⟨q_8, g, hE⟩ := e_bind hE
      refine n_call1 (n := 1) [.int v_7] X Y (mbf_work l n b X.2.2.2.2.2.2 g) q2177 q2179 qs98 q2180 (by decide +kernel) (by decide) rfl hl.1 (Nat.le_of_ble_eq_true rfl) dX2_assign_107 (by decide) (fun H locs Y => ?_)
      refine lv_dstore (lv' := [(5, .double q_8.2), (0, .ref b.h), (1, .int x1), (2, .int x2), (3, .int x3), (4, .int x4)]) hx hb dX2_assign_110 hl (by decide) rfl (fun ls hl => ?_)
      refine lv_goto (tgt := 155) hx hb dX2_assign_112 (by decide) ?_
      exact wbf_assign_L155 X hr hk hE Y (lv_sub hl [1, 4, 5, 0] rfl)
  · replace hE := e_f c_1 hE
    cases hE
    exact b_vret X Y hr hk dX2_assign_88
set_option maxHeartbeats 4000000 in
set_option maxRecDepth 100000 in
theorem wbf_assign_L58 {l : Launch} {b : bP} {As : List Value} {p : Program} {e : Env} {s : State} {m : MethodId} {below : List Frame} {meth : Method} {c : Code} (X : bX p s m (Value.ref b.h :: As).toArray c cX2_assign 9 b) (hr : meth.sig.returnType = none) (hk : meth.locks = false) {n : Nat} {st : bS} {x1 : Int32} {x2 : Int32} {x3 : Int32} {x4 : Int32} {x5 : UInt64} {z58_0 : UInt64} {q : bS × Unit} (hE : bf_assign_L58 n st x1 x2 x3 x4 x5 z58_0 = some q) {H : Heap} {locs : List Loc} {ls : Array Slot} (Y : bY b s st H locs) (hl : lv_has ls 9 [(0, .ref b.h), (1, .int x1), (2, .int x2), (3, .int x3), (4, .int x4), (5, .double x5)]) : bG l 6 145 b As none q.1 p e s m below meth c H locs (F0 m 58 ls [.double z58_0]) := by
  have hx := X.1
  have hb := X.2.1
  have hown := X.2.2.2.1
  have hts := X.2.2.2.2.1
  unfold bf_assign_L58 at hE
  refine lv_dstore (lv' := [(7, .double z58_0), (0, .ref b.h), (1, .int x1), (2, .int x2), (3, .int x3), (4, .int x4), (5, .double x5)]) hx hb dX2_assign_58 hl (by decide) rfl (fun ls hl => ?_)
  refine lv_aload_n hx hb dX2_assign_60 rfl (lv_at hl 1 rfl) ?_
  refine b_geti X Y 27 rfl (by decide) rfl q1830 dX2_assign_61 ?_
  refine lv_if_ne (tgt := 81) hx hb dX2_assign_64 (by decide) (fun c_1 => ?_) (fun c_1 => ?_)
  · replace hE := e_f c_1 hE
    exact wbf_assign_L81 X hr hk hE Y (lv_sub hl [1, 2, 3, 4, 5] rfl)
  · replace hE := e_t c_1 hE
    refine lv_aload_n hx hb dX2_assign_67 rfl (lv_at hl 1 rfl) ?_
    refine lv_iload_n hx hb dX2_assign_68 rfl (lv_at hl 4 rfl) ?_
    refine lv_bipush (v := 26) hx hb dX2_assign_69 (by decide) ?_
    refine lv_isub hx hb dX2_assign_71 ?_
    refine lv_dload hx hb dX2_assign_72 (lv_at hl 6 rfl) ?_
    refine lv_dload hx hb dX2_assign_74 (lv_at hl 0 rfl) ?_
    obtain ⟨q_2, g, hE⟩ := e_bind hE
    refine n_call1 (n := 3) [.int (x3 - (26 : Int32)), .double x5, .double z58_0] X Y (mbf_placeOf l n b X.2.2.2.2.2.2 g) q2185 q2187 qs100 q2188 (by decide +kernel) (by decide) rfl hl.1 (Nat.le_of_ble_eq_true rfl) dX2_assign_76 (by decide) (fun H locs Y => ?_)
    refine lv_istore (lv' := [(4, .int q_2.2), (7, .double z58_0), (0, .ref b.h), (1, .int x1), (2, .int x2), (3, .int x3), (5, .double x5)]) hx hb dX2_assign_79 hl (by decide) rfl (fun ls hl => ?_)
    exact wbf_assign_L81 X hr hk hE Y (lv_sub hl [2, 3, 4, 5, 0] rfl)
set_option maxHeartbeats 4000000 in
set_option maxRecDepth 100000 in
theorem mbf_assign (l : Launch) (n : Nat) (b : bP) (ok : bOk b) {st : bS} {a1 : Int32} {a2 : Int32} {q : bS × Unit} (hE : bf_assign n st a1 a2 = some q) : bMet l yX2_assign cX2_assign 9 none 6 145 b [.int a1, .int a2] st none q.1 := by
  refine b_ofW (by decide) rfl ok (Nat.le_of_ble_eq_true rfl) (fun p e s m below meth c ls X Y hr hk hl => ?_)
  have hl : lv_has ls 9 [(0, .ref b.h), (1, .int a1), (2, .int a2)] := hl
  generalize s.heap = H at Y ⊢
  generalize ([] : List Loc) = locs at Y ⊢
  have hx := X.1
  have hb := X.2.1
  have hown := X.2.2.2.1
  have hts := X.2.2.2.2.1
  unfold bf_assign at hE
  refine lv_aload_n hx hb dX2_assign_0 rfl (lv_at hl 0 rfl) ?_
  refine b_geta X Y 12 (by decide) (by decide) q1815 dX2_assign_1 ?_
  refine lv_iload_n hx hb dX2_assign_4 rfl (lv_at hl 1 rfl) ?_
  refine lv_bipush (v := 8) hx hb dX2_assign_5 (by decide) ?_
  refine lv_imul hx hb dX2_assign_7 ?_
  obtain ⟨v_1, g, hE⟩ := e_bind hE
  refine n_iald X Y 4 12 rfl rfl g dX2_assign_8 ?_
  refine lv_istore_n (lv' := [(3, .int v_1), (0, .ref b.h), (1, .int a1), (2, .int a2)]) hx hb dX2_assign_9 rfl hl (by decide) rfl (fun ls hl => ?_)
  refine lv_iload_n hx hb dX2_assign_10 rfl (lv_at hl 0 rfl) ?_
  refine lv_istore (lv' := [(4, .int v_1), (3, .int v_1), (0, .ref b.h), (1, .int a1), (2, .int a2)]) hx hb dX2_assign_11 hl (by decide) rfl (fun ls hl => ?_)
  refine lv_iload_n hx hb dX2_assign_13 rfl (lv_at hl 1 rfl) ?_
  refine lv_bipush (v := 25) hx hb dX2_assign_14 (by decide) ?_
  refine lv_icmp_le (tgt := 81) hx hb dX2_assign_16 (by decide) (fun c_2 => ?_) (fun c_2 => ?_)
  · replace hE := e_t c_2 hE
    exact wbf_assign_L81 X hr hk hE Y (lv_sub hl [2, 3, 4, 1, 0] rfl)
  · replace hE := e_f c_2 hE
    refine lv_aload_n hx hb dX2_assign_19 rfl (lv_at hl 2 rfl) ?_
    refine lv_aload_n hx hb dX2_assign_20 rfl (lv_at hl 2 rfl) ?_
    refine b_geta X Y 13 (by decide) (by decide) q1816 dX2_assign_21 ?_
    refine lv_iload_n hx hb dX2_assign_24 rfl (lv_at hl 3 rfl) ?_
    refine lv_iconst (v := 4) hx hb dX2_assign_25 (by decide) ?_
    refine lv_imul hx hb dX2_assign_26 ?_
    obtain ⟨v_3, g, hE⟩ := e_bind hE
    refine n_iald X Y 5 13 rfl rfl g dX2_assign_27 ?_
    obtain ⟨q_4, g, hE⟩ := e_bind hE
    refine n_call1 (n := 1) [.int v_3] X Y (mbf_work l n b X.2.2.2.2.2.2 g) q2177 q2179 qs98 q2180 (by decide +kernel) (by decide) rfl hl.1 (Nat.le_of_ble_eq_true rfl) dX2_assign_28 (by decide) (fun H locs Y => ?_)
    refine lv_dstore (lv' := [(5, .double q_4.2), (4, .int v_1), (3, .int v_1), (0, .ref b.h), (1, .int a1), (2, .int a2)]) hx hb dX2_assign_31 hl (by decide) rfl (fun ls hl => ?_)
    refine lv_aload_n hx hb dX2_assign_33 rfl (lv_at hl 3 rfl) ?_
    refine b_geti X Y 27 rfl (by decide) rfl q1830 dX2_assign_34 ?_
    refine lv_if_ne (tgt := 57) hx hb dX2_assign_37 (by decide) (fun c_5 => ?_) (fun c_5 => ?_)
    · replace hE := e_f c_5 hE
      refine lv_dconst0 hx hb dX2_assign_57 ?_
      exact wbf_assign_L58 X hr hk hE Y (lv_sub hl [3, 4, 5, 2, 1, 0] rfl)
    · replace hE := e_t c_5 hE
      refine lv_aload_n hx hb dX2_assign_40 rfl (lv_at hl 3 rfl) ?_
      refine lv_aload_n hx hb dX2_assign_41 rfl (lv_at hl 3 rfl) ?_
      refine b_geta X Y 13 (by decide) (by decide) q1816 dX2_assign_42 ?_
      refine lv_iload_n hx hb dX2_assign_45 rfl (lv_at hl 4 rfl) ?_
      refine lv_iconst (v := 4) hx hb dX2_assign_46 (by decide) ?_
      refine lv_imul hx hb dX2_assign_47 ?_
      refine lv_iconst (v := 1) hx hb dX2_assign_48 (by decide) ?_
      refine lv_iadd hx hb dX2_assign_49 ?_
      obtain ⟨v_6, g, hE⟩ := e_bind hE
      refine n_iald X Y 5 13 rfl rfl g dX2_assign_50 ?_
      obtain ⟨q_7, g, hE⟩ := e_bind hE
      refine n_call1 (n := 1) [.int v_6] X Y (mbf_work l n b X.2.2.2.2.2.2 g) q2177 q2179 qs98 q2180 (by decide +kernel) (by decide) rfl hl.1 (Nat.le_of_ble_eq_true rfl) dX2_assign_51 (by decide) (fun H locs Y => ?_)
      refine lv_goto (tgt := 58) hx hb dX2_assign_54 (by decide) ?_
      exact wbf_assign_L58 X hr hk hE Y (lv_sub hl [3, 4, 5, 2, 1, 0] rfl)
/-! BasicMachineModel.holds(IDD)Z -/
set_option maxHeartbeats 4000000 in
set_option maxRecDepth 100000 in
theorem mbf_holds (l : Launch) (n : Nat) (b : bP) (ok : bOk b) {st : bS} {a1 : Int32} {a2 : UInt64} {a4 : UInt64} {q : bS × Int32} (hE : bf_holds n st a1 a2 a4 = some q) : bMet l yX2_holds cX2_holds 6 (some .boolean) 0 0 b [.int a1, .double a2, .double a4] st (some (.int q.2)) q.1 := by
  refine b_ofW (by decide) rfl ok (Nat.le_of_ble_eq_true rfl) (fun p e s m below meth c ls X Y hr hk hl => ?_)
  have hl : lv_has ls 6 [(0, .ref b.h), (1, .int a1), (2, .double a2), (4, .double a4)] := hl
  generalize s.heap = H at Y ⊢
  generalize ([] : List Loc) = locs at Y ⊢
  have hx := X.1
  have hb := X.2.1
  have hown := X.2.2.2.1
  have hts := X.2.2.2.2.1
  unfold bf_holds at hE
  refine lv_iload_n hx hb dX2_holds_0 rfl (lv_at hl 1 rfl) ?_
  by_cases c_1 : a1 = (0 : Int32)
  · replace hE := e_t c_1 hE
    refine lv_tableIn (off := 35) (tgt := 36) hx hb dX2_holds_1 (by rw [c_1]; decide) (by rw [c_1]; decide) (by rw [c_1]; rfl) (by decide) ?_
    refine lv_dload_n hx hb dX2_holds_36 rfl (lv_at hl 2 rfl) ?_
    refine lv_dload hx hb dX2_holds_37 (lv_at hl 3 rfl) ?_
    refine lv_dcmp hx hb dX2_holds_39 ?_
    refine lv_if_ne (tgt := 47) hx hb dX2_holds_40 (by decide) (fun c_2 => ?_) (fun c_2 => ?_)
    · replace hE := e_f c_2 hE
      refine lv_iconst (v := 0) hx hb dX2_holds_47 (by decide) ?_
      cases hE
      exact b_zret (v := 0) X Y hr hk nz0 dX2_holds_48
    · replace hE := e_t c_2 hE
      refine lv_iconst (v := 1) hx hb dX2_holds_43 (by decide) ?_
      refine lv_goto (tgt := 48) hx hb dX2_holds_44 (by decide) ?_
      cases hE
      exact b_zret (v := 1) X Y hr hk nz1 dX2_holds_48
  replace hE := e_f c_1 hE
  by_cases c_3 : a1 = (1 : Int32)
  · replace hE := e_t c_3 hE
    refine lv_tableIn (off := 48) (tgt := 49) hx hb dX2_holds_1 (by rw [c_3]; decide) (by rw [c_3]; decide) (by rw [c_3]; rfl) (by decide) ?_
    refine lv_dload_n hx hb dX2_holds_49 rfl (lv_at hl 2 rfl) ?_
    refine lv_dload hx hb dX2_holds_50 (lv_at hl 3 rfl) ?_
    refine lv_dcmp hx hb dX2_holds_52 ?_
    refine lv_if_ge (tgt := 60) hx hb dX2_holds_53 (by decide) (fun c_4 => ?_) (fun c_4 => ?_)
    · replace hE := e_t c_4 hE
      refine lv_iconst (v := 0) hx hb dX2_holds_60 (by decide) ?_
      cases hE
      exact b_zret (v := 0) X Y hr hk nz0 dX2_holds_61
    · replace hE := e_f c_4 hE
      refine lv_iconst (v := 1) hx hb dX2_holds_56 (by decide) ?_
      refine lv_goto (tgt := 61) hx hb dX2_holds_57 (by decide) ?_
      cases hE
      exact b_zret (v := 1) X Y hr hk nz1 dX2_holds_61
  replace hE := e_f c_3 hE
  by_cases c_5 : a1 = (2 : Int32)
  · replace hE := e_t c_5 hE
    refine lv_tableIn (off := 61) (tgt := 62) hx hb dX2_holds_1 (by rw [c_5]; decide) (by rw [c_5]; decide) (by rw [c_5]; rfl) (by decide) ?_
    refine lv_dload_n hx hb dX2_holds_62 rfl (lv_at hl 2 rfl) ?_
    refine lv_dload hx hb dX2_holds_63 (lv_at hl 3 rfl) ?_
    refine lv_dcmp hx hb dX2_holds_65 ?_
    refine lv_if_le (tgt := 73) hx hb dX2_holds_66 (by decide) (fun c_6 => ?_) (fun c_6 => ?_)
    · replace hE := e_t c_6 hE
      refine lv_iconst (v := 0) hx hb dX2_holds_73 (by decide) ?_
      cases hE
      exact b_zret (v := 0) X Y hr hk nz0 dX2_holds_74
    · replace hE := e_f c_6 hE
      refine lv_iconst (v := 1) hx hb dX2_holds_69 (by decide) ?_
      refine lv_goto (tgt := 74) hx hb dX2_holds_70 (by decide) ?_
      cases hE
      exact b_zret (v := 1) X Y hr hk nz1 dX2_holds_74
  replace hE := e_f c_5 hE
  by_cases c_7 : a1 = (3 : Int32)
  · replace hE := e_t c_7 hE
    refine lv_tableIn (off := 74) (tgt := 75) hx hb dX2_holds_1 (by rw [c_7]; decide) (by rw [c_7]; decide) (by rw [c_7]; rfl) (by decide) ?_
    refine lv_dload_n hx hb dX2_holds_75 rfl (lv_at hl 2 rfl) ?_
    refine lv_dload hx hb dX2_holds_76 (lv_at hl 3 rfl) ?_
    refine lv_dcmp hx hb dX2_holds_78 ?_
    refine lv_if_gt (tgt := 86) hx hb dX2_holds_79 (by decide) (fun c_8 => ?_) (fun c_8 => ?_)
    · replace hE := e_t c_8 hE
      refine lv_iconst (v := 0) hx hb dX2_holds_86 (by decide) ?_
      cases hE
      exact b_zret (v := 0) X Y hr hk nz0 dX2_holds_87
    · replace hE := e_f c_8 hE
      refine lv_iconst (v := 1) hx hb dX2_holds_82 (by decide) ?_
      refine lv_goto (tgt := 87) hx hb dX2_holds_83 (by decide) ?_
      cases hE
      exact b_zret (v := 1) X Y hr hk nz1 dX2_holds_87
  replace hE := e_f c_7 hE
  by_cases c_9 : a1 = (4 : Int32)
  · replace hE := e_t c_9 hE
    refine lv_tableIn (off := 87) (tgt := 88) hx hb dX2_holds_1 (by rw [c_9]; decide) (by rw [c_9]; decide) (by rw [c_9]; rfl) (by decide) ?_
    refine lv_dload_n hx hb dX2_holds_88 rfl (lv_at hl 2 rfl) ?_
    refine lv_dload hx hb dX2_holds_89 (lv_at hl 3 rfl) ?_
    refine lv_dcmp hx hb dX2_holds_91 ?_
    refine lv_if_lt (tgt := 99) hx hb dX2_holds_92 (by decide) (fun c_10 => ?_) (fun c_10 => ?_)
    · replace hE := e_t c_10 hE
      refine lv_iconst (v := 0) hx hb dX2_holds_99 (by decide) ?_
      cases hE
      exact b_zret (v := 0) X Y hr hk nz0 dX2_holds_100
    · replace hE := e_f c_10 hE
      refine lv_iconst (v := 1) hx hb dX2_holds_95 (by decide) ?_
      refine lv_goto (tgt := 100) hx hb dX2_holds_96 (by decide) ?_
      cases hE
      exact b_zret (v := 1) X Y hr hk nz1 dX2_holds_100
  replace hE := e_f c_9 hE
  refine lv_tableOut (tgt := 101) hx hb dX2_holds_1 (by have h0 := lv_neT c_1 (a := 0) (by decide); have h1 := lv_neT c_3 (a := 1) (by decide); have h2 := lv_neT c_5 (a := 2) (by decide); have h3 := lv_neT c_7 (a := 3) (by decide); have h4 := lv_neT c_9 (a := 4) (by decide); omega) (by decide) ?_
  refine lv_dload_n hx hb dX2_holds_101 rfl (lv_at hl 2 rfl) ?_
  refine lv_dload hx hb dX2_holds_102 (lv_at hl 3 rfl) ?_
  refine lv_dcmp hx hb dX2_holds_104 ?_
  refine lv_if_eq (tgt := 112) hx hb dX2_holds_105 (by decide) (fun c_11 => ?_) (fun c_11 => ?_)
  · replace hE := e_t c_11 hE
    refine lv_iconst (v := 0) hx hb dX2_holds_112 (by decide) ?_
    cases hE
    exact b_zret (v := 0) X Y hr hk nz0 dX2_holds_113
  · replace hE := e_f c_11 hE
    refine lv_iconst (v := 1) hx hb dX2_holds_108 (by decide) ?_
    refine lv_goto (tgt := 113) hx hb dX2_holds_109 (by decide) ?_
    cases hE
    exact b_zret (v := 1) X Y hr hk nz1 dX2_holds_113
/-! BasicMachineModel.over(DDD)Z -/
set_option maxHeartbeats 4000000 in
set_option maxRecDepth 100000 in
theorem mbf_over (l : Launch) (n : Nat) (b : bP) (ok : bOk b) {st : bS} {a1 : UInt64} {a3 : UInt64} {a5 : UInt64} {q : bS × Int32} (hE : bf_over n st a1 a3 a5 = some q) : bMet l yX2_over cX2_over 7 (some .boolean) 0 0 b [.double a1, .double a3, .double a5] st (some (.int q.2)) q.1 := by
  refine b_ofW (by decide) rfl ok (Nat.le_of_ble_eq_true rfl) (fun p e s m below meth c ls X Y hr hk hl => ?_)
  have hl : lv_has ls 7 [(0, .ref b.h), (1, .double a1), (3, .double a3), (5, .double a5)] := hl
  generalize s.heap = H at Y ⊢
  generalize ([] : List Loc) = locs at Y ⊢
  have hx := X.1
  have hb := X.2.1
  have hown := X.2.2.2.1
  have hts := X.2.2.2.2.1
  unfold bf_over at hE
  refine lv_dload hx hb dX2_over_0 (lv_at hl 3 rfl) ?_
  refine lv_dconst0 hx hb dX2_over_2 ?_
  refine lv_dcmp hx hb dX2_over_3 ?_
  refine lv_if_ge (tgt := 21) hx hb dX2_over_4 (by decide) (fun c_1 => ?_) (fun c_1 => ?_)
  · replace hE := e_t c_1 hE
    refine lv_dload_n hx hb dX2_over_21 rfl (lv_at hl 1 rfl) ?_
    refine lv_dload_n hx hb dX2_over_22 rfl (lv_at hl 2 rfl) ?_
    refine lv_dcmp hx hb dX2_over_23 ?_
    refine lv_if_le (tgt := 31) hx hb dX2_over_24 (by decide) (fun c_2 => ?_) (fun c_2 => ?_)
    · replace hE := e_t c_2 hE
      refine lv_iconst (v := 0) hx hb dX2_over_31 (by decide) ?_
      cases hE
      exact b_zret (v := 0) X Y hr hk nz0 dX2_over_32
    · replace hE := e_f c_2 hE
      refine lv_iconst (v := 1) hx hb dX2_over_27 (by decide) ?_
      refine lv_goto (tgt := 32) hx hb dX2_over_28 (by decide) ?_
      cases hE
      exact b_zret (v := 1) X Y hr hk nz1 dX2_over_32
  · replace hE := e_f c_1 hE
    refine lv_dload_n hx hb dX2_over_7 rfl (lv_at hl 1 rfl) ?_
    refine lv_dload_n hx hb dX2_over_8 rfl (lv_at hl 2 rfl) ?_
    refine lv_dcmp hx hb dX2_over_9 ?_
    refine lv_if_ge (tgt := 17) hx hb dX2_over_10 (by decide) (fun c_3 => ?_) (fun c_3 => ?_)
    · replace hE := e_t c_3 hE
      refine lv_iconst (v := 0) hx hb dX2_over_17 (by decide) ?_
      refine lv_goto (tgt := 32) hx hb dX2_over_18 (by decide) ?_
      cases hE
      exact b_zret (v := 0) X Y hr hk nz0 dX2_over_32
    · replace hE := e_f c_3 hE
      refine lv_iconst (v := 1) hx hb dX2_over_13 (by decide) ?_
      refine lv_goto (tgt := 32) hx hb dX2_over_14 (by decide) ?_
      cases hE
      exact b_zret (v := 1) X Y hr hk nz1 dX2_over_32
/-! BasicMachineModel.loopFor(I)I -/
set_option maxHeartbeats 4000000 in
set_option maxRecDepth 100000 in
theorem wbf_loopFor_S2_ {l : Launch} {b : bP} {As : List Value} {p : Program} {e : Env} {s : State} {m : MethodId} {below : List Frame} {meth : Method} {c : Code} (X : bX p s m (Value.ref b.h :: As).toArray c cX2_loopFor 3 b) (hr : meth.sig.returnType = (some .int)) (hk : meth.locks = false) (n : Nat) {q : bS × Int32} : ∀ k : Nat, (∀ {st : bS} {x1 : Int32} {x2 : Int32}, bf_loopFor_S2 n k st x1 x2 = some q → ∀ {H : Heap} {locs : List Loc} {ls : Array Slot}, bY b s st H locs → lv_has ls 3 [(0, .ref b.h), (1, .int x1), (2, .int x2)] → bG l 0 0 b As (some (.int q.2)) q.1 p e s m below meth c H locs (F0 m 2 ls [])) := by
  have hx := X.1
  have hb := X.2.1
  have hown := X.2.2.2.1
  have hts := X.2.2.2.2.1
  intro k
  induction k with
  | zero => exact fun h => nomatch (show none = some q from h)
  | succ k ih =>
    intro st x1 x2 hE H locs ls Y hl
    replace hE : bf_loopFor_B2 n (bf_loopFor_S2 n k) st x1 x2 = some q := hE
    unfold bf_loopFor_B2 at hE
    refine lv_iload_n hx hb dX2_loopFor_2 rfl (lv_at hl 2 rfl) ?_
    refine lv_aload_n hx hb dX2_loopFor_3 rfl (lv_at hl 0 rfl) ?_
    refine b_geti X Y 23 rfl (by decide) rfl q1826 dX2_loopFor_4 ?_
    refine lv_icmp_ge (tgt := 28) hx hb dX2_loopFor_7 (by decide) (fun c_1 => ?_) (fun c_1 => ?_)
    · replace hE := e_t c_1 hE
      refine lv_iconst (v := -1) hx hb dX2_loopFor_28 (by decide) ?_
      cases hE
      exact b_iret X Y hr hk dX2_loopFor_29
    · replace hE := e_f c_1 hE
      refine lv_aload_n hx hb dX2_loopFor_10 rfl (lv_at hl 0 rfl) ?_
      refine b_geta X Y 41 (by decide) (by decide) q1844 dX2_loopFor_11 ?_
      refine lv_iload_n hx hb dX2_loopFor_14 rfl (lv_at hl 2 rfl) ?_
      obtain ⟨v_2, g, hE⟩ := e_bind hE
      refine n_iald X Y 21 41 rfl rfl g dX2_loopFor_15 ?_
      refine lv_iload_n hx hb dX2_loopFor_16 rfl (lv_at hl 1 rfl) ?_
      refine lv_icmp_ne (tgt := 22) hx hb dX2_loopFor_17 (by decide) (fun c_3 => ?_) (fun c_3 => ?_)
      · replace hE := e_f c_3 hE
        refine lv_iinc (v := (x2 + (1 : Int32))) (lv' := [(2, .int (x2 + (1 : Int32))), (0, .ref b.h), (1, .int x1)]) hx hb dX2_loopFor_22 hl (k := 2) rfl rfl (by decide) rfl (fun ls hl => ?_)
        refine lv_goto (tgt := 2) hx hb dX2_loopFor_25 (by decide) ?_
        exact ih hE Y (lv_sub hl [1, 2, 0] rfl)
      · replace hE := e_t c_3 hE
        refine lv_iload_n hx hb dX2_loopFor_20 rfl (lv_at hl 2 rfl) ?_
        cases hE
        exact b_iret X Y hr hk dX2_loopFor_21
set_option maxHeartbeats 4000000 in
set_option maxRecDepth 100000 in
theorem wbf_loopFor_S2 {l : Launch} {b : bP} {As : List Value} {p : Program} {e : Env} {s : State} {m : MethodId} {below : List Frame} {meth : Method} {c : Code} (X : bX p s m (Value.ref b.h :: As).toArray c cX2_loopFor 3 b) (hr : meth.sig.returnType = (some .int)) (hk : meth.locks = false) (n : Nat) {q : bS × Int32} : (∀ {st : bS} {x1 : Int32} {x2 : Int32}, bf_loopFor_S2 n n st x1 x2 = some q → ∀ {H : Heap} {locs : List Loc} {ls : Array Slot}, bY b s st H locs → lv_has ls 3 [(0, .ref b.h), (1, .int x1), (2, .int x2)] → bG l 0 0 b As (some (.int q.2)) q.1 p e s m below meth c H locs (F0 m 2 ls [])) := wbf_loopFor_S2_ X hr hk n n
set_option maxHeartbeats 4000000 in
set_option maxRecDepth 100000 in
theorem mbf_loopFor (l : Launch) (n : Nat) (b : bP) (ok : bOk b) {st : bS} {a1 : Int32} {q : bS × Int32} (hE : bf_loopFor n st a1 = some q) : bMet l yX2_loopFor cX2_loopFor 3 (some .int) 0 0 b [.int a1] st (some (.int q.2)) q.1 := by
  refine b_ofW (by decide) rfl ok (Nat.le_of_ble_eq_true rfl) (fun p e s m below meth c ls X Y hr hk hl => ?_)
  have hl : lv_has ls 3 [(0, .ref b.h), (1, .int a1)] := hl
  generalize s.heap = H at Y ⊢
  generalize ([] : List Loc) = locs at Y ⊢
  have hx := X.1
  have hb := X.2.1
  have hown := X.2.2.2.1
  have hts := X.2.2.2.2.1
  unfold bf_loopFor at hE
  refine lv_iconst (v := 0) hx hb dX2_loopFor_0 (by decide) ?_
  refine lv_istore_n (lv' := [(2, .int (0 : Int32)), (0, .ref b.h), (1, .int a1)]) hx hb dX2_loopFor_1 rfl hl (by decide) rfl (fun ls hl => ?_)
  exact (wbf_loopFor_S2 X hr hk n) hE Y (lv_sub hl [1, 2, 0] rfl)

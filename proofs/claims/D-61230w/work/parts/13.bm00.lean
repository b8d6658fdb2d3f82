/-! contracts of the model (printed by genb.py) -/
/-! BasicMachineModel.thrown()I -/
set_option maxHeartbeats 4000000 in
set_option maxRecDepth 100000 in
theorem mbf_thrown (l : Launch) (n : Nat) (b : bP) (ok : bOk b) {st : bS} {q : bS × Int32} (hE : bf_thrown n st = some q) : bMet l yX2_thrown cX2_thrown 1 (some .int) 0 0 b [] st (some (.int q.2)) q.1 := by
  refine b_ofW (by decide) rfl ok (Nat.le_of_ble_eq_true rfl) (fun p e s m below meth c ls X Y hr hk hl => ?_)
  have hl : lv_has ls 1 [(0, .ref b.h)] := hl
  generalize s.heap = H at Y ⊢
  generalize ([] : List Loc) = locs at Y ⊢
  have hx := X.1
  have hb := X.2.1
  have hown := X.2.2.2.1
  have hts := X.2.2.2.2.1
  unfold bf_thrown at hE
  refine lv_aload_n hx hb dX2_thrown_0 rfl (lv_at hl 0 rfl) ?_
  refine b_geti X Y 0 rfl (by decide) rfl q1803 dX2_thrown_1 ?_
  cases hE
  exact b_iret X Y hr hk dX2_thrown_4
/-! BasicMachineModel.refuse(I)I -/
set_option maxHeartbeats 4000000 in
set_option maxRecDepth 100000 in
theorem mbf_refuse (l : Launch) (n : Nat) (b : bP) (ok : bOk b) {st : bS} {a1 : Int32} {q : bS × Int32} (hE : bf_refuse n st a1 = some q) : bMet l yX2_refuse cX2_refuse 2 (some .int) 0 0 b [.int a1] st (some (.int q.2)) q.1 := by
  refine b_ofW (by decide) rfl ok (Nat.le_of_ble_eq_true rfl) (fun p e s m below meth c ls X Y hr hk hl => ?_)
  have hl : lv_has ls 2 [(0, .ref b.h), (1, .int a1)] := hl
  generalize s.heap = H at Y ⊢
  generalize ([] : List Loc) = locs at Y ⊢
  have hx := X.1
  have hb := X.2.1
  have hown := X.2.2.2.1
  have hts := X.2.2.2.2.1
  unfold bf_refuse at hE
  refine lv_aload_n hx hb dX2_refuse_0 rfl (lv_at hl 0 rfl) ?_
  refine lv_iload_n hx hb dX2_refuse_1 rfl (lv_at hl 1 rfl) ?_
  obtain ⟨st_1, g, hE⟩ := e_bind hE
  refine n_put X Y 0 rfl (by decide) g rfl rfl rfl q1803 dX2_refuse_2 (fun H locs Y => ?_)
  refine lv_iconst (v := 0) hx hb dX2_refuse_5 (by decide) ?_
  cases hE
  exact b_iret X Y hr hk dX2_refuse_6
/-! BasicMachineModel.fine(I)I -/
set_option maxHeartbeats 4000000 in
set_option maxRecDepth 100000 in
theorem mbf_fine (l : Launch) (n : Nat) (b : bP) (ok : bOk b) {st : bS} {a1 : Int32} {q : bS × Int32} (hE : bf_fine n st a1 = some q) : bMet l yX2_fine cX2_fine 2 (some .int) 0 0 b [.int a1] st (some (.int q.2)) q.1 := by
  refine b_ofW (by decide) rfl ok (Nat.le_of_ble_eq_true rfl) (fun p e s m below meth c ls X Y hr hk hl => ?_)
  have hl : lv_has ls 2 [(0, .ref b.h), (1, .int a1)] := hl
  generalize s.heap = H at Y ⊢
  generalize ([] : List Loc) = locs at Y ⊢
  have hx := X.1
  have hb := X.2.1
  have hown := X.2.2.2.1
  have hts := X.2.2.2.2.1
  unfold bf_fine at hE
  refine lv_aload_n hx hb dX2_fine_0 rfl (lv_at hl 0 rfl) ?_
  refine lv_iconst (v := 0) hx hb dX2_fine_1 (by decide) ?_
  obtain ⟨st_1, g, hE⟩ := e_bind hE
  refine n_put X Y 0 rfl (by decide) g rfl rfl rfl q1803 dX2_fine_2 (fun H locs Y => ?_)
  refine lv_iload_n hx hb dX2_fine_5 rfl (lv_at hl 1 rfl) ?_
  cases hE
  exact b_iret X Y hr hk dX2_fine_6
/-! BasicMachineModel.type(I)I -/
set_option maxHeartbeats 4000000 in
set_option maxRecDepth 100000 in
theorem wbf_type_L10 {l : Launch} {b : bP} {As : List Value} {p : Program} {e : Env} {s : State} {m : MethodId} {below : List Frame} {meth : Method} {c : Code} (X : bX p s m (Value.ref b.h :: As).toArray c cX2_type 2 b) (hr : meth.sig.returnType = (some .int)) (hk : meth.locks = false) {n : Nat} {st : bS} {q : bS × Int32} (hE : bf_type_L10 n st = some q) {H : Heap} {locs : List Loc} {ls : Array Slot} (Y : bY b s st H locs) (hl : lv_has ls 2 [(0, .ref b.h)]) : bG l 1 21 b As (some (.int q.2)) q.1 p e s m below meth c H locs (F0 m 10 ls []) := by
  have hx := X.1
  have hb := X.2.1
  have hown := X.2.2.2.1
  have hts := X.2.2.2.2.1
  unfold bf_type_L10 at hE
  refine lv_aload_n hx hb dX2_type_10 rfl (lv_at hl 0 rfl) ?_
  refine lv_iconst (v := 1) hx hb dX2_type_11 (by decide) ?_
  obtain ⟨q_1, g, hE⟩ := e_bind hE
  refine n_call1 (n := 1) [.int (1 : Int32)] X Y (mbf_refuse l n b X.2.2.2.2.2.2 g) q1947 q1949 qs52 q1950 (by decide +kernel) (by decide) rfl hl.1 (Nat.le_of_ble_eq_true rfl) dX2_type_12 (by decide) (fun H locs Y => ?_)
  cases hE
  exact b_iret X Y hr hk dX2_type_15
set_option maxHeartbeats 4000000 in
set_option maxRecDepth 100000 in
theorem mbf_type (l : Launch) (n : Nat) (b : bP) (ok : bOk b) {st : bS} {a1 : Int32} {q : bS × Int32} (hE : bf_type n st a1 = some q) : bMet l yX2_type cX2_type 2 (some .int) 1 21 b [.int a1] st (some (.int q.2)) q.1 := by
  refine b_ofW (by decide) rfl ok (Nat.le_of_ble_eq_true rfl) (fun p e s m below meth c ls X Y hr hk hl => ?_)
  have hl : lv_has ls 2 [(0, .ref b.h), (1, .int a1)] := hl
  generalize s.heap = H at Y ⊢
  generalize ([] : List Loc) = locs at Y ⊢
  have hx := X.1
  have hb := X.2.1
  have hown := X.2.2.2.1
  have hts := X.2.2.2.2.1
  unfold bf_type at hE
  refine lv_iload_n hx hb dX2_type_0 rfl (lv_at hl 1 rfl) ?_
  refine lv_if_lt (tgt := 10) hx hb dX2_type_1 (by decide) (fun c_1 => ?_) (fun c_1 => ?_)
  · replace hE := e_t c_1 hE
    exact wbf_type_L10 X hr hk hE Y (lv_sub hl [0] rfl)
  · replace hE := e_f c_1 hE
    refine lv_iload_n hx hb dX2_type_4 rfl (lv_at hl 1 rfl) ?_
    refine lv_bipush (v := 127) hx hb dX2_type_5 (by decide) ?_
    refine lv_icmp_le (tgt := 16) hx hb dX2_type_7 (by decide) (fun c_2 => ?_) (fun c_2 => ?_)
    · replace hE := e_t c_2 hE
      refine lv_aload_n hx hb dX2_type_16 rfl (lv_at hl 0 rfl) ?_
      refine b_geti X Y 1 rfl (by decide) rfl q1804 dX2_type_17 ?_
      refine lv_bipush (v := 60) hx hb dX2_type_20 (by decide) ?_
      refine lv_icmp_ne (tgt := 31) hx hb dX2_type_22 (by decide) (fun c_3 => ?_) (fun c_3 => ?_)
      · replace hE := e_f c_3 hE
        refine lv_aload_n hx hb dX2_type_31 rfl (lv_at hl 0 rfl) ?_
        refine b_geta X Y 8 (by decide) (by decide) q1811 dX2_type_32 ?_
        refine lv_aload_n hx hb dX2_type_35 rfl (lv_at hl 0 rfl) ?_
        refine b_geti X Y 1 rfl (by decide) rfl q1804 dX2_type_36 ?_
        refine lv_iload_n hx hb dX2_type_39 rfl (lv_at hl 1 rfl) ?_
        refine lv_i2c hx hb dX2_type_40 rfl ?_
        obtain ⟨st_4, g, hE⟩ := e_bind hE
        refine n_cast X Y 0 8 rfl rfl g dX2_type_41 (fun H locs Y => ?_)
        refine lv_aload_n hx hb dX2_type_42 rfl (lv_at hl 0 rfl) ?_
        refine lv_dup hx hb dX2_type_43 rfl ?_
        refine b_geti X Y 1 rfl (by decide) rfl q1804 dX2_type_44 ?_
        refine lv_iconst (v := 1) hx hb dX2_type_47 (by decide) ?_
        refine lv_iadd hx hb dX2_type_48 ?_
        obtain ⟨st_5, g, hE⟩ := e_bind hE
        refine n_put X Y 1 rfl (by decide) g rfl rfl rfl q1804 dX2_type_49 (fun H locs Y => ?_)
        refine lv_aload_n hx hb dX2_type_52 rfl (lv_at hl 0 rfl) ?_
        refine lv_aload_n hx hb dX2_type_53 rfl (lv_at hl 0 rfl) ?_
        refine b_geti X Y 1 rfl (by decide) rfl q1804 dX2_type_54 ?_
        obtain ⟨q_6, g, hE⟩ := e_bind hE
        refine n_call1 (n := 1) [.int (st_5.1 1)] X Y (mbf_fine l n b X.2.2.2.2.2.2 g) q1951 q1953 qs53 q1954 (by decide +kernel) (by decide) rfl hl.1 (Nat.le_of_ble_eq_true rfl) dX2_type_57 (by decide) (fun H locs Y => ?_)
        cases hE
        exact b_iret X Y hr hk dX2_type_60
      · replace hE := e_t c_3 hE
        refine lv_aload_n hx hb dX2_type_25 rfl (lv_at hl 0 rfl) ?_
        refine lv_iconst (v := 2) hx hb dX2_type_26 (by decide) ?_
        obtain ⟨q_7, g, hE⟩ := e_bind hE
        refine n_call1 (n := 1) [.int (2 : Int32)] X Y (mbf_refuse l n b X.2.2.2.2.2.2 g) q1947 q1949 qs52 q1950 (by decide +kernel) (by decide) rfl hl.1 (Nat.le_of_ble_eq_true rfl) dX2_type_27 (by decide) (fun H locs Y => ?_)
        cases hE
        exact b_iret X Y hr hk dX2_type_30
    · replace hE := e_f c_2 hE
      exact wbf_type_L10 X hr hk hE Y (lv_sub hl [0] rfl)
/-! BasicMachineModel.look()I -/
set_option maxHeartbeats 4000000 in
set_option maxRecDepth 100000 in
theorem mbf_look (l : Launch) (n : Nat) (b : bP) (ok : bOk b) {st : bS} {q : bS × Int32} (hE : bf_look n st = some q) : bMet l yX2_look cX2_look 1 (some .int) 0 0 b [] st (some (.int q.2)) q.1 := by
  refine b_ofW (by decide) rfl ok (Nat.le_of_ble_eq_true rfl) (fun p e s m below meth c ls X Y hr hk hl => ?_)
  have hl : lv_has ls 1 [(0, .ref b.h)] := hl
  generalize s.heap = H at Y ⊢
  generalize ([] : List Loc) = locs at Y ⊢
  have hx := X.1
  have hb := X.2.1
  have hown := X.2.2.2.1
  have hts := X.2.2.2.2.1
  unfold bf_look at hE
  refine lv_aload_n hx hb dX2_look_0 rfl (lv_at hl 0 rfl) ?_
  refine b_geti X Y 4 rfl (by decide) rfl q1807 dX2_look_1 ?_
  refine lv_aload_n hx hb dX2_look_4 rfl (lv_at hl 0 rfl) ?_
  refine b_geti X Y 2 rfl (by decide) rfl q1805 dX2_look_5 ?_
  refine lv_icmp_ge (tgt := 23) hx hb dX2_look_8 (by decide) (fun c_1 => ?_) (fun c_1 => ?_)
  · replace hE := e_t c_1 hE
    refine lv_iconst (v := 0) hx hb dX2_look_23 (by decide) ?_
    cases hE
    exact b_iret X Y hr hk dX2_look_24
  · replace hE := e_f c_1 hE
    refine lv_aload_n hx hb dX2_look_11 rfl (lv_at hl 0 rfl) ?_
    refine b_geta X Y 9 (by decide) (by decide) q1812 dX2_look_12 ?_
    refine lv_aload_n hx hb dX2_look_15 rfl (lv_at hl 0 rfl) ?_
    refine b_geti X Y 4 rfl (by decide) rfl q1807 dX2_look_16 ?_
    obtain ⟨v_2, g, hE⟩ := e_bind hE
    refine n_cald X Y 1 9 rfl rfl g dX2_look_19 ?_
    refine lv_goto (tgt := 24) hx hb dX2_look_20 (by decide) ?_
    cases hE
    exact b_iret X Y hr hk dX2_look_24
/-! BasicMachineModel.lookAt(I)I -/
set_option maxHeartbeats 4000000 in
set_option maxRecDepth 100000 in
theorem mbf_lookAt (l : Launch) (n : Nat) (b : bP) (ok : bOk b) {st : bS} {a1 : Int32} {q : bS × Int32} (hE : bf_lookAt n st a1 = some q) : bMet l yX2_lookAt cX2_lookAt 2 (some .int) 0 0 b [.int a1] st (some (.int q.2)) q.1 := by
  refine b_ofW (by decide) rfl ok (Nat.le_of_ble_eq_true rfl) (fun p e s m below meth c ls X Y hr hk hl => ?_)
  have hl : lv_has ls 2 [(0, .ref b.h), (1, .int a1)] := hl
  generalize s.heap = H at Y ⊢
  generalize ([] : List Loc) = locs at Y ⊢
  have hx := X.1
  have hb := X.2.1
  have hown := X.2.2.2.1
  have hts := X.2.2.2.2.1
  unfold bf_lookAt at hE
  refine lv_aload_n hx hb dX2_lookAt_0 rfl (lv_at hl 0 rfl) ?_
  refine b_geti X Y 4 rfl (by decide) rfl q1807 dX2_lookAt_1 ?_
  refine lv_iload_n hx hb dX2_lookAt_4 rfl (lv_at hl 1 rfl) ?_
  refine lv_iadd hx hb dX2_lookAt_5 ?_
  refine lv_aload_n hx hb dX2_lookAt_6 rfl (lv_at hl 0 rfl) ?_
  refine b_geti X Y 2 rfl (by decide) rfl q1805 dX2_lookAt_7 ?_
  refine lv_icmp_ge (tgt := 27) hx hb dX2_lookAt_10 (by decide) (fun c_1 => ?_) (fun c_1 => ?_)
  · replace hE := e_t c_1 hE
    refine lv_iconst (v := 0) hx hb dX2_lookAt_27 (by decide) ?_
    cases hE
    exact b_iret X Y hr hk dX2_lookAt_28
  · replace hE := e_f c_1 hE
    refine lv_aload_n hx hb dX2_lookAt_13 rfl (lv_at hl 0 rfl) ?_
    refine b_geta X Y 9 (by decide) (by decide) q1812 dX2_lookAt_14 ?_
    refine lv_aload_n hx hb dX2_lookAt_17 rfl (lv_at hl 0 rfl) ?_
    refine b_geti X Y 4 rfl (by decide) rfl q1807 dX2_lookAt_18 ?_
    refine lv_iload_n hx hb dX2_lookAt_21 rfl (lv_at hl 1 rfl) ?_
    refine lv_iadd hx hb dX2_lookAt_22 ?_
    obtain ⟨v_2, g, hE⟩ := e_bind hE
    refine n_cald X Y 1 9 rfl rfl g dX2_lookAt_23 ?_
    refine lv_goto (tgt := 28) hx hb dX2_lookAt_24 (by decide) ?_
    cases hE
    exact b_iret X Y hr hk dX2_lookAt_28
/-! BasicMachineModel.take(I)Z -/
set_option maxHeartbeats 4000000 in
set_option maxRecDepth 100000 in
theorem mbf_take (l : Launch) (n : Nat) (b : bP) (ok : bOk b) {st : bS} {a1 : Int32} {q : bS × Int32} (hE : bf_take n st a1 = some q) : bMet l yX2_take cX2_take 2 (some .boolean) 1 20 b [.int a1] st (some (.int q.2)) q.1 := by
  refine b_ofW (by decide) rfl ok (Nat.le_of_ble_eq_true rfl) (fun p e s m below meth c ls X Y hr hk hl => ?_)
  have hl : lv_has ls 2 [(0, .ref b.h), (1, .int a1)] := hl
  generalize s.heap = H at Y ⊢
  generalize ([] : List Loc) = locs at Y ⊢
  have hx := X.1
  have hb := X.2.1
  have hown := X.2.2.2.1
  have hts := X.2.2.2.2.1
  unfold bf_take at hE
  refine lv_aload_n hx hb dX2_take_0 rfl (lv_at hl 0 rfl) ?_
  refine b_geti X Y 7 rfl (by decide) rfl q1810 dX2_take_1 ?_
  refine lv_if_ne (tgt := 15) hx hb dX2_take_4 (by decide) (fun c_1 => ?_) (fun c_1 => ?_)
  · replace hE := e_f c_1 hE
    refine lv_iconst (v := 0) hx hb dX2_take_15 (by decide) ?_
    cases hE
    exact b_zret (v := 0) X Y hr hk nz0 dX2_take_16
  · replace hE := e_t c_1 hE
    refine lv_aload_n hx hb dX2_take_7 rfl (lv_at hl 0 rfl) ?_
    obtain ⟨q_2, g, hE⟩ := e_bind hE
    refine n_call1 (n := 0) [] X Y (mbf_look l n b X.2.2.2.2.2.2 g) q1967 q1969 qs56 q1970 (by decide +kernel) (by decide) rfl hl.1 (Nat.le_of_ble_eq_true rfl) dX2_take_8 (by decide) (fun H locs Y => ?_)
    refine lv_iload_n hx hb dX2_take_11 rfl (lv_at hl 1 rfl) ?_
    refine lv_icmp_eq (tgt := 17) hx hb dX2_take_12 (by decide) (fun c_3 => ?_) (fun c_3 => ?_)
    · replace hE := e_t c_3 hE
      refine lv_aload_n hx hb dX2_take_17 rfl (lv_at hl 0 rfl) ?_
      refine lv_dup hx hb dX2_take_18 rfl ?_
      refine b_geti X Y 4 rfl (by decide) rfl q1807 dX2_take_19 ?_
      refine lv_iconst (v := 1) hx hb dX2_take_22 (by decide) ?_
      refine lv_iadd hx hb dX2_take_23 ?_
      obtain ⟨st_4, g, hE⟩ := e_bind hE
      refine n_put X Y 4 rfl (by decide) g rfl rfl rfl q1807 dX2_take_24 (fun H locs Y => ?_)
      refine lv_iconst (v := 1) hx hb dX2_take_27 (by decide) ?_
      cases hE
      exact b_zret (v := 1) X Y hr hk nz1 dX2_take_28
    · replace hE := e_f c_3 hE
      refine lv_iconst (v := 0) hx hb dX2_take_15 (by decide) ?_
      cases hE
      exact b_zret (v := 0) X Y hr hk nz0 dX2_take_16
/-! BasicMachineModel.need(I)V -/
set_option maxHeartbeats 4000000 in
set_option maxRecDepth 100000 in
theorem mbf_need (l : Launch) (n : Nat) (b : bP) (ok : bOk b) {st : bS} {a1 : Int32} {q : bS × Unit} (hE : bf_need n st a1 = some q) : bMet l yX2_need cX2_need 2 none 2 41 b [.int a1] st none q.1 := by
  refine b_ofW (by decide) rfl ok (Nat.le_of_ble_eq_true rfl) (fun p e s m below meth c ls X Y hr hk hl => ?_)
  have hl : lv_has ls 2 [(0, .ref b.h), (1, .int a1)] := hl
  generalize s.heap = H at Y ⊢
  generalize ([] : List Loc) = locs at Y ⊢
  have hx := X.1
  have hb := X.2.1
  have hown := X.2.2.2.1
  have hts := X.2.2.2.2.1
  unfold bf_need at hE
  refine lv_aload_n hx hb dX2_need_0 rfl (lv_at hl 0 rfl) ?_
  refine lv_iload_n hx hb dX2_need_1 rfl (lv_at hl 1 rfl) ?_
  obtain ⟨q_1, g, hE⟩ := e_bind hE
  refine n_call1 (n := 1) [.int a1] X Y (mbf_take l n b X.2.2.2.2.2.2 g) q2052 q2054 qs70 q2055 (by decide +kernel) (by decide) rfl hl.1 (Nat.le_of_ble_eq_true rfl) dX2_need_2 (by decide) (fun H locs Y => ?_)
  refine lv_if_ne (tgt := 13) hx hb dX2_need_5 (by decide) (fun c_2 => ?_) (fun c_2 => ?_)
  · replace hE := e_f c_2 hE
    cases hE
    exact b_vret X Y hr hk dX2_need_13
  · replace hE := e_t c_2 hE
    refine lv_aload_n hx hb dX2_need_8 rfl (lv_at hl 0 rfl) ?_
    refine lv_iconst (v := 1) hx hb dX2_need_9 (by decide) ?_
    obtain ⟨st_3, g, hE⟩ := e_bind hE
    refine n_put X Y 7 rfl (by decide) g rfl rfl rfl q1810 dX2_need_10 (fun H locs Y => ?_)
    cases hE
    exact b_vret X Y hr hk dX2_need_13
/-! BasicMachineModel.isDigit()Z -/
set_option maxHeartbeats 4000000 in
set_option maxRecDepth 100000 in
theorem mbf_isDigit (l : Launch) (n : Nat) (b : bP) (ok : bOk b) {st : bS} {q : bS × Int32} (hE : bf_isDigit n st = some q) : bMet l yX2_isDigit cX2_isDigit 1 (some .boolean) 1 20 b [] st (some (.int q.2)) q.1 := by
  refine b_ofW (by decide) rfl ok (Nat.le_of_ble_eq_true rfl) (fun p e s m below meth c ls X Y hr hk hl => ?_)
  have hl : lv_has ls 1 [(0, .ref b.h)] := hl
  generalize s.heap = H at Y ⊢
  generalize ([] : List Loc) = locs at Y ⊢
  have hx := X.1
  have hb := X.2.1
  have hown := X.2.2.2.1
  have hts := X.2.2.2.2.1
  unfold bf_isDigit at hE
  refine lv_aload_n hx hb dX2_isDigit_0 rfl (lv_at hl 0 rfl) ?_
  obtain ⟨q_1, g, hE⟩ := e_bind hE
  refine n_call1 (n := 0) [] X Y (mbf_look l n b X.2.2.2.2.2.2 g) q1967 q1969 qs56 q1970 (by decide +kernel) (by decide) rfl hl.1 (Nat.le_of_ble_eq_true rfl) dX2_isDigit_1 (by decide) (fun H locs Y => ?_)
  refine lv_bipush (v := 48) hx hb dX2_isDigit_4 (by decide) ?_
  refine lv_icmp_lt (tgt := 22) hx hb dX2_isDigit_6 (by decide) (fun c_2 => ?_) (fun c_2 => ?_)
  · replace hE := e_t c_2 hE
    refine lv_iconst (v := 0) hx hb dX2_isDigit_22 (by decide) ?_
    cases hE
    exact b_zret (v := 0) X Y hr hk nz0 dX2_isDigit_23
  · replace hE := e_f c_2 hE
    refine lv_aload_n hx hb dX2_isDigit_9 rfl (lv_at hl 0 rfl) ?_
    obtain ⟨q_3, g, hE⟩ := e_bind hE
    refine n_call1 (n := 0) [] X Y (mbf_look l n b X.2.2.2.2.2.2 g) q1967 q1969 qs56 q1970 (by decide +kernel) (by decide) rfl hl.1 (Nat.le_of_ble_eq_true rfl) dX2_isDigit_10 (by decide) (fun H locs Y => ?_)
    refine lv_bipush (v := 57) hx hb dX2_isDigit_13 (by decide) ?_
    refine lv_icmp_gt (tgt := 22) hx hb dX2_isDigit_15 (by decide) (fun c_4 => ?_) (fun c_4 => ?_)
    · replace hE := e_t c_4 hE
      refine lv_iconst (v := 0) hx hb dX2_isDigit_22 (by decide) ?_
      cases hE
      exact b_zret (v := 0) X Y hr hk nz0 dX2_isDigit_23
    · replace hE := e_f c_4 hE
      refine lv_iconst (v := 1) hx hb dX2_isDigit_18 (by decide) ?_
      refine lv_goto (tgt := 23) hx hb dX2_isDigit_19 (by decide) ?_
      cases hE
      exact b_zret (v := 1) X Y hr hk nz1 dX2_isDigit_23
/-! BasicMachineModel.word(I)J -/
set_option maxHeartbeats 4000000 in
set_option maxRecDepth 100000 in
theorem mbf_word (l : Launch) (n : Nat) (b : bP) (ok : bOk b) {st : bS} {a1 : Int32} {q : bS × Int64} (hE : bf_word n st a1 = some q) : bMet l yX2_word cX2_word 2 (some .long) 0 0 b [.int a1] st (some (.long q.2)) q.1 := by
  refine b_ofW (by decide) rfl ok (Nat.le_of_ble_eq_true rfl) (fun p e s m below meth c ls X Y hr hk hl => ?_)
  have hl : lv_has ls 2 [(0, .ref b.h), (1, .int a1)] := hl
  generalize s.heap = H at Y ⊢
  generalize ([] : List Loc) = locs at Y ⊢
  have hx := X.1
  have hb := X.2.1
  have hown := X.2.2.2.1
  have hts := X.2.2.2.2.1
  unfold bf_word at hE
  refine lv_iload_n hx hb dX2_word_0 rfl (lv_at hl 1 rfl) ?_
  by_cases c_1 : a1 = (0 : Int32)
  · replace hE := e_t c_1 hE
    refine lv_tableIn (off := 123) (tgt := 124) hx hb dX2_word_1 (by rw [c_1]; decide) (by rw [c_1]; decide) (by rw [c_1]; rfl) (by decide) ?_
    refine lv_ldc2 (v := (4998484 : Int64)) hx hb hown (hts _ q1987) dX2_word_124 ?_
    cases hE
    exact b_lret X Y hr hk dX2_word_127
  replace hE := e_f c_1 hE
  by_cases c_2 : a1 = (1 : Int32)
  · replace hE := e_t c_2 hE
    refine lv_tableIn (off := 127) (tgt := 128) hx hb dX2_word_1 (by rw [c_2]; decide) (by rw [c_2]; decide) (by rw [c_2]; rfl) (by decide) ?_
    refine lv_ldc2 (v := (344977919572 : Int64)) hx hb hown (hts _ q1988) dX2_word_128 ?_
    cases hE
    exact b_lret X Y hr hk dX2_word_131
  replace hE := e_f c_2 hE
  by_cases c_3 : a1 = (2 : Int32)
  · replace hE := e_t c_3 hE
    refine lv_tableIn (off := 131) (tgt := 132) hx hb dX2_word_1 (by rw [c_3]; decide) (by rw [c_3]; decide) (by rw [c_3]; rfl) (by decide) ?_
    refine lv_ldc2 (v := (18758 : Int64)) hx hb hown (hts _ q1989) dX2_word_132 ?_
    cases hE
    exact b_lret X Y hr hk dX2_word_135
  replace hE := e_f c_3 hE
  by_cases c_4 : a1 = (3 : Int32)
  · replace hE := e_t c_4 hE
    refine lv_tableIn (off := 135) (tgt := 136) hx hb dX2_word_1 (by rw [c_4]; decide) (by rw [c_4]; decide) (by rw [c_4]; rfl) (by decide) ?_
    refine lv_ldc2 (v := (1196381263 : Int64)) hx hb hown (hts _ q1990) dX2_word_136 ?_
    cases hE
    exact b_lret X Y hr hk dX2_word_139
  replace hE := e_f c_4 hE
  by_cases c_5 : a1 = (4 : Int32)
  · replace hE := e_t c_5 hE
    refine lv_tableIn (off := 139) (tgt := 140) hx hb dX2_word_1 (by rw [c_5]; decide) (by rw [c_5]; decide) (by rw [c_5]; rfl) (by decide) ?_
    refine lv_ldc2 (v := (20302 : Int64)) hx hb hown (hts _ q1991) dX2_word_140 ?_
    cases hE
    exact b_lret X Y hr hk dX2_word_143
  replace hE := e_f c_5 hE
  by_cases c_6 : a1 = (5 : Int32)
  · replace hE := e_t c_6 hE
    refine lv_tableIn (off := 143) (tgt := 144) hx hb dX2_word_1 (by rw [c_6]; decide) (by rw [c_6]; decide) (by rw [c_6]; rfl) (by decide) ?_
    refine lv_ldc2 (v := (306273539394 : Int64)) hx hb hown (hts _ q1992) dX2_word_144 ?_
    cases hE
    exact b_lret X Y hr hk dX2_word_147
  replace hE := e_f c_6 hE
  by_cases c_7 : a1 = (6 : Int32)
  · replace hE := e_t c_7 hE
    refine lv_tableIn (off := 147) (tgt := 148) hx hb dX2_word_1 (by rw [c_7]; decide) (by rw [c_7]; decide) (by rw [c_7]; rfl) (by decide) ?_
    refine lv_ldc2 (v := (90457721098830 : Int64)) hx hb hown (hts _ q1993) dX2_word_148 ?_
    cases hE
    exact b_lret X Y hr hk dX2_word_151
  replace hE := e_f c_7 hE
  by_cases c_8 : a1 = (7 : Int32)
  · replace hE := e_t c_8 hE
    refine lv_tableIn (off := 151) (tgt := 152) hx hb dX2_word_1 (by rw [c_8]; decide) (by rw [c_8]; decide) (by rw [c_8]; rfl) (by decide) ?_
    refine lv_ldc2 (v := (4607826 : Int64)) hx hb hown (hts _ q1994) dX2_word_152 ?_
    cases hE
    exact b_lret X Y hr hk dX2_word_155
  replace hE := e_f c_8 hE
  by_cases c_9 : a1 = (8 : Int32)
  · replace hE := e_t c_9 hE
    refine lv_tableIn (off := 155) (tgt := 156) hx hb dX2_word_1 (by rw [c_9]; decide) (by rw [c_9]; decide) (by rw [c_9]; rfl) (by decide) ?_
    refine lv_ldc2 (v := (1313167444 : Int64)) hx hb hown (hts _ q1995) dX2_word_156 ?_
    cases hE
    exact b_lret X Y hr hk dX2_word_159
  replace hE := e_f c_9 hE
  by_cases c_10 : a1 = (9 : Int32)
  · replace hE := e_t c_10 hE
    refine lv_tableIn (off := 159) (tgt := 160) hx hb dX2_word_1 (by rw [c_10]; decide) (by rw [c_10]; decide) (by rw [c_10]; rfl) (by decide) ?_
    refine lv_ldc2 (v := (1380270404 : Int64)) hx hb hown (hts _ q1996) dX2_word_160 ?_
    cases hE
    exact b_lret X Y hr hk dX2_word_163
  replace hE := e_f c_10 hE
  by_cases c_11 : a1 = (10 : Int32)
  · replace hE := e_t c_11 hE
    refine lv_tableIn (off := 163) (tgt := 164) hx hb dX2_word_1 (by rw [c_11]; decide) (by rw [c_11]; decide) (by rw [c_11]; rfl) (by decide) ?_
    refine lv_ldc2 (v := (1145132097 : Int64)) hx hb hown (hts _ q1997) dX2_word_164 ?_
    cases hE
    exact b_lret X Y hr hk dX2_word_167
  replace hE := e_f c_11 hE
  by_cases c_12 : a1 = (11 : Int32)
  · replace hE := e_t c_12 hE
    refine lv_tableIn (off := 167) (tgt := 168) hx hb dX2_word_1 (by rw [c_12]; decide) (by rw [c_12]; decide) (by rw [c_12]; rfl) (by decide) ?_
    refine lv_ldc2 (v := (23157172289360453 : Int64)) hx hb hown (hts _ q1998) dX2_word_168 ?_
    cases hE
    exact b_lret X Y hr hk dX2_word_171
  replace hE := e_f c_12 hE
  by_cases c_13 : a1 = (12 : Int32)
  · replace hE := e_t c_13 hE
    refine lv_tableIn (off := 171) (tgt := 172) hx hb dX2_word_1 (by rw [c_13]; decide) (by rw [c_13]; decide) (by rw [c_13]; rfl) (by decide) ?_
    refine lv_ldc2 (v := (4475213 : Int64)) hx hb hown (hts _ q1999) dX2_word_172 ?_
    cases hE
    exact b_lret X Y hr hk dX2_word_175
  replace hE := e_f c_13 hE
  by_cases c_14 : a1 = (13 : Int32)
  · replace hE := e_t c_14 hE
    refine lv_tableIn (off := 175) (tgt := 176) hx hb dX2_word_1 (by rw [c_14]; decide) (by rw [c_14]; decide) (by rw [c_14]; rfl) (by decide) ?_
    refine lv_ldc2 (v := (4474182 : Int64)) hx hb hown (hts _ q2000) dX2_word_176 ?_
    cases hE
    exact b_lret X Y hr hk dX2_word_179
  replace hE := e_f c_14 hE
  by_cases c_15 : a1 = (14 : Int32)
  · replace hE := e_t c_15 hE
    refine lv_tableIn (off := 179) (tgt := 180) hx hb dX2_word_1 (by rw [c_15]; decide) (by rw [c_15]; decide) (by rw [c_15]; rfl) (by decide) ?_
    refine lv_ldc2 (v := (5062996 : Int64)) hx hb hown (hts _ q2001) dX2_word_180 ?_
    cases hE
    exact b_lret X Y hr hk dX2_word_183
  replace hE := e_f c_15 hE
  by_cases c_16 : a1 = (15 : Int32)
  · replace hE := e_t c_16 hE
    refine lv_tableIn (off := 183) (tgt := 184) hx hb dX2_word_1 (by rw [c_16]; decide) (by rw [c_16]; decide) (by rw [c_16]; rfl) (by decide) ?_
    refine lv_ldc2 (v := (5391693 : Int64)) hx hb hown (hts _ q2002) dX2_word_184 ?_
    cases hE
    exact b_lret X Y hr hk dX2_word_187
  replace hE := e_f c_16 hE
  by_cases c_17 : a1 = (16 : Int32)
  · replace hE := e_t c_17 hE
    refine lv_tableIn (off := 187) (tgt := 188) hx hb dX2_word_1 (by rw [c_17]; decide) (by rw [c_17]; decide) (by rw [c_17]; rfl) (by decide) ?_
    refine lv_ldc2 (v := (4542020 : Int64)) hx hb hown (hts _ q2003) dX2_word_188 ?_
    cases hE
    exact b_lret X Y hr hk dX2_word_191
  replace hE := e_f c_17 hE
  by_cases c_18 : a1 = (17 : Int32)
  · replace hE := e_t c_18 hE
    refine lv_tableIn (off := 191) (tgt := 192) hx hb dX2_word_1 (by rw [c_18]; decide) (by rw [c_18]; decide) (by rw [c_18]; rfl) (by decide) ?_
    refine lv_ldc2 (v := (1414022478 : Int64)) hx hb hown (hts _ q2004) dX2_word_192 ?_
    cases hE
    exact b_lret X Y hr hk dX2_word_195
  replace hE := e_f c_18 hE
  by_cases c_19 : a1 = (18 : Int32)
  · replace hE := e_t c_19 hE
    refine lv_tableIn (off := 195) (tgt := 196) hx hb dX2_word_1 (by rw [c_19]; decide) (by rw [c_19]; decide) (by rw [c_19]; rfl) (by decide) ?_
    refine lv_ldc2 (v := (21583 : Int64)) hx hb hown (hts _ q2005) dX2_word_196 ?_
    cases hE
    exact b_lret X Y hr hk dX2_word_199
  replace hE := e_f c_19 hE
  by_cases c_20 : a1 = (19 : Int32)
  · replace hE := e_t c_20 hE
    refine lv_tableIn (off := 199) (tgt := 200) hx hb dX2_word_1 (by rw [c_20]; decide) (by rw [c_20]; decide) (by rw [c_20]; rfl) (by decide) ?_
    refine lv_ldc2 (v := (1398031696 : Int64)) hx hb hown (hts _ q2006) dX2_word_200 ?_
    cases hE
    exact b_lret X Y hr hk dX2_word_203
  replace hE := e_f c_20 hE
  by_cases c_21 : a1 = (20 : Int32)
  · replace hE := e_t c_21 hE
    refine lv_tableIn (off := 203) (tgt := 204) hx hb dX2_word_1 (by rw [c_21]; decide) (by rw [c_21]; decide) (by rw [c_21]; rfl) (by decide) ?_
    refine lv_ldc2 (v := (5915986 : Int64)) hx hb hown (hts _ q2007) dX2_word_204 ?_
    cases hE
    exact b_lret X Y hr hk dX2_word_207
  replace hE := e_f c_21 hE
  by_cases c_22 : a1 = (21 : Int32)
  · replace hE := e_t c_22 hE
    refine lv_tableIn (off := 207) (tgt := 208) hx hb dX2_word_1 (by rw [c_22]; decide) (by rw [c_22]; decide) (by rw [c_22]; rfl) (by decide) ?_
    refine lv_ldc2 (v := (4411214 : Int64)) hx hb hown (hts _ q2008) dX2_word_208 ?_
    cases hE
    exact b_lret X Y hr hk dX2_word_211
  replace hE := e_f c_22 hE
  by_cases c_23 : a1 = (22 : Int32)
  · replace hE := e_t c_23 hE
    refine lv_tableIn (off := 211) (tgt := 212) hx hb dX2_word_1 (by rw [c_23]; decide) (by rw [c_23]; decide) (by rw [c_23]; rfl) (by decide) ?_
    refine lv_ldc2 (v := (4801614 : Int64)) hx hb hown (hts _ q2009) dX2_word_212 ?_
    cases hE
    exact b_lret X Y hr hk dX2_word_215
  replace hE := e_f c_23 hE
  by_cases c_24 : a1 = (23 : Int32)
  · replace hE := e_t c_24 hE
    refine lv_tableIn (off := 215) (tgt := 216) hx hb dX2_word_1 (by rw [c_24]; decide) (by rw [c_24]; decide) (by rw [c_24]; rfl) (by decide) ?_
    refine lv_ldc2 (v := (5526094 : Int64)) hx hb hown (hts _ q2010) dX2_word_216 ?_
    cases hE
    exact b_lret X Y hr hk dX2_word_219
  replace hE := e_f c_24 hE
  by_cases c_25 : a1 = (24 : Int32)
  · replace hE := e_t c_25 hE
    refine lv_tableIn (off := 219) (tgt := 220) hx hb dX2_word_1 (by rw [c_25]; decide) (by rw [c_25]; decide) (by rw [c_25]; rfl) (by decide) ?_
    refine lv_ldc2 (v := (4276819 : Int64)) hx hb hown (hts _ q2011) dX2_word_220 ?_
    cases hE
    exact b_lret X Y hr hk dX2_word_223
  replace hE := e_f c_25 hE
  by_cases c_26 : a1 = (25 : Int32)
  · replace hE := e_t c_26 hE
    refine lv_tableIn (off := 223) (tgt := 224) hx hb dX2_word_1 (by rw [c_26]; decide) (by rw [c_26]; decide) (by rw [c_26]; rfl) (by decide) ?_
    refine lv_ldc2 (v := (4804180 : Int64)) hx hb hown (hts _ q2012) dX2_word_224 ?_
    cases hE
    exact b_lret X Y hr hk dX2_word_227
  replace hE := e_f c_26 hE
  by_cases c_27 : a1 = (26 : Int32)
  · replace hE := e_t c_27 hE
    refine lv_tableIn (off := 227) (tgt := 228) hx hb dX2_word_1 (by rw [c_27]; decide) (by rw [c_27]; decide) (by rw [c_27]; rfl) (by decide) ?_
    refine lv_ldc2 (v := (5457742 : Int64)) hx hb hown (hts _ q2013) dX2_word_228 ?_
    cases hE
    exact b_lret X Y hr hk dX2_word_231
  replace hE := e_f c_27 hE
  refine lv_tableOut (tgt := 232) hx hb dX2_word_1 (by have h0 := lv_neT c_1 (a := 0) (by decide); have h1 := lv_neT c_2 (a := 1) (by decide); have h2 := lv_neT c_3 (a := 2) (by decide); have h3 := lv_neT c_4 (a := 3) (by decide); have h4 := lv_neT c_5 (a := 4) (by decide); have h5 := lv_neT c_6 (a := 5) (by decide); have h6 := lv_neT c_7 (a := 6) (by decide); have h7 := lv_neT c_8 (a := 7) (by decide); have h8 := lv_neT c_9 (a := 8) (by decide); have h9 := lv_neT c_10 (a := 9) (by decide); have h10 := lv_neT c_11 (a := 10) (by decide); have h11 := lv_neT c_12 (a := 11) (by decide); have h12 := lv_neT c_13 (a := 12) (by decide); have h13 := lv_neT c_14 (a := 13) (by decide); have h14 := lv_neT c_15 (a := 14) (by decide); have h15 := lv_neT c_16 (a := 15) (by decide); have h16 := lv_neT c_17 (a := 16) (by decide); have h17 := lv_neT c_18 (a := 17) (by decide); have h18 := lv_neT c_19 (a := 18) (by decide); have h19 := lv_neT c_20 (a := 19) (by decide); have h20 := lv_neT c_21 (a := 20) (by decide); have h21 := lv_neT c_22 (a := 21) (by decide); have h22 := lv_neT c_23 (a := 22) (by decide); have h23 := lv_neT c_24 (a := 23) (by decide); have h24 := lv_neT c_25 (a := 24) (by decide); have h25 := lv_neT c_26 (a := 25) (by decide); have h26 := lv_neT c_27 (a := 26) (by decide); omega) (by decide) ?_
  refine lv_ldc2 (v := (17998 : Int64)) hx hb hown (hts _ q2014) dX2_word_232 ?_
  cases hE
  exact b_lret X Y hr hk dX2_word_235
/-! BasicMachineModel.letters(J)I -/
set_option maxHeartbeats 4000000 in
set_option maxRecDepth 100000 in
theorem wbf_letters_S5_ {l : Launch} {b : bP} {As : List Value} {p : Program} {e : Env} {s : State} {m : MethodId} {below : List Frame} {meth : Method} {c : Code} (X : bX p s m (Value.ref b.h :: As).toArray c cX2_letters 6 b) (hr : meth.sig.returnType = (some .int)) (hk : meth.locks = false) (n : Nat) {q : bS × Int32} : ∀ k : Nat, (∀ {st : bS} {x3 : Int32} {x4 : Int64}, bf_letters_S5 n k st x3 x4 = some q → ∀ {H : Heap} {locs : List Loc} {ls : Array Slot}, bY b s st H locs → lv_has ls 6 [(0, .ref b.h), (3, .int x3), (4, .long x4)] → bG l 0 0 b As (some (.int q.2)) q.1 p e s m below meth c H locs (F0 m 5 ls [])) := by
  have hx := X.1
  have hb := X.2.1
  have hown := X.2.2.2.1
  have hts := X.2.2.2.2.1
  intro k
  induction k with
  | zero => exact fun h => nomatch (show none = some q from h)
  | succ k ih =>
    intro st x3 x4 hE H locs ls Y hl
    replace hE : bf_letters_B5 n (bf_letters_S5 n k) st x3 x4 = some q := hE
    unfold bf_letters_B5 at hE
    refine lv_lload hx hb dX2_letters_5 (lv_at hl 2 rfl) ?_
    refine lv_lconst (v := 0) hx hb dX2_letters_7 (by decide) ?_
    refine W.lcmp hx hb dX2_letters_8 ?_
    refine lv_if_eq (tgt := 25) hx hb dX2_letters_9 (by decide) (fun c_1 => ?_) (fun c_1 => ?_)
    · replace hE := e_t c_1 hE
      refine lv_iload_n hx hb dX2_letters_25 rfl (lv_at hl 1 rfl) ?_
      cases hE
      exact b_iret X Y hr hk dX2_letters_26
    · replace hE := e_f c_1 hE
      refine lv_iinc (v := (x3 + (1 : Int32))) (lv' := [(3, .int (x3 + (1 : Int32))), (0, .ref b.h), (4, .long x4)]) hx hb dX2_letters_12 hl (k := 1) rfl rfl (by decide) rfl (fun ls hl => ?_)
      refine lv_lload hx hb dX2_letters_15 (lv_at hl 2 rfl) ?_
      refine lv_bipush (v := 8) hx hb dX2_letters_17 (by decide) ?_
      refine lv_lshr hx hb dX2_letters_19 rfl ?_
      obtain ⟨x4_2, g, hE⟩ := e_bind hE
      refine n_topl g ?_
      refine lv_lstore (lv' := [(4, .long x4_2), (3, .int (x3 + (1 : Int32))), (0, .ref b.h)]) hx hb dX2_letters_20 hl (by decide) rfl (fun ls hl => ?_)
      refine lv_goto (tgt := 5) hx hb dX2_letters_22 (by decide) ?_
      exact ih hE Y (lv_sub hl [2, 1, 0] rfl)
set_option maxHeartbeats 4000000 in
set_option maxRecDepth 100000 in
theorem wbf_letters_S5 {l : Launch} {b : bP} {As : List Value} {p : Program} {e : Env} {s : State} {m : MethodId} {below : List Frame} {meth : Method} {c : Code} (X : bX p s m (Value.ref b.h :: As).toArray c cX2_letters 6 b) (hr : meth.sig.returnType = (some .int)) (hk : meth.locks = false) (n : Nat) {q : bS × Int32} : (∀ {st : bS} {x3 : Int32} {x4 : Int64}, bf_letters_S5 n n st x3 x4 = some q → ∀ {H : Heap} {locs : List Loc} {ls : Array Slot}, bY b s st H locs → lv_has ls 6 [(0, .ref b.h), (3, .int x3), (4, .long x4)] → bG l 0 0 b As (some (.int q.2)) q.1 p e s m below meth c H locs (F0 m 5 ls [])) := wbf_letters_S5_ X hr hk n n
set_option maxHeartbeats 4000000 in
set_option maxRecDepth 100000 in
theorem mbf_letters (l : Launch) (n : Nat) (b : bP) (ok : bOk b) {st : bS} {a1 : Int64} {q : bS × Int32} (hE : bf_letters n st a1 = some q) : bMet l yX2_letters cX2_letters 6 (some .int) 0 0 b [.long a1] st (some (.int q.2)) q.1 := by
  refine b_ofW (by decide) rfl ok (Nat.le_of_ble_eq_true rfl) (fun p e s m below meth c ls X Y hr hk hl => ?_)
  have hl : lv_has ls 6 [(0, .ref b.h), (1, .long a1)] := hl
  generalize s.heap = H at Y ⊢
  generalize ([] : List Loc) = locs at Y ⊢
  have hx := X.1
  have hb := X.2.1
  have hown := X.2.2.2.1
  have hts := X.2.2.2.2.1
  unfold bf_letters at hE
  refine lv_iconst (v := 0) hx hb dX2_letters_0 (by decide) ?_
  refine lv_istore_n (lv' := [(3, .int (0 : Int32)), (0, .ref b.h), (1, .long a1)]) hx hb dX2_letters_1 rfl hl (by decide) rfl (fun ls hl => ?_)
  refine lv_lload_n hx hb dX2_letters_2 rfl (lv_at hl 2 rfl) ?_
  refine lv_lstore (lv' := [(4, .long a1), (3, .int (0 : Int32)), (0, .ref b.h), (1, .long a1)]) hx hb dX2_letters_3 hl (by decide) rfl (fun ls hl => ?_)
  exact (wbf_letters_S5 X hr hk n) hE Y (lv_sub hl [2, 1, 0] rfl)
/-! BasicMachineModel.begins(II)Z -/
set_option maxHeartbeats 4000000 in
set_option maxRecDepth 100000 in
theorem wbf_begins_S24_ {l : Launch} {b : bP} {As : List Value} {p : Program} {e : Env} {s : State} {m : MethodId} {below : List Frame} {meth : Method} {c : Code} (X : bX p s m (Value.ref b.h :: As).toArray c cX2_begins 7 b) (hr : meth.sig.returnType = (some .boolean)) (hk : meth.locks = false) (n : Nat) {q : bS × Int32} : ∀ k : Nat, (∀ {st : bS} {x2 : Int32} {x3 : Int64} {x5 : Int32} {x6 : Int32}, bf_begins_S24 n k st x2 x3 x5 x6 = some q → ∀ {H : Heap} {locs : List Loc} {ls : Array Slot}, bY b s st H locs → lv_has ls 7 [(0, .ref b.h), (2, .int x2), (3, .long x3), (5, .int x5), (6, .int x6)] → bG l 1 25 b As (some (.int q.2)) q.1 p e s m below meth c H locs (F0 m 24 ls [])) := by
  have hx := X.1
  have hb := X.2.1
  have hown := X.2.2.2.1
  have hts := X.2.2.2.2.1
  intro k
  induction k with
  | zero => exact fun h => nomatch (show none = some q from h)
  | succ k ih =>
    intro st x2 x3 x5 x6 hE H locs ls Y hl
    replace hE : bf_begins_B24 n (bf_begins_S24 n k) st x2 x3 x5 x6 = some q := hE
    unfold bf_begins_B24 at hE
    refine lv_iload hx hb dX2_begins_24 (lv_at hl 4 rfl) ?_
    refine lv_iload_n hx hb dX2_begins_26 rfl (lv_at hl 1 rfl) ?_
    refine lv_icmp_ge (tgt := 65) hx hb dX2_begins_27 (by decide) (fun c_1 => ?_) (fun c_1 => ?_)
    · replace hE := e_t c_1 hE
      refine lv_iconst (v := 1) hx hb dX2_begins_65 (by decide) ?_
      cases hE
      exact b_zret (v := 1) X Y hr hk nz1 dX2_begins_66
    · replace hE := e_f c_1 hE
      refine lv_lload_n hx hb dX2_begins_30 rfl (lv_at hl 2 rfl) ?_
      refine lv_bipush (v := 8) hx hb dX2_begins_31 (by decide) ?_
      refine lv_iload hx hb dX2_begins_33 (lv_at hl 3 rfl) ?_
      refine lv_iconst (v := 1) hx hb dX2_begins_35 (by decide) ?_
      refine lv_isub hx hb dX2_begins_36 ?_
      refine lv_iload hx hb dX2_begins_37 (lv_at hl 4 rfl) ?_
      refine lv_isub hx hb dX2_begins_39 ?_
      refine lv_imul hx hb dX2_begins_40 ?_
      refine lv_lshr hx hb dX2_begins_41 rfl ?_
      refine lv_ldc2 (v := (255 : Int64)) hx hb hown (hts _ q2019) dX2_begins_42 ?_
      refine lv_land hx hb dX2_begins_45 ?_
      refine lv_aload_n hx hb dX2_begins_46 rfl (lv_at hl 0 rfl) ?_
      refine lv_iload hx hb dX2_begins_47 (lv_at hl 4 rfl) ?_
      obtain ⟨q_2, g, hE⟩ := e_bind hE
      refine n_call1 (n := 1) [.int x6] X Y (mbf_lookAt l n b X.2.2.2.2.2.2 g) q2020 q2022 qs62 q2023 (by decide +kernel) (by decide) rfl hl.1 (Nat.le_of_ble_eq_true rfl) dX2_begins_49 (by decide) (fun H locs Y => ?_)
      refine lv_i2l hx hb dX2_begins_52 rfl ?_
      refine W.lcmp hx hb dX2_begins_53 ?_
      refine lv_if_eq (tgt := 59) hx hb dX2_begins_54 (by decide) (fun c_3 => ?_) (fun c_3 => ?_)
      · replace hE := e_t c_3 hE
        refine lv_iinc (v := (x6 + (1 : Int32))) (lv' := [(6, .int (x6 + (1 : Int32))), (0, .ref b.h), (2, .int x2), (3, .long x3), (5, .int x5)]) hx hb dX2_begins_59 hl (k := 4) rfl rfl (by decide) rfl (fun ls hl => ?_)
        refine lv_goto (tgt := 24) hx hb dX2_begins_62 (by decide) ?_
        exact ih hE Y (lv_sub hl [1, 2, 3, 4, 0] rfl)
      · replace hE := e_f c_3 hE
        refine lv_iconst (v := 0) hx hb dX2_begins_57 (by decide) ?_
        cases hE
        exact b_zret (v := 0) X Y hr hk nz0 dX2_begins_58
set_option maxHeartbeats 4000000 in
set_option maxRecDepth 100000 in
theorem wbf_begins_S24 {l : Launch} {b : bP} {As : List Value} {p : Program} {e : Env} {s : State} {m : MethodId} {below : List Frame} {meth : Method} {c : Code} (X : bX p s m (Value.ref b.h :: As).toArray c cX2_begins 7 b) (hr : meth.sig.returnType = (some .boolean)) (hk : meth.locks = false) (n : Nat) {q : bS × Int32} : (∀ {st : bS} {x2 : Int32} {x3 : Int64} {x5 : Int32} {x6 : Int32}, bf_begins_S24 n n st x2 x3 x5 x6 = some q → ∀ {H : Heap} {locs : List Loc} {ls : Array Slot}, bY b s st H locs → lv_has ls 7 [(0, .ref b.h), (2, .int x2), (3, .long x3), (5, .int x5), (6, .int x6)] → bG l 1 25 b As (some (.int q.2)) q.1 p e s m below meth c H locs (F0 m 24 ls [])) := wbf_begins_S24_ X hr hk n n
set_option maxHeartbeats 4000000 in
set_option maxRecDepth 100000 in
theorem mbf_begins (l : Launch) (n : Nat) (b : bP) (ok : bOk b) {st : bS} {a1 : Int32} {a2 : Int32} {q : bS × Int32} (hE : bf_begins n st a1 a2 = some q) : bMet l yX2_begins cX2_begins 7 (some .boolean) 1 25 b [.int a1, .int a2] st (some (.int q.2)) q.1 := by
  refine b_ofW (by decide) rfl ok (Nat.le_of_ble_eq_true rfl) (fun p e s m below meth c ls X Y hr hk hl => ?_)
  have hl : lv_has ls 7 [(0, .ref b.h), (1, .int a1), (2, .int a2)] := hl
  generalize s.heap = H at Y ⊢
  generalize ([] : List Loc) = locs at Y ⊢
  have hx := X.1
  have hb := X.2.1
  have hown := X.2.2.2.1
  have hts := X.2.2.2.2.1
  unfold bf_begins at hE
  refine lv_aload_n hx hb dX2_begins_0 rfl (lv_at hl 0 rfl) ?_
  refine lv_iload_n hx hb dX2_begins_1 rfl (lv_at hl 1 rfl) ?_
  obtain ⟨q_1, g, hE⟩ := e_bind hE
  refine n_call1 (n := 1) [.int a1] X Y (mbf_word l n b X.2.2.2.2.2.2 g) q1983 q1985 qs60 q1986 (by decide +kernel) (by decide) rfl hl.1 (Nat.le_of_ble_eq_true rfl) dX2_begins_2 (by decide) (fun H locs Y => ?_)
  refine lv_lstore_n (lv' := [(3, .long q_1.2), (0, .ref b.h), (1, .int a1), (2, .int a2)]) hx hb dX2_begins_5 rfl hl (by decide) rfl (fun ls hl => ?_)
  refine lv_aload_n hx hb dX2_begins_6 rfl (lv_at hl 1 rfl) ?_
  refine lv_lload_n hx hb dX2_begins_7 rfl (lv_at hl 0 rfl) ?_
  obtain ⟨q_2, g, hE⟩ := e_bind hE
  refine n_call1 (n := 1) [.long q_1.2] X Y (mbf_letters l n b X.2.2.2.2.2.2 g) q2015 q2017 qs61 q2018 (by decide +kernel) (by decide) rfl hl.1 (Nat.le_of_ble_eq_true rfl) dX2_begins_8 (by decide) (fun H locs Y => ?_)
  refine lv_istore (lv' := [(5, .int q_2.2), (3, .long q_1.2), (0, .ref b.h), (1, .int a1), (2, .int a2)]) hx hb dX2_begins_11 hl (by decide) rfl (fun ls hl => ?_)
  refine lv_iload_n hx hb dX2_begins_13 rfl (lv_at hl 4 rfl) ?_
  refine lv_iload hx hb dX2_begins_14 (lv_at hl 0 rfl) ?_
  refine lv_icmp_le (tgt := 21) hx hb dX2_begins_16 (by decide) (fun c_3 => ?_) (fun c_3 => ?_)
  · replace hE := e_t c_3 hE
    refine lv_iconst (v := 0) hx hb dX2_begins_21 (by decide) ?_
    refine lv_istore (lv' := [(6, .int (0 : Int32)), (5, .int q_2.2), (3, .long q_1.2), (0, .ref b.h), (1, .int a1), (2, .int a2)]) hx hb dX2_begins_22 hl (by decide) rfl (fun ls hl => ?_)
    exact (wbf_begins_S24 X hr hk n) hE Y (lv_sub hl [3, 5, 2, 1, 0] rfl)
  · replace hE := e_f c_3 hE
    refine lv_iconst (v := 0) hx hb dX2_begins_19 (by decide) ?_
    cases hE
    exact b_zret (v := 0) X Y hr hk nz0 dX2_begins_20
/-! BasicMachineModel.takeWord(II)I -/
set_option maxHeartbeats 4000000 in
set_option maxRecDepth 100000 in
theorem wbf_takeWord_S2_ {l : Launch} {b : bP} {As : List Value} {p : Program} {e : Env} {s : State} {m : MethodId} {below : List Frame} {meth : Method} {c : Code} (X : bX p s m (Value.ref b.h :: As).toArray c cX2_takeWord 6 b) (hr : meth.sig.returnType = (some .int)) (hk : meth.locks = false) (n : Nat) {q : bS × Int32} : ∀ k : Nat, (∀ {st : bS} {x1 : Int32} {x2 : Int32} {x3 : Int32} {x4 : Int32} {x5 : Int32}, bf_takeWord_S2 n k 0 st x1 x2 x3 x4 x5 = some q → ∀ {H : Heap} {locs : List Loc} {ls : Array Slot}, bY b s st H locs → lv_has ls 6 [(0, .ref b.h), (1, .int x1), (2, .int x2), (3, .int x3)] → bG l 2 51 b As (some (.int q.2)) q.1 p e s m below meth c H locs (F0 m 2 ls [])) ∧ (∀ {st : bS} {x1 : Int32} {x2 : Int32} {x3 : Int32} {x4 : Int32} {x5 : Int32}, bf_takeWord_S2 n k 1 st x1 x2 x3 x4 x5 = some q → ∀ {H : Heap} {locs : List Loc} {ls : Array Slot}, bY b s st H locs → lv_has ls 6 [(0, .ref b.h), (1, .int x1), (2, .int x2), (3, .int x3), (4, .int x4), (5, .int x5)] → bG l 2 51 b As (some (.int q.2)) q.1 p e s m below meth c H locs (F0 m 15 ls [])) ∧ (∀ {st : bS} {x1 : Int32} {x2 : Int32} {x3 : Int32} {x4 : Int32} {x5 : Int32}, bf_takeWord_S2 n k 2 st x1 x2 x3 x4 x5 = some q → ∀ {H : Heap} {locs : List Loc} {ls : Array Slot}, bY b s st H locs → lv_has ls 6 [(0, .ref b.h), (1, .int x1), (2, .int x2), (3, .int x3), (4, .int x4), (5, .int x5)] → bG l 2 51 b As (some (.int q.2)) q.1 p e s m below meth c H locs (F0 m 64 ls [])) ∧ (∀ {st : bS} {x1 : Int32} {x2 : Int32} {x3 : Int32} {x4 : Int32} {x5 : Int32}, bf_takeWord_S2 n k 3 st x1 x2 x3 x4 x5 = some q → ∀ {H : Heap} {locs : List Loc} {ls : Array Slot}, bY b s st H locs → lv_has ls 6 [(0, .ref b.h), (1, .int x1), (2, .int x2), (3, .int x3)] → bG l 2 51 b As (some (.int q.2)) q.1 p e s m below meth c H locs (F0 m 92 ls [])) := by
  have hx := X.1
  have hb := X.2.1
  have hown := X.2.2.2.1
  have hts := X.2.2.2.2.1
  intro k
  induction k with
  | zero => exact ⟨(fun h => nomatch (show none = some q from h)), (fun h => nomatch (show none = some q from h)), (fun h => nomatch (show none = some q from h)), (fun h => nomatch (show none = some q from h))⟩
  | succ k ih =>
    obtain ⟨ih0, ih1, ih2, ih3⟩ := ih
    refine ⟨?_, ?_, ?_, ?_⟩
    · intro st x1 x2 x3 x4 x5 hE H locs ls Y hl
      replace hE : bf_takeWord_B2 n (bf_takeWord_S2 n k) st x1 x2 x3 x4 x5 = some q := hE
      unfold bf_takeWord_B2 at hE
      refine lv_aload_n hx hb dX2_takeWord_2 rfl (lv_at hl 0 rfl) ?_
      refine b_geti X Y 7 rfl (by decide) rfl q1810 dX2_takeWord_3 ?_
      refine lv_if_ne (tgt := 98) hx hb dX2_takeWord_6 (by decide) (fun c_1 => ?_) (fun c_1 => ?_)
      · replace hE := e_f c_1 hE
        refine lv_iconst (v := -1) hx hb dX2_takeWord_98 (by decide) ?_
        cases hE
        exact b_iret X Y hr hk dX2_takeWord_99
      · replace hE := e_t c_1 hE
        refine lv_iconst (v := 0) hx hb dX2_takeWord_9 (by decide) ?_
        refine lv_istore (lv' := [(4, .int (0 : Int32)), (0, .ref b.h), (1, .int x1), (2, .int x2), (3, .int x3)]) hx hb dX2_takeWord_10 hl (by decide) rfl (fun ls hl => ?_)
        refine lv_iload_n hx hb dX2_takeWord_12 rfl (lv_at hl 2 rfl) ?_
        refine lv_istore (lv' := [(5, .int x1), (4, .int (0 : Int32)), (0, .ref b.h), (1, .int x1), (2, .int x2), (3, .int x3)]) hx hb dX2_takeWord_13 hl (by decide) rfl (fun ls hl => ?_)
        exact ih1 hE Y (lv_sub hl [2, 3, 4, 5, 1, 0] rfl)
    · intro st x1 x2 x3 x4 x5 hE H locs ls Y hl
      replace hE : bf_takeWord_B15 n (bf_takeWord_S2 n k) st x1 x2 x3 x4 x5 = some q := hE
      unfold bf_takeWord_B15 at hE
      refine lv_iload hx hb dX2_takeWord_15 (lv_at hl 5 rfl) ?_
      refine lv_iload_n hx hb dX2_takeWord_17 rfl (lv_at hl 2 rfl) ?_
      refine lv_icmp_gt (tgt := 70) hx hb dX2_takeWord_18 (by decide) (fun c_1 => ?_) (fun c_1 => ?_)
      · replace hE := e_t c_1 hE
        refine lv_iload hx hb dX2_takeWord_70 (lv_at hl 4 rfl) ?_
        refine lv_if_ne (tgt := 92) hx hb dX2_takeWord_72 (by decide) (fun c_2 => ?_) (fun c_2 => ?_)
        · replace hE := e_f c_2 hE
          exact ih3 hE Y (lv_sub hl [0, 1, 2, 3] rfl)
        · replace hE := e_t c_2 hE
          refine lv_aload_n hx hb dX2_takeWord_75 rfl (lv_at hl 0 rfl) ?_
          refine lv_dup hx hb dX2_takeWord_76 rfl ?_
          refine b_geti X Y 4 rfl (by decide) rfl q1807 dX2_takeWord_77 ?_
          refine lv_iload_n hx hb dX2_takeWord_80 rfl (lv_at hl 3 rfl) ?_
          refine lv_iconst (v := 1) hx hb dX2_takeWord_81 (by decide) ?_
          refine lv_isub hx hb dX2_takeWord_82 ?_
          refine lv_iadd hx hb dX2_takeWord_83 ?_
          obtain ⟨st_3, g, hE⟩ := e_bind hE
          refine n_put X Y 4 rfl (by decide) g rfl rfl rfl q1807 dX2_takeWord_84 (fun H locs Y => ?_)
          refine lv_aload_n hx hb dX2_takeWord_87 rfl (lv_at hl 0 rfl) ?_
          refine lv_iconst (v := 1) hx hb dX2_takeWord_88 (by decide) ?_
          obtain ⟨st_4, g, hE⟩ := e_bind hE
          refine n_put X Y 7 rfl (by decide) g rfl rfl rfl q1810 dX2_takeWord_89 (fun H locs Y => ?_)
          exact ih3 hE Y (lv_sub hl [0, 1, 2, 3] rfl)
      · replace hE := e_f c_1 hE
        refine lv_aload_n hx hb dX2_takeWord_21 rfl (lv_at hl 0 rfl) ?_
        refine lv_iload hx hb dX2_takeWord_22 (lv_at hl 5 rfl) ?_
        refine lv_iload_n hx hb dX2_takeWord_24 rfl (lv_at hl 3 rfl) ?_
        obtain ⟨q_5, g, hE⟩ := e_bind hE
        refine n_call1 (n := 2) [.int x5, .int x3] X Y (mbf_begins l n b X.2.2.2.2.2.2 g) q1979 q1981 qs59 q1982 (by decide +kernel) (by decide) rfl hl.1 (Nat.le_of_ble_eq_true rfl) dX2_takeWord_25 (by decide) (fun H locs Y => ?_)
        refine lv_if_ne (tgt := 34) hx hb dX2_takeWord_28 (by decide) (fun c_6 => ?_) (fun c_6 => ?_)
        · replace hE := e_f c_6 hE
          refine lv_iconst (v := 1) hx hb dX2_takeWord_34 (by decide) ?_
          refine lv_istore (lv' := [(4, .int (1 : Int32)), (0, .ref b.h), (1, .int x1), (2, .int x2), (3, .int x3), (5, .int x5)]) hx hb dX2_takeWord_35 hl (by decide) rfl (fun ls hl => ?_)
          refine lv_aload_n hx hb dX2_takeWord_37 rfl (lv_at hl 1 rfl) ?_
          refine lv_aload_n hx hb dX2_takeWord_38 rfl (lv_at hl 1 rfl) ?_
          refine lv_iload hx hb dX2_takeWord_39 (lv_at hl 5 rfl) ?_
          obtain ⟨q_7, g, hE⟩ := e_bind hE
          refine n_call1 (n := 1) [.int x5] X Y (mbf_word l n b X.2.2.2.2.2.2 g) q1983 q1985 qs60 q1986 (by decide +kernel) (by decide) rfl hl.1 (Nat.le_of_ble_eq_true rfl) dX2_takeWord_41 (by decide) (fun H locs Y => ?_)
          obtain ⟨q_8, g, hE⟩ := e_bind hE
          refine n_call1 (n := 1) [.long q_7.2] X Y (mbf_letters l n b X.2.2.2.2.2.2 g) q2015 q2017 qs61 q2018 (by decide +kernel) (by decide) rfl hl.1 (Nat.le_of_ble_eq_true rfl) dX2_takeWord_44 (by decide) (fun H locs Y => ?_)
          refine lv_iload_n hx hb dX2_takeWord_47 rfl (lv_at hl 4 rfl) ?_
          refine lv_icmp_ne (tgt := 64) hx hb dX2_takeWord_48 (by decide) (fun c_9 => ?_) (fun c_9 => ?_)
          · replace hE := e_f c_9 hE
            exact ih2 hE Y (lv_sub hl [1, 2, 3, 4, 0, 5] rfl)
          · replace hE := e_t c_9 hE
            refine lv_aload_n hx hb dX2_takeWord_51 rfl (lv_at hl 1 rfl) ?_
            refine lv_dup hx hb dX2_takeWord_52 rfl ?_
            refine b_geti X Y 4 rfl (by decide) rfl q1807 dX2_takeWord_53 ?_
            refine lv_iload_n hx hb dX2_takeWord_56 rfl (lv_at hl 4 rfl) ?_
            refine lv_iadd hx hb dX2_takeWord_57 ?_
            obtain ⟨st_10, g, hE⟩ := e_bind hE
            refine n_put X Y 4 rfl (by decide) g rfl rfl rfl q1807 dX2_takeWord_58 (fun H locs Y => ?_)
            refine lv_iload hx hb dX2_takeWord_61 (lv_at hl 5 rfl) ?_
            cases hE
            exact b_iret X Y hr hk dX2_takeWord_63
        · replace hE := e_t c_6 hE
          refine lv_goto (tgt := 64) hx hb dX2_takeWord_31 (by decide) ?_
          exact ih2 hE Y (lv_sub hl [0, 1, 2, 3, 4, 5] rfl)
    · intro st x1 x2 x3 x4 x5 hE H locs ls Y hl
      replace hE : bf_takeWord_B64 n (bf_takeWord_S2 n k) st x1 x2 x3 x4 x5 = some q := hE
      unfold bf_takeWord_B64 at hE
      refine lv_iinc (v := (x5 + (1 : Int32))) (lv' := [(5, .int (x5 + (1 : Int32))), (0, .ref b.h), (1, .int x1), (2, .int x2), (3, .int x3), (4, .int x4)]) hx hb dX2_takeWord_64 hl (k := 5) rfl rfl (by decide) rfl (fun ls hl => ?_)
      refine lv_goto (tgt := 15) hx hb dX2_takeWord_67 (by decide) ?_
      exact ih1 hE Y (lv_sub hl [1, 2, 3, 4, 5, 0] rfl)
    · intro st x1 x2 x3 x4 x5 hE H locs ls Y hl
      replace hE : bf_takeWord_B92 n (bf_takeWord_S2 n k) st x1 x2 x3 x4 x5 = some q := hE
      unfold bf_takeWord_B92 at hE
      refine lv_iinc (v := (x3 + (1 : Int32))) (lv' := [(3, .int (x3 + (1 : Int32))), (0, .ref b.h), (1, .int x1), (2, .int x2)]) hx hb dX2_takeWord_92 hl (k := 3) rfl rfl (by decide) rfl (fun ls hl => ?_)
      refine lv_goto (tgt := 2) hx hb dX2_takeWord_95 (by decide) ?_
      exact ih0 hE Y (lv_sub hl [1, 2, 3, 0] rfl)
set_option maxHeartbeats 4000000 in
set_option maxRecDepth 100000 in
theorem wbf_takeWord_S2 {l : Launch} {b : bP} {As : List Value} {p : Program} {e : Env} {s : State} {m : MethodId} {below : List Frame} {meth : Method} {c : Code} (X : bX p s m (Value.ref b.h :: As).toArray c cX2_takeWord 6 b) (hr : meth.sig.returnType = (some .int)) (hk : meth.locks = false) (n : Nat) {q : bS × Int32} : (∀ {st : bS} {x1 : Int32} {x2 : Int32} {x3 : Int32} {x4 : Int32} {x5 : Int32}, bf_takeWord_S2 n n 0 st x1 x2 x3 x4 x5 = some q → ∀ {H : Heap} {locs : List Loc} {ls : Array Slot}, bY b s st H locs → lv_has ls 6 [(0, .ref b.h), (1, .int x1), (2, .int x2), (3, .int x3)] → bG l 2 51 b As (some (.int q.2)) q.1 p e s m below meth c H locs (F0 m 2 ls [])) ∧ (∀ {st : bS} {x1 : Int32} {x2 : Int32} {x3 : Int32} {x4 : Int32} {x5 : Int32}, bf_takeWord_S2 n n 1 st x1 x2 x3 x4 x5 = some q → ∀ {H : Heap} {locs : List Loc} {ls : Array Slot}, bY b s st H locs → lv_has ls 6 [(0, .ref b.h), (1, .int x1), (2, .int x2), (3, .int x3), (4, .int x4), (5, .int x5)] → bG l 2 51 b As (some (.int q.2)) q.1 p e s m below meth c H locs (F0 m 15 ls [])) ∧ (∀ {st : bS} {x1 : Int32} {x2 : Int32} {x3 : Int32} {x4 : Int32} {x5 : Int32}, bf_takeWord_S2 n n 2 st x1 x2 x3 x4 x5 = some q → ∀ {H : Heap} {locs : List Loc} {ls : Array Slot}, bY b s st H locs → lv_has ls 6 [(0, .ref b.h), (1, .int x1), (2, .int x2), (3, .int x3), (4, .int x4), (5, .int x5)] → bG l 2 51 b As (some (.int q.2)) q.1 p e s m below meth c H locs (F0 m 64 ls [])) ∧ (∀ {st : bS} {x1 : Int32} {x2 : Int32} {x3 : Int32} {x4 : Int32} {x5 : Int32}, bf_takeWord_S2 n n 3 st x1 x2 x3 x4 x5 = some q → ∀ {H : Heap} {locs : List Loc} {ls : Array Slot}, bY b s st H locs → lv_has ls 6 [(0, .ref b.h), (1, .int x1), (2, .int x2), (3, .int x3)] → bG l 2 51 b As (some (.int q.2)) q.1 p e s m below meth c H locs (F0 m 92 ls [])) := wbf_takeWord_S2_ X hr hk n n
set_option maxHeartbeats 4000000 in
set_option maxRecDepth 100000 in
theorem mbf_takeWord (l : Launch) (n : Nat) (b : bP) (ok : bOk b) {st : bS} {a1 : Int32} {a2 : Int32} {q : bS × Int32} (hE : bf_takeWord n st a1 a2 = some q) : bMet l yX2_takeWord cX2_takeWord 6 (some .int) 2 51 b [.int a1, .int a2] st (some (.int q.2)) q.1 := by
  refine b_ofW (by decide) rfl ok (Nat.le_of_ble_eq_true rfl) (fun p e s m below meth c ls X Y hr hk hl => ?_)
  have hl : lv_has ls 6 [(0, .ref b.h), (1, .int a1), (2, .int a2)] := hl
  generalize s.heap = H at Y ⊢
  generalize ([] : List Loc) = locs at Y ⊢
  have hx := X.1
  have hb := X.2.1
  have hown := X.2.2.2.1
  have hts := X.2.2.2.2.1
  unfold bf_takeWord at hE
  refine lv_iconst (v := 1) hx hb dX2_takeWord_0 (by decide) ?_
  refine lv_istore_n (lv' := [(3, .int (1 : Int32)), (0, .ref b.h), (1, .int a1), (2, .int a2)]) hx hb dX2_takeWord_1 rfl hl (by decide) rfl (fun ls hl => ?_)
  exact (wbf_takeWord_S2 X hr hk n).1 hE Y (lv_sub hl [1, 2, 3, 0] rfl)
/-! BasicMachineModel.lineNumber()I -/
set_option maxHeartbeats 4000000 in
set_option maxRecDepth 100000 in
theorem wbf_lineNumber_L72 {l : Launch} {b : bP} {As : List Value} {p : Program} {e : Env} {s : State} {m : MethodId} {below : List Frame} {meth : Method} {c : Code} (X : bX p s m (Value.ref b.h :: As).toArray c cX2_lineNumber 3 b) (hr : meth.sig.returnType = (some .int)) (hk : meth.locks = false) {n : Nat} {st : bS} {x1 : Int32} {q : bS × Int32} (hE : bf_lineNumber_L72 n st x1 = some q) {H : Heap} {locs : List Loc} {ls : Array Slot} (Y : bY b s st H locs) (hl : lv_has ls 3 [(0, .ref b.h), (1, .int x1)]) : bG l 2 40 b As (some (.int q.2)) q.1 p e s m below meth c H locs (F0 m 72 ls []) := by
  have hx := X.1
  have hb := X.2.1
  have hown := X.2.2.2.1
  have hts := X.2.2.2.2.1
  unfold bf_lineNumber_L72 at hE
  refine lv_iload_n hx hb dX2_lineNumber_72 rfl (lv_at hl 1 rfl) ?_
  refine lv_if_ne (tgt := 81) hx hb dX2_lineNumber_73 (by decide) (fun c_1 => ?_) (fun c_1 => ?_)
  · replace hE := e_f c_1 hE
    refine lv_iload_n hx hb dX2_lineNumber_81 rfl (lv_at hl 1 rfl) ?_
    cases hE
    exact b_iret X Y hr hk dX2_lineNumber_82
  · replace hE := e_t c_1 hE
    refine lv_aload_n hx hb dX2_lineNumber_76 rfl (lv_at hl 0 rfl) ?_
    refine lv_iconst (v := 1) hx hb dX2_lineNumber_77 (by decide) ?_
    obtain ⟨st_2, g, hE⟩ := e_bind hE
    refine n_put X Y 7 rfl (by decide) g rfl rfl rfl q1810 dX2_lineNumber_78 (fun H locs Y => ?_)
    refine lv_iload_n hx hb dX2_lineNumber_81 rfl (lv_at hl 1 rfl) ?_
    cases hE
    exact b_iret X Y hr hk dX2_lineNumber_82
set_option maxHeartbeats 4000000 in
set_option maxRecDepth 100000 in
theorem wbf_lineNumber_S13_ {l : Launch} {b : bP} {As : List Value} {p : Program} {e : Env} {s : State} {m : MethodId} {below : List Frame} {meth : Method} {c : Code} (X : bX p s m (Value.ref b.h :: As).toArray c cX2_lineNumber 3 b) (hr : meth.sig.returnType = (some .int)) (hk : meth.locks = false) (n : Nat) {q : bS × Int32} : ∀ k : Nat, (∀ {st : bS} {x1 : Int32} {x2 : Int32}, bf_lineNumber_S13 n k 0 st x1 x2 = some q → ∀ {H : Heap} {locs : List Loc} {ls : Array Slot}, bY b s st H locs → lv_has ls 3 [(0, .ref b.h), (1, .int x1), (2, .int x2)] → bG l 2 40 b As (some (.int q.2)) q.1 p e s m below meth c H locs (F0 m 13 ls [])) ∧ (∀ {st : bS} {x1 : Int32} {x2 : Int32}, bf_lineNumber_S13 n k 1 st x1 x2 = some q → ∀ {H : Heap} {locs : List Loc} {ls : Array Slot}, bY b s st H locs → lv_has ls 3 [(0, .ref b.h), (1, .int x1), (2, .int x2)] → bG l 2 40 b As (some (.int q.2)) q.1 p e s m below meth c H locs (F0 m 43 ls [])) := by
  have hx := X.1
  have hb := X.2.1
  have hown := X.2.2.2.1
  have hts := X.2.2.2.2.1
  intro k
  induction k with
  | zero => exact ⟨(fun h => nomatch (show none = some q from h)), (fun h => nomatch (show none = some q from h))⟩
  | succ k ih =>
    obtain ⟨ih0, ih1⟩ := ih
    refine ⟨?_, ?_⟩
    · intro st x1 x2 hE H locs ls Y hl
      replace hE : bf_lineNumber_B13 n (bf_lineNumber_S13 n k) st x1 x2 = some q := hE
      unfold bf_lineNumber_B13 at hE
      refine lv_iload_n hx hb dX2_lineNumber_13 rfl (lv_at hl 2 rfl) ?_
      refine lv_iconst (v := 3) hx hb dX2_lineNumber_14 (by decide) ?_
      refine lv_icmp_ge (tgt := 72) hx hb dX2_lineNumber_15 (by decide) (fun c_1 => ?_) (fun c_1 => ?_)
      · replace hE := e_t c_1 hE
        exact wbf_lineNumber_L72 X hr hk hE Y (lv_sub hl [0, 1] rfl)
      · replace hE := e_f c_1 hE
        refine lv_aload_n hx hb dX2_lineNumber_18 rfl (lv_at hl 0 rfl) ?_
        obtain ⟨q_2, g, hE⟩ := e_bind hE
        refine n_call1 (n := 0) [] X Y (mbf_isDigit l n b X.2.2.2.2.2.2 g) q1963 q1965 qs55 q1966 (by decide +kernel) (by decide) rfl hl.1 (Nat.le_of_ble_eq_true rfl) dX2_lineNumber_19 (by decide) (fun H locs Y => ?_)
        refine lv_if_eq (tgt := 72) hx hb dX2_lineNumber_22 (by decide) (fun c_3 => ?_) (fun c_3 => ?_)
        · replace hE := e_t c_3 hE
          exact wbf_lineNumber_L72 X hr hk hE Y (lv_sub hl [0, 1] rfl)
        · replace hE := e_f c_3 hE
          refine lv_iload_n hx hb dX2_lineNumber_25 rfl (lv_at hl 2 rfl) ?_
          refine lv_iconst (v := 2) hx hb dX2_lineNumber_26 (by decide) ?_
          refine lv_icmp_ne (tgt := 43) hx hb dX2_lineNumber_27 (by decide) (fun c_4 => ?_) (fun c_4 => ?_)
          · replace hE := e_f c_4 hE
            exact ih1 hE Y (lv_sub hl [0, 1, 2] rfl)
          · replace hE := e_t c_4 hE
            refine lv_iload_n hx hb dX2_lineNumber_30 rfl (lv_at hl 1 rfl) ?_
            refine lv_if_ne (tgt := 43) hx hb dX2_lineNumber_31 (by decide) (fun c_5 => ?_) (fun c_5 => ?_)
            · replace hE := e_f c_5 hE
              exact ih1 hE Y (lv_sub hl [0, 1, 2] rfl)
            · replace hE := e_t c_5 hE
              refine lv_aload_n hx hb dX2_lineNumber_34 rfl (lv_at hl 0 rfl) ?_
              obtain ⟨q_6, g, hE⟩ := e_bind hE
              refine n_call1 (n := 0) [] X Y (mbf_look l n b X.2.2.2.2.2.2 g) q1967 q1969 qs56 q1970 (by decide +kernel) (by decide) rfl hl.1 (Nat.le_of_ble_eq_true rfl) dX2_lineNumber_35 (by decide) (fun H locs Y => ?_)
              refine lv_bipush (v := 48) hx hb dX2_lineNumber_38 (by decide) ?_
              refine lv_icmp_eq (tgt := 72) hx hb dX2_lineNumber_40 (by decide) (fun c_7 => ?_) (fun c_7 => ?_)
              · replace hE := e_t c_7 hE
                exact wbf_lineNumber_L72 X hr hk hE Y (lv_sub hl [0, 1] rfl)
              · replace hE := e_f c_7 hE
                exact ih1 hE Y (lv_sub hl [0, 1, 2] rfl)
    · intro st x1 x2 hE H locs ls Y hl
      replace hE : bf_lineNumber_B43 n (bf_lineNumber_S13 n k) st x1 x2 = some q := hE
      unfold bf_lineNumber_B43 at hE
      refine lv_iload_n hx hb dX2_lineNumber_43 rfl (lv_at hl 1 rfl) ?_
      refine lv_bipush (v := 10) hx hb dX2_lineNumber_44 (by decide) ?_
      refine lv_imul hx hb dX2_lineNumber_46 ?_
      refine lv_aload_n hx hb dX2_lineNumber_47 rfl (lv_at hl 0 rfl) ?_
      obtain ⟨q_1, g, hE⟩ := e_bind hE
      refine n_call1 (n := 0) [] X Y (mbf_look l n b X.2.2.2.2.2.2 g) q1967 q1969 qs56 q1970 (by decide +kernel) (by decide) rfl hl.1 (Nat.le_of_ble_eq_true rfl) dX2_lineNumber_48 (by decide) (fun H locs Y => ?_)
      refine lv_iadd hx hb dX2_lineNumber_51 ?_
      refine lv_bipush (v := 48) hx hb dX2_lineNumber_52 (by decide) ?_
      refine lv_isub hx hb dX2_lineNumber_54 ?_
      obtain ⟨x1_2, g, hE⟩ := e_bind hE
      refine n_topi g ?_
      refine lv_istore_n (lv' := [(1, .int x1_2), (0, .ref b.h), (2, .int x2)]) hx hb dX2_lineNumber_55 rfl hl (by decide) rfl (fun ls hl => ?_)
      refine lv_aload_n hx hb dX2_lineNumber_56 rfl (lv_at hl 1 rfl) ?_
      refine lv_dup hx hb dX2_lineNumber_57 rfl ?_
      refine b_geti X Y 4 rfl (by decide) rfl q1807 dX2_lineNumber_58 ?_
      refine lv_iconst (v := 1) hx hb dX2_lineNumber_61 (by decide) ?_
      refine lv_iadd hx hb dX2_lineNumber_62 ?_
      obtain ⟨st_3, g, hE⟩ := e_bind hE
      refine n_put X Y 4 rfl (by decide) g rfl rfl rfl q1807 dX2_lineNumber_63 (fun H locs Y => ?_)
      refine lv_iinc (v := (x2 + (1 : Int32))) (lv' := [(2, .int (x2 + (1 : Int32))), (1, .int x1_2), (0, .ref b.h)]) hx hb dX2_lineNumber_66 hl (k := 2) rfl rfl (by decide) rfl (fun ls hl => ?_)
      refine lv_goto (tgt := 13) hx hb dX2_lineNumber_69 (by decide) ?_
      exact ih0 hE Y (lv_sub hl [2, 1, 0] rfl)
set_option maxHeartbeats 4000000 in
set_option maxRecDepth 100000 in
theorem wbf_lineNumber_S13 {l : Launch} {b : bP} {As : List Value} {p : Program} {e : Env} {s : State} {m : MethodId} {below : List Frame} {meth : Method} {c : Code} (X : bX p s m (Value.ref b.h :: As).toArray c cX2_lineNumber 3 b) (hr : meth.sig.returnType = (some .int)) (hk : meth.locks = false) (n : Nat) {q : bS × Int32} : (∀ {st : bS} {x1 : Int32} {x2 : Int32}, bf_lineNumber_S13 n n 0 st x1 x2 = some q → ∀ {H : Heap} {locs : List Loc} {ls : Array Slot}, bY b s st H locs → lv_has ls 3 [(0, .ref b.h), (1, .int x1), (2, .int x2)] → bG l 2 40 b As (some (.int q.2)) q.1 p e s m below meth c H locs (F0 m 13 ls [])) ∧ (∀ {st : bS} {x1 : Int32} {x2 : Int32}, bf_lineNumber_S13 n n 1 st x1 x2 = some q → ∀ {H : Heap} {locs : List Loc} {ls : Array Slot}, bY b s st H locs → lv_has ls 3 [(0, .ref b.h), (1, .int x1), (2, .int x2)] → bG l 2 40 b As (some (.int q.2)) q.1 p e s m below meth c H locs (F0 m 43 ls [])) := wbf_lineNumber_S13_ X hr hk n n
set_option maxHeartbeats 4000000 in
set_option maxRecDepth 100000 in
theorem mbf_lineNumber (l : Launch) (n : Nat) (b : bP) (ok : bOk b) {st : bS} {q : bS × Int32} (hE : bf_lineNumber n st = some q) : bMet l yX2_lineNumber cX2_lineNumber 3 (some .int) 2 40 b [] st (some (.int q.2)) q.1 := by
  refine b_ofW (by decide) rfl ok (Nat.le_of_ble_eq_true rfl) (fun p e s m below meth c ls X Y hr hk hl => ?_)
  have hl : lv_has ls 3 [(0, .ref b.h)] := hl
  generalize s.heap = H at Y ⊢
  generalize ([] : List Loc) = locs at Y ⊢
  have hx := X.1
  have hb := X.2.1
  have hown := X.2.2.2.1
  have hts := X.2.2.2.2.1
  unfold bf_lineNumber at hE
  refine lv_iconst (v := 0) hx hb dX2_lineNumber_0 (by decide) ?_
  refine lv_istore_n (lv' := [(1, .int (0 : Int32)), (0, .ref b.h)]) hx hb dX2_lineNumber_1 rfl hl (by decide) rfl (fun ls hl => ?_)
  refine lv_iconst (v := 0) hx hb dX2_lineNumber_2 (by decide) ?_
  refine lv_istore_n (lv' := [(2, .int (0 : Int32)), (1, .int (0 : Int32)), (0, .ref b.h)]) hx hb dX2_lineNumber_3 rfl hl (by decide) rfl (fun ls hl => ?_)
  refine lv_aload_n hx hb dX2_lineNumber_4 rfl (lv_at hl 2 rfl) ?_
  refine b_geti X Y 7 rfl (by decide) rfl q1810 dX2_lineNumber_5 ?_
  refine lv_if_eq (tgt := 13) hx hb dX2_lineNumber_8 (by decide) (fun c_1 => ?_) (fun c_1 => ?_)
  · replace hE := e_t c_1 hE
    exact (wbf_lineNumber_S13 X hr hk n).1 hE Y (lv_sub hl [2, 1, 0] rfl)
  · replace hE := e_f c_1 hE
    refine lv_iconst (v := 0) hx hb dX2_lineNumber_11 (by decide) ?_
    cases hE
    exact b_iret X Y hr hk dX2_lineNumber_12
/-! BasicMachineModel.make(I)V -/
set_option maxHeartbeats 4000000 in
set_option maxRecDepth 100000 in
theorem mbf_make (l : Launch) (n : Nat) (b : bP) (ok : bOk b) {st : bS} {a1 : Int32} {q : bS × Unit} (hE : bf_make n st a1 = some q) : bMet l yX2_make cX2_make 2 none 0 0 b [.int a1] st none q.1 := by
  refine b_ofW (by decide) rfl ok (Nat.le_of_ble_eq_true rfl) (fun p e s m below meth c ls X Y hr hk hl => ?_)
  have hl : lv_has ls 2 [(0, .ref b.h), (1, .int a1)] := hl
  generalize s.heap = H at Y ⊢
  generalize ([] : List Loc) = locs at Y ⊢
  have hx := X.1
  have hb := X.2.1
  have hown := X.2.2.2.1
  have hts := X.2.2.2.2.1
  unfold bf_make at hE
  refine lv_aload_n hx hb dX2_make_0 rfl (lv_at hl 0 rfl) ?_
  refine b_geta X Y 14 (by decide) (by decide) q1817 dX2_make_1 ?_
  refine lv_sipush (v := 3840) hx hb dX2_make_4 (by decide) ?_
  refine lv_aload_n hx hb dX2_make_7 rfl (lv_at hl 0 rfl) ?_
  refine b_geti X Y 6 rfl (by decide) rfl q1809 dX2_make_8 ?_
  refine lv_iadd hx hb dX2_make_11 ?_
  refine lv_iload_n hx hb dX2_make_12 rfl (lv_at hl 1 rfl) ?_
  obtain ⟨st_1, g, hE⟩ := e_bind hE
  refine n_iast X Y 6 14 rfl rfl g dX2_make_13 (fun H locs Y => ?_)
  refine lv_aload_n hx hb dX2_make_14 rfl (lv_at hl 0 rfl) ?_
  refine lv_dup hx hb dX2_make_15 rfl ?_
  refine b_geti X Y 6 rfl (by decide) rfl q1809 dX2_make_16 ?_
  refine lv_iconst (v := 1) hx hb dX2_make_19 (by decide) ?_
  refine lv_iadd hx hb dX2_make_20 ?_
  obtain ⟨st_2, g, hE⟩ := e_bind hE
  refine n_put X Y 6 rfl (by decide) g rfl rfl rfl q1809 dX2_make_21 (fun H locs Y => ?_)
  cases hE
  exact b_vret X Y hr hk dX2_make_24
/-! BasicMachineModel.isMatrix(I)Z -/
set_option maxHeartbeats 4000000 in
set_option maxRecDepth 100000 in
theorem mbf_isMatrix (l : Launch) (n : Nat) (b : bP) (ok : bOk b) {st : bS} {a1 : Int32} {q : bS × Int32} (hE : bf_isMatrix n st a1 = some q) : bMet l yX2_isMatrix cX2_isMatrix 2 (some .boolean) 0 0 b [.int a1] st (some (.int q.2)) q.1 := by
  refine b_ofW (by decide) rfl ok (Nat.le_of_ble_eq_true rfl) (fun p e s m below meth c ls X Y hr hk hl => ?_)
  have hl : lv_has ls 2 [(0, .ref b.h), (1, .int a1)] := hl
  generalize s.heap = H at Y ⊢
  generalize ([] : List Loc) = locs at Y ⊢
  have hx := X.1
  have hb := X.2.1
  have hown := X.2.2.2.1
  have hts := X.2.2.2.2.1
  unfold bf_isMatrix at hE
  refine lv_iload_n hx hb dX2_isMatrix_0 rfl (lv_at hl 1 rfl) ?_
  refine lv_bipush (v := 80) hx hb dX2_isMatrix_1 (by decide) ?_
  refine lv_icmp_lt (tgt := 16) hx hb dX2_isMatrix_3 (by decide) (fun c_1 => ?_) (fun c_1 => ?_)
  · replace hE := e_t c_1 hE
    refine lv_iconst (v := 0) hx hb dX2_isMatrix_16 (by decide) ?_
    cases hE
    exact b_zret (v := 0) X Y hr hk nz0 dX2_isMatrix_17
  · replace hE := e_f c_1 hE
    refine lv_iload_n hx hb dX2_isMatrix_6 rfl (lv_at hl 1 rfl) ?_
    refine lv_bipush (v := 82) hx hb dX2_isMatrix_7 (by decide) ?_
    refine lv_icmp_gt (tgt := 16) hx hb dX2_isMatrix_9 (by decide) (fun c_2 => ?_) (fun c_2 => ?_)
    · replace hE := e_t c_2 hE
      refine lv_iconst (v := 0) hx hb dX2_isMatrix_16 (by decide) ?_
      cases hE
      exact b_zret (v := 0) X Y hr hk nz0 dX2_isMatrix_17
    · replace hE := e_f c_2 hE
      refine lv_iconst (v := 1) hx hb dX2_isMatrix_12 (by decide) ?_
      refine lv_goto (tgt := 17) hx hb dX2_isMatrix_13 (by decide) ?_
      cases hE
      exact b_zret (v := 1) X Y hr hk nz1 dX2_isMatrix_17
/-! BasicMachineModel.variable()I -/
set_option maxHeartbeats 4000000 in
set_option maxRecDepth 100000 in
theorem wbf_variable_L32 {l : Launch} {b : bP} {As : List Value} {p : Program} {e : Env} {s : State} {m : MethodId} {below : List Frame} {meth : Method} {c : Code} (X : bX p s m (Value.ref b.h :: As).toArray c cX2_variable 2 b) (hr : meth.sig.returnType = (some .int)) (hk : meth.locks = false) {n : Nat} {st : bS} {q : bS × Int32} (hE : bf_variable_L32 n st = some q) {H : Heap} {locs : List Loc} {ls : Array Slot} (Y : bY b s st H locs) (hl : lv_has ls 2 [(0, .ref b.h)]) : bG l 1 21 b As (some (.int q.2)) q.1 p e s m below meth c H locs (F0 m 32 ls []) := by
  have hx := X.1
  have hb := X.2.1
  have hown := X.2.2.2.1
  have hts := X.2.2.2.2.1
  unfold bf_variable_L32 at hE
  refine lv_aload_n hx hb dX2_variable_32 rfl (lv_at hl 0 rfl) ?_
  refine lv_iconst (v := 1) hx hb dX2_variable_33 (by decide) ?_
  obtain ⟨st_1, g, hE⟩ := e_bind hE
  refine n_put X Y 7 rfl (by decide) g rfl rfl rfl q1810 dX2_variable_34 (fun H locs Y => ?_)
  refine lv_iconst (v := 0) hx hb dX2_variable_37 (by decide) ?_
  cases hE
  exact b_iret X Y hr hk dX2_variable_38
set_option maxHeartbeats 4000000 in
set_option maxRecDepth 100000 in
theorem mbf_variable (l : Launch) (n : Nat) (b : bP) (ok : bOk b) {st : bS} {q : bS × Int32} (hE : bf_variable n st = some q) : bMet l yX2_variable cX2_variable 2 (some .int) 1 21 b [] st (some (.int q.2)) q.1 := by
  refine b_ofW (by decide) rfl ok (Nat.le_of_ble_eq_true rfl) (fun p e s m below meth c ls X Y hr hk hl => ?_)
  have hl : lv_has ls 2 [(0, .ref b.h)] := hl
  generalize s.heap = H at Y ⊢
  generalize ([] : List Loc) = locs at Y ⊢
  have hx := X.1
  have hb := X.2.1
  have hown := X.2.2.2.1
  have hts := X.2.2.2.2.1
  unfold bf_variable at hE
  refine lv_aload_n hx hb dX2_variable_0 rfl (lv_at hl 0 rfl) ?_
  obtain ⟨q_1, g, hE⟩ := e_bind hE
  refine n_call1 (n := 0) [] X Y (mbf_look l n b X.2.2.2.2.2.2 g) q1967 q1969 qs56 q1970 (by decide +kernel) (by decide) rfl hl.1 (Nat.le_of_ble_eq_true rfl) dX2_variable_1 (by decide) (fun H locs Y => ?_)
  refine lv_istore_n (lv' := [(1, .int q_1.2), (0, .ref b.h)]) hx hb dX2_variable_4 rfl hl (by decide) rfl (fun ls hl => ?_)
  refine lv_aload_n hx hb dX2_variable_5 rfl (lv_at hl 1 rfl) ?_
  refine b_geti X Y 7 rfl (by decide) rfl q1810 dX2_variable_6 ?_
  refine lv_if_ne (tgt := 32) hx hb dX2_variable_9 (by decide) (fun c_2 => ?_) (fun c_2 => ?_)
  · replace hE := e_f c_2 hE
    exact wbf_variable_L32 X hr hk hE Y (lv_sub hl [1] rfl)
  · replace hE := e_t c_2 hE
    refine lv_iload_n hx hb dX2_variable_12 rfl (lv_at hl 0 rfl) ?_
    refine lv_bipush (v := 65) hx hb dX2_variable_13 (by decide) ?_
    refine lv_icmp_lt (tgt := 32) hx hb dX2_variable_15 (by decide) (fun c_3 => ?_) (fun c_3 => ?_)
    · replace hE := e_t c_3 hE
      exact wbf_variable_L32 X hr hk hE Y (lv_sub hl [1] rfl)
    · replace hE := e_f c_3 hE
      refine lv_iload_n hx hb dX2_variable_18 rfl (lv_at hl 0 rfl) ?_
      refine lv_bipush (v := 90) hx hb dX2_variable_19 (by decide) ?_
      refine lv_icmp_gt (tgt := 32) hx hb dX2_variable_21 (by decide) (fun c_4 => ?_) (fun c_4 => ?_)
      · replace hE := e_t c_4 hE
        exact wbf_variable_L32 X hr hk hE Y (lv_sub hl [1] rfl)
      · replace hE := e_f c_4 hE
        refine lv_aload_n hx hb dX2_variable_24 rfl (lv_at hl 1 rfl) ?_
        refine lv_iload_n hx hb dX2_variable_25 rfl (lv_at hl 0 rfl) ?_
        obtain ⟨q_5, g, hE⟩ := e_bind hE
        refine n_call1 (n := 1) [.int q_1.2] X Y (mbf_isMatrix l n b X.2.2.2.2.2.2 g) q2028 q2030 qs64 q2031 (by decide +kernel) (by decide) rfl hl.1 (Nat.le_of_ble_eq_true rfl) dX2_variable_26 (by decide) (fun H locs Y => ?_)
        refine lv_if_eq (tgt := 39) hx hb dX2_variable_29 (by decide) (fun c_6 => ?_) (fun c_6 => ?_)
        · replace hE := e_t c_6 hE
          refine lv_aload_n hx hb dX2_variable_39 rfl (lv_at hl 1 rfl) ?_
          refine lv_dup hx hb dX2_variable_40 rfl ?_
          refine b_geti X Y 4 rfl (by decide) rfl q1807 dX2_variable_41 ?_
          refine lv_iconst (v := 1) hx hb dX2_variable_44 (by decide) ?_
          refine lv_iadd hx hb dX2_variable_45 ?_
          obtain ⟨st_7, g, hE⟩ := e_bind hE
          refine n_put X Y 4 rfl (by decide) g rfl rfl rfl q1807 dX2_variable_46 (fun H locs Y => ?_)
          refine lv_iload_n hx hb dX2_variable_49 rfl (lv_at hl 0 rfl) ?_
          refine lv_bipush (v := 65) hx hb dX2_variable_50 (by decide) ?_
          refine lv_isub hx hb dX2_variable_52 ?_
          cases hE
          exact b_iret X Y hr hk dX2_variable_53
        · replace hE := e_f c_6 hE
          exact wbf_variable_L32 X hr hk hE Y (lv_sub hl [1] rfl)
/-! BasicMachineModel.matrix()I -/
set_option maxHeartbeats 4000000 in
set_option maxRecDepth 100000 in
theorem wbf_matrix_L20 {l : Launch} {b : bP} {As : List Value} {p : Program} {e : Env} {s : State} {m : MethodId} {below : List Frame} {meth : Method} {c : Code} (X : bX p s m (Value.ref b.h :: As).toArray c cX2_matrix 2 b) (hr : meth.sig.returnType = (some .int)) (hk : meth.locks = false) {n : Nat} {st : bS} {q : bS × Int32} (hE : bf_matrix_L20 n st = some q) {H : Heap} {locs : List Loc} {ls : Array Slot} (Y : bY b s st H locs) (hl : lv_has ls 2 [(0, .ref b.h)]) : bG l 1 21 b As (some (.int q.2)) q.1 p e s m below meth c H locs (F0 m 20 ls []) := by
  have hx := X.1
  have hb := X.2.1
  have hown := X.2.2.2.1
  have hts := X.2.2.2.2.1
  unfold bf_matrix_L20 at hE
  refine lv_aload_n hx hb dX2_matrix_20 rfl (lv_at hl 0 rfl) ?_
  refine lv_iconst (v := 1) hx hb dX2_matrix_21 (by decide) ?_
  obtain ⟨st_1, g, hE⟩ := e_bind hE
  refine n_put X Y 7 rfl (by decide) g rfl rfl rfl q1810 dX2_matrix_22 (fun H locs Y => ?_)
  refine lv_iconst (v := 0) hx hb dX2_matrix_25 (by decide) ?_
  cases hE
  exact b_iret X Y hr hk dX2_matrix_26
set_option maxHeartbeats 4000000 in
set_option maxRecDepth 100000 in
theorem mbf_matrix (l : Launch) (n : Nat) (b : bP) (ok : bOk b) {st : bS} {q : bS × Int32} (hE : bf_matrix n st = some q) : bMet l yX2_matrix cX2_matrix 2 (some .int) 1 21 b [] st (some (.int q.2)) q.1 := by
  refine b_ofW (by decide) rfl ok (Nat.le_of_ble_eq_true rfl) (fun p e s m below meth c ls X Y hr hk hl => ?_)
  have hl : lv_has ls 2 [(0, .ref b.h)] := hl
  generalize s.heap = H at Y ⊢
  generalize ([] : List Loc) = locs at Y ⊢
  have hx := X.1
  have hb := X.2.1
  have hown := X.2.2.2.1
  have hts := X.2.2.2.2.1
  unfold bf_matrix at hE
  refine lv_aload_n hx hb dX2_matrix_0 rfl (lv_at hl 0 rfl) ?_
  obtain ⟨q_1, g, hE⟩ := e_bind hE
  refine n_call1 (n := 0) [] X Y (mbf_look l n b X.2.2.2.2.2.2 g) q1967 q1969 qs56 q1970 (by decide +kernel) (by decide) rfl hl.1 (Nat.le_of_ble_eq_true rfl) dX2_matrix_1 (by decide) (fun H locs Y => ?_)
  refine lv_istore_n (lv' := [(1, .int q_1.2), (0, .ref b.h)]) hx hb dX2_matrix_4 rfl hl (by decide) rfl (fun ls hl => ?_)
  refine lv_aload_n hx hb dX2_matrix_5 rfl (lv_at hl 1 rfl) ?_
  refine b_geti X Y 7 rfl (by decide) rfl q1810 dX2_matrix_6 ?_
  refine lv_if_ne (tgt := 20) hx hb dX2_matrix_9 (by decide) (fun c_2 => ?_) (fun c_2 => ?_)
  · replace hE := e_f c_2 hE
    exact wbf_matrix_L20 X hr hk hE Y (lv_sub hl [1] rfl)
  · replace hE := e_t c_2 hE
    refine lv_aload_n hx hb dX2_matrix_12 rfl (lv_at hl 1 rfl) ?_
    refine lv_iload_n hx hb dX2_matrix_13 rfl (lv_at hl 0 rfl) ?_
    obtain ⟨q_3, g, hE⟩ := e_bind hE
    refine n_call1 (n := 1) [.int q_1.2] X Y (mbf_isMatrix l n b X.2.2.2.2.2.2 g) q2028 q2030 qs64 q2031 (by decide +kernel) (by decide) rfl hl.1 (Nat.le_of_ble_eq_true rfl) dX2_matrix_14 (by decide) (fun H locs Y => ?_)
    refine lv_if_ne (tgt := 27) hx hb dX2_matrix_17 (by decide) (fun c_4 => ?_) (fun c_4 => ?_)
    · replace hE := e_f c_4 hE
      refine lv_aload_n hx hb dX2_matrix_27 rfl (lv_at hl 1 rfl) ?_
      refine lv_dup hx hb dX2_matrix_28 rfl ?_
      refine b_geti X Y 4 rfl (by decide) rfl q1807 dX2_matrix_29 ?_
      refine lv_iconst (v := 1) hx hb dX2_matrix_32 (by decide) ?_
      refine lv_iadd hx hb dX2_matrix_33 ?_
      obtain ⟨st_5, g, hE⟩ := e_bind hE
      refine n_put X Y 4 rfl (by decide) g rfl rfl rfl q1807 dX2_matrix_34 (fun H locs Y => ?_)
      refine lv_iload_n hx hb dX2_matrix_37 rfl (lv_at hl 0 rfl) ?_
      refine lv_bipush (v := 80) hx hb dX2_matrix_38 (by decide) ?_
      refine lv_isub hx hb dX2_matrix_40 ?_
      cases hE
      exact b_iret X Y hr hk dX2_matrix_41
    · replace hE := e_t c_4 hE
      exact wbf_matrix_L20 X hr hk hE Y (lv_sub hl [1] rfl)
/-! BasicMachineModel.numeral()V -/
set_option maxHeartbeats 4000000 in
set_option maxRecDepth 100000 in
theorem wbf_numeral_L136 {l : Launch} {b : bP} {As : List Value} {p : Program} {e : Env} {s : State} {m : MethodId} {below : List Frame} {meth : Method} {c : Code} (X : bX p s m (Value.ref b.h :: As).toArray c cX2_numeral 4 b) (hr : meth.sig.returnType = none) (hk : meth.locks = false) {n : Nat} {st : bS} {x1 : Int32} {x3 : Int32} {q : bS × Unit} (hE : bf_numeral_L136 n st x1 x3 = some q) {H : Heap} {locs : List Loc} {ls : Array Slot} (Y : bY b s st H locs) (hl : lv_has ls 4 [(0, .ref b.h), (1, .int x1), (3, .int x3)]) : bG l 2 41 b As none q.1 p e s m below meth c H locs (F0 m 136 ls []) := by
  have hx := X.1
  have hb := X.2.1
  have hown := X.2.2.2.1
  have hts := X.2.2.2.2.1
  unfold bf_numeral_L136 at hE
  refine lv_aload_n hx hb dX2_numeral_136 rfl (lv_at hl 0 rfl) ?_
  refine lv_iconst (v := 0) hx hb dX2_numeral_137 (by decide) ?_
  obtain ⟨q_1, g, hE⟩ := e_bind hE
  refine n_call0 (n := 1) [.int (0 : Int32)] X Y (mbf_make l n b X.2.2.2.2.2.2 g) q2068 q2070 qs74 q2071 (by decide +kernel) (by decide) rfl hl.1 (Nat.le_of_ble_eq_true rfl) dX2_numeral_138 (by decide) (fun H locs Y => ?_)
  refine lv_aload_n hx hb dX2_numeral_141 rfl (lv_at hl 0 rfl) ?_
  refine lv_iload_n hx hb dX2_numeral_142 rfl (lv_at hl 1 rfl) ?_
  obtain ⟨q_2, g, hE⟩ := e_bind hE
  refine n_call0 (n := 1) [.int x1] X Y (mbf_make l n b X.2.2.2.2.2.2 g) q2068 q2070 qs74 q2071 (by decide +kernel) (by decide) rfl hl.1 (Nat.le_of_ble_eq_true rfl) dX2_numeral_143 (by decide) (fun H locs Y => ?_)
  refine lv_aload_n hx hb dX2_numeral_146 rfl (lv_at hl 0 rfl) ?_
  refine lv_iload_n hx hb dX2_numeral_147 rfl (lv_at hl 2 rfl) ?_
  obtain ⟨q_3, g, hE⟩ := e_bind hE
  refine n_call0 (n := 1) [.int x3] X Y (mbf_make l n b X.2.2.2.2.2.2 g) q2068 q2070 qs74 q2071 (by decide +kernel) (by decide) rfl hl.1 (Nat.le_of_ble_eq_true rfl) dX2_numeral_148 (by decide) (fun H locs Y => ?_)
  cases hE
  exact b_vret X Y hr hk dX2_numeral_151
set_option maxHeartbeats 4000000 in
set_option maxRecDepth 100000 in
theorem wbf_numeral_S88_ {l : Launch} {b : bP} {As : List Value} {p : Program} {e : Env} {s : State} {m : MethodId} {below : List Frame} {meth : Method} {c : Code} (X : bX p s m (Value.ref b.h :: As).toArray c cX2_numeral 4 b) (hr : meth.sig.returnType = none) (hk : meth.locks = false) (n : Nat) {q : bS × Unit} : ∀ k : Nat, (∀ {st : bS} {x1 : Int32} {x3 : Int32}, bf_numeral_S88 n k st x1 x3 = some q → ∀ {H : Heap} {locs : List Loc} {ls : Array Slot}, bY b s st H locs → lv_has ls 4 [(0, .ref b.h), (1, .int x1), (3, .int x3)] → bG l 2 41 b As none q.1 p e s m below meth c H locs (F0 m 88 ls [])) := by
  have hx := X.1
  have hb := X.2.1
  have hown := X.2.2.2.1
  have hts := X.2.2.2.2.1
  intro k
  induction k with
  | zero => exact fun h => nomatch (show none = some q from h)
  | succ k ih =>
    intro st x1 x3 hE H locs ls Y hl
    replace hE : bf_numeral_B88 n (bf_numeral_S88 n k) st x1 x3 = some q := hE
    unfold bf_numeral_B88 at hE
    refine lv_aload_n hx hb dX2_numeral_88 rfl (lv_at hl 0 rfl) ?_
    refine b_geti X Y 7 rfl (by decide) rfl q1810 dX2_numeral_89 ?_
    refine lv_if_ne (tgt := 136) hx hb dX2_numeral_92 (by decide) (fun c_1 => ?_) (fun c_1 => ?_)
    · replace hE := e_f c_1 hE
      exact wbf_numeral_L136 X hr hk hE Y (lv_sub hl [0, 1, 2] rfl)
    · replace hE := e_t c_1 hE
      refine lv_aload_n hx hb dX2_numeral_95 rfl (lv_at hl 0 rfl) ?_
      obtain ⟨q_2, g, hE⟩ := e_bind hE
      refine n_call1 (n := 0) [] X Y (mbf_isDigit l n b X.2.2.2.2.2.2 g) q1963 q1965 qs55 q1966 (by decide +kernel) (by decide) rfl hl.1 (Nat.le_of_ble_eq_true rfl) dX2_numeral_96 (by decide) (fun H locs Y => ?_)
      refine lv_if_eq (tgt := 136) hx hb dX2_numeral_99 (by decide) (fun c_3 => ?_) (fun c_3 => ?_)
      · replace hE := e_t c_3 hE
        exact wbf_numeral_L136 X hr hk hE Y (lv_sub hl [0, 1, 2] rfl)
      · replace hE := e_f c_3 hE
        refine lv_iload_n hx hb dX2_numeral_102 rfl (lv_at hl 2 rfl) ?_
        refine lv_iconst (v := 3) hx hb dX2_numeral_103 (by decide) ?_
        refine lv_icmp_ge (tgt := 136) hx hb dX2_numeral_104 (by decide) (fun c_4 => ?_) (fun c_4 => ?_)
        · replace hE := e_t c_4 hE
          exact wbf_numeral_L136 X hr hk hE Y (lv_sub hl [0, 1, 2] rfl)
        · replace hE := e_f c_4 hE
          refine lv_iload_n hx hb dX2_numeral_107 rfl (lv_at hl 1 rfl) ?_
          refine lv_bipush (v := 10) hx hb dX2_numeral_108 (by decide) ?_
          refine lv_imul hx hb dX2_numeral_110 ?_
          refine lv_aload_n hx hb dX2_numeral_111 rfl (lv_at hl 0 rfl) ?_
          obtain ⟨q_5, g, hE⟩ := e_bind hE
          refine n_call1 (n := 0) [] X Y (mbf_look l n b X.2.2.2.2.2.2 g) q1967 q1969 qs56 q1970 (by decide +kernel) (by decide) rfl hl.1 (Nat.le_of_ble_eq_true rfl) dX2_numeral_112 (by decide) (fun H locs Y => ?_)
          refine lv_iadd hx hb dX2_numeral_115 ?_
          refine lv_bipush (v := 48) hx hb dX2_numeral_116 (by decide) ?_
          refine lv_isub hx hb dX2_numeral_118 ?_
          obtain ⟨x1_6, g, hE⟩ := e_bind hE
          refine n_topi g ?_
          refine lv_istore_n (lv' := [(1, .int x1_6), (0, .ref b.h), (3, .int x3)]) hx hb dX2_numeral_119 rfl hl (by decide) rfl (fun ls hl => ?_)
          refine lv_aload_n hx hb dX2_numeral_120 rfl (lv_at hl 1 rfl) ?_
          refine lv_dup hx hb dX2_numeral_121 rfl ?_
          refine b_geti X Y 4 rfl (by decide) rfl q1807 dX2_numeral_122 ?_
          refine lv_iconst (v := 1) hx hb dX2_numeral_125 (by decide) ?_
          refine lv_iadd hx hb dX2_numeral_126 ?_
          obtain ⟨st_7, g, hE⟩ := e_bind hE
          refine n_put X Y 4 rfl (by decide) g rfl rfl rfl q1807 dX2_numeral_127 (fun H locs Y => ?_)
          refine lv_iinc (v := (x3 + (1 : Int32))) (lv' := [(3, .int (x3 + (1 : Int32))), (1, .int x1_6), (0, .ref b.h)]) hx hb dX2_numeral_130 hl (k := 2) rfl rfl (by decide) rfl (fun ls hl => ?_)
          refine lv_goto (tgt := 88) hx hb dX2_numeral_133 (by decide) ?_
          exact ih hE Y (lv_sub hl [2, 1, 0] rfl)
set_option maxHeartbeats 4000000 in
set_option maxRecDepth 100000 in
theorem wbf_numeral_S88 {l : Launch} {b : bP} {As : List Value} {p : Program} {e : Env} {s : State} {m : MethodId} {below : List Frame} {meth : Method} {c : Code} (X : bX p s m (Value.ref b.h :: As).toArray c cX2_numeral 4 b) (hr : meth.sig.returnType = none) (hk : meth.locks = false) (n : Nat) {q : bS × Unit} : (∀ {st : bS} {x1 : Int32} {x3 : Int32}, bf_numeral_S88 n n st x1 x3 = some q → ∀ {H : Heap} {locs : List Loc} {ls : Array Slot}, bY b s st H locs → lv_has ls 4 [(0, .ref b.h), (1, .int x1), (3, .int x3)] → bG l 2 41 b As none q.1 p e s m below meth c H locs (F0 m 88 ls [])) := wbf_numeral_S88_ X hr hk n n
set_option maxHeartbeats 4000000 in
set_option maxRecDepth 100000 in
theorem wbf_numeral_L67 {l : Launch} {b : bP} {As : List Value} {p : Program} {e : Env} {s : State} {m : MethodId} {below : List Frame} {meth : Method} {c : Code} (X : bX p s m (Value.ref b.h :: As).toArray c cX2_numeral 4 b) (hr : meth.sig.returnType = none) (hk : meth.locks = false) {n : Nat} {st : bS} {x1 : Int32} {x3 : Int32} {q : bS × Unit} (hE : bf_numeral_L67 n st x1 x3 = some q) {H : Heap} {locs : List Loc} {ls : Array Slot} (Y : bY b s st H locs) (hl : lv_has ls 4 [(0, .ref b.h), (1, .int x1), (3, .int x3)]) : bG l 2 41 b As none q.1 p e s m below meth c H locs (F0 m 67 ls []) := by
  have hx := X.1
  have hb := X.2.1
  have hown := X.2.2.2.1
  have hts := X.2.2.2.2.1
  unfold bf_numeral_L67 at hE
  refine lv_aload_n hx hb dX2_numeral_67 rfl (lv_at hl 0 rfl) ?_
  refine lv_bipush (v := 46) hx hb dX2_numeral_68 (by decide) ?_
  obtain ⟨q_1, g, hE⟩ := e_bind hE
  refine n_call1 (n := 1) [.int (46 : Int32)] X Y (mbf_take l n b X.2.2.2.2.2.2 g) q2052 q2054 qs70 q2055 (by decide +kernel) (by decide) rfl hl.1 (Nat.le_of_ble_eq_true rfl) dX2_numeral_70 (by decide) (fun H locs Y => ?_)
  refine lv_if_eq (tgt := 136) hx hb dX2_numeral_73 (by decide) (fun c_2 => ?_) (fun c_2 => ?_)
  · replace hE := e_t c_2 hE
    exact wbf_numeral_L136 X hr hk hE Y (lv_sub hl [0, 1, 2] rfl)
  · replace hE := e_f c_2 hE
    refine lv_aload_n hx hb dX2_numeral_76 rfl (lv_at hl 0 rfl) ?_
    obtain ⟨q_3, g, hE⟩ := e_bind hE
    refine n_call1 (n := 0) [] X Y (mbf_isDigit l n b X.2.2.2.2.2.2 g) q1963 q1965 qs55 q1966 (by decide +kernel) (by decide) rfl hl.1 (Nat.le_of_ble_eq_true rfl) dX2_numeral_77 (by decide) (fun H locs Y => ?_)
    refine lv_if_ne (tgt := 88) hx hb dX2_numeral_80 (by decide) (fun c_4 => ?_) (fun c_4 => ?_)
    · replace hE := e_f c_4 hE
      exact (wbf_numeral_S88 X hr hk n) hE Y (lv_sub hl [0, 1, 2] rfl)
    · replace hE := e_t c_4 hE
      refine lv_aload_n hx hb dX2_numeral_83 rfl (lv_at hl 0 rfl) ?_
      refine lv_iconst (v := 1) hx hb dX2_numeral_84 (by decide) ?_
      obtain ⟨st_5, g, hE⟩ := e_bind hE
      refine n_put X Y 7 rfl (by decide) g rfl rfl rfl q1810 dX2_numeral_85 (fun H locs Y => ?_)
      exact (wbf_numeral_S88 X hr hk n) hE Y (lv_sub hl [0, 1, 2] rfl)
set_option maxHeartbeats 4000000 in
set_option maxRecDepth 100000 in
theorem wbf_numeral_S18_ {l : Launch} {b : bP} {As : List Value} {p : Program} {e : Env} {s : State} {m : MethodId} {below : List Frame} {meth : Method} {c : Code} (X : bX p s m (Value.ref b.h :: As).toArray c cX2_numeral 4 b) (hr : meth.sig.returnType = none) (hk : meth.locks = false) (n : Nat) {q : bS × Unit} : ∀ k : Nat, (∀ {st : bS} {x1 : Int32} {x2 : Int32} {x3 : Int32}, bf_numeral_S18 n k st x1 x2 x3 = some q → ∀ {H : Heap} {locs : List Loc} {ls : Array Slot}, bY b s st H locs → lv_has ls 4 [(0, .ref b.h), (1, .int x1), (2, .int x2), (3, .int x3)] → bG l 2 41 b As none q.1 p e s m below meth c H locs (F0 m 18 ls [])) := by
  have hx := X.1
  have hb := X.2.1
  have hown := X.2.2.2.1
  have hts := X.2.2.2.2.1
  intro k
  induction k with
  | zero => exact fun h => nomatch (show none = some q from h)
  | succ k ih =>
    intro st x1 x2 x3 hE H locs ls Y hl
    replace hE : bf_numeral_B18 n (bf_numeral_S18 n k) st x1 x2 x3 = some q := hE
    unfold bf_numeral_B18 at hE
    refine lv_aload_n hx hb dX2_numeral_18 rfl (lv_at hl 0 rfl) ?_
    refine b_geti X Y 7 rfl (by decide) rfl q1810 dX2_numeral_19 ?_
    refine lv_if_ne (tgt := 67) hx hb dX2_numeral_22 (by decide) (fun c_1 => ?_) (fun c_1 => ?_)
    · replace hE := e_f c_1 hE
      exact wbf_numeral_L67 X hr hk hE Y (lv_sub hl [0, 1, 3] rfl)
    · replace hE := e_t c_1 hE
      refine lv_aload_n hx hb dX2_numeral_25 rfl (lv_at hl 0 rfl) ?_
      obtain ⟨q_2, g, hE⟩ := e_bind hE
      refine n_call1 (n := 0) [] X Y (mbf_isDigit l n b X.2.2.2.2.2.2 g) q1963 q1965 qs55 q1966 (by decide +kernel) (by decide) rfl hl.1 (Nat.le_of_ble_eq_true rfl) dX2_numeral_26 (by decide) (fun H locs Y => ?_)
      refine lv_if_eq (tgt := 67) hx hb dX2_numeral_29 (by decide) (fun c_3 => ?_) (fun c_3 => ?_)
      · replace hE := e_t c_3 hE
        exact wbf_numeral_L67 X hr hk hE Y (lv_sub hl [0, 1, 3] rfl)
      · replace hE := e_f c_3 hE
        refine lv_iload_n hx hb dX2_numeral_32 rfl (lv_at hl 2 rfl) ?_
        refine lv_bipush (v := 6) hx hb dX2_numeral_33 (by decide) ?_
        refine lv_icmp_ge (tgt := 67) hx hb dX2_numeral_35 (by decide) (fun c_4 => ?_) (fun c_4 => ?_)
        · replace hE := e_t c_4 hE
          exact wbf_numeral_L67 X hr hk hE Y (lv_sub hl [0, 1, 3] rfl)
        · replace hE := e_f c_4 hE
          refine lv_iload_n hx hb dX2_numeral_38 rfl (lv_at hl 1 rfl) ?_
          refine lv_bipush (v := 10) hx hb dX2_numeral_39 (by decide) ?_
          refine lv_imul hx hb dX2_numeral_41 ?_
          refine lv_aload_n hx hb dX2_numeral_42 rfl (lv_at hl 0 rfl) ?_
          obtain ⟨q_5, g, hE⟩ := e_bind hE
          refine n_call1 (n := 0) [] X Y (mbf_look l n b X.2.2.2.2.2.2 g) q1967 q1969 qs56 q1970 (by decide +kernel) (by decide) rfl hl.1 (Nat.le_of_ble_eq_true rfl) dX2_numeral_43 (by decide) (fun H locs Y => ?_)
          refine lv_iadd hx hb dX2_numeral_46 ?_
          refine lv_bipush (v := 48) hx hb dX2_numeral_47 (by decide) ?_
          refine lv_isub hx hb dX2_numeral_49 ?_
          obtain ⟨x1_6, g, hE⟩ := e_bind hE
          refine n_topi g ?_
          refine lv_istore_n (lv' := [(1, .int x1_6), (0, .ref b.h), (2, .int x2), (3, .int x3)]) hx hb dX2_numeral_50 rfl hl (by decide) rfl (fun ls hl => ?_)
          refine lv_aload_n hx hb dX2_numeral_51 rfl (lv_at hl 1 rfl) ?_
          refine lv_dup hx hb dX2_numeral_52 rfl ?_
          refine b_geti X Y 4 rfl (by decide) rfl q1807 dX2_numeral_53 ?_
          refine lv_iconst (v := 1) hx hb dX2_numeral_56 (by decide) ?_
          refine lv_iadd hx hb dX2_numeral_57 ?_
          obtain ⟨st_7, g, hE⟩ := e_bind hE
          refine n_put X Y 4 rfl (by decide) g rfl rfl rfl q1807 dX2_numeral_58 (fun H locs Y => ?_)
          refine lv_iinc (v := (x2 + (1 : Int32))) (lv' := [(2, .int (x2 + (1 : Int32))), (1, .int x1_6), (0, .ref b.h), (3, .int x3)]) hx hb dX2_numeral_61 hl (k := 2) rfl rfl (by decide) rfl (fun ls hl => ?_)
          refine lv_goto (tgt := 18) hx hb dX2_numeral_64 (by decide) ?_
          exact ih hE Y (lv_sub hl [2, 1, 0, 3] rfl)
set_option maxHeartbeats 4000000 in
set_option maxRecDepth 100000 in
theorem wbf_numeral_S18 {l : Launch} {b : bP} {As : List Value} {p : Program} {e : Env} {s : State} {m : MethodId} {below : List Frame} {meth : Method} {c : Code} (X : bX p s m (Value.ref b.h :: As).toArray c cX2_numeral 4 b) (hr : meth.sig.returnType = none) (hk : meth.locks = false) (n : Nat) {q : bS × Unit} : (∀ {st : bS} {x1 : Int32} {x2 : Int32} {x3 : Int32}, bf_numeral_S18 n n st x1 x2 x3 = some q → ∀ {H : Heap} {locs : List Loc} {ls : Array Slot}, bY b s st H locs → lv_has ls 4 [(0, .ref b.h), (1, .int x1), (2, .int x2), (3, .int x3)] → bG l 2 41 b As none q.1 p e s m below meth c H locs (F0 m 18 ls [])) := wbf_numeral_S18_ X hr hk n n
set_option maxHeartbeats 4000000 in
set_option maxRecDepth 100000 in
theorem mbf_numeral (l : Launch) (n : Nat) (b : bP) (ok : bOk b) {st : bS} {q : bS × Unit} (hE : bf_numeral n st = some q) : bMet l yX2_numeral cX2_numeral 4 none 2 41 b [] st none q.1 := by
  refine b_ofW (by decide) rfl ok (Nat.le_of_ble_eq_true rfl) (fun p e s m below meth c ls X Y hr hk hl => ?_)
  have hl : lv_has ls 4 [(0, .ref b.h)] := hl
  generalize s.heap = H at Y ⊢
  generalize ([] : List Loc) = locs at Y ⊢
  have hx := X.1
  have hb := X.2.1
  have hown := X.2.2.2.1
  have hts := X.2.2.2.2.1
  unfold bf_numeral at hE
  refine lv_iconst (v := 0) hx hb dX2_numeral_0 (by decide) ?_
  refine lv_istore_n (lv' := [(1, .int (0 : Int32)), (0, .ref b.h)]) hx hb dX2_numeral_1 rfl hl (by decide) rfl (fun ls hl => ?_)
  refine lv_iconst (v := 0) hx hb dX2_numeral_2 (by decide) ?_
  refine lv_istore_n (lv' := [(2, .int (0 : Int32)), (1, .int (0 : Int32)), (0, .ref b.h)]) hx hb dX2_numeral_3 rfl hl (by decide) rfl (fun ls hl => ?_)
  refine lv_iconst (v := 0) hx hb dX2_numeral_4 (by decide) ?_
  refine lv_istore_n (lv' := [(3, .int (0 : Int32)), (2, .int (0 : Int32)), (1, .int (0 : Int32)), (0, .ref b.h)]) hx hb dX2_numeral_5 rfl hl (by decide) rfl (fun ls hl => ?_)
  refine lv_aload_n hx hb dX2_numeral_6 rfl (lv_at hl 3 rfl) ?_
  obtain ⟨q_1, g, hE⟩ := e_bind hE
  refine n_call1 (n := 0) [] X Y (mbf_isDigit l n b X.2.2.2.2.2.2 g) q1963 q1965 qs55 q1966 (by decide +kernel) (by decide) rfl hl.1 (Nat.le_of_ble_eq_true rfl) dX2_numeral_7 (by decide) (fun H locs Y => ?_)
  refine lv_if_ne (tgt := 18) hx hb dX2_numeral_10 (by decide) (fun c_2 => ?_) (fun c_2 => ?_)
  · replace hE := e_f c_2 hE
    exact (wbf_numeral_S18 X hr hk n) hE Y (lv_sub hl [3, 2, 1, 0] rfl)
  · replace hE := e_t c_2 hE
    refine lv_aload_n hx hb dX2_numeral_13 rfl (lv_at hl 3 rfl) ?_
    refine lv_iconst (v := 1) hx hb dX2_numeral_14 (by decide) ?_
    obtain ⟨st_3, g, hE⟩ := e_bind hE
    refine n_put X Y 7 rfl (by decide) g rfl rfl rfl q1810 dX2_numeral_15 (fun H locs Y => ?_)
    exact (wbf_numeral_S18 X hr hk n) hE Y (lv_sub hl [3, 2, 1, 0] rfl)
/-! BasicMachineModel.bracket()V -/
set_option maxHeartbeats 4000000 in
set_option maxRecDepth 100000 in
theorem wbf_bracket_L14 {l : Launch} {b : bP} {As : List Value} {p : Program} {e : Env} {s : State} {m : MethodId} {below : List Frame} {meth : Method} {c : Code} (X : bX p s m (Value.ref b.h :: As).toArray c cX2_bracket 1 b) (hr : meth.sig.returnType = none) (hk : meth.locks = false) {n : Nat} {st : bS} {q : bS × Unit} (hE : bf_bracket_L14 n st = some q) {H : Heap} {locs : List Loc} {ls : Array Slot} (Y : bY b s st H locs) (hl : lv_has ls 1 [(0, .ref b.h)]) : bG l 3 62 b As none q.1 p e s m below meth c H locs (F0 m 14 ls []) := by
  have hx := X.1
  have hb := X.2.1
  have hown := X.2.2.2.1
  have hts := X.2.2.2.2.1
  unfold bf_bracket_L14 at hE
  refine lv_aload_n hx hb dX2_bracket_14 rfl (lv_at hl 0 rfl) ?_
  refine lv_bipush (v := 40) hx hb dX2_bracket_15 (by decide) ?_
  obtain ⟨q_1, g, hE⟩ := e_bind hE
  refine n_call0 (n := 1) [.int (40 : Int32)] X Y (mbf_need l n b X.2.2.2.2.2.2 g) q2048 q2050 qs69 q2051 (by decide +kernel) (by decide) rfl hl.1 (Nat.le_of_ble_eq_true rfl) dX2_bracket_17 (by decide) (fun H locs Y => ?_)
  refine lv_aload_n hx hb dX2_bracket_20 rfl (lv_at hl 0 rfl) ?_
  refine b_geti X Y 7 rfl (by decide) rfl q1810 dX2_bracket_21 ?_
  refine lv_if_ne (tgt := 37) hx hb dX2_bracket_24 (by decide) (fun c_2 => ?_) (fun c_2 => ?_)
  · replace hE := e_f c_2 hE
    cases hE
    exact b_vret X Y hr hk dX2_bracket_37
  · replace hE := e_t c_2 hE
    refine lv_aload_n hx hb dX2_bracket_27 rfl (lv_at hl 0 rfl) ?_
    refine lv_dup hx hb dX2_bracket_28 rfl ?_
    refine b_geti X Y 5 rfl (by decide) rfl q1808 dX2_bracket_29 ?_
    refine lv_iconst (v := 1) hx hb dX2_bracket_32 (by decide) ?_
    refine lv_iadd hx hb dX2_bracket_33 ?_
    obtain ⟨st_3, g, hE⟩ := e_bind hE
    refine n_put X Y 5 rfl (by decide) g rfl rfl rfl q1808 dX2_bracket_34 (fun H locs Y => ?_)
    cases hE
    exact b_vret X Y hr hk dX2_bracket_37
set_option maxHeartbeats 4000000 in
set_option maxRecDepth 100000 in
theorem mbf_bracket (l : Launch) (n : Nat) (b : bP) (ok : bOk b) {st : bS} {q : bS × Unit} (hE : bf_bracket n st = some q) : bMet l yX2_bracket cX2_bracket 1 none 3 62 b [] st none q.1 := by
  refine b_ofW (by decide) rfl ok (Nat.le_of_ble_eq_true rfl) (fun p e s m below meth c ls X Y hr hk hl => ?_)
  have hl : lv_has ls 1 [(0, .ref b.h)] := hl
  generalize s.heap = H at Y ⊢
  generalize ([] : List Loc) = locs at Y ⊢
  have hx := X.1
  have hb := X.2.1
  have hown := X.2.2.2.1
  have hts := X.2.2.2.2.1
  unfold bf_bracket at hE
  refine lv_aload_n hx hb dX2_bracket_0 rfl (lv_at hl 0 rfl) ?_
  refine b_geti X Y 5 rfl (by decide) rfl q1808 dX2_bracket_1 ?_
  refine lv_bipush (v := 6) hx hb dX2_bracket_4 (by decide) ?_
  refine lv_icmp_ne (tgt := 14) hx hb dX2_bracket_6 (by decide) (fun c_1 => ?_) (fun c_1 => ?_)
  · replace hE := e_f c_1 hE
    exact wbf_bracket_L14 X hr hk hE Y (lv_sub hl [0] rfl)
  · replace hE := e_t c_1 hE
    refine lv_aload_n hx hb dX2_bracket_9 rfl (lv_at hl 0 rfl) ?_
    refine lv_iconst (v := 1) hx hb dX2_bracket_10 (by decide) ?_
    obtain ⟨st_2, g, hE⟩ := e_bind hE
    refine n_put X Y 7 rfl (by decide) g rfl rfl rfl q1810 dX2_bracket_11 (fun H locs Y => ?_)
    exact wbf_bracket_L14 X hr hk hE Y (lv_sub hl [0] rfl)
/-! BasicMachineModel.shut()V -/
set_option maxHeartbeats 4000000 in
set_option maxRecDepth 100000 in
theorem mbf_shut (l : Launch) (n : Nat) (b : bP) (ok : bOk b) {st : bS} {q : bS × Unit} (hE : bf_shut n st = some q) : bMet l yX2_shut cX2_shut 1 none 3 62 b [] st none q.1 := by
  refine b_ofW (by decide) rfl ok (Nat.le_of_ble_eq_true rfl) (fun p e s m below meth c ls X Y hr hk hl => ?_)
  have hl : lv_has ls 1 [(0, .ref b.h)] := hl
  generalize s.heap = H at Y ⊢
  generalize ([] : List Loc) = locs at Y ⊢
  have hx := X.1
  have hb := X.2.1
  have hown := X.2.2.2.1
  have hts := X.2.2.2.2.1
  unfold bf_shut at hE
  refine lv_aload_n hx hb dX2_shut_0 rfl (lv_at hl 0 rfl) ?_
  refine lv_bipush (v := 41) hx hb dX2_shut_1 (by decide) ?_
  obtain ⟨q_1, g, hE⟩ := e_bind hE
  refine n_call0 (n := 1) [.int (41 : Int32)] X Y (mbf_need l n b X.2.2.2.2.2.2 g) q2048 q2050 qs69 q2051 (by decide +kernel) (by decide) rfl hl.1 (Nat.le_of_ble_eq_true rfl) dX2_shut_3 (by decide) (fun H locs Y => ?_)
  refine lv_aload_n hx hb dX2_shut_6 rfl (lv_at hl 0 rfl) ?_
  refine b_geti X Y 7 rfl (by decide) rfl q1810 dX2_shut_7 ?_
  refine lv_if_ne (tgt := 23) hx hb dX2_shut_10 (by decide) (fun c_2 => ?_) (fun c_2 => ?_)
  · replace hE := e_f c_2 hE
    cases hE
    exact b_vret X Y hr hk dX2_shut_23
  · replace hE := e_t c_2 hE
    refine lv_aload_n hx hb dX2_shut_13 rfl (lv_at hl 0 rfl) ?_
    refine lv_dup hx hb dX2_shut_14 rfl ?_
    refine b_geti X Y 5 rfl (by decide) rfl q1808 dX2_shut_15 ?_
    refine lv_iconst (v := 1) hx hb dX2_shut_18 (by decide) ?_
    refine lv_isub hx hb dX2_shut_19 ?_
    obtain ⟨st_3, g, hE⟩ := e_bind hE
    refine n_put X Y 5 rfl (by decide) g rfl rfl rfl q1808 dX2_shut_20 (fun H locs Y => ?_)
    cases hE
    exact b_vret X Y hr hk dX2_shut_23
/-! BasicMachineModel.rank(I)I -/
set_option maxHeartbeats 4000000 in
set_option maxRecDepth 100000 in
theorem wbf_rank_L31 {l : Launch} {b : bP} {As : List Value} {p : Program} {e : Env} {s : State} {m : MethodId} {below : List Frame} {meth : Method} {c : Code} (X : bX p s m (Value.ref b.h :: As).toArray c cX2_rank 2 b) (hr : meth.sig.returnType = (some .int)) (hk : meth.locks = false) {n : Nat} {st : bS} {q : bS × Int32} (hE : bf_rank_L31 n st = some q) {H : Heap} {locs : List Loc} {ls : Array Slot} (Y : bY b s st H locs) (hl : lv_has ls 2 [(0, .ref b.h)]) : bG l 0 0 b As (some (.int q.2)) q.1 p e s m below meth c H locs (F0 m 31 ls []) := by
  have hx := X.1
  have hb := X.2.1
  have hown := X.2.2.2.1
  have hts := X.2.2.2.2.1
  unfold bf_rank_L31 at hE
  refine lv_iconst (v := 2) hx hb dX2_rank_31 (by decide) ?_
  refine lv_goto (tgt := 36) hx hb dX2_rank_32 (by decide) ?_
  cases hE
  exact b_iret X Y hr hk dX2_rank_36
set_option maxHeartbeats 4000000 in
set_option maxRecDepth 100000 in
theorem mbf_rank (l : Launch) (n : Nat) (b : bP) (ok : bOk b) {st : bS} {a1 : Int32} {q : bS × Int32} (hE : bf_rank n st a1 = some q) : bMet l yX2_rank cX2_rank 2 (some .int) 0 0 b [.int a1] st (some (.int q.2)) q.1 := by
  refine b_ofW (by decide) rfl ok (Nat.le_of_ble_eq_true rfl) (fun p e s m below meth c ls X Y hr hk hl => ?_)
  have hl : lv_has ls 2 [(0, .ref b.h), (1, .int a1)] := hl
  generalize s.heap = H at Y ⊢
  generalize ([] : List Loc) = locs at Y ⊢
  have hx := X.1
  have hb := X.2.1
  have hown := X.2.2.2.1
  have hts := X.2.2.2.2.1
  unfold bf_rank at hE
  refine lv_iload_n hx hb dX2_rank_0 rfl (lv_at hl 1 rfl) ?_
  refine lv_bipush (v := 99) hx hb dX2_rank_1 (by decide) ?_
  refine lv_icmp_le (tgt := 10) hx hb dX2_rank_3 (by decide) (fun c_1 => ?_) (fun c_1 => ?_)
  · replace hE := e_t c_1 hE
    refine lv_iload_n hx hb dX2_rank_10 rfl (lv_at hl 1 rfl) ?_
    refine lv_bipush (v := 7) hx hb dX2_rank_11 (by decide) ?_
    refine lv_icmp_ne (tgt := 20) hx hb dX2_rank_13 (by decide) (fun c_2 => ?_) (fun c_2 => ?_)
    · replace hE := e_f c_2 hE
      refine lv_iload_n hx hb dX2_rank_20 rfl (lv_at hl 1 rfl) ?_
      refine lv_iconst (v := 5) hx hb dX2_rank_21 (by decide) ?_
      refine lv_icmp_eq (tgt := 31) hx hb dX2_rank_22 (by decide) (fun c_3 => ?_) (fun c_3 => ?_)
      · replace hE := e_t c_3 hE
        exact wbf_rank_L31 X hr hk hE Y (lv_sub hl [0] rfl)
      · replace hE := e_f c_3 hE
        refine lv_iload_n hx hb dX2_rank_25 rfl (lv_at hl 1 rfl) ?_
        refine lv_bipush (v := 6) hx hb dX2_rank_26 (by decide) ?_
        refine lv_icmp_ne (tgt := 35) hx hb dX2_rank_28 (by decide) (fun c_4 => ?_) (fun c_4 => ?_)
        · replace hE := e_f c_4 hE
          refine lv_iconst (v := 1) hx hb dX2_rank_35 (by decide) ?_
          cases hE
          exact b_iret X Y hr hk dX2_rank_36
        · replace hE := e_t c_4 hE
          exact wbf_rank_L31 X hr hk hE Y (lv_sub hl [0] rfl)
    · replace hE := e_t c_2 hE
      refine lv_iconst (v := 3) hx hb dX2_rank_16 (by decide) ?_
      refine lv_goto (tgt := 36) hx hb dX2_rank_17 (by decide) ?_
      cases hE
      exact b_iret X Y hr hk dX2_rank_36
  · replace hE := e_f c_1 hE
    refine lv_iconst (v := 0) hx hb dX2_rank_6 (by decide) ?_
    refine lv_goto (tgt := 36) hx hb dX2_rank_7 (by decide) ?_
    cases hE
    exact b_iret X Y hr hk dX2_rank_36
/-! BasicMachineModel.settle(II)I -/
set_option maxHeartbeats 4000000 in
set_option maxRecDepth 100000 in
theorem wbf_settle_S2_ {l : Launch} {b : bP} {As : List Value} {p : Program} {e : Env} {s : State} {m : MethodId} {below : List Frame} {meth : Method} {c : Code} (X : bX p s m (Value.ref b.h :: As).toArray c cX2_settle 4 b) (hr : meth.sig.returnType = (some .int)) (hk : meth.locks = false) (n : Nat) {q : bS × Int32} : ∀ k : Nat, (∀ {st : bS} {x2 : Int32} {x3 : Int32}, bf_settle_S2 n k st x2 x3 = some q → ∀ {H : Heap} {locs : List Loc} {ls : Array Slot}, bY b s st H locs → lv_has ls 4 [(0, .ref b.h), (2, .int x2), (3, .int x3)] → bG l 1 21 b As (some (.int q.2)) q.1 p e s m below meth c H locs (F0 m 2 ls [])) := by
  have hx := X.1
  have hb := X.2.1
  have hown := X.2.2.2.1
  have hts := X.2.2.2.2.1
  intro k
  induction k with
  | zero => exact fun h => nomatch (show none = some q from h)
  | succ k ih =>
    intro st x2 x3 hE H locs ls Y hl
    replace hE : bf_settle_B2 n (bf_settle_S2 n k) st x2 x3 = some q := hE
    unfold bf_settle_B2 at hE
    refine lv_iload_n hx hb dX2_settle_2 rfl (lv_at hl 2 rfl) ?_
    refine lv_if_le (tgt := 53) hx hb dX2_settle_3 (by decide) (fun c_1 => ?_) (fun c_1 => ?_)
    · replace hE := e_t c_1 hE
      refine lv_iload_n hx hb dX2_settle_53 rfl (lv_at hl 2 rfl) ?_
      cases hE
      exact b_iret X Y hr hk dX2_settle_54
    · replace hE := e_f c_1 hE
      refine lv_aload_n hx hb dX2_settle_6 rfl (lv_at hl 0 rfl) ?_
      refine b_geta X Y 15 (by decide) (by decide) q1818 dX2_settle_7 ?_
      refine lv_iload_n hx hb dX2_settle_10 rfl (lv_at hl 2 rfl) ?_
      refine lv_iconst (v := 1) hx hb dX2_settle_11 (by decide) ?_
      refine lv_isub hx hb dX2_settle_12 ?_
      obtain ⟨v_2, g, hE⟩ := e_bind hE
      refine n_iald X Y 7 15 rfl rfl g dX2_settle_13 ?_
      refine lv_bipush (v := 100) hx hb dX2_settle_14 (by decide) ?_
      refine lv_icmp_ge (tgt := 53) hx hb dX2_settle_16 (by decide) (fun c_3 => ?_) (fun c_3 => ?_)
      · replace hE := e_t c_3 hE
        refine lv_iload_n hx hb dX2_settle_53 rfl (lv_at hl 2 rfl) ?_
        cases hE
        exact b_iret X Y hr hk dX2_settle_54
      · replace hE := e_f c_3 hE
        refine lv_aload_n hx hb dX2_settle_19 rfl (lv_at hl 0 rfl) ?_
        refine lv_aload_n hx hb dX2_settle_20 rfl (lv_at hl 0 rfl) ?_
        refine b_geta X Y 15 (by decide) (by decide) q1818 dX2_settle_21 ?_
        refine lv_iload_n hx hb dX2_settle_24 rfl (lv_at hl 2 rfl) ?_
        refine lv_iconst (v := 1) hx hb dX2_settle_25 (by decide) ?_
        refine lv_isub hx hb dX2_settle_26 ?_
        obtain ⟨v_4, g, hE⟩ := e_bind hE
        refine n_iald X Y 7 15 rfl rfl g dX2_settle_27 ?_
        obtain ⟨q_5, g, hE⟩ := e_bind hE
        refine n_call1 (n := 1) [.int v_4] X Y (mbf_rank l n b X.2.2.2.2.2.2 g) q2076 q2078 qs76 q2079 (by decide +kernel) (by decide) rfl hl.1 (Nat.le_of_ble_eq_true rfl) dX2_settle_28 (by decide) (fun H locs Y => ?_)
        refine lv_iload_n hx hb dX2_settle_31 rfl (lv_at hl 1 rfl) ?_
        refine lv_icmp_lt (tgt := 53) hx hb dX2_settle_32 (by decide) (fun c_6 => ?_) (fun c_6 => ?_)
        · replace hE := e_t c_6 hE
          refine lv_iload_n hx hb dX2_settle_53 rfl (lv_at hl 2 rfl) ?_
          cases hE
          exact b_iret X Y hr hk dX2_settle_54
        · replace hE := e_f c_6 hE
          refine lv_aload_n hx hb dX2_settle_35 rfl (lv_at hl 0 rfl) ?_
          refine lv_aload_n hx hb dX2_settle_36 rfl (lv_at hl 0 rfl) ?_
          refine b_geta X Y 15 (by decide) (by decide) q1818 dX2_settle_37 ?_
          refine lv_iload_n hx hb dX2_settle_40 rfl (lv_at hl 2 rfl) ?_
          refine lv_iconst (v := 1) hx hb dX2_settle_41 (by decide) ?_
          refine lv_isub hx hb dX2_settle_42 ?_
          obtain ⟨v_7, g, hE⟩ := e_bind hE
          refine n_iald X Y 7 15 rfl rfl g dX2_settle_43 ?_
          obtain ⟨q_8, g, hE⟩ := e_bind hE
          refine n_call0 (n := 1) [.int v_7] X Y (mbf_make l n b X.2.2.2.2.2.2 g) q2068 q2070 qs74 q2071 (by decide +kernel) (by decide) rfl hl.1 (Nat.le_of_ble_eq_true rfl) dX2_settle_44 (by decide) (fun H locs Y => ?_)
          refine lv_iinc (v := (x3 + (-1 : Int32))) (lv' := [(3, .int (x3 + (-1 : Int32))), (0, .ref b.h), (2, .int x2)]) hx hb dX2_settle_47 hl (k := 2) rfl rfl (by decide) rfl (fun ls hl => ?_)
          refine lv_goto (tgt := 2) hx hb dX2_settle_50 (by decide) ?_
          exact ih hE Y (lv_sub hl [1, 2, 0] rfl)
set_option maxHeartbeats 4000000 in
set_option maxRecDepth 100000 in
theorem wbf_settle_S2 {l : Launch} {b : bP} {As : List Value} {p : Program} {e : Env} {s : State} {m : MethodId} {below : List Frame} {meth : Method} {c : Code} (X : bX p s m (Value.ref b.h :: As).toArray c cX2_settle 4 b) (hr : meth.sig.returnType = (some .int)) (hk : meth.locks = false) (n : Nat) {q : bS × Int32} : (∀ {st : bS} {x2 : Int32} {x3 : Int32}, bf_settle_S2 n n st x2 x3 = some q → ∀ {H : Heap} {locs : List Loc} {ls : Array Slot}, bY b s st H locs → lv_has ls 4 [(0, .ref b.h), (2, .int x2), (3, .int x3)] → bG l 1 21 b As (some (.int q.2)) q.1 p e s m below meth c H locs (F0 m 2 ls [])) := wbf_settle_S2_ X hr hk n n
set_option maxHeartbeats 4000000 in
set_option maxRecDepth 100000 in
theorem mbf_settle (l : Launch) (n : Nat) (b : bP) (ok : bOk b) {st : bS} {a1 : Int32} {a2 : Int32} {q : bS × Int32} (hE : bf_settle n st a1 a2 = some q) : bMet l yX2_settle cX2_settle 4 (some .int) 1 21 b [.int a1, .int a2] st (some (.int q.2)) q.1 := by
  refine b_ofW (by decide) rfl ok (Nat.le_of_ble_eq_true rfl) (fun p e s m below meth c ls X Y hr hk hl => ?_)
  have hl : lv_has ls 4 [(0, .ref b.h), (1, .int a1), (2, .int a2)] := hl
  generalize s.heap = H at Y ⊢
  generalize ([] : List Loc) = locs at Y ⊢
  have hx := X.1
  have hb := X.2.1
  have hown := X.2.2.2.1
  have hts := X.2.2.2.2.1
  unfold bf_settle at hE
  refine lv_iload_n hx hb dX2_settle_0 rfl (lv_at hl 1 rfl) ?_
  refine lv_istore_n (lv' := [(3, .int a1), (0, .ref b.h), (1, .int a1), (2, .int a2)]) hx hb dX2_settle_1 rfl hl (by decide) rfl (fun ls hl => ?_)
  exact (wbf_settle_S2 X hr hk n) hE Y (lv_sub hl [1, 3, 0] rfl)
/-! BasicMachineModel.partMark(ZZ)I -/
set_option maxHeartbeats 4000000 in
set_option maxRecDepth 100000 in
theorem wbf_partMark_L203 {l : Launch} {b : bP} {As : List Value} {p : Program} {e : Env} {s : State} {m : MethodId} {below : List Frame} {meth : Method} {c : Code} (X : bX p s m (Value.ref b.h :: As).toArray c cX2_partMark 7 b) (hr : meth.sig.returnType = (some .int)) (hk : meth.locks = false) {n : Nat} {st : bS} {q : bS × Int32} (hE : bf_partMark_L203 n st = some q) {H : Heap} {locs : List Loc} {ls : Array Slot} (Y : bY b s st H locs) (hl : lv_has ls 7 [(0, .ref b.h)]) : bG l 3 76 b As (some (.int q.2)) q.1 p e s m below meth c H locs (F0 m 203 ls []) := by
  have hx := X.1
  have hb := X.2.1
  have hown := X.2.2.2.1
  have hts := X.2.2.2.2.1
  unfold bf_partMark_L203 at hE
  refine lv_aload_n hx hb dX2_partMark_203 rfl (lv_at hl 0 rfl) ?_
  refine lv_bipush (v := 26) hx hb dX2_partMark_204 (by decide) ?_
  refine lv_bipush (v := 26) hx hb dX2_partMark_206 (by decide) ?_
  obtain ⟨q_1, g, hE⟩ := e_bind hE
  refine n_call1 (n := 2) [.int (26 : Int32), .int (26 : Int32)] X Y (mbf_takeWord l n b X.2.2.2.2.2.2 g) q1975 q1977 qs58 q1978 (by decide +kernel) (by decide) rfl hl.1 (Nat.le_of_ble_eq_true rfl) dX2_partMark_208 (by decide) (fun H locs Y => ?_)
  refine lv_pop hx hb dX2_partMark_211 rfl ?_
  refine lv_bipush (v := 103) hx hb dX2_partMark_212 (by decide) ?_
  cases hE
  exact b_iret X Y hr hk dX2_partMark_214
set_option maxHeartbeats 4000000 in
set_option maxRecDepth 100000 in
theorem wbf_partMark_L281 {l : Launch} {b : bP} {As : List Value} {p : Program} {e : Env} {s : State} {m : MethodId} {below : List Frame} {meth : Method} {c : Code} (X : bX p s m (Value.ref b.h :: As).toArray c cX2_partMark 7 b) (hr : meth.sig.returnType = (some .int)) (hk : meth.locks = false) {n : Nat} {st : bS} {x6 : Int32} {q : bS × Int32} (hE : bf_partMark_L281 n st x6 = some q) {H : Heap} {locs : List Loc} {ls : Array Slot} (Y : bY b s st H locs) (hl : lv_has ls 7 [(0, .ref b.h), (6, .int x6)]) : bG l 3 76 b As (some (.int q.2)) q.1 p e s m below meth c H locs (F0 m 281 ls []) := by
  have hx := X.1
  have hb := X.2.1
  have hown := X.2.2.2.1
  have hts := X.2.2.2.2.1
  unfold bf_partMark_L281 at hE
  refine lv_aload_n hx hb dX2_partMark_281 rfl (lv_at hl 0 rfl) ?_
  refine lv_bipush (v := 12) hx hb dX2_partMark_282 (by decide) ?_
  obtain ⟨q_1, g, hE⟩ := e_bind hE
  refine n_call0 (n := 1) [.int (12 : Int32)] X Y (mbf_make l n b X.2.2.2.2.2.2 g) q2068 q2070 qs74 q2071 (by decide +kernel) (by decide) rfl hl.1 (Nat.le_of_ble_eq_true rfl) dX2_partMark_284 (by decide) (fun H locs Y => ?_)
  refine lv_aload_n hx hb dX2_partMark_287 rfl (lv_at hl 0 rfl) ?_
  refine lv_iload hx hb dX2_partMark_288 (lv_at hl 1 rfl) ?_
  refine lv_bipush (v := 65) hx hb dX2_partMark_290 (by decide) ?_
  refine lv_isub hx hb dX2_partMark_292 ?_
  obtain ⟨q_2, g, hE⟩ := e_bind hE
  refine n_call0 (n := 1) [.int (x6 - (65 : Int32))] X Y (mbf_make l n b X.2.2.2.2.2.2 g) q2068 q2070 qs74 q2071 (by decide +kernel) (by decide) rfl hl.1 (Nat.le_of_ble_eq_true rfl) dX2_partMark_293 (by decide) (fun H locs Y => ?_)
  refine lv_bipush (v := 104) hx hb dX2_partMark_296 (by decide) ?_
  refine lv_iload hx hb dX2_partMark_298 (lv_at hl 1 rfl) ?_
  refine lv_iadd hx hb dX2_partMark_300 ?_
  refine lv_bipush (v := 65) hx hb dX2_partMark_301 (by decide) ?_
  refine lv_isub hx hb dX2_partMark_303 ?_
  cases hE
  exact b_iret X Y hr hk dX2_partMark_304
set_option maxHeartbeats 4000000 in
set_option maxRecDepth 100000 in
theorem wbf_partMark_L305 {l : Launch} {b : bP} {As : List Value} {p : Program} {e : Env} {s : State} {m : MethodId} {below : List Frame} {meth : Method} {c : Code} (X : bX p s m (Value.ref b.h :: As).toArray c cX2_partMark 7 b) (hr : meth.sig.returnType = (some .int)) (hk : meth.locks = false) {n : Nat} {st : bS} {q : bS × Int32} (hE : bf_partMark_L305 n st = some q) {H : Heap} {locs : List Loc} {ls : Array Slot} (Y : bY b s st H locs) (hl : lv_has ls 7 [(0, .ref b.h)]) : bG l 3 76 b As (some (.int q.2)) q.1 p e s m below meth c H locs (F0 m 305 ls []) := by
  have hx := X.1
  have hb := X.2.1
  have hown := X.2.2.2.1
  have hts := X.2.2.2.2.1
  unfold bf_partMark_L305 at hE
  refine lv_aload_n hx hb dX2_partMark_305 rfl (lv_at hl 0 rfl) ?_
  obtain ⟨q_1, g, hE⟩ := e_bind hE
  refine n_call1 (n := 0) [] X Y (mbf_variable l n b X.2.2.2.2.2.2 g) q2032 q2034 qs65 q2035 (by decide +kernel) (by decide) rfl hl.1 (Nat.le_of_ble_eq_true rfl) dX2_partMark_306 (by decide) (fun H locs Y => ?_)
  refine lv_istore (lv' := [(6, .int q_1.2), (0, .ref b.h)]) hx hb dX2_partMark_309 hl (by decide) rfl (fun ls hl => ?_)
  refine lv_aload_n hx hb dX2_partMark_311 rfl (lv_at hl 1 rfl) ?_
  refine lv_iconst (v := 1) hx hb dX2_partMark_312 (by decide) ?_
  obtain ⟨q_2, g, hE⟩ := e_bind hE
  refine n_call0 (n := 1) [.int (1 : Int32)] X Y (mbf_make l n b X.2.2.2.2.2.2 g) q2068 q2070 qs74 q2071 (by decide +kernel) (by decide) rfl hl.1 (Nat.le_of_ble_eq_true rfl) dX2_partMark_313 (by decide) (fun H locs Y => ?_)
  refine lv_aload_n hx hb dX2_partMark_316 rfl (lv_at hl 1 rfl) ?_
  refine lv_iload hx hb dX2_partMark_317 (lv_at hl 0 rfl) ?_
  obtain ⟨q_3, g, hE⟩ := e_bind hE
  refine n_call0 (n := 1) [.int q_1.2] X Y (mbf_make l n b X.2.2.2.2.2.2 g) q2068 q2070 qs74 q2071 (by decide +kernel) (by decide) rfl hl.1 (Nat.le_of_ble_eq_true rfl) dX2_partMark_319 (by decide) (fun H locs Y => ?_)
  refine lv_iconst (v := 0) hx hb dX2_partMark_322 (by decide) ?_
  cases hE
  exact b_iret X Y hr hk dX2_partMark_323
set_option maxHeartbeats 4000000 in
set_option maxRecDepth 100000 in
theorem wbf_partMark_L263 {l : Launch} {b : bP} {As : List Value} {p : Program} {e : Env} {s : State} {m : MethodId} {below : List Frame} {meth : Method} {c : Code} (X : bX p s m (Value.ref b.h :: As).toArray c cX2_partMark 7 b) (hr : meth.sig.returnType = (some .int)) (hk : meth.locks = false) {n : Nat} {st : bS} {x6 : Int32} {q : bS × Int32} (hE : bf_partMark_L263 n st x6 = some q) {H : Heap} {locs : List Loc} {ls : Array Slot} (Y : bY b s st H locs) (hl : lv_has ls 7 [(0, .ref b.h), (6, .int x6)]) : bG l 3 76 b As (some (.int q.2)) q.1 p e s m below meth c H locs (F0 m 263 ls []) := by
  have hx := X.1
  have hb := X.2.1
  have hown := X.2.2.2.1
  have hts := X.2.2.2.2.1
  unfold bf_partMark_L263 at hE
  refine lv_aload_n hx hb dX2_partMark_263 rfl (lv_at hl 0 rfl) ?_
  refine lv_iconst (v := 1) hx hb dX2_partMark_264 (by decide) ?_
  obtain ⟨st_1, g, hE⟩ := e_bind hE
  refine n_put X Y 7 rfl (by decide) g rfl rfl rfl q1810 dX2_partMark_265 (fun H locs Y => ?_)
  refine lv_goto (tgt := 281) hx hb dX2_partMark_268 (by decide) ?_
  exact wbf_partMark_L281 X hr hk hE Y (lv_sub hl [0, 1] rfl)
set_option maxHeartbeats 4000000 in
set_option maxRecDepth 100000 in
theorem wbf_partMark_L215 {l : Launch} {b : bP} {As : List Value} {p : Program} {e : Env} {s : State} {m : MethodId} {below : List Frame} {meth : Method} {c : Code} (X : bX p s m (Value.ref b.h :: As).toArray c cX2_partMark 7 b) (hr : meth.sig.returnType = (some .int)) (hk : meth.locks = false) {n : Nat} {st : bS} {x3 : Int32} {x4 : Int32} {x5 : Int32} {q : bS × Int32} (hE : bf_partMark_L215 n st x3 x4 x5 = some q) {H : Heap} {locs : List Loc} {ls : Array Slot} (Y : bY b s st H locs) (hl : lv_has ls 7 [(0, .ref b.h), (3, .int x3), (4, .int x4), (5, .int x5)]) : bG l 3 76 b As (some (.int q.2)) q.1 p e s m below meth c H locs (F0 m 215 ls []) := by
  have hx := X.1
  have hb := X.2.1
  have hown := X.2.2.2.1
  have hts := X.2.2.2.2.1
  unfold bf_partMark_L215 at hE
  refine lv_iload hx hb dX2_partMark_215 (lv_at hl 3 rfl) ?_
  refine lv_if_eq (tgt := 305) hx hb dX2_partMark_217 (by decide) (fun c_1 => ?_) (fun c_1 => ?_)
  · replace hE := e_t c_1 hE
    exact wbf_partMark_L305 X hr hk hE Y (lv_sub hl [0] rfl)
  · replace hE := e_f c_1 hE
    refine lv_iload_n hx hb dX2_partMark_220 rfl (lv_at hl 1 rfl) ?_
    refine lv_bipush (v := 70) hx hb dX2_partMark_221 (by decide) ?_
    refine lv_icmp_ne (tgt := 305) hx hb dX2_partMark_223 (by decide) (fun c_2 => ?_) (fun c_2 => ?_)
    · replace hE := e_f c_2 hE
      exact wbf_partMark_L305 X hr hk hE Y (lv_sub hl [0] rfl)
    · replace hE := e_t c_2 hE
      refine lv_iload hx hb dX2_partMark_226 (lv_at hl 2 rfl) ?_
      refine lv_bipush (v := 78) hx hb dX2_partMark_228 (by decide) ?_
      refine lv_icmp_ne (tgt := 305) hx hb dX2_partMark_230 (by decide) (fun c_3 => ?_) (fun c_3 => ?_)
      · replace hE := e_f c_3 hE
        exact wbf_partMark_L305 X hr hk hE Y (lv_sub hl [0] rfl)
      · replace hE := e_t c_3 hE
        refine lv_aload_n hx hb dX2_partMark_233 rfl (lv_at hl 0 rfl) ?_
        refine lv_dup hx hb dX2_partMark_234 rfl ?_
        refine b_geti X Y 4 rfl (by decide) rfl q1807 dX2_partMark_235 ?_
        refine lv_iconst (v := 2) hx hb dX2_partMark_238 (by decide) ?_
        refine lv_iadd hx hb dX2_partMark_239 ?_
        obtain ⟨st_4, g, hE⟩ := e_bind hE
        refine n_put X Y 4 rfl (by decide) g rfl rfl rfl q1807 dX2_partMark_240 (fun H locs Y => ?_)
        refine lv_aload_n hx hb dX2_partMark_243 rfl (lv_at hl 0 rfl) ?_
        obtain ⟨q_5, g, hE⟩ := e_bind hE
        refine n_call1 (n := 0) [] X Y (mbf_look l n b X.2.2.2.2.2.2 g) q1967 q1969 qs56 q1970 (by decide +kernel) (by decide) rfl hl.1 (Nat.le_of_ble_eq_true rfl) dX2_partMark_244 (by decide) (fun H locs Y => ?_)
        refine lv_istore (lv' := [(6, .int q_5.2), (0, .ref b.h), (3, .int x3), (4, .int x4), (5, .int x5)]) hx hb dX2_partMark_247 hl (by decide) rfl (fun ls hl => ?_)
        refine lv_iload hx hb dX2_partMark_249 (lv_at hl 0 rfl) ?_
        refine lv_bipush (v := 65) hx hb dX2_partMark_251 (by decide) ?_
        refine lv_icmp_lt (tgt := 263) hx hb dX2_partMark_253 (by decide) (fun c_6 => ?_) (fun c_6 => ?_)
        · replace hE := e_t c_6 hE
          exact wbf_partMark_L263 X hr hk hE Y (lv_sub hl [1, 0] rfl)
        · replace hE := e_f c_6 hE
          refine lv_iload hx hb dX2_partMark_256 (lv_at hl 0 rfl) ?_
          refine lv_bipush (v := 67) hx hb dX2_partMark_258 (by decide) ?_
          refine lv_icmp_le (tgt := 271) hx hb dX2_partMark_260 (by decide) (fun c_7 => ?_) (fun c_7 => ?_)
          · replace hE := e_t c_7 hE
            refine lv_aload_n hx hb dX2_partMark_271 rfl (lv_at hl 1 rfl) ?_
            refine lv_dup hx hb dX2_partMark_272 rfl ?_
            refine b_geti X Y 4 rfl (by decide) rfl q1807 dX2_partMark_273 ?_
            refine lv_iconst (v := 1) hx hb dX2_partMark_276 (by decide) ?_
            refine lv_iadd hx hb dX2_partMark_277 ?_
            obtain ⟨st_8, g, hE⟩ := e_bind hE
            refine n_put X Y 4 rfl (by decide) g rfl rfl rfl q1807 dX2_partMark_278 (fun H locs Y => ?_)
            exact wbf_partMark_L281 X hr hk hE Y (lv_sub hl [1, 0] rfl)
          · replace hE := e_f c_7 hE
            exact wbf_partMark_L263 X hr hk hE Y (lv_sub hl [1, 0] rfl)
set_option maxHeartbeats 4000000 in
set_option maxRecDepth 100000 in
theorem wbf_partMark_L167 {l : Launch} {b : bP} {As : List Value} {p : Program} {e : Env} {s : State} {m : MethodId} {below : List Frame} {meth : Method} {c : Code} (X : bX p s m (Value.ref b.h :: As).toArray c cX2_partMark 7 b) (hr : meth.sig.returnType = (some .int)) (hk : meth.locks = false) {n : Nat} {st : bS} {x1 : Int32} {x2 : Int32} {x3 : Int32} {x4 : Int32} {x5 : Int32} {q : bS × Int32} (hE : bf_partMark_L167 n st x1 x2 x3 x4 x5 = some q) {H : Heap} {locs : List Loc} {ls : Array Slot} (Y : bY b s st H locs) (hl : lv_has ls 7 [(0, .ref b.h), (1, .int x1), (2, .int x2), (3, .int x3), (4, .int x4), (5, .int x5)]) : bG l 3 76 b As (some (.int q.2)) q.1 p e s m below meth c H locs (F0 m 167 ls []) := by
  have hx := X.1
  have hb := X.2.1
  have hown := X.2.2.2.1
  have hts := X.2.2.2.2.1
  unfold bf_partMark_L167 at hE
  refine lv_iload hx hb dX2_partMark_167 (lv_at hl 5 rfl) ?_
  refine lv_if_eq (tgt := 215) hx hb dX2_partMark_169 (by decide) (fun c_1 => ?_) (fun c_1 => ?_)
  · replace hE := e_t c_1 hE
    exact wbf_partMark_L215 X hr hk hE Y (lv_sub hl [0, 3, 4, 5] rfl)
  · replace hE := e_f c_1 hE
    refine lv_iload_n hx hb dX2_partMark_172 rfl (lv_at hl 3 rfl) ?_
    refine lv_bipush (v := 83) hx hb dX2_partMark_173 (by decide) ?_
    refine lv_icmp_ne (tgt := 215) hx hb dX2_partMark_175 (by decide) (fun c_2 => ?_) (fun c_2 => ?_)
    · replace hE := e_f c_2 hE
      exact wbf_partMark_L215 X hr hk hE Y (lv_sub hl [0, 3, 4, 5] rfl)
    · replace hE := e_t c_2 hE
      refine lv_iload hx hb dX2_partMark_178 (lv_at hl 4 rfl) ?_
      refine lv_bipush (v := 71) hx hb dX2_partMark_180 (by decide) ?_
      refine lv_icmp_ne (tgt := 215) hx hb dX2_partMark_182 (by decide) (fun c_3 => ?_) (fun c_3 => ?_)
      · replace hE := e_f c_3 hE
        exact wbf_partMark_L215 X hr hk hE Y (lv_sub hl [0, 3, 4, 5] rfl)
      · replace hE := e_t c_3 hE
        refine lv_iload_n hx hb dX2_partMark_185 rfl (lv_at hl 1 rfl) ?_
        refine lv_if_eq (tgt := 203) hx hb dX2_partMark_186 (by decide) (fun c_4 => ?_) (fun c_4 => ?_)
        · replace hE := e_t c_4 hE
          exact wbf_partMark_L203 X hr hk hE Y (lv_sub hl [0] rfl)
        · replace hE := e_f c_4 hE
          refine lv_iload_n hx hb dX2_partMark_189 rfl (lv_at hl 2 rfl) ?_
          refine lv_if_eq (tgt := 203) hx hb dX2_partMark_190 (by decide) (fun c_5 => ?_) (fun c_5 => ?_)
          · replace hE := e_t c_5 hE
            exact wbf_partMark_L203 X hr hk hE Y (lv_sub hl [0] rfl)
          · replace hE := e_f c_5 hE
            refine lv_aload_n hx hb dX2_partMark_193 rfl (lv_at hl 0 rfl) ?_
            refine lv_iconst (v := 2) hx hb dX2_partMark_194 (by decide) ?_
            obtain ⟨q_6, g, hE⟩ := e_bind hE
            refine n_call1 (n := 1) [.int (2 : Int32)] X Y (mbf_lookAt l n b X.2.2.2.2.2.2 g) q2020 q2022 qs62 q2023 (by decide +kernel) (by decide) rfl hl.1 (Nat.le_of_ble_eq_true rfl) dX2_partMark_195 (by decide) (fun H locs Y => ?_)
            refine lv_bipush (v := 79) hx hb dX2_partMark_198 (by decide) ?_
            refine lv_icmp_eq (tgt := 215) hx hb dX2_partMark_200 (by decide) (fun c_7 => ?_) (fun c_7 => ?_)
            · replace hE := e_t c_7 hE
              exact wbf_partMark_L215 X hr hk hE Y (lv_sub hl [0, 3, 4, 5] rfl)
            · replace hE := e_f c_7 hE
              exact wbf_partMark_L203 X hr hk hE Y (lv_sub hl [0] rfl)
set_option maxHeartbeats 4000000 in
set_option maxRecDepth 100000 in
theorem wbf_partMark_L137 {l : Launch} {b : bP} {As : List Value} {p : Program} {e : Env} {s : State} {m : MethodId} {below : List Frame} {meth : Method} {c : Code} (X : bX p s m (Value.ref b.h :: As).toArray c cX2_partMark 7 b) (hr : meth.sig.returnType = (some .int)) (hk : meth.locks = false) {n : Nat} {st : bS} {x1 : Int32} {x2 : Int32} {x3 : Int32} {x4 : Int32} {x5 : Int32} {q : bS × Int32} (hE : bf_partMark_L137 n st x1 x2 x3 x4 x5 = some q) {H : Heap} {locs : List Loc} {ls : Array Slot} (Y : bY b s st H locs) (hl : lv_has ls 7 [(0, .ref b.h), (1, .int x1), (2, .int x2), (3, .int x3), (4, .int x4), (5, .int x5)]) : bG l 3 76 b As (some (.int q.2)) q.1 p e s m below meth c H locs (F0 m 137 ls []) := by
  have hx := X.1
  have hb := X.2.1
  have hown := X.2.2.2.1
  have hts := X.2.2.2.2.1
  unfold bf_partMark_L137 at hE
  refine lv_iload hx hb dX2_partMark_137 (lv_at hl 5 rfl) ?_
  refine lv_if_eq (tgt := 167) hx hb dX2_partMark_139 (by decide) (fun c_1 => ?_) (fun c_1 => ?_)
  · replace hE := e_t c_1 hE
    exact wbf_partMark_L167 X hr hk hE Y (lv_sub hl [0, 1, 2, 3, 4, 5] rfl)
  · replace hE := e_f c_1 hE
    refine lv_iload_n hx hb dX2_partMark_142 rfl (lv_at hl 3 rfl) ?_
    refine lv_bipush (v := 73) hx hb dX2_partMark_143 (by decide) ?_
    refine lv_icmp_ne (tgt := 167) hx hb dX2_partMark_145 (by decide) (fun c_2 => ?_) (fun c_2 => ?_)
    · replace hE := e_f c_2 hE
      exact wbf_partMark_L167 X hr hk hE Y (lv_sub hl [0, 1, 2, 3, 4, 5] rfl)
    · replace hE := e_t c_2 hE
      refine lv_iload hx hb dX2_partMark_148 (lv_at hl 4 rfl) ?_
      refine lv_bipush (v := 78) hx hb dX2_partMark_150 (by decide) ?_
      refine lv_icmp_ne (tgt := 167) hx hb dX2_partMark_152 (by decide) (fun c_3 => ?_) (fun c_3 => ?_)
      · replace hE := e_f c_3 hE
        exact wbf_partMark_L167 X hr hk hE Y (lv_sub hl [0, 1, 2, 3, 4, 5] rfl)
      · replace hE := e_t c_3 hE
        refine lv_aload_n hx hb dX2_partMark_155 rfl (lv_at hl 0 rfl) ?_
        refine lv_bipush (v := 25) hx hb dX2_partMark_156 (by decide) ?_
        refine lv_bipush (v := 25) hx hb dX2_partMark_158 (by decide) ?_
        obtain ⟨q_4, g, hE⟩ := e_bind hE
        refine n_call1 (n := 2) [.int (25 : Int32), .int (25 : Int32)] X Y (mbf_takeWord l n b X.2.2.2.2.2.2 g) q1975 q1977 qs58 q1978 (by decide +kernel) (by decide) rfl hl.1 (Nat.le_of_ble_eq_true rfl) dX2_partMark_160 (by decide) (fun H locs Y => ?_)
        refine lv_pop hx hb dX2_partMark_163 rfl ?_
        refine lv_bipush (v := 102) hx hb dX2_partMark_164 (by decide) ?_
        cases hE
        exact b_iret X Y hr hk dX2_partMark_166
set_option maxHeartbeats 4000000 in
set_option maxRecDepth 100000 in
theorem wbf_partMark_L107 {l : Launch} {b : bP} {As : List Value} {p : Program} {e : Env} {s : State} {m : MethodId} {below : List Frame} {meth : Method} {c : Code} (X : bX p s m (Value.ref b.h :: As).toArray c cX2_partMark 7 b) (hr : meth.sig.returnType = (some .int)) (hk : meth.locks = false) {n : Nat} {st : bS} {x1 : Int32} {x2 : Int32} {x3 : Int32} {x4 : Int32} {x5 : Int32} {q : bS × Int32} (hE : bf_partMark_L107 n st x1 x2 x3 x4 x5 = some q) {H : Heap} {locs : List Loc} {ls : Array Slot} (Y : bY b s st H locs) (hl : lv_has ls 7 [(0, .ref b.h), (1, .int x1), (2, .int x2), (3, .int x3), (4, .int x4), (5, .int x5)]) : bG l 3 76 b As (some (.int q.2)) q.1 p e s m below meth c H locs (F0 m 107 ls []) := by
  have hx := X.1
  have hb := X.2.1
  have hown := X.2.2.2.1
  have hts := X.2.2.2.2.1
  unfold bf_partMark_L107 at hE
  refine lv_iload hx hb dX2_partMark_107 (lv_at hl 5 rfl) ?_
  refine lv_if_eq (tgt := 137) hx hb dX2_partMark_109 (by decide) (fun c_1 => ?_) (fun c_1 => ?_)
  · replace hE := e_t c_1 hE
    exact wbf_partMark_L137 X hr hk hE Y (lv_sub hl [0, 1, 2, 3, 4, 5] rfl)
  · replace hE := e_f c_1 hE
    refine lv_iload_n hx hb dX2_partMark_112 rfl (lv_at hl 3 rfl) ?_
    refine lv_bipush (v := 65) hx hb dX2_partMark_113 (by decide) ?_
    refine lv_icmp_ne (tgt := 137) hx hb dX2_partMark_115 (by decide) (fun c_2 => ?_) (fun c_2 => ?_)
    · replace hE := e_f c_2 hE
      exact wbf_partMark_L137 X hr hk hE Y (lv_sub hl [0, 1, 2, 3, 4, 5] rfl)
    · replace hE := e_t c_2 hE
      refine lv_iload hx hb dX2_partMark_118 (lv_at hl 4 rfl) ?_
      refine lv_bipush (v := 66) hx hb dX2_partMark_120 (by decide) ?_
      refine lv_icmp_ne (tgt := 137) hx hb dX2_partMark_122 (by decide) (fun c_3 => ?_) (fun c_3 => ?_)
      · replace hE := e_f c_3 hE
        exact wbf_partMark_L137 X hr hk hE Y (lv_sub hl [0, 1, 2, 3, 4, 5] rfl)
      · replace hE := e_t c_3 hE
        refine lv_aload_n hx hb dX2_partMark_125 rfl (lv_at hl 0 rfl) ?_
        refine lv_bipush (v := 24) hx hb dX2_partMark_126 (by decide) ?_
        refine lv_bipush (v := 24) hx hb dX2_partMark_128 (by decide) ?_
        obtain ⟨q_4, g, hE⟩ := e_bind hE
        refine n_call1 (n := 2) [.int (24 : Int32), .int (24 : Int32)] X Y (mbf_takeWord l n b X.2.2.2.2.2.2 g) q1975 q1977 qs58 q1978 (by decide +kernel) (by decide) rfl hl.1 (Nat.le_of_ble_eq_true rfl) dX2_partMark_130 (by decide) (fun H locs Y => ?_)
        refine lv_pop hx hb dX2_partMark_133 rfl ?_
        refine lv_bipush (v := 101) hx hb dX2_partMark_134 (by decide) ?_
        cases hE
        exact b_iret X Y hr hk dX2_partMark_136
set_option maxHeartbeats 4000000 in
set_option maxRecDepth 100000 in
theorem wbf_partMark_L54 {l : Launch} {b : bP} {As : List Value} {p : Program} {e : Env} {s : State} {m : MethodId} {below : List Frame} {meth : Method} {c : Code} (X : bX p s m (Value.ref b.h :: As).toArray c cX2_partMark 7 b) (hr : meth.sig.returnType = (some .int)) (hk : meth.locks = false) {n : Nat} {st : bS} {x1 : Int32} {x2 : Int32} {x3 : Int32} {x4 : Int32} {x5 : Int32} {q : bS × Int32} (hE : bf_partMark_L54 n st x1 x2 x3 x4 x5 = some q) {H : Heap} {locs : List Loc} {ls : Array Slot} (Y : bY b s st H locs) (hl : lv_has ls 7 [(0, .ref b.h), (1, .int x1), (2, .int x2), (3, .int x3), (4, .int x4), (5, .int x5)]) : bG l 3 76 b As (some (.int q.2)) q.1 p e s m below meth c H locs (F0 m 54 ls []) := by
  have hx := X.1
  have hb := X.2.1
  have hown := X.2.2.2.1
  have hts := X.2.2.2.2.1
  unfold bf_partMark_L54 at hE
  refine lv_iload_n hx hb dX2_partMark_54 rfl (lv_at hl 3 rfl) ?_
  refine lv_bipush (v := 40) hx hb dX2_partMark_55 (by decide) ?_
  refine lv_icmp_ne (tgt := 63) hx hb dX2_partMark_57 (by decide) (fun c_1 => ?_) (fun c_1 => ?_)
  · replace hE := e_f c_1 hE
    refine lv_aload_n hx hb dX2_partMark_63 rfl (lv_at hl 0 rfl) ?_
    refine lv_iload_n hx hb dX2_partMark_64 rfl (lv_at hl 3 rfl) ?_
    obtain ⟨q_2, g, hE⟩ := e_bind hE
    refine n_call1 (n := 1) [.int x3] X Y (mbf_isMatrix l n b X.2.2.2.2.2.2 g) q2028 q2030 qs64 q2031 (by decide +kernel) (by decide) rfl hl.1 (Nat.le_of_ble_eq_true rfl) dX2_partMark_65 (by decide) (fun H locs Y => ?_)
    refine lv_if_eq (tgt := 89) hx hb dX2_partMark_68 (by decide) (fun c_3 => ?_) (fun c_3 => ?_)
    · replace hE := e_t c_3 hE
      refine lv_iload_n hx hb dX2_partMark_89 rfl (lv_at hl 3 rfl) ?_
      refine lv_bipush (v := 48) hx hb dX2_partMark_90 (by decide) ?_
      refine lv_icmp_lt (tgt := 107) hx hb dX2_partMark_92 (by decide) (fun c_4 => ?_) (fun c_4 => ?_)
      · replace hE := e_t c_4 hE
        exact wbf_partMark_L107 X hr hk hE Y (lv_sub hl [0, 1, 2, 3, 4, 5] rfl)
      · replace hE := e_f c_4 hE
        refine lv_iload_n hx hb dX2_partMark_95 rfl (lv_at hl 3 rfl) ?_
        refine lv_bipush (v := 57) hx hb dX2_partMark_96 (by decide) ?_
        refine lv_icmp_gt (tgt := 107) hx hb dX2_partMark_98 (by decide) (fun c_5 => ?_) (fun c_5 => ?_)
        · replace hE := e_t c_5 hE
          exact wbf_partMark_L107 X hr hk hE Y (lv_sub hl [0, 1, 2, 3, 4, 5] rfl)
        · replace hE := e_f c_5 hE
          refine lv_aload_n hx hb dX2_partMark_101 rfl (lv_at hl 0 rfl) ?_
          obtain ⟨q_6, g, hE⟩ := e_bind hE
          refine n_call0 (n := 0) [] X Y (mbf_numeral l n b X.2.2.2.2.2.2 g) q2064 q2066 qs73 q2067 (by decide +kernel) (by decide) rfl hl.1 (Nat.le_of_ble_eq_true rfl) dX2_partMark_102 (by decide) (fun H locs Y => ?_)
          refine lv_iconst (v := 0) hx hb dX2_partMark_105 (by decide) ?_
          cases hE
          exact b_iret X Y hr hk dX2_partMark_106
    · replace hE := e_f c_3 hE
      refine lv_aload_n hx hb dX2_partMark_71 rfl (lv_at hl 0 rfl) ?_
      refine lv_dup hx hb dX2_partMark_72 rfl ?_
      refine b_geti X Y 4 rfl (by decide) rfl q1807 dX2_partMark_73 ?_
      refine lv_iconst (v := 1) hx hb dX2_partMark_76 (by decide) ?_
      refine lv_iadd hx hb dX2_partMark_77 ?_
      obtain ⟨st_7, g, hE⟩ := e_bind hE
      refine n_put X Y 4 rfl (by decide) g rfl rfl rfl q1807 dX2_partMark_78 (fun H locs Y => ?_)
      refine lv_bipush (v := 110) hx hb dX2_partMark_81 (by decide) ?_
      refine lv_iload_n hx hb dX2_partMark_83 rfl (lv_at hl 3 rfl) ?_
      refine lv_iadd hx hb dX2_partMark_84 ?_
      refine lv_bipush (v := 80) hx hb dX2_partMark_85 (by decide) ?_
      refine lv_isub hx hb dX2_partMark_87 ?_
      cases hE
      exact b_iret X Y hr hk dX2_partMark_88
  · replace hE := e_t c_1 hE
    refine lv_bipush (v := 100) hx hb dX2_partMark_60 (by decide) ?_
    cases hE
    exact b_iret X Y hr hk dX2_partMark_62
set_option maxHeartbeats 4000000 in
set_option maxRecDepth 100000 in
theorem wbf_partMark_L47 {l : Launch} {b : bP} {As : List Value} {p : Program} {e : Env} {s : State} {m : MethodId} {below : List Frame} {meth : Method} {c : Code} (X : bX p s m (Value.ref b.h :: As).toArray c cX2_partMark 7 b) (hr : meth.sig.returnType = (some .int)) (hk : meth.locks = false) {n : Nat} {st : bS} {q : bS × Int32} (hE : bf_partMark_L47 n st = some q) {H : Heap} {locs : List Loc} {ls : Array Slot} (Y : bY b s st H locs) (hl : lv_has ls 7 [(0, .ref b.h)]) : bG l 3 76 b As (some (.int q.2)) q.1 p e s m below meth c H locs (F0 m 47 ls []) := by
  have hx := X.1
  have hb := X.2.1
  have hown := X.2.2.2.1
  have hts := X.2.2.2.2.1
  unfold bf_partMark_L47 at hE
  refine lv_aload_n hx hb dX2_partMark_47 rfl (lv_at hl 0 rfl) ?_
  refine lv_iconst (v := 1) hx hb dX2_partMark_48 (by decide) ?_
  obtain ⟨st_1, g, hE⟩ := e_bind hE
  refine n_put X Y 7 rfl (by decide) g rfl rfl rfl q1810 dX2_partMark_49 (fun H locs Y => ?_)
  refine lv_iconst (v := 0) hx hb dX2_partMark_52 (by decide) ?_
  cases hE
  exact b_iret X Y hr hk dX2_partMark_53
set_option maxHeartbeats 4000000 in
set_option maxRecDepth 100000 in
theorem wbf_partMark_L26 {l : Launch} {b : bP} {As : List Value} {p : Program} {e : Env} {s : State} {m : MethodId} {below : List Frame} {meth : Method} {c : Code} (X : bX p s m (Value.ref b.h :: As).toArray c cX2_partMark 7 b) (hr : meth.sig.returnType = (some .int)) (hk : meth.locks = false) {n : Nat} {st : bS} {x1 : Int32} {x2 : Int32} {x3 : Int32} {x4 : Int32} {z26_0 : Int32} {q : bS × Int32} (hE : bf_partMark_L26 n st x1 x2 x3 x4 z26_0 = some q) {H : Heap} {locs : List Loc} {ls : Array Slot} (Y : bY b s st H locs) (hl : lv_has ls 7 [(0, .ref b.h), (1, .int x1), (2, .int x2), (3, .int x3), (4, .int x4)]) : bG l 3 76 b As (some (.int q.2)) q.1 p e s m below meth c H locs (F0 m 26 ls [.int z26_0]) := by
  have hx := X.1
  have hb := X.2.1
  have hown := X.2.2.2.1
  have hts := X.2.2.2.2.1
  unfold bf_partMark_L26 at hE
  refine lv_istore (lv' := [(5, .int z26_0), (0, .ref b.h), (1, .int x1), (2, .int x2), (3, .int x3), (4, .int x4)]) hx hb dX2_partMark_26 hl (by decide) rfl (fun ls hl => ?_)
  refine lv_iload hx hb dX2_partMark_28 (lv_at hl 0 rfl) ?_
  refine lv_if_ne (tgt := 54) hx hb dX2_partMark_30 (by decide) (fun c_1 => ?_) (fun c_1 => ?_)
  · replace hE := e_f c_1 hE
    exact wbf_partMark_L54 X hr hk hE Y (lv_sub hl [1, 2, 3, 4, 5, 0] rfl)
  · replace hE := e_t c_1 hE
    refine lv_iload_n hx hb dX2_partMark_33 rfl (lv_at hl 4 rfl) ?_
    refine lv_bipush (v := 40) hx hb dX2_partMark_34 (by decide) ?_
    refine lv_icmp_eq (tgt := 47) hx hb dX2_partMark_36 (by decide) (fun c_2 => ?_) (fun c_2 => ?_)
    · replace hE := e_t c_2 hE
      exact wbf_partMark_L47 X hr hk hE Y (lv_sub hl [1] rfl)
    · replace hE := e_f c_2 hE
      refine lv_aload_n hx hb dX2_partMark_39 rfl (lv_at hl 1 rfl) ?_
      refine lv_iload_n hx hb dX2_partMark_40 rfl (lv_at hl 4 rfl) ?_
      obtain ⟨q_3, g, hE⟩ := e_bind hE
      refine n_call1 (n := 1) [.int x3] X Y (mbf_isMatrix l n b X.2.2.2.2.2.2 g) q2028 q2030 qs64 q2031 (by decide +kernel) (by decide) rfl hl.1 (Nat.le_of_ble_eq_true rfl) dX2_partMark_41 (by decide) (fun H locs Y => ?_)
      refine lv_if_eq (tgt := 54) hx hb dX2_partMark_44 (by decide) (fun c_4 => ?_) (fun c_4 => ?_)
      · replace hE := e_t c_4 hE
        exact wbf_partMark_L54 X hr hk hE Y (lv_sub hl [1, 2, 3, 4, 5, 0] rfl)
      · replace hE := e_f c_4 hE
        exact wbf_partMark_L47 X hr hk hE Y (lv_sub hl [1] rfl)
set_option maxHeartbeats 4000000 in
set_option maxRecDepth 100000 in
theorem mbf_partMark (l : Launch) (n : Nat) (b : bP) (ok : bOk b) {st : bS} {a1 : Int32} {a2 : Int32} {q : bS × Int32} (hE : bf_partMark n st a1 a2 = some q) : bMet l yX2_partMark cX2_partMark 7 (some .int) 3 76 b [.int a1, .int a2] st (some (.int q.2)) q.1 := by
  refine b_ofW (by decide) rfl ok (Nat.le_of_ble_eq_true rfl) (fun p e s m below meth c ls X Y hr hk hl => ?_)
  have hl : lv_has ls 7 [(0, .ref b.h), (1, .int a1), (2, .int a2)] := hl
  generalize s.heap = H at Y ⊢
  generalize ([] : List Loc) = locs at Y ⊢
  have hx := X.1
  have hb := X.2.1
  have hown := X.2.2.2.1
  have hts := X.2.2.2.2.1
  unfold bf_partMark at hE
  refine lv_aload_n hx hb dX2_partMark_0 rfl (lv_at hl 0 rfl) ?_
  obtain ⟨q_1, g, hE⟩ := e_bind hE
  refine n_call1 (n := 0) [] X Y (mbf_look l n b X.2.2.2.2.2.2 g) q1967 q1969 qs56 q1970 (by decide +kernel) (by decide) rfl hl.1 (Nat.le_of_ble_eq_true rfl) dX2_partMark_1 (by decide) (fun H locs Y => ?_)
  refine lv_istore_n (lv' := [(3, .int q_1.2), (0, .ref b.h), (1, .int a1), (2, .int a2)]) hx hb dX2_partMark_4 rfl hl (by decide) rfl (fun ls hl => ?_)
  refine lv_aload_n hx hb dX2_partMark_5 rfl (lv_at hl 1 rfl) ?_
  refine lv_iconst (v := 1) hx hb dX2_partMark_6 (by decide) ?_
  obtain ⟨q_2, g, hE⟩ := e_bind hE
  refine n_call1 (n := 1) [.int (1 : Int32)] X Y (mbf_lookAt l n b X.2.2.2.2.2.2 g) q2020 q2022 qs62 q2023 (by decide +kernel) (by decide) rfl hl.1 (Nat.le_of_ble_eq_true rfl) dX2_partMark_7 (by decide) (fun H locs Y => ?_)
  refine lv_istore (lv' := [(4, .int q_2.2), (3, .int q_1.2), (0, .ref b.h), (1, .int a1), (2, .int a2)]) hx hb dX2_partMark_10 hl (by decide) rfl (fun ls hl => ?_)
  refine lv_aload_n hx hb dX2_partMark_12 rfl (lv_at hl 2 rfl) ?_
  refine b_geti X Y 5 rfl (by decide) rfl q1808 dX2_partMark_13 ?_
  refine lv_bipush (v := 6) hx hb dX2_partMark_16 (by decide) ?_
  refine lv_icmp_ge (tgt := 25) hx hb dX2_partMark_18 (by decide) (fun c_3 => ?_) (fun c_3 => ?_)
  · replace hE := e_t c_3 hE
    refine lv_iconst (v := 0) hx hb dX2_partMark_25 (by decide) ?_
    exact wbf_partMark_L26 X hr hk hE Y (lv_sub hl [2, 3, 4, 1, 0] rfl)
  · replace hE := e_f c_3 hE
    refine lv_iconst (v := 1) hx hb dX2_partMark_21 (by decide) ?_
    refine lv_goto (tgt := 26) hx hb dX2_partMark_22 (by decide) ?_
    exact wbf_partMark_L26 X hr hk hE Y (lv_sub hl [2, 3, 4, 1, 0] rfl)
/-! BasicMachineModel.closeMark(I)V -/
set_option maxHeartbeats 4000000 in
set_option maxRecDepth 100000 in
theorem mbf_closeMark (l : Launch) (n : Nat) (b : bP) (ok : bOk b) {st : bS} {a1 : Int32} {q : bS × Unit} (hE : bf_closeMark n st a1 = some q) : bMet l yX2_closeMark cX2_closeMark 2 none 1 21 b [.int a1] st none q.1 := by
  refine b_ofW (by decide) rfl ok (Nat.le_of_ble_eq_true rfl) (fun p e s m below meth c ls X Y hr hk hl => ?_)
  have hl : lv_has ls 2 [(0, .ref b.h), (1, .int a1)] := hl
  generalize s.heap = H at Y ⊢
  generalize ([] : List Loc) = locs at Y ⊢
  have hx := X.1
  have hb := X.2.1
  have hown := X.2.2.2.1
  have hts := X.2.2.2.2.1
  unfold bf_closeMark at hE
  refine lv_iload_n hx hb dX2_closeMark_0 rfl (lv_at hl 1 rfl) ?_
  refine lv_bipush (v := 100) hx hb dX2_closeMark_1 (by decide) ?_
  refine lv_icmp_ne (tgt := 7) hx hb dX2_closeMark_3 (by decide) (fun c_1 => ?_) (fun c_1 => ?_)
  · replace hE := e_f c_1 hE
    refine lv_iload_n hx hb dX2_closeMark_7 rfl (lv_at hl 1 rfl) ?_
    refine lv_bipush (v := 104) hx hb dX2_closeMark_8 (by decide) ?_
    refine lv_icmp_ge (tgt := 27) hx hb dX2_closeMark_10 (by decide) (fun c_2 => ?_) (fun c_2 => ?_)
    · replace hE := e_t c_2 hE
      refine lv_iload_n hx hb dX2_closeMark_27 rfl (lv_at hl 1 rfl) ?_
      refine lv_bipush (v := 110) hx hb dX2_closeMark_28 (by decide) ?_
      refine lv_icmp_ge (tgt := 50) hx hb dX2_closeMark_30 (by decide) (fun c_3 => ?_) (fun c_3 => ?_)
      · replace hE := e_t c_3 hE
        refine lv_aload_n hx hb dX2_closeMark_50 rfl (lv_at hl 0 rfl) ?_
        refine lv_iconst (v := 2) hx hb dX2_closeMark_51 (by decide) ?_
        obtain ⟨q_4, g, hE⟩ := e_bind hE
        refine n_call0 (n := 1) [.int (2 : Int32)] X Y (mbf_make l n b X.2.2.2.2.2.2 g) q2068 q2070 qs74 q2071 (by decide +kernel) (by decide) rfl hl.1 (Nat.le_of_ble_eq_true rfl) dX2_closeMark_52 (by decide) (fun H locs Y => ?_)
        refine lv_aload_n hx hb dX2_closeMark_55 rfl (lv_at hl 0 rfl) ?_
        refine lv_iload_n hx hb dX2_closeMark_56 rfl (lv_at hl 1 rfl) ?_
        refine lv_bipush (v := 120) hx hb dX2_closeMark_57 (by decide) ?_
        refine lv_isub hx hb dX2_closeMark_59 ?_
        obtain ⟨q_5, g, hE⟩ := e_bind hE
        refine n_call0 (n := 1) [.int (a1 - (120 : Int32))] X Y (mbf_make l n b X.2.2.2.2.2.2 g) q2068 q2070 qs74 q2071 (by decide +kernel) (by decide) rfl hl.1 (Nat.le_of_ble_eq_true rfl) dX2_closeMark_60 (by decide) (fun H locs Y => ?_)
        cases hE
        exact b_vret X Y hr hk dX2_closeMark_63
      · replace hE := e_f c_3 hE
        refine lv_aload_n hx hb dX2_closeMark_33 rfl (lv_at hl 0 rfl) ?_
        refine lv_bipush (v := 13) hx hb dX2_closeMark_34 (by decide) ?_
        obtain ⟨q_6, g, hE⟩ := e_bind hE
        refine n_call0 (n := 1) [.int (13 : Int32)] X Y (mbf_make l n b X.2.2.2.2.2.2 g) q2068 q2070 qs74 q2071 (by decide +kernel) (by decide) rfl hl.1 (Nat.le_of_ble_eq_true rfl) dX2_closeMark_36 (by decide) (fun H locs Y => ?_)
        refine lv_aload_n hx hb dX2_closeMark_39 rfl (lv_at hl 0 rfl) ?_
        refine lv_iload_n hx hb dX2_closeMark_40 rfl (lv_at hl 1 rfl) ?_
        refine lv_bipush (v := 104) hx hb dX2_closeMark_41 (by decide) ?_
        refine lv_isub hx hb dX2_closeMark_43 ?_
        obtain ⟨q_7, g, hE⟩ := e_bind hE
        refine n_call0 (n := 1) [.int (a1 - (104 : Int32))] X Y (mbf_make l n b X.2.2.2.2.2.2 g) q2068 q2070 qs74 q2071 (by decide +kernel) (by decide) rfl hl.1 (Nat.le_of_ble_eq_true rfl) dX2_closeMark_44 (by decide) (fun H locs Y => ?_)
        refine lv_goto (tgt := 63) hx hb dX2_closeMark_47 (by decide) ?_
        cases hE
        exact b_vret X Y hr hk dX2_closeMark_63
    · replace hE := e_f c_2 hE
      refine lv_aload_n hx hb dX2_closeMark_13 rfl (lv_at hl 0 rfl) ?_
      refine lv_bipush (v := 9) hx hb dX2_closeMark_14 (by decide) ?_
      refine lv_iload_n hx hb dX2_closeMark_16 rfl (lv_at hl 1 rfl) ?_
      refine lv_iadd hx hb dX2_closeMark_17 ?_
      refine lv_bipush (v := 101) hx hb dX2_closeMark_18 (by decide) ?_
      refine lv_isub hx hb dX2_closeMark_20 ?_
      obtain ⟨q_8, g, hE⟩ := e_bind hE
      refine n_call0 (n := 1) [.int (((9 : Int32) + a1) - (101 : Int32))] X Y (mbf_make l n b X.2.2.2.2.2.2 g) q2068 q2070 qs74 q2071 (by decide +kernel) (by decide) rfl hl.1 (Nat.le_of_ble_eq_true rfl) dX2_closeMark_21 (by decide) (fun H locs Y => ?_)
      refine lv_goto (tgt := 63) hx hb dX2_closeMark_24 (by decide) ?_
      cases hE
      exact b_vret X Y hr hk dX2_closeMark_63
  · replace hE := e_t c_1 hE
    cases hE
    exact b_vret X Y hr hk dX2_closeMark_6
/-! BasicMachineModel.operator(I)I -/
set_option maxHeartbeats 4000000 in
set_option maxRecDepth 100000 in
theorem mbf_operator (l : Launch) (n : Nat) (b : bP) (ok : bOk b) {st : bS} {a1 : Int32} {q : bS × Int32} (hE : bf_operator n st a1 = some q) : bMet l yX2_operator cX2_operator 2 (some .int) 0 0 b [.int a1] st (some (.int q.2)) q.1 := by
  refine b_ofW (by decide) rfl ok (Nat.le_of_ble_eq_true rfl) (fun p e s m below meth c ls X Y hr hk hl => ?_)
  have hl : lv_has ls 2 [(0, .ref b.h), (1, .int a1)] := hl
  generalize s.heap = H at Y ⊢
  generalize ([] : List Loc) = locs at Y ⊢
  have hx := X.1
  have hb := X.2.1
  have hown := X.2.2.2.1
  have hts := X.2.2.2.2.1
  unfold bf_operator at hE
  refine lv_iload_n hx hb dX2_operator_0 rfl (lv_at hl 1 rfl) ?_
  refine lv_bipush (v := 43) hx hb dX2_operator_1 (by decide) ?_
  refine lv_icmp_ne (tgt := 10) hx hb dX2_operator_3 (by decide) (fun c_1 => ?_) (fun c_1 => ?_)
  · replace hE := e_f c_1 hE
    refine lv_iload_n hx hb dX2_operator_10 rfl (lv_at hl 1 rfl) ?_
    refine lv_bipush (v := 45) hx hb dX2_operator_11 (by decide) ?_
    refine lv_icmp_ne (tgt := 20) hx hb dX2_operator_13 (by decide) (fun c_2 => ?_) (fun c_2 => ?_)
    · replace hE := e_f c_2 hE
      refine lv_iload_n hx hb dX2_operator_20 rfl (lv_at hl 1 rfl) ?_
      refine lv_bipush (v := 42) hx hb dX2_operator_21 (by decide) ?_
      refine lv_icmp_ne (tgt := 30) hx hb dX2_operator_23 (by decide) (fun c_3 => ?_) (fun c_3 => ?_)
      · replace hE := e_f c_3 hE
        refine lv_iload_n hx hb dX2_operator_30 rfl (lv_at hl 1 rfl) ?_
        refine lv_bipush (v := 47) hx hb dX2_operator_31 (by decide) ?_
        refine lv_icmp_ne (tgt := 41) hx hb dX2_operator_33 (by decide) (fun c_4 => ?_) (fun c_4 => ?_)
        · replace hE := e_f c_4 hE
          refine lv_iload_n hx hb dX2_operator_41 rfl (lv_at hl 1 rfl) ?_
          refine lv_bipush (v := 94) hx hb dX2_operator_42 (by decide) ?_
          refine lv_icmp_ne (tgt := 52) hx hb dX2_operator_44 (by decide) (fun c_5 => ?_) (fun c_5 => ?_)
          · replace hE := e_f c_5 hE
            refine lv_iconst (v := 0) hx hb dX2_operator_52 (by decide) ?_
            cases hE
            exact b_iret X Y hr hk dX2_operator_53
          · replace hE := e_t c_5 hE
            refine lv_bipush (v := 7) hx hb dX2_operator_47 (by decide) ?_
            refine lv_goto (tgt := 53) hx hb dX2_operator_49 (by decide) ?_
            cases hE
            exact b_iret X Y hr hk dX2_operator_53
        · replace hE := e_t c_4 hE
          refine lv_bipush (v := 6) hx hb dX2_operator_36 (by decide) ?_
          refine lv_goto (tgt := 53) hx hb dX2_operator_38 (by decide) ?_
          cases hE
          exact b_iret X Y hr hk dX2_operator_53
      · replace hE := e_t c_3 hE
        refine lv_iconst (v := 5) hx hb dX2_operator_26 (by decide) ?_
        refine lv_goto (tgt := 53) hx hb dX2_operator_27 (by decide) ?_
        cases hE
        exact b_iret X Y hr hk dX2_operator_53
    · replace hE := e_t c_2 hE
      refine lv_iconst (v := 4) hx hb dX2_operator_16 (by decide) ?_
      refine lv_goto (tgt := 53) hx hb dX2_operator_17 (by decide) ?_
      cases hE
      exact b_iret X Y hr hk dX2_operator_53
  · replace hE := e_t c_1 hE
    refine lv_iconst (v := 3) hx hb dX2_operator_6 (by decide) ?_
    refine lv_goto (tgt := 53) hx hb dX2_operator_7 (by decide) ?_
    cases hE
    exact b_iret X Y hr hk dX2_operator_53
/-! BasicMachineModel.expression(Z)I -/
set_option maxHeartbeats 4000000 in
set_option maxRecDepth 100000 in
theorem wbf_expression_L318 {l : Launch} {b : bP} {As : List Value} {p : Program} {e : Env} {s : State} {m : MethodId} {below : List Frame} {meth : Method} {c : Code} (X : bX p s m (Value.ref b.h :: As).toArray c cX2_expression 10 b) (hr : meth.sig.returnType = (some .int)) (hk : meth.locks = false) {n : Nat} {st : bS} {x2 : Int32} {x3 : Int32} {q : bS × Int32} (hE : bf_expression_L318 n st x2 x3 = some q) {H : Heap} {locs : List Loc} {ls : Array Slot} (Y : bY b s st H locs) (hl : lv_has ls 10 [(0, .ref b.h), (2, .int x2), (3, .int x3)]) : bG l 4 102 b As (some (.int q.2)) q.1 p e s m below meth c H locs (F0 m 318 ls []) := by
  have hx := X.1
  have hb := X.2.1
  have hown := X.2.2.2.1
  have hts := X.2.2.2.2.1
  unfold bf_expression_L318 at hE
  refine lv_aload_n hx hb dX2_expression_318 rfl (lv_at hl 0 rfl) ?_
  refine lv_iload_n hx hb dX2_expression_319 rfl (lv_at hl 2 rfl) ?_
  refine lv_iconst (v := 1) hx hb dX2_expression_320 (by decide) ?_
  obtain ⟨q_1, g, hE⟩ := e_bind hE
  refine n_call1 (n := 2) [.int x3, .int (1 : Int32)] X Y (mbf_settle l n b X.2.2.2.2.2.2 g) q2080 q2082 qs77 q2083 (by decide +kernel) (by decide) rfl hl.1 (Nat.le_of_ble_eq_true rfl) dX2_expression_321 (by decide) (fun H locs Y => ?_)
  refine lv_istore_n (lv' := [(3, .int q_1.2), (0, .ref b.h), (2, .int x2)]) hx hb dX2_expression_324 rfl hl (by decide) rfl (fun ls hl => ?_)
  refine lv_aload_n hx hb dX2_expression_325 rfl (lv_at hl 1 rfl) ?_
  refine lv_bipush (v := 14) hx hb dX2_expression_326 (by decide) ?_
  obtain ⟨q_2, g, hE⟩ := e_bind hE
  refine n_call0 (n := 1) [.int (14 : Int32)] X Y (mbf_make l n b X.2.2.2.2.2.2 g) q2068 q2070 qs74 q2071 (by decide +kernel) (by decide) rfl hl.1 (Nat.le_of_ble_eq_true rfl) dX2_expression_328 (by decide) (fun H locs Y => ?_)
  refine lv_iload_n hx hb dX2_expression_331 rfl (lv_at hl 2 rfl) ?_
  cases hE
  exact b_iret X Y hr hk dX2_expression_332
set_option maxHeartbeats 4000000 in
set_option maxRecDepth 100000 in
theorem wbf_expression_L278 {l : Launch} {b : bP} {As : List Value} {p : Program} {e : Env} {s : State} {m : MethodId} {below : List Frame} {meth : Method} {c : Code} (X : bX p s m (Value.ref b.h :: As).toArray c cX2_expression 10 b) (hr : meth.sig.returnType = (some .int)) (hk : meth.locks = false) {n : Nat} {st : bS} {x2 : Int32} {x3 : Int32} {q : bS × Int32} (hE : bf_expression_L278 n st x2 x3 = some q) {H : Heap} {locs : List Loc} {ls : Array Slot} (Y : bY b s st H locs) (hl : lv_has ls 10 [(0, .ref b.h), (2, .int x2), (3, .int x3)]) : bG l 4 102 b As (some (.int q.2)) q.1 p e s m below meth c H locs (F0 m 278 ls []) := by
  have hx := X.1
  have hb := X.2.1
  have hown := X.2.2.2.1
  have hts := X.2.2.2.2.1
  unfold bf_expression_L278 at hE
  refine lv_aload_n hx hb dX2_expression_278 rfl (lv_at hl 0 rfl) ?_
  refine lv_iconst (v := 1) hx hb dX2_expression_279 (by decide) ?_
  obtain ⟨st_1, g, hE⟩ := e_bind hE
  refine n_put X Y 7 rfl (by decide) g rfl rfl rfl q1810 dX2_expression_280 (fun H locs Y => ?_)
  refine lv_goto (tgt := 318) hx hb dX2_expression_283 (by decide) ?_
  exact wbf_expression_L318 X hr hk hE Y (lv_sub hl [0, 1, 2] rfl)
set_option maxHeartbeats 4000000 in
set_option maxRecDepth 100000 in
theorem wbf_expression_S16_ {l : Launch} {b : bP} {As : List Value} {p : Program} {e : Env} {s : State} {m : MethodId} {below : List Frame} {meth : Method} {c : Code} (X : bX p s m (Value.ref b.h :: As).toArray c cX2_expression 10 b) (hr : meth.sig.returnType = (some .int)) (hk : meth.locks = false) (n : Nat) {q : bS × Int32} : ∀ k : Nat, (∀ {st : bS} {x1 : Int32} {x2 : Int32} {x3 : Int32} {x4 : Int32} {x5 : Int32} {x6 : Int32} {x7 : Int32} {x9 : Int32} {z88_1 : Int32} {z88_2 : Int32}, bf_expression_S16 n k 0 st x1 x2 x3 x4 x5 x6 x7 x9 z88_1 z88_2 = some q → ∀ {H : Heap} {locs : List Loc} {ls : Array Slot}, bY b s st H locs → lv_has ls 10 [(0, .ref b.h), (1, .int x1), (2, .int x2), (3, .int x3), (4, .int x4), (5, .int x5), (6, .int x6)] → bG l 4 102 b As (some (.int q.2)) q.1 p e s m below meth c H locs (F0 m 16 ls [])) ∧ (∀ {st : bS} {x1 : Int32} {x2 : Int32} {x3 : Int32} {x4 : Int32} {x5 : Int32} {x6 : Int32} {x7 : Int32} {x9 : Int32} {z88_1 : Int32} {z88_2 : Int32}, bf_expression_S16 n k 1 st x1 x2 x3 x4 x5 x6 x7 x9 z88_1 z88_2 = some q → ∀ {H : Heap} {locs : List Loc} {ls : Array Slot}, bY b s st H locs → lv_has ls 10 [(0, .ref b.h), (1, .int x1), (2, .int x2), (3, .int x3), (4, .int x4), (5, .int x5)] → bG l 4 102 b As (some (.int q.2)) q.1 p e s m below meth c H locs (F0 m 73 ls [])) ∧ (∀ {st : bS} {x1 : Int32} {x2 : Int32} {x3 : Int32} {x4 : Int32} {x5 : Int32} {x6 : Int32} {x7 : Int32} {x9 : Int32} {z88_1 : Int32} {z88_2 : Int32}, bf_expression_S16 n k 2 st x1 x2 x3 x4 x5 x6 x7 x9 z88_1 z88_2 = some q → ∀ {H : Heap} {locs : List Loc} {ls : Array Slot}, bY b s st H locs → lv_has ls 10 [(0, .ref b.h), (1, .int x1), (2, .int x2), (3, .int x3), (4, .int x4), (5, .int x5), (6, .int x6)] → bG l 4 102 b As (some (.int q.2)) q.1 p e s m below meth c H locs (F0 m 88 ls [.int z88_2, .int z88_1, .ref b.h])) ∧ (∀ {st : bS} {x1 : Int32} {x2 : Int32} {x3 : Int32} {x4 : Int32} {x5 : Int32} {x6 : Int32} {x7 : Int32} {x9 : Int32} {z88_1 : Int32} {z88_2 : Int32}, bf_expression_S16 n k 3 st x1 x2 x3 x4 x5 x6 x7 x9 z88_1 z88_2 = some q → ∀ {H : Heap} {locs : List Loc} {ls : Array Slot}, bY b s st H locs → lv_has ls 10 [(0, .ref b.h), (1, .int x1), (2, .int x2), (3, .int x3), (4, .int x4), (5, .int x5), (6, .int x6), (7, .int x7), (9, .int x9)] → bG l 4 102 b As (some (.int q.2)) q.1 p e s m below meth c H locs (F0 m 232 ls [])) ∧ (∀ {st : bS} {x1 : Int32} {x2 : Int32} {x3 : Int32} {x4 : Int32} {x5 : Int32} {x6 : Int32} {x7 : Int32} {x9 : Int32} {z88_1 : Int32} {z88_2 : Int32}, bf_expression_S16 n k 4 st x1 x2 x3 x4 x5 x6 x7 x9 z88_1 z88_2 = some q → ∀ {H : Heap} {locs : List Loc} {ls : Array Slot}, bY b s st H locs → lv_has ls 10 [(0, .ref b.h), (1, .int x1), (2, .int x2), (3, .int x3), (4, .int x4), (5, .int x5), (6, .int x6), (9, .int x9)] → bG l 4 102 b As (some (.int q.2)) q.1 p e s m below meth c H locs (F0 m 253 ls [])) ∧ (∀ {st : bS} {x1 : Int32} {x2 : Int32} {x3 : Int32} {x4 : Int32} {x5 : Int32} {x6 : Int32} {x7 : Int32} {x9 : Int32} {z88_1 : Int32} {z88_2 : Int32}, bf_expression_S16 n k 5 st x1 x2 x3 x4 x5 x6 x7 x9 z88_1 z88_2 = some q → ∀ {H : Heap} {locs : List Loc} {ls : Array Slot}, bY b s st H locs → lv_has ls 10 [(0, .ref b.h), (1, .int x1), (2, .int x2), (3, .int x3), (4, .int x4), (5, .int x5), (6, .int x6)] → bG l 4 102 b As (some (.int q.2)) q.1 p e s m below meth c H locs (F0 m 286 ls [])) := by
  have hx := X.1
  have hb := X.2.1
  have hown := X.2.2.2.1
  have hts := X.2.2.2.2.1
  intro k
  induction k with
  | zero => exact ⟨(fun h => nomatch (show none = some q from h)), (fun h => nomatch (show none = some q from h)), (fun h => nomatch (show none = some q from h)), (fun h => nomatch (show none = some q from h)), (fun h => nomatch (show none = some q from h)), (fun h => nomatch (show none = some q from h))⟩
  | succ k ih =>
    obtain ⟨ih0, ih1, ih2, ih3, ih4, ih5⟩ := ih
    refine ⟨?_, ?_, ?_, ?_, ?_, ?_⟩
    · intro st x1 x2 x3 x4 x5 x6 x7 x9 z88_1 z88_2 hE H locs ls Y hl
      replace hE : bf_expression_B16 n (bf_expression_S16 n k) st x1 x2 x3 x4 x5 x6 x7 x9 z88_1 z88_2 = some q := hE
      unfold bf_expression_B16 at hE
      refine lv_aload_n hx hb dX2_expression_16 rfl (lv_at hl 0 rfl) ?_
      refine b_geti X Y 7 rfl (by decide) rfl q1810 dX2_expression_17 ?_
      refine lv_if_ne (tgt := 318) hx hb dX2_expression_20 (by decide) (fun c_1 => ?_) (fun c_1 => ?_)
      · replace hE := e_f c_1 hE
        exact wbf_expression_L318 X hr hk hE Y (lv_sub hl [0, 2, 3] rfl)
      · replace hE := e_t c_1 hE
        refine lv_aload_n hx hb dX2_expression_23 rfl (lv_at hl 0 rfl) ?_
        obtain ⟨q_2, g, hE⟩ := e_bind hE
        refine n_call1 (n := 0) [] X Y (mbf_look l n b X.2.2.2.2.2.2 g) q1967 q1969 qs56 q1970 (by decide +kernel) (by decide) rfl hl.1 (Nat.le_of_ble_eq_true rfl) dX2_expression_24 (by decide) (fun H locs Y => ?_)
        refine lv_istore (lv' := [(7, .int q_2.2), (0, .ref b.h), (1, .int x1), (2, .int x2), (3, .int x3), (4, .int x4), (5, .int x5), (6, .int x6)]) hx hb dX2_expression_27 hl (by decide) rfl (fun ls hl => ?_)
        refine lv_iload hx hb dX2_expression_29 (lv_at hl 6 rfl) ?_
        refine lv_if_eq (tgt := 128) hx hb dX2_expression_31 (by decide) (fun c_3 => ?_) (fun c_3 => ?_)
        · replace hE := e_t c_3 hE
          refine lv_aload_n hx hb dX2_expression_128 rfl (lv_at hl 1 rfl) ?_
          refine lv_iload hx hb dX2_expression_129 (lv_at hl 0 rfl) ?_
          obtain ⟨q_4, g, hE⟩ := e_bind hE
          refine n_call1 (n := 1) [.int q_2.2] X Y (mbf_operator l n b X.2.2.2.2.2.2 g) q2072 q2074 qs75 q2075 (by decide +kernel) (by decide) rfl hl.1 (Nat.le_of_ble_eq_true rfl) dX2_expression_131 (by decide) (fun H locs Y => ?_)
          refine lv_istore (lv' := [(8, .int q_4.2), (7, .int q_2.2), (0, .ref b.h), (1, .int x1), (2, .int x2), (3, .int x3), (4, .int x4), (5, .int x5), (6, .int x6)]) hx hb dX2_expression_134 hl (by decide) rfl (fun ls hl => ?_)
          refine lv_iload hx hb dX2_expression_136 (lv_at hl 0 rfl) ?_
          refine lv_if_le (tgt := 164) hx hb dX2_expression_138 (by decide) (fun c_5 => ?_) (fun c_5 => ?_)
          · replace hE := e_t c_5 hE
            refine lv_iload hx hb dX2_expression_164 (lv_at hl 6 rfl) ?_
            refine lv_if_ne (tgt := 172) hx hb dX2_expression_166 (by decide) (fun c_6 => ?_) (fun c_6 => ?_)
            · replace hE := e_f c_6 hE
              refine lv_aload_n hx hb dX2_expression_172 rfl (lv_at hl 2 rfl) ?_
              refine lv_iload_n hx hb dX2_expression_173 rfl (lv_at hl 5 rfl) ?_
              refine lv_iconst (v := 1) hx hb dX2_expression_174 (by decide) ?_
              obtain ⟨q_7, g, hE⟩ := e_bind hE
              refine n_call1 (n := 2) [.int x3, .int (1 : Int32)] X Y (mbf_settle l n b X.2.2.2.2.2.2 g) q2080 q2082 qs77 q2083 (by decide +kernel) (by decide) rfl hl.1 (Nat.le_of_ble_eq_true rfl) dX2_expression_175 (by decide) (fun H locs Y => ?_)
              refine lv_istore_n (lv' := [(3, .int q_7.2), (8, .int q_4.2), (7, .int q_2.2), (0, .ref b.h), (1, .int x1), (2, .int x2), (4, .int x4), (5, .int x5), (6, .int x6)]) hx hb dX2_expression_178 rfl hl (by decide) rfl (fun ls hl => ?_)
              refine lv_aload_n hx hb dX2_expression_179 rfl (lv_at hl 3 rfl) ?_
              refine b_geta X Y 15 (by decide) (by decide) q1818 dX2_expression_180 ?_
              refine lv_iload_n hx hb dX2_expression_183 rfl (lv_at hl 0 rfl) ?_
              refine lv_iconst (v := 1) hx hb dX2_expression_184 (by decide) ?_
              refine lv_isub hx hb dX2_expression_185 ?_
              obtain ⟨v_8, g, hE⟩ := e_bind hE
              refine n_iald X Y 7 15 rfl rfl g dX2_expression_186 ?_
              refine lv_istore (lv' := [(9, .int v_8), (3, .int q_7.2), (8, .int q_4.2), (7, .int q_2.2), (0, .ref b.h), (1, .int x1), (2, .int x2), (4, .int x4), (5, .int x5), (6, .int x6)]) hx hb dX2_expression_187 hl (by decide) rfl (fun ls hl => ?_)
              refine lv_iload hx hb dX2_expression_189 (lv_at hl 3 rfl) ?_
              refine lv_bipush (v := 44) hx hb dX2_expression_191 (by decide) ?_
              refine lv_icmp_ne (tgt := 232) hx hb dX2_expression_193 (by decide) (fun c_9 => ?_) (fun c_9 => ?_)
              · replace hE := e_f c_9 hE
                exact ih3 hE Y (lv_sub hl [4, 5, 6, 1, 7, 8, 9, 3, 0] rfl)
              · replace hE := e_t c_9 hE
                refine lv_iload hx hb dX2_expression_196 (lv_at hl 0 rfl) ?_
                refine lv_bipush (v := 109) hx hb dX2_expression_198 (by decide) ?_
                refine lv_icmp_le (tgt := 232) hx hb dX2_expression_200 (by decide) (fun c_10 => ?_) (fun c_10 => ?_)
                · replace hE := e_t c_10 hE
                  exact ih3 hE Y (lv_sub hl [4, 5, 6, 1, 7, 8, 9, 3, 0] rfl)
                · replace hE := e_f c_10 hE
                  refine lv_iload hx hb dX2_expression_203 (lv_at hl 0 rfl) ?_
                  refine lv_bipush (v := 120) hx hb dX2_expression_205 (by decide) ?_
                  refine lv_icmp_ge (tgt := 232) hx hb dX2_expression_207 (by decide) (fun c_11 => ?_) (fun c_11 => ?_)
                  · replace hE := e_t c_11 hE
                    exact ih3 hE Y (lv_sub hl [4, 5, 6, 1, 7, 8, 9, 3, 0] rfl)
                  · replace hE := e_f c_11 hE
                    refine lv_aload_n hx hb dX2_expression_210 rfl (lv_at hl 4 rfl) ?_
                    refine b_geta X Y 15 (by decide) (by decide) q1818 dX2_expression_211 ?_
                    refine lv_iload_n hx hb dX2_expression_214 rfl (lv_at hl 1 rfl) ?_
                    refine lv_iconst (v := 1) hx hb dX2_expression_215 (by decide) ?_
                    refine lv_isub hx hb dX2_expression_216 ?_
                    refine lv_iload hx hb dX2_expression_217 (lv_at hl 0 rfl) ?_
                    refine lv_bipush (v := 10) hx hb dX2_expression_219 (by decide) ?_
                    refine lv_iadd hx hb dX2_expression_221 ?_
                    obtain ⟨st_12, g, hE⟩ := e_bind hE
                    refine n_iast X Y 7 15 rfl rfl g dX2_expression_222 (fun H locs Y => ?_)
                    refine lv_iconst (v := 1) hx hb dX2_expression_223 (by decide) ?_
                    refine lv_istore (lv' := [(6, .int (1 : Int32)), (9, .int v_8), (3, .int q_7.2), (8, .int q_4.2), (7, .int q_2.2), (0, .ref b.h), (1, .int x1), (2, .int x2), (4, .int x4), (5, .int x5)]) hx hb dX2_expression_224 hl (by decide) rfl (fun ls hl => ?_)
                    refine lv_iconst (v := 1) hx hb dX2_expression_226 (by decide) ?_
                    refine lv_istore (lv' := [(5, .int (1 : Int32)), (6, .int (1 : Int32)), (9, .int v_8), (3, .int q_7.2), (8, .int q_4.2), (7, .int q_2.2), (0, .ref b.h), (1, .int x1), (2, .int x2), (4, .int x4)]) hx hb dX2_expression_227 hl (by decide) rfl (fun ls hl => ?_)
                    refine lv_goto (tgt := 286) hx hb dX2_expression_229 (by decide) ?_
                    exact ih5 hE Y (lv_sub hl [6, 7, 8, 3, 9, 0, 1] rfl)
            · replace hE := e_t c_6 hE
              refine lv_goto (tgt := 318) hx hb dX2_expression_169 (by decide) ?_
              exact wbf_expression_L318 X hr hk hE Y (lv_sub hl [2, 4, 5] rfl)
          · replace hE := e_f c_5 hE
            refine lv_aload_n hx hb dX2_expression_141 rfl (lv_at hl 2 rfl) ?_
            refine lv_iload_n hx hb dX2_expression_142 rfl (lv_at hl 5 rfl) ?_
            refine lv_aload_n hx hb dX2_expression_143 rfl (lv_at hl 2 rfl) ?_
            refine lv_iload hx hb dX2_expression_144 (lv_at hl 0 rfl) ?_
            obtain ⟨q_13, g, hE⟩ := e_bind hE
            refine n_call1 (n := 1) [.int q_4.2] X Y (mbf_rank l n b X.2.2.2.2.2.2 g) q2076 q2078 qs76 q2079 (by decide +kernel) (by decide) rfl hl.1 (Nat.le_of_ble_eq_true rfl) dX2_expression_146 (by decide) (fun H locs Y => ?_)
            obtain ⟨q_14, g, hE⟩ := e_bind hE
            refine n_call1 (n := 2) [.int x3, .int q_13.2] X Y (mbf_settle l n b X.2.2.2.2.2.2 g) q2080 q2082 qs77 q2083 (by decide +kernel) (by decide) rfl hl.1 (Nat.le_of_ble_eq_true rfl) dX2_expression_149 (by decide) (fun H locs Y => ?_)
            refine lv_istore_n (lv' := [(3, .int q_14.2), (8, .int q_4.2), (7, .int q_2.2), (0, .ref b.h), (1, .int x1), (2, .int x2), (4, .int x4), (5, .int x5), (6, .int x6)]) hx hb dX2_expression_152 rfl hl (by decide) rfl (fun ls hl => ?_)
            refine lv_aload_n hx hb dX2_expression_153 rfl (lv_at hl 3 rfl) ?_
            refine b_geta X Y 15 (by decide) (by decide) q1818 dX2_expression_154 ?_
            refine lv_iload_n hx hb dX2_expression_157 rfl (lv_at hl 0 rfl) ?_
            refine lv_iload hx hb dX2_expression_158 (lv_at hl 1 rfl) ?_
            obtain ⟨st_15, g, hE⟩ := e_bind hE
            refine n_iast X Y 7 15 rfl rfl g dX2_expression_160 (fun H locs Y => ?_)
            refine lv_goto (tgt := 299) hx hb dX2_expression_161 (by decide) ?_
            refine lv_aload_n hx hb dX2_expression_299 rfl (lv_at hl 3 rfl) ?_
            refine lv_dup hx hb dX2_expression_300 rfl ?_
            refine b_geti X Y 4 rfl (by decide) rfl q1807 dX2_expression_301 ?_
            refine lv_iconst (v := 1) hx hb dX2_expression_304 (by decide) ?_
            refine lv_iadd hx hb dX2_expression_305 ?_
            obtain ⟨st_16, g, hE⟩ := e_bind hE
            refine n_put X Y 4 rfl (by decide) g rfl rfl rfl q1807 dX2_expression_306 (fun H locs Y => ?_)
            refine lv_iinc (v := (q_14.2 + (1 : Int32))) (lv' := [(3, .int (q_14.2 + (1 : Int32))), (8, .int q_4.2), (7, .int q_2.2), (0, .ref b.h), (1, .int x1), (2, .int x2), (4, .int x4), (5, .int x5), (6, .int x6)]) hx hb dX2_expression_309 hl (k := 0) rfl rfl (by decide) rfl (fun ls hl => ?_)
            refine lv_iconst (v := 1) hx hb dX2_expression_312 (by decide) ?_
            refine lv_istore (lv' := [(5, .int (1 : Int32)), (3, .int (q_14.2 + (1 : Int32))), (8, .int q_4.2), (7, .int q_2.2), (0, .ref b.h), (1, .int x1), (2, .int x2), (4, .int x4), (6, .int x6)]) hx hb dX2_expression_313 hl (by decide) rfl (fun ls hl => ?_)
            refine lv_goto (tgt := 16) hx hb dX2_expression_315 (by decide) ?_
            exact ih0 hE Y (lv_sub hl [4, 5, 6, 1, 7, 0, 8] rfl)
        · replace hE := e_f c_3 hE
          refine lv_iload hx hb dX2_expression_34 (lv_at hl 7 rfl) ?_
          refine lv_if_eq (tgt := 73) hx hb dX2_expression_36 (by decide) (fun c_17 => ?_) (fun c_17 => ?_)
          · replace hE := e_t c_17 hE
            exact ih1 hE Y (lv_sub hl [1, 2, 3, 4, 5, 6] rfl)
          · replace hE := e_f c_17 hE
            refine lv_iload hx hb dX2_expression_39 (lv_at hl 0 rfl) ?_
            refine lv_bipush (v := 45) hx hb dX2_expression_41 (by decide) ?_
            refine lv_icmp_ne (tgt := 73) hx hb dX2_expression_43 (by decide) (fun c_18 => ?_) (fun c_18 => ?_)
            · replace hE := e_f c_18 hE
              exact ih1 hE Y (lv_sub hl [1, 2, 3, 4, 5, 6] rfl)
            · replace hE := e_t c_18 hE
              refine lv_aload_n hx hb dX2_expression_46 rfl (lv_at hl 1 rfl) ?_
              refine lv_dup hx hb dX2_expression_47 rfl ?_
              refine b_geti X Y 4 rfl (by decide) rfl q1807 dX2_expression_48 ?_
              refine lv_iconst (v := 1) hx hb dX2_expression_51 (by decide) ?_
              refine lv_iadd hx hb dX2_expression_52 ?_
              obtain ⟨st_19, g, hE⟩ := e_bind hE
              refine n_put X Y 4 rfl (by decide) g rfl rfl rfl q1807 dX2_expression_53 (fun H locs Y => ?_)
              refine lv_aload_n hx hb dX2_expression_56 rfl (lv_at hl 1 rfl) ?_
              refine b_geta X Y 15 (by decide) (by decide) q1818 dX2_expression_57 ?_
              refine lv_iload_n hx hb dX2_expression_60 rfl (lv_at hl 4 rfl) ?_
              refine lv_bipush (v := 8) hx hb dX2_expression_61 (by decide) ?_
              obtain ⟨st_20, g, hE⟩ := e_bind hE
              refine n_iast X Y 7 15 rfl rfl g dX2_expression_63 (fun H locs Y => ?_)
              refine lv_iinc (v := (x3 + (1 : Int32))) (lv' := [(3, .int (x3 + (1 : Int32))), (7, .int q_2.2), (0, .ref b.h), (1, .int x1), (2, .int x2), (4, .int x4), (5, .int x5), (6, .int x6)]) hx hb dX2_expression_64 hl (k := 4) rfl rfl (by decide) rfl (fun ls hl => ?_)
              refine lv_iconst (v := 0) hx hb dX2_expression_67 (by decide) ?_
              refine lv_istore (lv' := [(6, .int (0 : Int32)), (3, .int (x3 + (1 : Int32))), (7, .int q_2.2), (0, .ref b.h), (1, .int x1), (2, .int x2), (4, .int x4), (5, .int x5)]) hx hb dX2_expression_68 hl (by decide) rfl (fun ls hl => ?_)
              refine lv_goto (tgt := 16) hx hb dX2_expression_70 (by decide) ?_
              exact ih0 hE Y (lv_sub hl [3, 4, 5, 1, 6, 7, 0] rfl)
    · intro st x1 x2 x3 x4 x5 x6 x7 x9 z88_1 z88_2 hE H locs ls Y hl
      replace hE : bf_expression_B73 n (bf_expression_S16 n k) st x1 x2 x3 x4 x5 x6 x7 x9 z88_1 z88_2 = some q := hE
      unfold bf_expression_B73 at hE
      refine lv_iconst (v := 0) hx hb dX2_expression_73 (by decide) ?_
      refine lv_istore (lv' := [(6, .int (0 : Int32)), (0, .ref b.h), (1, .int x1), (2, .int x2), (3, .int x3), (4, .int x4), (5, .int x5)]) hx hb dX2_expression_74 hl (by decide) rfl (fun ls hl => ?_)
      refine lv_aload_n hx hb dX2_expression_76 rfl (lv_at hl 1 rfl) ?_
      refine lv_iload_n hx hb dX2_expression_77 rfl (lv_at hl 2 rfl) ?_
      refine lv_iload hx hb dX2_expression_78 (lv_at hl 5 rfl) ?_
      refine lv_if_ne (tgt := 87) hx hb dX2_expression_80 (by decide) (fun c_1 => ?_) (fun c_1 => ?_)
      · replace hE := e_f c_1 hE
        refine lv_iconst (v := 0) hx hb dX2_expression_87 (by decide) ?_
        exact ih2 hE Y (lv_sub hl [1, 2, 3, 4, 5, 6, 0] rfl)
      · replace hE := e_t c_1 hE
        refine lv_iconst (v := 1) hx hb dX2_expression_83 (by decide) ?_
        refine lv_goto (tgt := 88) hx hb dX2_expression_84 (by decide) ?_
        exact ih2 hE Y (lv_sub hl [1, 2, 3, 4, 5, 6, 0] rfl)
    · intro st x1 x2 x3 x4 x5 x6 x7 x9 z88_1 z88_2 hE H locs ls Y hl
      replace hE : bf_expression_B88 n (bf_expression_S16 n k) st x1 x2 x3 x4 x5 x6 x7 x9 z88_1 z88_2 = some q := hE
      unfold bf_expression_B88 at hE
      obtain ⟨q_1, g, hE⟩ := e_bind hE
      refine n_call1 (n := 2) [.int z88_1, .int z88_2] X Y (mbf_partMark l n b X.2.2.2.2.2.2 g) q2060 q2062 qs72 q2063 (by decide +kernel) (by decide) rfl hl.1 (Nat.le_of_ble_eq_true rfl) dX2_expression_88 (by decide) (fun H locs Y => ?_)
      refine lv_istore (lv' := [(8, .int q_1.2), (0, .ref b.h), (1, .int x1), (2, .int x2), (3, .int x3), (4, .int x4), (5, .int x5), (6, .int x6)]) hx hb dX2_expression_91 hl (by decide) rfl (fun ls hl => ?_)
      refine lv_iload hx hb dX2_expression_93 (lv_at hl 0 rfl) ?_
      refine lv_if_ne (tgt := 104) hx hb dX2_expression_95 (by decide) (fun c_2 => ?_) (fun c_2 => ?_)
      · replace hE := e_f c_2 hE
        refine lv_aload_n hx hb dX2_expression_104 rfl (lv_at hl 1 rfl) ?_
        obtain ⟨q_3, g, hE⟩ := e_bind hE
        refine n_call0 (n := 0) [] X Y (mbf_bracket l n b X.2.2.2.2.2.2 g) q2044 q2046 qs68 q2047 (by decide +kernel) (by decide) rfl hl.1 (Nat.le_of_ble_eq_true rfl) dX2_expression_105 (by decide) (fun H locs Y => ?_)
        refine lv_aload_n hx hb dX2_expression_108 rfl (lv_at hl 1 rfl) ?_
        refine b_geta X Y 15 (by decide) (by decide) q1818 dX2_expression_109 ?_
        refine lv_iload_n hx hb dX2_expression_112 rfl (lv_at hl 4 rfl) ?_
        refine lv_iload hx hb dX2_expression_113 (lv_at hl 0 rfl) ?_
        obtain ⟨st_4, g, hE⟩ := e_bind hE
        refine n_iast X Y 7 15 rfl rfl g dX2_expression_115 (fun H locs Y => ?_)
        refine lv_iinc (v := (x3 + (1 : Int32))) (lv' := [(3, .int (x3 + (1 : Int32))), (8, .int q_1.2), (0, .ref b.h), (1, .int x1), (2, .int x2), (4, .int x4), (5, .int x5), (6, .int x6)]) hx hb dX2_expression_116 hl (k := 4) rfl rfl (by decide) rfl (fun ls hl => ?_)
        refine lv_iinc (v := (x4 + (1 : Int32))) (lv' := [(4, .int (x4 + (1 : Int32))), (3, .int (x3 + (1 : Int32))), (8, .int q_1.2), (0, .ref b.h), (1, .int x1), (2, .int x2), (5, .int x5), (6, .int x6)]) hx hb dX2_expression_119 hl (k := 5) rfl rfl (by decide) rfl (fun ls hl => ?_)
        refine lv_iconst (v := 1) hx hb dX2_expression_122 (by decide) ?_
        refine lv_istore (lv' := [(6, .int (1 : Int32)), (4, .int (x4 + (1 : Int32))), (3, .int (x3 + (1 : Int32))), (8, .int q_1.2), (0, .ref b.h), (1, .int x1), (2, .int x2), (5, .int x5)]) hx hb dX2_expression_123 hl (by decide) rfl (fun ls hl => ?_)
        refine lv_goto (tgt := 16) hx hb dX2_expression_125 (by decide) ?_
        exact ih0 hE Y (lv_sub hl [4, 5, 6, 2, 1, 7, 0] rfl)
      · replace hE := e_t c_2 hE
        refine lv_iconst (v := 0) hx hb dX2_expression_98 (by decide) ?_
        refine lv_istore (lv' := [(5, .int (0 : Int32)), (8, .int q_1.2), (0, .ref b.h), (1, .int x1), (2, .int x2), (3, .int x3), (4, .int x4), (6, .int x6)]) hx hb dX2_expression_99 hl (by decide) rfl (fun ls hl => ?_)
        refine lv_goto (tgt := 16) hx hb dX2_expression_101 (by decide) ?_
        exact ih0 hE Y (lv_sub hl [2, 3, 4, 5, 6, 0, 7] rfl)
    · intro st x1 x2 x3 x4 x5 x6 x7 x9 z88_1 z88_2 hE H locs ls Y hl
      replace hE : bf_expression_B232 n (bf_expression_S16 n k) st x1 x2 x3 x4 x5 x6 x7 x9 z88_1 z88_2 = some q := hE
      unfold bf_expression_B232 at hE
      refine lv_iload hx hb dX2_expression_232 (lv_at hl 7 rfl) ?_
      refine lv_bipush (v := 41) hx hb dX2_expression_234 (by decide) ?_
      refine lv_icmp_ne (tgt := 278) hx hb dX2_expression_236 (by decide) (fun c_1 => ?_) (fun c_1 => ?_)
      · replace hE := e_f c_1 hE
        exact wbf_expression_L278 X hr hk hE Y (lv_sub hl [0, 2, 3] rfl)
      · replace hE := e_t c_1 hE
        refine lv_iload hx hb dX2_expression_239 (lv_at hl 8 rfl) ?_
        refine lv_bipush (v := 110) hx hb dX2_expression_241 (by decide) ?_
        refine lv_icmp_lt (tgt := 253) hx hb dX2_expression_243 (by decide) (fun c_2 => ?_) (fun c_2 => ?_)
        · replace hE := e_t c_2 hE
          exact ih4 hE Y (lv_sub hl [0, 1, 2, 3, 4, 5, 6, 8] rfl)
        · replace hE := e_f c_2 hE
          refine lv_iload hx hb dX2_expression_246 (lv_at hl 8 rfl) ?_
          refine lv_bipush (v := 119) hx hb dX2_expression_248 (by decide) ?_
          refine lv_icmp_le (tgt := 278) hx hb dX2_expression_250 (by decide) (fun c_3 => ?_) (fun c_3 => ?_)
          · replace hE := e_t c_3 hE
            exact wbf_expression_L278 X hr hk hE Y (lv_sub hl [0, 2, 3] rfl)
          · replace hE := e_f c_3 hE
            exact ih4 hE Y (lv_sub hl [0, 1, 2, 3, 4, 5, 6, 8] rfl)
    · intro st x1 x2 x3 x4 x5 x6 x7 x9 z88_1 z88_2 hE H locs ls Y hl
      replace hE : bf_expression_B253 n (bf_expression_S16 n k) st x1 x2 x3 x4 x5 x6 x7 x9 z88_1 z88_2 = some q := hE
      unfold bf_expression_B253 at hE
      refine lv_aload_n hx hb dX2_expression_253 rfl (lv_at hl 0 rfl) ?_
      refine lv_iload hx hb dX2_expression_254 (lv_at hl 7 rfl) ?_
      obtain ⟨q_1, g, hE⟩ := e_bind hE
      refine n_call0 (n := 1) [.int x9] X Y (mbf_closeMark l n b X.2.2.2.2.2.2 g) q2084 q2086 qs78 q2087 (by decide +kernel) (by decide) rfl hl.1 (Nat.le_of_ble_eq_true rfl) dX2_expression_256 (by decide) (fun H locs Y => ?_)
      refine lv_iinc (v := (x3 + (-1 : Int32))) (lv' := [(3, .int (x3 + (-1 : Int32))), (0, .ref b.h), (1, .int x1), (2, .int x2), (4, .int x4), (5, .int x5), (6, .int x6), (9, .int x9)]) hx hb dX2_expression_259 hl (k := 3) rfl rfl (by decide) rfl (fun ls hl => ?_)
      refine lv_iinc (v := (x4 + (-1 : Int32))) (lv' := [(4, .int (x4 + (-1 : Int32))), (3, .int (x3 + (-1 : Int32))), (0, .ref b.h), (1, .int x1), (2, .int x2), (5, .int x5), (6, .int x6), (9, .int x9)]) hx hb dX2_expression_262 hl (k := 4) rfl rfl (by decide) rfl (fun ls hl => ?_)
      refine lv_aload_n hx hb dX2_expression_265 rfl (lv_at hl 2 rfl) ?_
      refine lv_dup hx hb dX2_expression_266 rfl ?_
      refine b_geti X Y 5 rfl (by decide) rfl q1808 dX2_expression_267 ?_
      refine lv_iconst (v := 1) hx hb dX2_expression_270 (by decide) ?_
      refine lv_isub hx hb dX2_expression_271 ?_
      obtain ⟨st_2, g, hE⟩ := e_bind hE
      refine n_put X Y 5 rfl (by decide) g rfl rfl rfl q1808 dX2_expression_272 (fun H locs Y => ?_)
      refine lv_goto (tgt := 286) hx hb dX2_expression_275 (by decide) ?_
      exact ih5 hE Y (lv_sub hl [2, 3, 4, 1, 0, 5, 6] rfl)
    · intro st x1 x2 x3 x4 x5 x6 x7 x9 z88_1 z88_2 hE H locs ls Y hl
      replace hE : bf_expression_B286 n (bf_expression_S16 n k) st x1 x2 x3 x4 x5 x6 x7 x9 z88_1 z88_2 = some q := hE
      unfold bf_expression_B286 at hE
      refine lv_aload_n hx hb dX2_expression_286 rfl (lv_at hl 0 rfl) ?_
      refine lv_dup hx hb dX2_expression_287 rfl ?_
      refine b_geti X Y 4 rfl (by decide) rfl q1807 dX2_expression_288 ?_
      refine lv_iconst (v := 1) hx hb dX2_expression_291 (by decide) ?_
      refine lv_iadd hx hb dX2_expression_292 ?_
      obtain ⟨st_1, g, hE⟩ := e_bind hE
      refine n_put X Y 4 rfl (by decide) g rfl rfl rfl q1807 dX2_expression_293 (fun H locs Y => ?_)
      refine lv_goto (tgt := 16) hx hb dX2_expression_296 (by decide) ?_
      exact ih0 hE Y (lv_sub hl [0, 1, 2, 3, 4, 5, 6] rfl)
set_option maxHeartbeats 4000000 in
set_option maxRecDepth 100000 in
theorem wbf_expression_S16 {l : Launch} {b : bP} {As : List Value} {p : Program} {e : Env} {s : State} {m : MethodId} {below : List Frame} {meth : Method} {c : Code} (X : bX p s m (Value.ref b.h :: As).toArray c cX2_expression 10 b) (hr : meth.sig.returnType = (some .int)) (hk : meth.locks = false) (n : Nat) {q : bS × Int32} : (∀ {st : bS} {x1 : Int32} {x2 : Int32} {x3 : Int32} {x4 : Int32} {x5 : Int32} {x6 : Int32} {x7 : Int32} {x9 : Int32} {z88_1 : Int32} {z88_2 : Int32}, bf_expression_S16 n n 0 st x1 x2 x3 x4 x5 x6 x7 x9 z88_1 z88_2 = some q → ∀ {H : Heap} {locs : List Loc} {ls : Array Slot}, bY b s st H locs → lv_has ls 10 [(0, .ref b.h), (1, .int x1), (2, .int x2), (3, .int x3), (4, .int x4), (5, .int x5), (6, .int x6)] → bG l 4 102 b As (some (.int q.2)) q.1 p e s m below meth c H locs (F0 m 16 ls [])) ∧ (∀ {st : bS} {x1 : Int32} {x2 : Int32} {x3 : Int32} {x4 : Int32} {x5 : Int32} {x6 : Int32} {x7 : Int32} {x9 : Int32} {z88_1 : Int32} {z88_2 : Int32}, bf_expression_S16 n n 1 st x1 x2 x3 x4 x5 x6 x7 x9 z88_1 z88_2 = some q → ∀ {H : Heap} {locs : List Loc} {ls : Array Slot}, bY b s st H locs → lv_has ls 10 [(0, .ref b.h), (1, .int x1), (2, .int x2), (3, .int x3), (4, .int x4), (5, .int x5)] → bG l 4 102 b As (some (.int q.2)) q.1 p e s m below meth c H locs (F0 m 73 ls [])) ∧ (∀ {st : bS} {x1 : Int32} {x2 : Int32} {x3 : Int32} {x4 : Int32} {x5 : Int32} {x6 : Int32} {x7 : Int32} {x9 : Int32} {z88_1 : Int32} {z88_2 : Int32}, bf_expression_S16 n n 2 st x1 x2 x3 x4 x5 x6 x7 x9 z88_1 z88_2 = some q → ∀ {H : Heap} {locs : List Loc} {ls : Array Slot}, bY b s st H locs → lv_has ls 10 [(0, .ref b.h), (1, .int x1), (2, .int x2), (3, .int x3), (4, .int x4), (5, .int x5), (6, .int x6)] → bG l 4 102 b As (some (.int q.2)) q.1 p e s m below meth c H locs (F0 m 88 ls [.int z88_2, .int z88_1, .ref b.h])) ∧ (∀ {st : bS} {x1 : Int32} {x2 : Int32} {x3 : Int32} {x4 : Int32} {x5 : Int32} {x6 : Int32} {x7 : Int32} {x9 : Int32} {z88_1 : Int32} {z88_2 : Int32}, bf_expression_S16 n n 3 st x1 x2 x3 x4 x5 x6 x7 x9 z88_1 z88_2 = some q → ∀ {H : Heap} {locs : List Loc} {ls : Array Slot}, bY b s st H locs → lv_has ls 10 [(0, .ref b.h), (1, .int x1), (2, .int x2), (3, .int x3), (4, .int x4), (5, .int x5), (6, .int x6), (7, .int x7), (9, .int x9)] → bG l 4 102 b As (some (.int q.2)) q.1 p e s m below meth c H locs (F0 m 232 ls [])) ∧ (∀ {st : bS} {x1 : Int32} {x2 : Int32} {x3 : Int32} {x4 : Int32} {x5 : Int32} {x6 : Int32} {x7 : Int32} {x9 : Int32} {z88_1 : Int32} {z88_2 : Int32}, bf_expression_S16 n n 4 st x1 x2 x3 x4 x5 x6 x7 x9 z88_1 z88_2 = some q → ∀ {H : Heap} {locs : List Loc} {ls : Array Slot}, bY b s st H locs → lv_has ls 10 [(0, .ref b.h), (1, .int x1), (2, .int x2), (3, .int x3), (4, .int x4), (5, .int x5), (6, .int x6), (9, .int x9)] → bG l 4 102 b As (some (.int q.2)) q.1 p e s m below meth c H locs (F0 m 253 ls [])) ∧ (∀ {st : bS} {x1 : Int32} {x2 : Int32} {x3 : Int32} {x4 : Int32} {x5 : Int32} {x6 : Int32} {x7 : Int32} {x9 : Int32} {z88_1 : Int32} {z88_2 : Int32}, bf_expression_S16 n n 5 st x1 x2 x3 x4 x5 x6 x7 x9 z88_1 z88_2 = some q → ∀ {H : Heap} {locs : List Loc} {ls : Array Slot}, bY b s st H locs → lv_has ls 10 [(0, .ref b.h), (1, .int x1), (2, .int x2), (3, .int x3), (4, .int x4), (5, .int x5), (6, .int x6)] → bG l 4 102 b As (some (.int q.2)) q.1 p e s m below meth c H locs (F0 m 286 ls [])) := wbf_expression_S16_ X hr hk n n
set_option maxHeartbeats 4000000 in
set_option maxRecDepth 100000 in
theorem mbf_expression (l : Launch) (n : Nat) (b : bP) (ok : bOk b) {st : bS} {a1 : Int32} {q : bS × Int32} (hE : bf_expression n st a1 = some q) : bMet l yX2_expression cX2_expression 10 (some .int) 4 102 b [.int a1] st (some (.int q.2)) q.1 := by
  refine b_ofW (by decide) rfl ok (Nat.le_of_ble_eq_true rfl) (fun p e s m below meth c ls X Y hr hk hl => ?_)
  have hl : lv_has ls 10 [(0, .ref b.h), (1, .int a1)] := hl
  generalize s.heap = H at Y ⊢
  generalize ([] : List Loc) = locs at Y ⊢
  have hx := X.1
  have hb := X.2.1
  have hown := X.2.2.2.1
  have hts := X.2.2.2.2.1
  unfold bf_expression at hE
  refine lv_aload_n hx hb dX2_expression_0 rfl (lv_at hl 0 rfl) ?_
  refine b_geti X Y 6 rfl (by decide) rfl q1809 dX2_expression_1 ?_
  obtain ⟨x2_1, g, hE⟩ := e_bind hE
  refine n_topi g ?_
  refine lv_istore_n (lv' := [(2, .int x2_1), (0, .ref b.h), (1, .int a1)]) hx hb dX2_expression_4 rfl hl (by decide) rfl (fun ls hl => ?_)
  refine lv_iconst (v := 0) hx hb dX2_expression_5 (by decide) ?_
  refine lv_istore_n (lv' := [(3, .int (0 : Int32)), (2, .int x2_1), (0, .ref b.h), (1, .int a1)]) hx hb dX2_expression_6 rfl hl (by decide) rfl (fun ls hl => ?_)
  refine lv_iconst (v := 0) hx hb dX2_expression_7 (by decide) ?_
  refine lv_istore (lv' := [(4, .int (0 : Int32)), (3, .int (0 : Int32)), (2, .int x2_1), (0, .ref b.h), (1, .int a1)]) hx hb dX2_expression_8 hl (by decide) rfl (fun ls hl => ?_)
  refine lv_iconst (v := 1) hx hb dX2_expression_10 (by decide) ?_
  refine lv_istore (lv' := [(5, .int (1 : Int32)), (4, .int (0 : Int32)), (3, .int (0 : Int32)), (2, .int x2_1), (0, .ref b.h), (1, .int a1)]) hx hb dX2_expression_11 hl (by decide) rfl (fun ls hl => ?_)
  refine lv_iconst (v := 1) hx hb dX2_expression_13 (by decide) ?_
  refine lv_istore (lv' := [(6, .int (1 : Int32)), (5, .int (1 : Int32)), (4, .int (0 : Int32)), (3, .int (0 : Int32)), (2, .int x2_1), (0, .ref b.h), (1, .int a1)]) hx hb dX2_expression_14 hl (by decide) rfl (fun ls hl => ?_)
  exact (wbf_expression_S16 X hr hk n).1 hE Y (lv_sub hl [5, 6, 4, 3, 2, 1, 0] rfl)
/-! BasicMachineModel.setArg(II)V -/
set_option maxHeartbeats 4000000 in
set_option maxRecDepth 100000 in
theorem mbf_setArg (l : Launch) (n : Nat) (b : bP) (ok : bOk b) {st : bS} {a1 : Int32} {a2 : Int32} {q : bS × Unit} (hE : bf_setArg n st a1 a2 = some q) : bMet l yX2_setArg cX2_setArg 3 none 0 0 b [.int a1, .int a2] st none q.1 := by
  refine b_ofW (by decide) rfl ok (Nat.le_of_ble_eq_true rfl) (fun p e s m below meth c ls X Y hr hk hl => ?_)
  have hl : lv_has ls 3 [(0, .ref b.h), (1, .int a1), (2, .int a2)] := hl
  generalize s.heap = H at Y ⊢
  generalize ([] : List Loc) = locs at Y ⊢
  have hx := X.1
  have hb := X.2.1
  have hown := X.2.2.2.1
  have hts := X.2.2.2.2.1
  unfold bf_setArg at hE
  refine lv_aload_n hx hb dX2_setArg_0 rfl (lv_at hl 0 rfl) ?_
  refine b_geta X Y 12 (by decide) (by decide) q1815 dX2_setArg_1 ?_
  refine lv_sipush (v := 192) hx hb dX2_setArg_4 (by decide) ?_
  refine lv_iload_n hx hb dX2_setArg_7 rfl (lv_at hl 1 rfl) ?_
  refine lv_iadd hx hb dX2_setArg_8 ?_
  refine lv_iload_n hx hb dX2_setArg_9 rfl (lv_at hl 2 rfl) ?_
  obtain ⟨st_1, g, hE⟩ := e_bind hE
  refine n_iast X Y 4 12 rfl rfl g dX2_setArg_10 (fun H locs Y => ?_)
  cases hE
  exact b_vret X Y hr hk dX2_setArg_11
/-! BasicMachineModel.setExpr(II)V -/
set_option maxHeartbeats 4000000 in
set_option maxRecDepth 100000 in
theorem mbf_setExpr (l : Launch) (n : Nat) (b : bP) (ok : bOk b) {st : bS} {a1 : Int32} {a2 : Int32} {q : bS × Unit} (hE : bf_setExpr n st a1 a2 = some q) : bMet l yX2_setExpr cX2_setExpr 3 none 0 0 b [.int a1, .int a2] st none q.1 := by
  refine b_ofW (by decide) rfl ok (Nat.le_of_ble_eq_true rfl) (fun p e s m below meth c ls X Y hr hk hl => ?_)
  have hl : lv_has ls 3 [(0, .ref b.h), (1, .int a1), (2, .int a2)] := hl
  generalize s.heap = H at Y ⊢
  generalize ([] : List Loc) = locs at Y ⊢
  have hx := X.1
  have hb := X.2.1
  have hown := X.2.2.2.1
  have hts := X.2.2.2.2.1
  unfold bf_setExpr at hE
  refine lv_aload_n hx hb dX2_setExpr_0 rfl (lv_at hl 0 rfl) ?_
  refine b_geta X Y 13 (by decide) (by decide) q1816 dX2_setExpr_1 ?_
  refine lv_bipush (v := 96) hx hb dX2_setExpr_4 (by decide) ?_
  refine lv_iload_n hx hb dX2_setExpr_6 rfl (lv_at hl 1 rfl) ?_
  refine lv_iadd hx hb dX2_setExpr_7 ?_
  refine lv_iload_n hx hb dX2_setExpr_8 rfl (lv_at hl 2 rfl) ?_
  obtain ⟨st_1, g, hE⟩ := e_bind hE
  refine n_iast X Y 5 13 rfl rfl g dX2_setExpr_9 (fun H locs Y => ?_)
  cases hE
  exact b_vret X Y hr hk dX2_setExpr_10
/-! BasicMachineModel.target()V -/
set_option maxHeartbeats 4000000 in
set_option maxRecDepth 100000 in
theorem mbf_target (l : Launch) (n : Nat) (b : bP) (ok : bOk b) {st : bS} {q : bS × Unit} (hE : bf_target n st = some q) : bMet l yX2_target cX2_target 1 none 5 131 b [] st none q.1 := by
  refine b_ofW (by decide) rfl ok (Nat.le_of_ble_eq_true rfl) (fun p e s m below meth c ls X Y hr hk hl => ?_)
  have hl : lv_has ls 1 [(0, .ref b.h)] := hl
  generalize s.heap = H at Y ⊢
  generalize ([] : List Loc) = locs at Y ⊢
  have hx := X.1
  have hb := X.2.1
  have hown := X.2.2.2.1
  have hts := X.2.2.2.2.1
  unfold bf_target at hE
  refine lv_aload_n hx hb dX2_target_0 rfl (lv_at hl 0 rfl) ?_
  refine lv_aload_n hx hb dX2_target_1 rfl (lv_at hl 0 rfl) ?_
  obtain ⟨q_1, g, hE⟩ := e_bind hE
  refine n_call1 (n := 0) [] X Y (mbf_look l n b X.2.2.2.2.2.2 g) q1967 q1969 qs56 q1970 (by decide +kernel) (by decide) rfl hl.1 (Nat.le_of_ble_eq_true rfl) dX2_target_2 (by decide) (fun H locs Y => ?_)
  obtain ⟨q_2, g, hE⟩ := e_bind hE
  refine n_call1 (n := 1) [.int q_1.2] X Y (mbf_isMatrix l n b X.2.2.2.2.2.2 g) q2028 q2030 qs64 q2031 (by decide +kernel) (by decide) rfl hl.1 (Nat.le_of_ble_eq_true rfl) dX2_target_5 (by decide) (fun H locs Y => ?_)
  refine lv_if_ne (tgt := 21) hx hb dX2_target_8 (by decide) (fun c_3 => ?_) (fun c_3 => ?_)
  · replace hE := e_f c_3 hE
    refine lv_aload_n hx hb dX2_target_21 rfl (lv_at hl 0 rfl) ?_
    refine lv_iconst (v := 0) hx hb dX2_target_22 (by decide) ?_
    refine lv_bipush (v := 26) hx hb dX2_target_23 (by decide) ?_
    refine lv_aload_n hx hb dX2_target_25 rfl (lv_at hl 0 rfl) ?_
    obtain ⟨q_4, g, hE⟩ := e_bind hE
    refine n_call1 (n := 0) [] X Y (mbf_matrix l n b X.2.2.2.2.2.2 g) q2040 q2042 qs67 q2043 (by decide +kernel) (by decide) rfl hl.1 (Nat.le_of_ble_eq_true rfl) dX2_target_26 (by decide) (fun H locs Y => ?_)
    refine lv_iadd hx hb dX2_target_29 ?_
    obtain ⟨q_5, g, hE⟩ := e_bind hE
    refine n_call0 (n := 2) [.int (0 : Int32), .int ((26 : Int32) + q_4.2)] X Y (mbf_setArg l n b X.2.2.2.2.2.2 g) q2036 q2038 qs66 q2039 (by decide +kernel) (by decide) rfl hl.1 (Nat.le_of_ble_eq_true rfl) dX2_target_30 (by decide) (fun H locs Y => ?_)
    refine lv_aload_n hx hb dX2_target_33 rfl (lv_at hl 0 rfl) ?_
    obtain ⟨q_6, g, hE⟩ := e_bind hE
    refine n_call0 (n := 0) [] X Y (mbf_bracket l n b X.2.2.2.2.2.2 g) q2044 q2046 qs68 q2047 (by decide +kernel) (by decide) rfl hl.1 (Nat.le_of_ble_eq_true rfl) dX2_target_34 (by decide) (fun H locs Y => ?_)
    refine lv_aload_n hx hb dX2_target_37 rfl (lv_at hl 0 rfl) ?_
    refine lv_iconst (v := 0) hx hb dX2_target_38 (by decide) ?_
    refine lv_aload_n hx hb dX2_target_39 rfl (lv_at hl 0 rfl) ?_
    refine lv_iconst (v := 0) hx hb dX2_target_40 (by decide) ?_
    obtain ⟨q_7, g, hE⟩ := e_bind hE
    refine n_call1 (n := 1) [.int (0 : Int32)] X Y (mbf_expression l n b X.2.2.2.2.2.2 g) q2056 q2058 qs71 q2059 (by decide +kernel) (by decide) rfl hl.1 (Nat.le_of_ble_eq_true rfl) dX2_target_41 (by decide) (fun H locs Y => ?_)
    obtain ⟨q_8, g, hE⟩ := e_bind hE
    refine n_call0 (n := 2) [.int (0 : Int32), .int q_7.2] X Y (mbf_setExpr l n b X.2.2.2.2.2.2 g) q2088 q2090 qs79 q2091 (by decide +kernel) (by decide) rfl hl.1 (Nat.le_of_ble_eq_true rfl) dX2_target_44 (by decide) (fun H locs Y => ?_)
    refine lv_aload_n hx hb dX2_target_47 rfl (lv_at hl 0 rfl) ?_
    refine lv_bipush (v := 44) hx hb dX2_target_48 (by decide) ?_
    obtain ⟨q_9, g, hE⟩ := e_bind hE
    refine n_call0 (n := 1) [.int (44 : Int32)] X Y (mbf_need l n b X.2.2.2.2.2.2 g) q2048 q2050 qs69 q2051 (by decide +kernel) (by decide) rfl hl.1 (Nat.le_of_ble_eq_true rfl) dX2_target_50 (by decide) (fun H locs Y => ?_)
    refine lv_aload_n hx hb dX2_target_53 rfl (lv_at hl 0 rfl) ?_
    refine lv_iconst (v := 1) hx hb dX2_target_54 (by decide) ?_
    refine lv_aload_n hx hb dX2_target_55 rfl (lv_at hl 0 rfl) ?_
    refine lv_iconst (v := 0) hx hb dX2_target_56 (by decide) ?_
    obtain ⟨q_10, g, hE⟩ := e_bind hE
    refine n_call1 (n := 1) [.int (0 : Int32)] X Y (mbf_expression l n b X.2.2.2.2.2.2 g) q2056 q2058 qs71 q2059 (by decide +kernel) (by decide) rfl hl.1 (Nat.le_of_ble_eq_true rfl) dX2_target_57 (by decide) (fun H locs Y => ?_)
    obtain ⟨q_11, g, hE⟩ := e_bind hE
    refine n_call0 (n := 2) [.int (1 : Int32), .int q_10.2] X Y (mbf_setExpr l n b X.2.2.2.2.2.2 g) q2088 q2090 qs79 q2091 (by decide +kernel) (by decide) rfl hl.1 (Nat.le_of_ble_eq_true rfl) dX2_target_60 (by decide) (fun H locs Y => ?_)
    refine lv_aload_n hx hb dX2_target_63 rfl (lv_at hl 0 rfl) ?_
    obtain ⟨q_12, g, hE⟩ := e_bind hE
    refine n_call0 (n := 0) [] X Y (mbf_shut l n b X.2.2.2.2.2.2 g) q2092 q2094 qs80 q2095 (by decide +kernel) (by decide) rfl hl.1 (Nat.le_of_ble_eq_true rfl) dX2_target_64 (by decide) (fun H locs Y => ?_)
    cases hE
    exact b_vret X Y hr hk dX2_target_67
  · replace hE := e_t c_3 hE
    refine lv_aload_n hx hb dX2_target_11 rfl (lv_at hl 0 rfl) ?_
    refine lv_iconst (v := 0) hx hb dX2_target_12 (by decide) ?_
    refine lv_aload_n hx hb dX2_target_13 rfl (lv_at hl 0 rfl) ?_
    obtain ⟨q_13, g, hE⟩ := e_bind hE
    refine n_call1 (n := 0) [] X Y (mbf_variable l n b X.2.2.2.2.2.2 g) q2032 q2034 qs65 q2035 (by decide +kernel) (by decide) rfl hl.1 (Nat.le_of_ble_eq_true rfl) dX2_target_14 (by decide) (fun H locs Y => ?_)
    obtain ⟨q_14, g, hE⟩ := e_bind hE
    refine n_call0 (n := 2) [.int (0 : Int32), .int q_13.2] X Y (mbf_setArg l n b X.2.2.2.2.2.2 g) q2036 q2038 qs66 q2039 (by decide +kernel) (by decide) rfl hl.1 (Nat.le_of_ble_eq_true rfl) dX2_target_17 (by decide) (fun H locs Y => ?_)
    cases hE
    exact b_vret X Y hr hk dX2_target_20
/-! BasicMachineModel.condition()V -/
set_option maxHeartbeats 4000000 in
set_option maxRecDepth 100000 in
theorem wbf_condition_L99 {l : Launch} {b : bP} {As : List Value} {p : Program} {e : Env} {s : State} {m : MethodId} {below : List Frame} {meth : Method} {c : Code} (X : bX p s m (Value.ref b.h :: As).toArray c cX2_condition 2 b) (hr : meth.sig.returnType = none) (hk : meth.locks = false) {n : Nat} {st : bS} {x1 : Int32} {q : bS × Unit} (hE : bf_condition_L99 n st x1 = some q) {H : Heap} {locs : List Loc} {ls : Array Slot} (Y : bY b s st H locs) (hl : lv_has ls 2 [(0, .ref b.h), (1, .int x1)]) : bG l 5 131 b As none q.1 p e s m below meth c H locs (F0 m 99 ls []) := by
  have hx := X.1
  have hb := X.2.1
  have hown := X.2.2.2.1
  have hts := X.2.2.2.2.1
  unfold bf_condition_L99 at hE
  refine lv_aload_n hx hb dX2_condition_99 rfl (lv_at hl 0 rfl) ?_
  refine lv_iconst (v := 1) hx hb dX2_condition_100 (by decide) ?_
  refine lv_iload_n hx hb dX2_condition_101 rfl (lv_at hl 1 rfl) ?_
  obtain ⟨q_1, g, hE⟩ := e_bind hE
  refine n_call0 (n := 2) [.int (1 : Int32), .int x1] X Y (mbf_setArg l n b X.2.2.2.2.2.2 g) q2036 q2038 qs66 q2039 (by decide +kernel) (by decide) rfl hl.1 (Nat.le_of_ble_eq_true rfl) dX2_condition_102 (by decide) (fun H locs Y => ?_)
  refine lv_aload_n hx hb dX2_condition_105 rfl (lv_at hl 0 rfl) ?_
  refine lv_iconst (v := 1) hx hb dX2_condition_106 (by decide) ?_
  refine lv_aload_n hx hb dX2_condition_107 rfl (lv_at hl 0 rfl) ?_
  refine lv_iconst (v := 0) hx hb dX2_condition_108 (by decide) ?_
  obtain ⟨q_2, g, hE⟩ := e_bind hE
  refine n_call1 (n := 1) [.int (0 : Int32)] X Y (mbf_expression l n b X.2.2.2.2.2.2 g) q2056 q2058 qs71 q2059 (by decide +kernel) (by decide) rfl hl.1 (Nat.le_of_ble_eq_true rfl) dX2_condition_109 (by decide) (fun H locs Y => ?_)
  obtain ⟨q_3, g, hE⟩ := e_bind hE
  refine n_call0 (n := 2) [.int (1 : Int32), .int q_2.2] X Y (mbf_setExpr l n b X.2.2.2.2.2.2 g) q2088 q2090 qs79 q2091 (by decide +kernel) (by decide) rfl hl.1 (Nat.le_of_ble_eq_true rfl) dX2_condition_112 (by decide) (fun H locs Y => ?_)
  refine lv_aload_n hx hb dX2_condition_115 rfl (lv_at hl 0 rfl) ?_
  refine lv_bipush (v := 17) hx hb dX2_condition_116 (by decide) ?_
  refine lv_bipush (v := 17) hx hb dX2_condition_118 (by decide) ?_
  obtain ⟨q_4, g, hE⟩ := e_bind hE
  refine n_call1 (n := 2) [.int (17 : Int32), .int (17 : Int32)] X Y (mbf_takeWord l n b X.2.2.2.2.2.2 g) q1975 q1977 qs58 q1978 (by decide +kernel) (by decide) rfl hl.1 (Nat.le_of_ble_eq_true rfl) dX2_condition_120 (by decide) (fun H locs Y => ?_)
  refine lv_pop hx hb dX2_condition_123 rfl ?_
  refine lv_aload_n hx hb dX2_condition_124 rfl (lv_at hl 0 rfl) ?_
  refine lv_iconst (v := 0) hx hb dX2_condition_125 (by decide) ?_
  refine lv_aload_n hx hb dX2_condition_126 rfl (lv_at hl 0 rfl) ?_
  obtain ⟨q_5, g, hE⟩ := e_bind hE
  refine n_call1 (n := 0) [] X Y (mbf_lineNumber l n b X.2.2.2.2.2.2 g) q1959 q1961 qs54 q1962 (by decide +kernel) (by decide) rfl hl.1 (Nat.le_of_ble_eq_true rfl) dX2_condition_127 (by decide) (fun H locs Y => ?_)
  obtain ⟨q_6, g, hE⟩ := e_bind hE
  refine n_call0 (n := 2) [.int (0 : Int32), .int q_5.2] X Y (mbf_setArg l n b X.2.2.2.2.2.2 g) q2036 q2038 qs66 q2039 (by decide +kernel) (by decide) rfl hl.1 (Nat.le_of_ble_eq_true rfl) dX2_condition_130 (by decide) (fun H locs Y => ?_)
  cases hE
  exact b_vret X Y hr hk dX2_condition_133
set_option maxHeartbeats 4000000 in
set_option maxRecDepth 100000 in
theorem wbf_condition_L89 {l : Launch} {b : bP} {As : List Value} {p : Program} {e : Env} {s : State} {m : MethodId} {below : List Frame} {meth : Method} {c : Code} (X : bX p s m (Value.ref b.h :: As).toArray c cX2_condition 2 b) (hr : meth.sig.returnType = none) (hk : meth.locks = false) {n : Nat} {st : bS} {z89_0 : Int32} {q : bS × Unit} (hE : bf_condition_L89 n st z89_0 = some q) {H : Heap} {locs : List Loc} {ls : Array Slot} (Y : bY b s st H locs) (hl : lv_has ls 2 [(0, .ref b.h)]) : bG l 5 131 b As none q.1 p e s m below meth c H locs (F0 m 89 ls [.int z89_0]) := by
  have hx := X.1
  have hb := X.2.1
  have hown := X.2.2.2.1
  have hts := X.2.2.2.2.1
  unfold bf_condition_L89 at hE
  refine lv_istore_n (lv' := [(1, .int z89_0), (0, .ref b.h)]) hx hb dX2_condition_89 rfl hl (by decide) rfl (fun ls hl => ?_)
  refine lv_iload_n hx hb dX2_condition_90 rfl (lv_at hl 0 rfl) ?_
  refine lv_if_ge (tgt := 99) hx hb dX2_condition_91 (by decide) (fun c_1 => ?_) (fun c_1 => ?_)
  · replace hE := e_t c_1 hE
    exact wbf_condition_L99 X hr hk hE Y (lv_sub hl [1, 0] rfl)
  · replace hE := e_f c_1 hE
    refine lv_aload_n hx hb dX2_condition_94 rfl (lv_at hl 1 rfl) ?_
    refine lv_iconst (v := 1) hx hb dX2_condition_95 (by decide) ?_
    obtain ⟨st_2, g, hE⟩ := e_bind hE
    refine n_put X Y 7 rfl (by decide) g rfl rfl rfl q1810 dX2_condition_96 (fun H locs Y => ?_)
    exact wbf_condition_L99 X hr hk hE Y (lv_sub hl [1, 0] rfl)
set_option maxHeartbeats 4000000 in
set_option maxRecDepth 100000 in
theorem mbf_condition (l : Launch) (n : Nat) (b : bP) (ok : bOk b) {st : bS} {q : bS × Unit} (hE : bf_condition n st = some q) : bMet l yX2_condition cX2_condition 2 none 5 131 b [] st none q.1 := by
  refine b_ofW (by decide) rfl ok (Nat.le_of_ble_eq_true rfl) (fun p e s m below meth c ls X Y hr hk hl => ?_)
  have hl : lv_has ls 2 [(0, .ref b.h)] := hl
  generalize s.heap = H at Y ⊢
  generalize ([] : List Loc) = locs at Y ⊢
  have hx := X.1
  have hb := X.2.1
  have hown := X.2.2.2.1
  have hts := X.2.2.2.2.1
  unfold bf_condition at hE
  refine lv_aload_n hx hb dX2_condition_0 rfl (lv_at hl 0 rfl) ?_
  refine lv_iconst (v := 0) hx hb dX2_condition_1 (by decide) ?_
  refine lv_aload_n hx hb dX2_condition_2 rfl (lv_at hl 0 rfl) ?_
  refine lv_iconst (v := 0) hx hb dX2_condition_3 (by decide) ?_
  obtain ⟨q_1, g, hE⟩ := e_bind hE
  refine n_call1 (n := 1) [.int (0 : Int32)] X Y (mbf_expression l n b X.2.2.2.2.2.2 g) q2056 q2058 qs71 q2059 (by decide +kernel) (by decide) rfl hl.1 (Nat.le_of_ble_eq_true rfl) dX2_condition_4 (by decide) (fun H locs Y => ?_)
  obtain ⟨q_2, g, hE⟩ := e_bind hE
  refine n_call0 (n := 2) [.int (0 : Int32), .int q_1.2] X Y (mbf_setExpr l n b X.2.2.2.2.2.2 g) q2088 q2090 qs79 q2091 (by decide +kernel) (by decide) rfl hl.1 (Nat.le_of_ble_eq_true rfl) dX2_condition_7 (by decide) (fun H locs Y => ?_)
  refine lv_aload_n hx hb dX2_condition_10 rfl (lv_at hl 0 rfl) ?_
  refine lv_bipush (v := 61) hx hb dX2_condition_11 (by decide) ?_
  obtain ⟨q_3, g, hE⟩ := e_bind hE
  refine n_call1 (n := 1) [.int (61 : Int32)] X Y (mbf_take l n b X.2.2.2.2.2.2 g) q2052 q2054 qs70 q2055 (by decide +kernel) (by decide) rfl hl.1 (Nat.le_of_ble_eq_true rfl) dX2_condition_13 (by decide) (fun H locs Y => ?_)
  refine lv_if_eq (tgt := 23) hx hb dX2_condition_16 (by decide) (fun c_4 => ?_) (fun c_4 => ?_)
  · replace hE := e_t c_4 hE
    refine lv_aload_n hx hb dX2_condition_23 rfl (lv_at hl 0 rfl) ?_
    refine lv_bipush (v := 60) hx hb dX2_condition_24 (by decide) ?_
    obtain ⟨q_5, g, hE⟩ := e_bind hE
    refine n_call1 (n := 1) [.int (60 : Int32)] X Y (mbf_take l n b X.2.2.2.2.2.2 g) q2052 q2054 qs70 q2055 (by decide +kernel) (by decide) rfl hl.1 (Nat.le_of_ble_eq_true rfl) dX2_condition_26 (by decide) (fun H locs Y => ?_)
    refine lv_if_eq (tgt := 62) hx hb dX2_condition_29 (by decide) (fun c_6 => ?_) (fun c_6 => ?_)
    · replace hE := e_t c_6 hE
      refine lv_aload_n hx hb dX2_condition_62 rfl (lv_at hl 0 rfl) ?_
      refine lv_bipush (v := 62) hx hb dX2_condition_63 (by decide) ?_
      obtain ⟨q_7, g, hE⟩ := e_bind hE
      refine n_call1 (n := 1) [.int (62 : Int32)] X Y (mbf_take l n b X.2.2.2.2.2.2 g) q2052 q2054 qs70 q2055 (by decide +kernel) (by decide) rfl hl.1 (Nat.le_of_ble_eq_true rfl) dX2_condition_65 (by decide) (fun H locs Y => ?_)
      refine lv_if_eq (tgt := 88) hx hb dX2_condition_68 (by decide) (fun c_8 => ?_) (fun c_8 => ?_)
      · replace hE := e_t c_8 hE
        refine lv_iconst (v := -1) hx hb dX2_condition_88 (by decide) ?_
        exact wbf_condition_L89 X hr hk hE Y (lv_sub hl [0] rfl)
      · replace hE := e_f c_8 hE
        refine lv_aload_n hx hb dX2_condition_71 rfl (lv_at hl 0 rfl) ?_
        refine lv_bipush (v := 61) hx hb dX2_condition_72 (by decide) ?_
        obtain ⟨q_9, g, hE⟩ := e_bind hE
        refine n_call1 (n := 1) [.int (61 : Int32)] X Y (mbf_take l n b X.2.2.2.2.2.2 g) q2052 q2054 qs70 q2055 (by decide +kernel) (by decide) rfl hl.1 (Nat.le_of_ble_eq_true rfl) dX2_condition_74 (by decide) (fun H locs Y => ?_)
        refine lv_if_eq (tgt := 84) hx hb dX2_condition_77 (by decide) (fun c_10 => ?_) (fun c_10 => ?_)
        · replace hE := e_t c_10 hE
          refine lv_iconst (v := 2) hx hb dX2_condition_84 (by decide) ?_
          refine lv_goto (tgt := 89) hx hb dX2_condition_85 (by decide) ?_
          exact wbf_condition_L89 X hr hk hE Y (lv_sub hl [0] rfl)
        · replace hE := e_f c_10 hE
          refine lv_iconst (v := 4) hx hb dX2_condition_80 (by decide) ?_
          refine lv_goto (tgt := 89) hx hb dX2_condition_81 (by decide) ?_
          exact wbf_condition_L89 X hr hk hE Y (lv_sub hl [0] rfl)
    · replace hE := e_f c_6 hE
      refine lv_aload_n hx hb dX2_condition_32 rfl (lv_at hl 0 rfl) ?_
      refine lv_bipush (v := 61) hx hb dX2_condition_33 (by decide) ?_
      obtain ⟨q_11, g, hE⟩ := e_bind hE
      refine n_call1 (n := 1) [.int (61 : Int32)] X Y (mbf_take l n b X.2.2.2.2.2.2 g) q2052 q2054 qs70 q2055 (by decide +kernel) (by decide) rfl hl.1 (Nat.le_of_ble_eq_true rfl) dX2_condition_35 (by decide) (fun H locs Y => ?_)
      refine lv_if_eq (tgt := 45) hx hb dX2_condition_38 (by decide) (fun c_12 => ?_) (fun c_12 => ?_)
      · replace hE := e_t c_12 hE
        refine lv_aload_n hx hb dX2_condition_45 rfl (lv_at hl 0 rfl) ?_
        refine lv_bipush (v := 62) hx hb dX2_condition_46 (by decide) ?_
        obtain ⟨q_13, g, hE⟩ := e_bind hE
        refine n_call1 (n := 1) [.int (62 : Int32)] X Y (mbf_take l n b X.2.2.2.2.2.2 g) q2052 q2054 qs70 q2055 (by decide +kernel) (by decide) rfl hl.1 (Nat.le_of_ble_eq_true rfl) dX2_condition_48 (by decide) (fun H locs Y => ?_)
        refine lv_if_eq (tgt := 58) hx hb dX2_condition_51 (by decide) (fun c_14 => ?_) (fun c_14 => ?_)
        · replace hE := e_t c_14 hE
          refine lv_iconst (v := 1) hx hb dX2_condition_58 (by decide) ?_
          refine lv_goto (tgt := 89) hx hb dX2_condition_59 (by decide) ?_
          exact wbf_condition_L89 X hr hk hE Y (lv_sub hl [0] rfl)
        · replace hE := e_f c_14 hE
          refine lv_iconst (v := 5) hx hb dX2_condition_54 (by decide) ?_
          refine lv_goto (tgt := 89) hx hb dX2_condition_55 (by decide) ?_
          exact wbf_condition_L89 X hr hk hE Y (lv_sub hl [0] rfl)
      · replace hE := e_f c_12 hE
        refine lv_iconst (v := 3) hx hb dX2_condition_41 (by decide) ?_
        refine lv_goto (tgt := 89) hx hb dX2_condition_42 (by decide) ?_
        exact wbf_condition_L89 X hr hk hE Y (lv_sub hl [0] rfl)
  · replace hE := e_f c_4 hE
    refine lv_iconst (v := 0) hx hb dX2_condition_19 (by decide) ?_
    refine lv_goto (tgt := 89) hx hb dX2_condition_20 (by decide) ?_
    exact wbf_condition_L89 X hr hk hE Y (lv_sub hl [0] rfl)
/-! BasicMachineModel.choice()V -/
set_option maxHeartbeats 4000000 in
set_option maxRecDepth 100000 in
theorem wbf_choice_L60 {l : Launch} {b : bP} {As : List Value} {p : Program} {e : Env} {s : State} {m : MethodId} {below : List Frame} {meth : Method} {c : Code} (X : bX p s m (Value.ref b.h :: As).toArray c cX2_choice 2 b) (hr : meth.sig.returnType = none) (hk : meth.locks = false) {n : Nat} {st : bS} {x1 : Int32} {q : bS × Unit} (hE : bf_choice_L60 n st x1 = some q) {H : Heap} {locs : List Loc} {ls : Array Slot} (Y : bY b s st H locs) (hl : lv_has ls 2 [(0, .ref b.h), (1, .int x1)]) : bG l 5 131 b As none q.1 p e s m below meth c H locs (F0 m 60 ls []) := by
  have hx := X.1
  have hb := X.2.1
  have hown := X.2.2.2.1
  have hts := X.2.2.2.2.1
  unfold bf_choice_L60 at hE
  refine lv_aload_n hx hb dX2_choice_60 rfl (lv_at hl 0 rfl) ?_
  refine lv_iconst (v := 0) hx hb dX2_choice_61 (by decide) ?_
  refine lv_iload_n hx hb dX2_choice_62 rfl (lv_at hl 1 rfl) ?_
  obtain ⟨q_1, g, hE⟩ := e_bind hE
  refine n_call0 (n := 2) [.int (0 : Int32), .int x1] X Y (mbf_setArg l n b X.2.2.2.2.2.2 g) q2036 q2038 qs66 q2039 (by decide +kernel) (by decide) rfl hl.1 (Nat.le_of_ble_eq_true rfl) dX2_choice_63 (by decide) (fun H locs Y => ?_)
  cases hE
  exact b_vret X Y hr hk dX2_choice_66
set_option maxHeartbeats 4000000 in
set_option maxRecDepth 100000 in
theorem wbf_choice_S19_ {l : Launch} {b : bP} {As : List Value} {p : Program} {e : Env} {s : State} {m : MethodId} {below : List Frame} {meth : Method} {c : Code} (X : bX p s m (Value.ref b.h :: As).toArray c cX2_choice 2 b) (hr : meth.sig.returnType = none) (hk : meth.locks = false) (n : Nat) {q : bS × Unit} : ∀ k : Nat, (∀ {st : bS} {x1 : Int32}, bf_choice_S19 n k st x1 = some q → ∀ {H : Heap} {locs : List Loc} {ls : Array Slot}, bY b s st H locs → lv_has ls 2 [(0, .ref b.h), (1, .int x1)] → bG l 5 131 b As none q.1 p e s m below meth c H locs (F0 m 19 ls [])) := by
  have hx := X.1
  have hb := X.2.1
  have hown := X.2.2.2.1
  have hts := X.2.2.2.2.1
  intro k
  induction k with
  | zero => exact fun h => nomatch (show none = some q from h)
  | succ k ih =>
    intro st x1 hE H locs ls Y hl
    replace hE : bf_choice_B19 n (bf_choice_S19 n k) st x1 = some q := hE
    unfold bf_choice_B19 at hE
    refine lv_aload_n hx hb dX2_choice_19 rfl (lv_at hl 0 rfl) ?_
    refine b_geti X Y 7 rfl (by decide) rfl q1810 dX2_choice_20 ?_
    refine lv_if_ne (tgt := 60) hx hb dX2_choice_23 (by decide) (fun c_1 => ?_) (fun c_1 => ?_)
    · replace hE := e_f c_1 hE
      exact wbf_choice_L60 X hr hk hE Y (lv_sub hl [0, 1] rfl)
    · replace hE := e_t c_1 hE
      refine lv_iload_n hx hb dX2_choice_26 rfl (lv_at hl 1 rfl) ?_
      refine lv_iconst (v := 4) hx hb dX2_choice_27 (by decide) ?_
      refine lv_icmp_ge (tgt := 60) hx hb dX2_choice_28 (by decide) (fun c_2 => ?_) (fun c_2 => ?_)
      · replace hE := e_t c_2 hE
        exact wbf_choice_L60 X hr hk hE Y (lv_sub hl [0, 1] rfl)
      · replace hE := e_f c_2 hE
        refine lv_iinc (v := (x1 + (1 : Int32))) (lv' := [(1, .int (x1 + (1 : Int32))), (0, .ref b.h)]) hx hb dX2_choice_31 hl (k := 1) rfl rfl (by decide) rfl (fun ls hl => ?_)
        refine lv_aload_n hx hb dX2_choice_34 rfl (lv_at hl 1 rfl) ?_
        refine lv_iload_n hx hb dX2_choice_35 rfl (lv_at hl 0 rfl) ?_
        refine lv_aload_n hx hb dX2_choice_36 rfl (lv_at hl 1 rfl) ?_
        obtain ⟨q_3, g, hE⟩ := e_bind hE
        refine n_call1 (n := 0) [] X Y (mbf_lineNumber l n b X.2.2.2.2.2.2 g) q1959 q1961 qs54 q1962 (by decide +kernel) (by decide) rfl hl.1 (Nat.le_of_ble_eq_true rfl) dX2_choice_37 (by decide) (fun H locs Y => ?_)
        obtain ⟨q_4, g, hE⟩ := e_bind hE
        refine n_call0 (n := 2) [.int (x1 + (1 : Int32)), .int q_3.2] X Y (mbf_setArg l n b X.2.2.2.2.2.2 g) q2036 q2038 qs66 q2039 (by decide +kernel) (by decide) rfl hl.1 (Nat.le_of_ble_eq_true rfl) dX2_choice_40 (by decide) (fun H locs Y => ?_)
        refine lv_iload_n hx hb dX2_choice_43 rfl (lv_at hl 0 rfl) ?_
        refine lv_iconst (v := 4) hx hb dX2_choice_44 (by decide) ?_
        refine lv_icmp_eq (tgt := 60) hx hb dX2_choice_45 (by decide) (fun c_5 => ?_) (fun c_5 => ?_)
        · replace hE := e_t c_5 hE
          exact wbf_choice_L60 X hr hk hE Y (lv_sub hl [1, 0] rfl)
        · replace hE := e_f c_5 hE
          refine lv_aload_n hx hb dX2_choice_48 rfl (lv_at hl 1 rfl) ?_
          refine lv_bipush (v := 44) hx hb dX2_choice_49 (by decide) ?_
          obtain ⟨q_6, g, hE⟩ := e_bind hE
          refine n_call1 (n := 1) [.int (44 : Int32)] X Y (mbf_take l n b X.2.2.2.2.2.2 g) q2052 q2054 qs70 q2055 (by decide +kernel) (by decide) rfl hl.1 (Nat.le_of_ble_eq_true rfl) dX2_choice_51 (by decide) (fun H locs Y => ?_)
          refine lv_if_ne (tgt := 19) hx hb dX2_choice_54 (by decide) (fun c_7 => ?_) (fun c_7 => ?_)
          · replace hE := e_f c_7 hE
            exact ih hE Y (lv_sub hl [1, 0] rfl)
          · replace hE := e_t c_7 hE
            refine lv_goto (tgt := 60) hx hb dX2_choice_57 (by decide) ?_
            exact wbf_choice_L60 X hr hk hE Y (lv_sub hl [1, 0] rfl)
set_option maxHeartbeats 4000000 in
set_option maxRecDepth 100000 in
theorem wbf_choice_S19 {l : Launch} {b : bP} {As : List Value} {p : Program} {e : Env} {s : State} {m : MethodId} {below : List Frame} {meth : Method} {c : Code} (X : bX p s m (Value.ref b.h :: As).toArray c cX2_choice 2 b) (hr : meth.sig.returnType = none) (hk : meth.locks = false) (n : Nat) {q : bS × Unit} : (∀ {st : bS} {x1 : Int32}, bf_choice_S19 n n st x1 = some q → ∀ {H : Heap} {locs : List Loc} {ls : Array Slot}, bY b s st H locs → lv_has ls 2 [(0, .ref b.h), (1, .int x1)] → bG l 5 131 b As none q.1 p e s m below meth c H locs (F0 m 19 ls [])) := wbf_choice_S19_ X hr hk n n
set_option maxHeartbeats 4000000 in
set_option maxRecDepth 100000 in
theorem mbf_choice (l : Launch) (n : Nat) (b : bP) (ok : bOk b) {st : bS} {q : bS × Unit} (hE : bf_choice n st = some q) : bMet l yX2_choice cX2_choice 2 none 5 131 b [] st none q.1 := by
  refine b_ofW (by decide) rfl ok (Nat.le_of_ble_eq_true rfl) (fun p e s m below meth c ls X Y hr hk hl => ?_)
  have hl : lv_has ls 2 [(0, .ref b.h)] := hl
  generalize s.heap = H at Y ⊢
  generalize ([] : List Loc) = locs at Y ⊢
  have hx := X.1
  have hb := X.2.1
  have hown := X.2.2.2.1
  have hts := X.2.2.2.2.1
  unfold bf_choice at hE
  refine lv_aload_n hx hb dX2_choice_0 rfl (lv_at hl 0 rfl) ?_
  refine lv_iconst (v := 0) hx hb dX2_choice_1 (by decide) ?_
  refine lv_aload_n hx hb dX2_choice_2 rfl (lv_at hl 0 rfl) ?_
  refine lv_iconst (v := 1) hx hb dX2_choice_3 (by decide) ?_
  obtain ⟨q_1, g, hE⟩ := e_bind hE
  refine n_call1 (n := 1) [.int (1 : Int32)] X Y (mbf_expression l n b X.2.2.2.2.2.2 g) q2056 q2058 qs71 q2059 (by decide +kernel) (by decide) rfl hl.1 (Nat.le_of_ble_eq_true rfl) dX2_choice_4 (by decide) (fun H locs Y => ?_)
  obtain ⟨q_2, g, hE⟩ := e_bind hE
  refine n_call0 (n := 2) [.int (0 : Int32), .int q_1.2] X Y (mbf_setExpr l n b X.2.2.2.2.2.2 g) q2088 q2090 qs79 q2091 (by decide +kernel) (by decide) rfl hl.1 (Nat.le_of_ble_eq_true rfl) dX2_choice_7 (by decide) (fun H locs Y => ?_)
  refine lv_aload_n hx hb dX2_choice_10 rfl (lv_at hl 0 rfl) ?_
  refine lv_iconst (v := 3) hx hb dX2_choice_11 (by decide) ?_
  refine lv_iconst (v := 3) hx hb dX2_choice_12 (by decide) ?_
  obtain ⟨q_3, g, hE⟩ := e_bind hE
  refine n_call1 (n := 2) [.int (3 : Int32), .int (3 : Int32)] X Y (mbf_takeWord l n b X.2.2.2.2.2.2 g) q1975 q1977 qs58 q1978 (by decide +kernel) (by decide) rfl hl.1 (Nat.le_of_ble_eq_true rfl) dX2_choice_13 (by decide) (fun H locs Y => ?_)
  refine lv_pop hx hb dX2_choice_16 rfl ?_
  refine lv_iconst (v := 0) hx hb dX2_choice_17 (by decide) ?_
  refine lv_istore_n (lv' := [(1, .int (0 : Int32)), (0, .ref b.h)]) hx hb dX2_choice_18 rfl hl (by decide) rfl (fun ls hl => ?_)
  exact (wbf_choice_S19 X hr hk n) hE Y (lv_sub hl [1, 0] rfl)
/-! BasicMachineModel.loop()V -/
set_option maxHeartbeats 4000000 in
set_option maxRecDepth 100000 in
theorem mbf_loop (l : Launch) (n : Nat) (b : bP) (ok : bOk b) {st : bS} {q : bS × Unit} (hE : bf_loop n st = some q) : bMet l yX2_loop cX2_loop 1 none 5 131 b [] st none q.1 := by
  refine b_ofW (by decide) rfl ok (Nat.le_of_ble_eq_true rfl) (fun p e s m below meth c ls X Y hr hk hl => ?_)
  have hl : lv_has ls 1 [(0, .ref b.h)] := hl
  generalize s.heap = H at Y ⊢
  generalize ([] : List Loc) = locs at Y ⊢
  have hx := X.1
  have hb := X.2.1
  have hown := X.2.2.2.1
  have hts := X.2.2.2.2.1
  unfold bf_loop at hE
  refine lv_aload_n hx hb dX2_loop_0 rfl (lv_at hl 0 rfl) ?_
  refine lv_iconst (v := 0) hx hb dX2_loop_1 (by decide) ?_
  refine lv_aload_n hx hb dX2_loop_2 rfl (lv_at hl 0 rfl) ?_
  obtain ⟨q_1, g, hE⟩ := e_bind hE
  refine n_call1 (n := 0) [] X Y (mbf_variable l n b X.2.2.2.2.2.2 g) q2032 q2034 qs65 q2035 (by decide +kernel) (by decide) rfl hl.1 (Nat.le_of_ble_eq_true rfl) dX2_loop_3 (by decide) (fun H locs Y => ?_)
  obtain ⟨q_2, g, hE⟩ := e_bind hE
  refine n_call0 (n := 2) [.int (0 : Int32), .int q_1.2] X Y (mbf_setArg l n b X.2.2.2.2.2.2 g) q2036 q2038 qs66 q2039 (by decide +kernel) (by decide) rfl hl.1 (Nat.le_of_ble_eq_true rfl) dX2_loop_6 (by decide) (fun H locs Y => ?_)
  refine lv_aload_n hx hb dX2_loop_9 rfl (lv_at hl 0 rfl) ?_
  refine lv_bipush (v := 61) hx hb dX2_loop_10 (by decide) ?_
  obtain ⟨q_3, g, hE⟩ := e_bind hE
  refine n_call0 (n := 1) [.int (61 : Int32)] X Y (mbf_need l n b X.2.2.2.2.2.2 g) q2048 q2050 qs69 q2051 (by decide +kernel) (by decide) rfl hl.1 (Nat.le_of_ble_eq_true rfl) dX2_loop_12 (by decide) (fun H locs Y => ?_)
  refine lv_aload_n hx hb dX2_loop_15 rfl (lv_at hl 0 rfl) ?_
  refine lv_iconst (v := 0) hx hb dX2_loop_16 (by decide) ?_
  refine lv_aload_n hx hb dX2_loop_17 rfl (lv_at hl 0 rfl) ?_
  refine lv_iconst (v := 0) hx hb dX2_loop_18 (by decide) ?_
  obtain ⟨q_4, g, hE⟩ := e_bind hE
  refine n_call1 (n := 1) [.int (0 : Int32)] X Y (mbf_expression l n b X.2.2.2.2.2.2 g) q2056 q2058 qs71 q2059 (by decide +kernel) (by decide) rfl hl.1 (Nat.le_of_ble_eq_true rfl) dX2_loop_19 (by decide) (fun H locs Y => ?_)
  obtain ⟨q_5, g, hE⟩ := e_bind hE
  refine n_call0 (n := 2) [.int (0 : Int32), .int q_4.2] X Y (mbf_setExpr l n b X.2.2.2.2.2.2 g) q2088 q2090 qs79 q2091 (by decide +kernel) (by decide) rfl hl.1 (Nat.le_of_ble_eq_true rfl) dX2_loop_22 (by decide) (fun H locs Y => ?_)
  refine lv_aload_n hx hb dX2_loop_25 rfl (lv_at hl 0 rfl) ?_
  refine lv_bipush (v := 18) hx hb dX2_loop_26 (by decide) ?_
  refine lv_bipush (v := 18) hx hb dX2_loop_28 (by decide) ?_
  obtain ⟨q_6, g, hE⟩ := e_bind hE
  refine n_call1 (n := 2) [.int (18 : Int32), .int (18 : Int32)] X Y (mbf_takeWord l n b X.2.2.2.2.2.2 g) q1975 q1977 qs58 q1978 (by decide +kernel) (by decide) rfl hl.1 (Nat.le_of_ble_eq_true rfl) dX2_loop_30 (by decide) (fun H locs Y => ?_)
  refine lv_pop hx hb dX2_loop_33 rfl ?_
  refine lv_aload_n hx hb dX2_loop_34 rfl (lv_at hl 0 rfl) ?_
  refine lv_iconst (v := 1) hx hb dX2_loop_35 (by decide) ?_
  refine lv_aload_n hx hb dX2_loop_36 rfl (lv_at hl 0 rfl) ?_
  refine lv_iconst (v := 0) hx hb dX2_loop_37 (by decide) ?_
  obtain ⟨q_7, g, hE⟩ := e_bind hE
  refine n_call1 (n := 1) [.int (0 : Int32)] X Y (mbf_expression l n b X.2.2.2.2.2.2 g) q2056 q2058 qs71 q2059 (by decide +kernel) (by decide) rfl hl.1 (Nat.le_of_ble_eq_true rfl) dX2_loop_38 (by decide) (fun H locs Y => ?_)
  obtain ⟨q_8, g, hE⟩ := e_bind hE
  refine n_call0 (n := 2) [.int (1 : Int32), .int q_7.2] X Y (mbf_setExpr l n b X.2.2.2.2.2.2 g) q2088 q2090 qs79 q2091 (by decide +kernel) (by decide) rfl hl.1 (Nat.le_of_ble_eq_true rfl) dX2_loop_41 (by decide) (fun H locs Y => ?_)
  refine lv_aload_n hx hb dX2_loop_44 rfl (lv_at hl 0 rfl) ?_
  refine lv_iconst (v := 1) hx hb dX2_loop_45 (by decide) ?_
  refine lv_iconst (v := 0) hx hb dX2_loop_46 (by decide) ?_
  obtain ⟨q_9, g, hE⟩ := e_bind hE
  refine n_call0 (n := 2) [.int (1 : Int32), .int (0 : Int32)] X Y (mbf_setArg l n b X.2.2.2.2.2.2 g) q2036 q2038 qs66 q2039 (by decide +kernel) (by decide) rfl hl.1 (Nat.le_of_ble_eq_true rfl) dX2_loop_47 (by decide) (fun H locs Y => ?_)
  refine lv_aload_n hx hb dX2_loop_50 rfl (lv_at hl 0 rfl) ?_
  refine b_geti X Y 7 rfl (by decide) rfl q1810 dX2_loop_51 ?_
  refine lv_if_ne (tgt := 66) hx hb dX2_loop_54 (by decide) (fun c_10 => ?_) (fun c_10 => ?_)
  · replace hE := e_f c_10 hE
    cases hE
    exact b_vret X Y hr hk dX2_loop_66
  · replace hE := e_t c_10 hE
    refine lv_aload_n hx hb dX2_loop_57 rfl (lv_at hl 0 rfl) ?_
    obtain ⟨q_11, g, hE⟩ := e_bind hE
    refine n_call1 (n := 0) [] X Y (mbf_look l n b X.2.2.2.2.2.2 g) q1967 q1969 qs56 q1970 (by decide +kernel) (by decide) rfl hl.1 (Nat.le_of_ble_eq_true rfl) dX2_loop_58 (by decide) (fun H locs Y => ?_)
    refine lv_bipush (v := 83) hx hb dX2_loop_61 (by decide) ?_
    refine lv_icmp_eq (tgt := 67) hx hb dX2_loop_63 (by decide) (fun c_12 => ?_) (fun c_12 => ?_)
    · replace hE := e_t c_12 hE
      refine lv_aload_n hx hb dX2_loop_67 rfl (lv_at hl 0 rfl) ?_
      refine lv_bipush (v := 19) hx hb dX2_loop_68 (by decide) ?_
      refine lv_bipush (v := 19) hx hb dX2_loop_70 (by decide) ?_
      obtain ⟨q_13, g, hE⟩ := e_bind hE
      refine n_call1 (n := 2) [.int (19 : Int32), .int (19 : Int32)] X Y (mbf_takeWord l n b X.2.2.2.2.2.2 g) q1975 q1977 qs58 q1978 (by decide +kernel) (by decide) rfl hl.1 (Nat.le_of_ble_eq_true rfl) dX2_loop_72 (by decide) (fun H locs Y => ?_)
      refine lv_pop hx hb dX2_loop_75 rfl ?_
      refine lv_aload_n hx hb dX2_loop_76 rfl (lv_at hl 0 rfl) ?_
      refine lv_iconst (v := 1) hx hb dX2_loop_77 (by decide) ?_
      refine lv_iconst (v := 1) hx hb dX2_loop_78 (by decide) ?_
      obtain ⟨q_14, g, hE⟩ := e_bind hE
      refine n_call0 (n := 2) [.int (1 : Int32), .int (1 : Int32)] X Y (mbf_setArg l n b X.2.2.2.2.2.2 g) q2036 q2038 qs66 q2039 (by decide +kernel) (by decide) rfl hl.1 (Nat.le_of_ble_eq_true rfl) dX2_loop_79 (by decide) (fun H locs Y => ?_)
      refine lv_aload_n hx hb dX2_loop_82 rfl (lv_at hl 0 rfl) ?_
      refine lv_iconst (v := 2) hx hb dX2_loop_83 (by decide) ?_
      refine lv_aload_n hx hb dX2_loop_84 rfl (lv_at hl 0 rfl) ?_
      refine lv_iconst (v := 0) hx hb dX2_loop_85 (by decide) ?_
      obtain ⟨q_15, g, hE⟩ := e_bind hE
      refine n_call1 (n := 1) [.int (0 : Int32)] X Y (mbf_expression l n b X.2.2.2.2.2.2 g) q2056 q2058 qs71 q2059 (by decide +kernel) (by decide) rfl hl.1 (Nat.le_of_ble_eq_true rfl) dX2_loop_86 (by decide) (fun H locs Y => ?_)
      obtain ⟨q_16, g, hE⟩ := e_bind hE
      refine n_call0 (n := 2) [.int (2 : Int32), .int q_15.2] X Y (mbf_setExpr l n b X.2.2.2.2.2.2 g) q2088 q2090 qs79 q2091 (by decide +kernel) (by decide) rfl hl.1 (Nat.le_of_ble_eq_true rfl) dX2_loop_89 (by decide) (fun H locs Y => ?_)
      cases hE
      exact b_vret X Y hr hk dX2_loop_92
    · replace hE := e_f c_12 hE
      cases hE
      exact b_vret X Y hr hk dX2_loop_66
/-! BasicMachineModel.numbers()V -/
set_option maxHeartbeats 4000000 in
set_option maxRecDepth 100000 in
theorem wbf_numbers_L67 {l : Launch} {b : bP} {As : List Value} {p : Program} {e : Env} {s : State} {m : MethodId} {below : List Frame} {meth : Method} {c : Code} (X : bX p s m (Value.ref b.h :: As).toArray c cX2_numbers 2 b) (hr : meth.sig.returnType = none) (hk : meth.locks = false) {n : Nat} {st : bS} {x1 : Int32} {q : bS × Unit} (hE : bf_numbers_L67 n st x1 = some q) {H : Heap} {locs : List Loc} {ls : Array Slot} (Y : bY b s st H locs) (hl : lv_has ls 2 [(0, .ref b.h), (1, .int x1)]) : bG l 3 64 b As none q.1 p e s m below meth c H locs (F0 m 67 ls []) := by
  have hx := X.1
  have hb := X.2.1
  have hown := X.2.2.2.1
  have hts := X.2.2.2.2.1
  unfold bf_numbers_L67 at hE
  refine lv_aload_n hx hb dX2_numbers_67 rfl (lv_at hl 0 rfl) ?_
  refine lv_iconst (v := 0) hx hb dX2_numbers_68 (by decide) ?_
  refine lv_iload_n hx hb dX2_numbers_69 rfl (lv_at hl 1 rfl) ?_
  obtain ⟨q_1, g, hE⟩ := e_bind hE
  refine n_call0 (n := 2) [.int (0 : Int32), .int x1] X Y (mbf_setArg l n b X.2.2.2.2.2.2 g) q2036 q2038 qs66 q2039 (by decide +kernel) (by decide) rfl hl.1 (Nat.le_of_ble_eq_true rfl) dX2_numbers_70 (by decide) (fun H locs Y => ?_)
  cases hE
  exact b_vret X Y hr hk dX2_numbers_73
set_option maxHeartbeats 4000000 in
set_option maxRecDepth 100000 in
theorem wbf_numbers_S11_ {l : Launch} {b : bP} {As : List Value} {p : Program} {e : Env} {s : State} {m : MethodId} {below : List Frame} {meth : Method} {c : Code} (X : bX p s m (Value.ref b.h :: As).toArray c cX2_numbers 2 b) (hr : meth.sig.returnType = none) (hk : meth.locks = false) (n : Nat) {q : bS × Unit} : ∀ k : Nat, (∀ {st : bS} {x1 : Int32} {z39_1 : Int32}, bf_numbers_S11 n k 0 st x1 z39_1 = some q → ∀ {H : Heap} {locs : List Loc} {ls : Array Slot}, bY b s st H locs → lv_has ls 2 [(0, .ref b.h), (1, .int x1)] → bG l 3 64 b As none q.1 p e s m below meth c H locs (F0 m 11 ls [])) ∧ (∀ {st : bS} {x1 : Int32} {z39_1 : Int32}, bf_numbers_S11 n k 1 st x1 z39_1 = some q → ∀ {H : Heap} {locs : List Loc} {ls : Array Slot}, bY b s st H locs → lv_has ls 2 [(0, .ref b.h), (1, .int x1)] → bG l 3 64 b As none q.1 p e s m below meth c H locs (F0 m 39 ls [.int z39_1, .ref b.h])) := by
  have hx := X.1
  have hb := X.2.1
  have hown := X.2.2.2.1
  have hts := X.2.2.2.2.1
  intro k
  induction k with
  | zero => exact ⟨(fun h => nomatch (show none = some q from h)), (fun h => nomatch (show none = some q from h))⟩
  | succ k ih =>
    obtain ⟨ih0, ih1⟩ := ih
    refine ⟨?_, ?_⟩
    · intro st x1 z39_1 hE H locs ls Y hl
      replace hE : bf_numbers_B11 n (bf_numbers_S11 n k) st x1 z39_1 = some q := hE
      unfold bf_numbers_B11 at hE
      refine lv_aload_n hx hb dX2_numbers_11 rfl (lv_at hl 0 rfl) ?_
      refine b_geti X Y 7 rfl (by decide) rfl q1810 dX2_numbers_12 ?_
      refine lv_if_ne (tgt := 67) hx hb dX2_numbers_15 (by decide) (fun c_1 => ?_) (fun c_1 => ?_)
      · replace hE := e_f c_1 hE
        exact wbf_numbers_L67 X hr hk hE Y (lv_sub hl [0, 1] rfl)
      · replace hE := e_t c_1 hE
        refine lv_iload_n hx hb dX2_numbers_18 rfl (lv_at hl 1 rfl) ?_
        refine lv_bipush (v := 6) hx hb dX2_numbers_19 (by decide) ?_
        refine lv_icmp_ge (tgt := 67) hx hb dX2_numbers_21 (by decide) (fun c_2 => ?_) (fun c_2 => ?_)
        · replace hE := e_t c_2 hE
          exact wbf_numbers_L67 X hr hk hE Y (lv_sub hl [0, 1] rfl)
        · replace hE := e_f c_2 hE
          refine lv_aload_n hx hb dX2_numbers_24 rfl (lv_at hl 0 rfl) ?_
          refine lv_aload_n hx hb dX2_numbers_25 rfl (lv_at hl 0 rfl) ?_
          refine lv_bipush (v := 45) hx hb dX2_numbers_26 (by decide) ?_
          obtain ⟨q_3, g, hE⟩ := e_bind hE
          refine n_call1 (n := 1) [.int (45 : Int32)] X Y (mbf_take l n b X.2.2.2.2.2.2 g) q2052 q2054 qs70 q2055 (by decide +kernel) (by decide) rfl hl.1 (Nat.le_of_ble_eq_true rfl) dX2_numbers_28 (by decide) (fun H locs Y => ?_)
          refine lv_if_eq (tgt := 38) hx hb dX2_numbers_31 (by decide) (fun c_4 => ?_) (fun c_4 => ?_)
          · replace hE := e_t c_4 hE
            refine lv_iconst (v := 0) hx hb dX2_numbers_38 (by decide) ?_
            exact ih1 hE Y (lv_sub hl [0, 1] rfl)
          · replace hE := e_f c_4 hE
            refine lv_iconst (v := 1) hx hb dX2_numbers_34 (by decide) ?_
            refine lv_goto (tgt := 39) hx hb dX2_numbers_35 (by decide) ?_
            exact ih1 hE Y (lv_sub hl [0, 1] rfl)
    · intro st x1 z39_1 hE H locs ls Y hl
      replace hE : bf_numbers_B39 n (bf_numbers_S11 n k) st x1 z39_1 = some q := hE
      unfold bf_numbers_B39 at hE
      obtain ⟨q_1, g, hE⟩ := e_bind hE
      refine n_call0 (n := 1) [.int z39_1] X Y (mbf_make l n b X.2.2.2.2.2.2 g) q2068 q2070 qs74 q2071 (by decide +kernel) (by decide) rfl hl.1 (Nat.le_of_ble_eq_true rfl) dX2_numbers_39 (by decide) (fun H locs Y => ?_)
      refine lv_aload_n hx hb dX2_numbers_42 rfl (lv_at hl 0 rfl) ?_
      obtain ⟨q_2, g, hE⟩ := e_bind hE
      refine n_call0 (n := 0) [] X Y (mbf_numeral l n b X.2.2.2.2.2.2 g) q2064 q2066 qs73 q2067 (by decide +kernel) (by decide) rfl hl.1 (Nat.le_of_ble_eq_true rfl) dX2_numbers_43 (by decide) (fun H locs Y => ?_)
      refine lv_iinc (v := (x1 + (1 : Int32))) (lv' := [(1, .int (x1 + (1 : Int32))), (0, .ref b.h)]) hx hb dX2_numbers_46 hl (k := 1) rfl rfl (by decide) rfl (fun ls hl => ?_)
      refine lv_iload_n hx hb dX2_numbers_49 rfl (lv_at hl 0 rfl) ?_
      refine lv_bipush (v := 6) hx hb dX2_numbers_50 (by decide) ?_
      refine lv_icmp_eq (tgt := 67) hx hb dX2_numbers_52 (by decide) (fun c_3 => ?_) (fun c_3 => ?_)
      · replace hE := e_t c_3 hE
        exact wbf_numbers_L67 X hr hk hE Y (lv_sub hl [1, 0] rfl)
      · replace hE := e_f c_3 hE
        refine lv_aload_n hx hb dX2_numbers_55 rfl (lv_at hl 1 rfl) ?_
        refine lv_bipush (v := 44) hx hb dX2_numbers_56 (by decide) ?_
        obtain ⟨q_4, g, hE⟩ := e_bind hE
        refine n_call1 (n := 1) [.int (44 : Int32)] X Y (mbf_take l n b X.2.2.2.2.2.2 g) q2052 q2054 qs70 q2055 (by decide +kernel) (by decide) rfl hl.1 (Nat.le_of_ble_eq_true rfl) dX2_numbers_58 (by decide) (fun H locs Y => ?_)
        refine lv_if_ne (tgt := 11) hx hb dX2_numbers_61 (by decide) (fun c_5 => ?_) (fun c_5 => ?_)
        · replace hE := e_f c_5 hE
          exact ih0 hE Y (lv_sub hl [1, 0] rfl)
        · replace hE := e_t c_5 hE
          refine lv_goto (tgt := 67) hx hb dX2_numbers_64 (by decide) ?_
          exact wbf_numbers_L67 X hr hk hE Y (lv_sub hl [1, 0] rfl)
set_option maxHeartbeats 4000000 in
set_option maxRecDepth 100000 in
theorem wbf_numbers_S11 {l : Launch} {b : bP} {As : List Value} {p : Program} {e : Env} {s : State} {m : MethodId} {below : List Frame} {meth : Method} {c : Code} (X : bX p s m (Value.ref b.h :: As).toArray c cX2_numbers 2 b) (hr : meth.sig.returnType = none) (hk : meth.locks = false) (n : Nat) {q : bS × Unit} : (∀ {st : bS} {x1 : Int32} {z39_1 : Int32}, bf_numbers_S11 n n 0 st x1 z39_1 = some q → ∀ {H : Heap} {locs : List Loc} {ls : Array Slot}, bY b s st H locs → lv_has ls 2 [(0, .ref b.h), (1, .int x1)] → bG l 3 64 b As none q.1 p e s m below meth c H locs (F0 m 11 ls [])) ∧ (∀ {st : bS} {x1 : Int32} {z39_1 : Int32}, bf_numbers_S11 n n 1 st x1 z39_1 = some q → ∀ {H : Heap} {locs : List Loc} {ls : Array Slot}, bY b s st H locs → lv_has ls 2 [(0, .ref b.h), (1, .int x1)] → bG l 3 64 b As none q.1 p e s m below meth c H locs (F0 m 39 ls [.int z39_1, .ref b.h])) := wbf_numbers_S11_ X hr hk n n
set_option maxHeartbeats 4000000 in
set_option maxRecDepth 100000 in
theorem mbf_numbers (l : Launch) (n : Nat) (b : bP) (ok : bOk b) {st : bS} {q : bS × Unit} (hE : bf_numbers n st = some q) : bMet l yX2_numbers cX2_numbers 2 none 3 64 b [] st none q.1 := by
  refine b_ofW (by decide) rfl ok (Nat.le_of_ble_eq_true rfl) (fun p e s m below meth c ls X Y hr hk hl => ?_)
  have hl : lv_has ls 2 [(0, .ref b.h)] := hl
  generalize s.heap = H at Y ⊢
  generalize ([] : List Loc) = locs at Y ⊢
  have hx := X.1
  have hb := X.2.1
  have hown := X.2.2.2.1
  have hts := X.2.2.2.2.1
  unfold bf_numbers at hE
  refine lv_iconst (v := 0) hx hb dX2_numbers_0 (by decide) ?_
  refine lv_istore_n (lv' := [(1, .int (0 : Int32)), (0, .ref b.h)]) hx hb dX2_numbers_1 rfl hl (by decide) rfl (fun ls hl => ?_)
  refine lv_aload_n hx hb dX2_numbers_2 rfl (lv_at hl 1 rfl) ?_
  refine lv_iconst (v := 0) hx hb dX2_numbers_3 (by decide) ?_
  refine lv_aload_n hx hb dX2_numbers_4 rfl (lv_at hl 1 rfl) ?_
  refine b_geti X Y 6 rfl (by decide) rfl q1809 dX2_numbers_5 ?_
  obtain ⟨q_1, g, hE⟩ := e_bind hE
  refine n_call0 (n := 2) [.int (0 : Int32), .int (st.1 6)] X Y (mbf_setExpr l n b X.2.2.2.2.2.2 g) q2088 q2090 qs79 q2091 (by decide +kernel) (by decide) rfl hl.1 (Nat.le_of_ble_eq_true rfl) dX2_numbers_8 (by decide) (fun H locs Y => ?_)
  exact (wbf_numbers_S11 X hr hk n).1 hE Y (lv_sub hl [1, 0] rfl)
/-! BasicMachineModel.oneToSix()I -/
set_option maxHeartbeats 4000000 in
set_option maxRecDepth 100000 in
theorem wbf_oneToSix_L24 {l : Launch} {b : bP} {As : List Value} {p : Program} {e : Env} {s : State} {m : MethodId} {below : List Frame} {meth : Method} {c : Code} (X : bX p s m (Value.ref b.h :: As).toArray c cX2_oneToSix 2 b) (hr : meth.sig.returnType = (some .int)) (hk : meth.locks = false) {n : Nat} {st : bS} {q : bS × Int32} (hE : bf_oneToSix_L24 n st = some q) {H : Heap} {locs : List Loc} {ls : Array Slot} (Y : bY b s st H locs) (hl : lv_has ls 2 [(0, .ref b.h)]) : bG l 1 20 b As (some (.int q.2)) q.1 p e s m below meth c H locs (F0 m 24 ls []) := by
  have hx := X.1
  have hb := X.2.1
  have hown := X.2.2.2.1
  have hts := X.2.2.2.2.1
  unfold bf_oneToSix_L24 at hE
  refine lv_aload_n hx hb dX2_oneToSix_24 rfl (lv_at hl 0 rfl) ?_
  refine lv_iconst (v := 1) hx hb dX2_oneToSix_25 (by decide) ?_
  obtain ⟨st_1, g, hE⟩ := e_bind hE
  refine n_put X Y 7 rfl (by decide) g rfl rfl rfl q1810 dX2_oneToSix_26 (fun H locs Y => ?_)
  refine lv_iconst (v := 0) hx hb dX2_oneToSix_29 (by decide) ?_
  cases hE
  exact b_iret X Y hr hk dX2_oneToSix_30
set_option maxHeartbeats 4000000 in
set_option maxRecDepth 100000 in
theorem mbf_oneToSix (l : Launch) (n : Nat) (b : bP) (ok : bOk b) {st : bS} {q : bS × Int32} (hE : bf_oneToSix n st = some q) : bMet l yX2_oneToSix cX2_oneToSix 2 (some .int) 1 20 b [] st (some (.int q.2)) q.1 := by
  refine b_ofW (by decide) rfl ok (Nat.le_of_ble_eq_true rfl) (fun p e s m below meth c ls X Y hr hk hl => ?_)
  have hl : lv_has ls 2 [(0, .ref b.h)] := hl
  generalize s.heap = H at Y ⊢
  generalize ([] : List Loc) = locs at Y ⊢
  have hx := X.1
  have hb := X.2.1
  have hown := X.2.2.2.1
  have hts := X.2.2.2.2.1
  unfold bf_oneToSix at hE
  refine lv_aload_n hx hb dX2_oneToSix_0 rfl (lv_at hl 0 rfl) ?_
  obtain ⟨q_1, g, hE⟩ := e_bind hE
  refine n_call1 (n := 0) [] X Y (mbf_look l n b X.2.2.2.2.2.2 g) q1967 q1969 qs56 q1970 (by decide +kernel) (by decide) rfl hl.1 (Nat.le_of_ble_eq_true rfl) dX2_oneToSix_1 (by decide) (fun H locs Y => ?_)
  refine lv_istore_n (lv' := [(1, .int q_1.2), (0, .ref b.h)]) hx hb dX2_oneToSix_4 rfl hl (by decide) rfl (fun ls hl => ?_)
  refine lv_aload_n hx hb dX2_oneToSix_5 rfl (lv_at hl 1 rfl) ?_
  refine b_geti X Y 7 rfl (by decide) rfl q1810 dX2_oneToSix_6 ?_
  refine lv_if_ne (tgt := 24) hx hb dX2_oneToSix_9 (by decide) (fun c_2 => ?_) (fun c_2 => ?_)
  · replace hE := e_f c_2 hE
    exact wbf_oneToSix_L24 X hr hk hE Y (lv_sub hl [1] rfl)
  · replace hE := e_t c_2 hE
    refine lv_iload_n hx hb dX2_oneToSix_12 rfl (lv_at hl 0 rfl) ?_
    refine lv_bipush (v := 49) hx hb dX2_oneToSix_13 (by decide) ?_
    refine lv_icmp_lt (tgt := 24) hx hb dX2_oneToSix_15 (by decide) (fun c_3 => ?_) (fun c_3 => ?_)
    · replace hE := e_t c_3 hE
      exact wbf_oneToSix_L24 X hr hk hE Y (lv_sub hl [1] rfl)
    · replace hE := e_f c_3 hE
      refine lv_iload_n hx hb dX2_oneToSix_18 rfl (lv_at hl 0 rfl) ?_
      refine lv_bipush (v := 54) hx hb dX2_oneToSix_19 (by decide) ?_
      refine lv_icmp_le (tgt := 31) hx hb dX2_oneToSix_21 (by decide) (fun c_4 => ?_) (fun c_4 => ?_)
      · replace hE := e_t c_4 hE
        refine lv_aload_n hx hb dX2_oneToSix_31 rfl (lv_at hl 1 rfl) ?_
        refine lv_dup hx hb dX2_oneToSix_32 rfl ?_
        refine b_geti X Y 4 rfl (by decide) rfl q1807 dX2_oneToSix_33 ?_
        refine lv_iconst (v := 1) hx hb dX2_oneToSix_36 (by decide) ?_
        refine lv_iadd hx hb dX2_oneToSix_37 ?_
        obtain ⟨st_5, g, hE⟩ := e_bind hE
        refine n_put X Y 4 rfl (by decide) g rfl rfl rfl q1807 dX2_oneToSix_38 (fun H locs Y => ?_)
        refine lv_iload_n hx hb dX2_oneToSix_41 rfl (lv_at hl 0 rfl) ?_
        refine lv_bipush (v := 48) hx hb dX2_oneToSix_42 (by decide) ?_
        refine lv_isub hx hb dX2_oneToSix_44 ?_
        cases hE
        exact b_iret X Y hr hk dX2_oneToSix_45
      · replace hE := e_f c_4 hE
        exact wbf_oneToSix_L24 X hr hk hE Y (lv_sub hl [1] rfl)
/-! BasicMachineModel.dim()V -/
set_option maxHeartbeats 4000000 in
set_option maxRecDepth 100000 in
theorem mbf_dim (l : Launch) (n : Nat) (b : bP) (ok : bOk b) {st : bS} {q : bS × Unit} (hE : bf_dim n st = some q) : bMet l yX2_dim cX2_dim 1 none 3 62 b [] st none q.1 := by
  refine b_ofW (by decide) rfl ok (Nat.le_of_ble_eq_true rfl) (fun p e s m below meth c ls X Y hr hk hl => ?_)
  have hl : lv_has ls 1 [(0, .ref b.h)] := hl
  generalize s.heap = H at Y ⊢
  generalize ([] : List Loc) = locs at Y ⊢
  have hx := X.1
  have hb := X.2.1
  have hown := X.2.2.2.1
  have hts := X.2.2.2.2.1
  unfold bf_dim at hE
  refine lv_aload_n hx hb dX2_dim_0 rfl (lv_at hl 0 rfl) ?_
  refine lv_iconst (v := 0) hx hb dX2_dim_1 (by decide) ?_
  refine lv_aload_n hx hb dX2_dim_2 rfl (lv_at hl 0 rfl) ?_
  obtain ⟨q_1, g, hE⟩ := e_bind hE
  refine n_call1 (n := 0) [] X Y (mbf_matrix l n b X.2.2.2.2.2.2 g) q2040 q2042 qs67 q2043 (by decide +kernel) (by decide) rfl hl.1 (Nat.le_of_ble_eq_true rfl) dX2_dim_3 (by decide) (fun H locs Y => ?_)
  obtain ⟨q_2, g, hE⟩ := e_bind hE
  refine n_call0 (n := 2) [.int (0 : Int32), .int q_1.2] X Y (mbf_setArg l n b X.2.2.2.2.2.2 g) q2036 q2038 qs66 q2039 (by decide +kernel) (by decide) rfl hl.1 (Nat.le_of_ble_eq_true rfl) dX2_dim_6 (by decide) (fun H locs Y => ?_)
  refine lv_aload_n hx hb dX2_dim_9 rfl (lv_at hl 0 rfl) ?_
  refine lv_bipush (v := 40) hx hb dX2_dim_10 (by decide) ?_
  obtain ⟨q_3, g, hE⟩ := e_bind hE
  refine n_call0 (n := 1) [.int (40 : Int32)] X Y (mbf_need l n b X.2.2.2.2.2.2 g) q2048 q2050 qs69 q2051 (by decide +kernel) (by decide) rfl hl.1 (Nat.le_of_ble_eq_true rfl) dX2_dim_12 (by decide) (fun H locs Y => ?_)
  refine lv_aload_n hx hb dX2_dim_15 rfl (lv_at hl 0 rfl) ?_
  refine lv_iconst (v := 1) hx hb dX2_dim_16 (by decide) ?_
  refine lv_aload_n hx hb dX2_dim_17 rfl (lv_at hl 0 rfl) ?_
  obtain ⟨q_4, g, hE⟩ := e_bind hE
  refine n_call1 (n := 0) [] X Y (mbf_oneToSix l n b X.2.2.2.2.2.2 g) q2116 q2118 qs86 q2119 (by decide +kernel) (by decide) rfl hl.1 (Nat.le_of_ble_eq_true rfl) dX2_dim_18 (by decide) (fun H locs Y => ?_)
  obtain ⟨q_5, g, hE⟩ := e_bind hE
  refine n_call0 (n := 2) [.int (1 : Int32), .int q_4.2] X Y (mbf_setArg l n b X.2.2.2.2.2.2 g) q2036 q2038 qs66 q2039 (by decide +kernel) (by decide) rfl hl.1 (Nat.le_of_ble_eq_true rfl) dX2_dim_21 (by decide) (fun H locs Y => ?_)
  refine lv_aload_n hx hb dX2_dim_24 rfl (lv_at hl 0 rfl) ?_
  refine lv_bipush (v := 44) hx hb dX2_dim_25 (by decide) ?_
  obtain ⟨q_6, g, hE⟩ := e_bind hE
  refine n_call0 (n := 1) [.int (44 : Int32)] X Y (mbf_need l n b X.2.2.2.2.2.2 g) q2048 q2050 qs69 q2051 (by decide +kernel) (by decide) rfl hl.1 (Nat.le_of_ble_eq_true rfl) dX2_dim_27 (by decide) (fun H locs Y => ?_)
  refine lv_aload_n hx hb dX2_dim_30 rfl (lv_at hl 0 rfl) ?_
  refine lv_iconst (v := 2) hx hb dX2_dim_31 (by decide) ?_
  refine lv_aload_n hx hb dX2_dim_32 rfl (lv_at hl 0 rfl) ?_
  obtain ⟨q_7, g, hE⟩ := e_bind hE
  refine n_call1 (n := 0) [] X Y (mbf_oneToSix l n b X.2.2.2.2.2.2 g) q2116 q2118 qs86 q2119 (by decide +kernel) (by decide) rfl hl.1 (Nat.le_of_ble_eq_true rfl) dX2_dim_33 (by decide) (fun H locs Y => ?_)
  obtain ⟨q_8, g, hE⟩ := e_bind hE
  refine n_call0 (n := 2) [.int (2 : Int32), .int q_7.2] X Y (mbf_setArg l n b X.2.2.2.2.2.2 g) q2036 q2038 qs66 q2039 (by decide +kernel) (by decide) rfl hl.1 (Nat.le_of_ble_eq_true rfl) dX2_dim_36 (by decide) (fun H locs Y => ?_)
  refine lv_aload_n hx hb dX2_dim_39 rfl (lv_at hl 0 rfl) ?_
  refine lv_bipush (v := 41) hx hb dX2_dim_40 (by decide) ?_
  obtain ⟨q_9, g, hE⟩ := e_bind hE
  refine n_call0 (n := 1) [.int (41 : Int32)] X Y (mbf_need l n b X.2.2.2.2.2.2 g) q2048 q2050 qs69 q2051 (by decide +kernel) (by decide) rfl hl.1 (Nat.le_of_ble_eq_true rfl) dX2_dim_42 (by decide) (fun H locs Y => ?_)
  cases hE
  exact b_vret X Y hr hk dX2_dim_45

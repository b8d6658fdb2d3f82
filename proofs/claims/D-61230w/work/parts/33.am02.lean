/-! contracts of the machine (printed by gena.py) -/
/-! BasicMachine$Parser.mat()LBasicMachine$Statement; -/
set_option maxHeartbeats 4000000 in
set_option maxRecDepth 100000 in
theorem waf_X3_mat_L62 {l : Launch} {x : aP} {As : List Value} {σ0 : aS} {p : Program} {e : Env} {s : State} {m : MethodId} {below : List Frame} {meth : Method} {c : Code} {mc ms : Nat} (X : aX "BasicMachine$Parser" p l s m As.toArray meth c cX3_mat 5 x σ0) (hex : ∀ z ∈ c.exceptionTable.toList, False) (hr : meth.sig.returnType = (some (.object "BasicMachine$Statement"))) (hnm : "mat" = meth.name) {n : Nat} {st : aS} {a0 : Nat} {x1 : Int32} {x2 : Int32} {z62_1 : Option Nat} {q : aS × ((Option Nat) ⊕ Nat)} (hE : af_X3_mat_L62 n x.sK st a0 x1 x2 z62_1 = some q) (h1 : mc + σ0.1 = q.1.1) (h2 : ms + σ0.2.1 = q.1.2.1) {H : Heap} {locs : List Loc} {ls : Array Slot} {kc ks : Nat} (Y : aY x σ0 s st H locs kc ks) (hl : lv_has ls 5 [(0, .ref a0), (1, .int x1), (2, .int x2)]) : aG l 86 2028 mc ms x As σ0 (oR q.2) q.1 p e s m below meth c H locs kc ks (F0 m 62 ls [va_rf z62_1, .ref a0]) := by
  have hx := X.1
  have hb := X.2.1
  have hown := X.2.2.2.1
  have hts := X.2.2.2.2.1
  have hK := X.2.2.2.2.2.1
  have hl0 := X.2.2.2.2.2.2.2.2
  unfold af_X3_mat_L62 at hE
  replace hE := e_bind hE
  obtain ⟨u_3, g, hE⟩ := hE
  obtain ⟨fs9, g9⟩ := i_gC g
  have g7 := a_recv X Y k_X3.1 g9
  replace hE := e_xb hE
  rcases hE with ⟨st_1, u_2, g, hE⟩ | ⟨st_1, k9, g, hE⟩
  rotate_left
  · subst hE
    refine a_callV (n := 1) (C := "BasicMachine$Parser") (σ1 := st_1) (σf := st_1) [va_rf z62_1] X Y (maf_X3_take_2 hl0 n g) ⟨oaf_X3_take_2 _ g, aLe.rf _, h1, h2, (by show _ ≤ 86; decide), (by show _ ≤ 2028; decide)⟩ q936 q938 qs23 q129 q939 (by decide +kernel) g7 rfl hl.1 (Nat.le_of_ble_eq_true rfl) dX3_mat_62 (fun v hv => by cases hv) (fun k hk H locs kc ks q9 ce Y e1 e2 e3 => ?_)
    cases hk
    exact a_out X Y h1 h2 (fun z hz => (hex z hz).elim) e1 e2 e3
  have M9 := (mo_s (fun _ => le_nO) fun _ => (mo_cb oaf_X26_init fun _ _ => mo_ret)) _ hE
  refine a_callV (n := 1) (C := "BasicMachine$Parser") (σ1 := st_1) (σf := q.1) [va_rf z62_1] X Y (maf_X3_take_2 hl0 n g) ⟨oaf_X3_take_2 _ g, M9, h1, h2, (by show _ ≤ 86; decide), (by show _ ≤ 2028; decide)⟩ q936 q938 qs23 q129 q939 (by decide +kernel) g7 rfl hl.1 (Nat.le_of_ble_eq_true rfl) dX3_mat_62 (fun v hv H locs kc ks Y => ?_) (fun k hk => by cases hk)
  cases hv
  replace hE := e_bind hE
  obtain ⟨st_4, g, hE⟩ := hE
  have M9 := (mo_cb oaf_X26_init fun _ _ => mo_ret) _ hE
  refine a_new X Y k_X26 g b_X26 q1241 q1242 q165 (aRoom1 Y h1 (le_nO1 g) M9) (aRoom2 Y h2 (le_nO2 g) M9) dX3_mat_65 (fun H Y => ?_)
  generalize kc + 1 = kc at Y ⊢
  generalize ks + 5 = ks at Y ⊢
  refine lv_dup hx hb dX3_mat_68 rfl ?_
  refine lv_iload_n hx hb dX3_mat_69 rfl (lv_at hl 1 rfl) ?_
  refine lv_iload_n hx hb dX3_mat_70 rfl (lv_at hl 2 rfl) ?_
  refine lv_iload_n hx hb dX3_mat_71 rfl (lv_at hl 1 rfl) ?_
  refine lv_iconst (v := -1) hx hb dX3_mat_72 (by decide) ?_
  refine lv_null hx hb dX3_mat_73 ?_
  replace hE := e_cb hE
  obtain ⟨st_5, u_6, g, hE⟩ := hE
  have M9 := mo_ret _ hE
  refine a_callIN (host := "BasicMachine") (n := 5) (σ1 := st_5) (σf := q.1) [.int x1, .int x2, .int x1, .int (-1 : Int32), va_rf (none : Option Nat)] X Y (maf_X26_init hl0 n g) ⟨oaf_X26_init _ g, M9, h1, h2, (by show _ ≤ 86; decide), (by show _ ≤ 2028; decide)⟩ (by decide) q1244 q165 q1245 rfl (by decide +kernel) rfl hl.1 (Nat.le_of_ble_eq_true rfl) dX3_mat_74 (fun v hv H locs kc ks Y => ?_) (fun k hk => by cases hk)
  cases hv
  cases hE
  exact a_aret (r := (some st_1.1)) X Y h1 h2 hr (Or.inl ⟨_, rfl⟩) dX3_mat_77
set_option maxHeartbeats 4000000 in
set_option maxRecDepth 100000 in
theorem waf_X3_mat_L34 {l : Launch} {x : aP} {As : List Value} {σ0 : aS} {p : Program} {e : Env} {s : State} {m : MethodId} {below : List Frame} {meth : Method} {c : Code} {mc ms : Nat} (X : aX "BasicMachine$Parser" p l s m As.toArray meth c cX3_mat 5 x σ0) (hex : ∀ z ∈ c.exceptionTable.toList, False) (hr : meth.sig.returnType = (some (.object "BasicMachine$Statement"))) (hnm : "mat" = meth.name) {n : Nat} {st : aS} {a0 : Nat} {x1 : Int32} {x2 : Int32} {q : aS × ((Option Nat) ⊕ Nat)} (hE : af_X3_mat_L34 n x.sK st a0 x1 x2 = some q) (h1 : mc + σ0.1 = q.1.1) (h2 : ms + σ0.2.1 = q.1.2.1) {H : Heap} {locs : List Loc} {ls : Array Slot} {kc ks : Nat} (Y : aY x σ0 s st H locs kc ks) (hl : lv_has ls 5 [(0, .ref a0), (1, .int x1), (2, .int x2)]) : aG l 86 2028 mc ms x As σ0 (oR q.2) q.1 p e s m below meth c H locs kc ks (F0 m 34 ls []) := by
  have hx := X.1
  have hb := X.2.1
  have hown := X.2.2.2.1
  have hts := X.2.2.2.2.1
  have hK := X.2.2.2.2.2.1
  have hl0 := X.2.2.2.2.2.2.2.2
  unfold af_X3_mat_L34 at hE
  refine lv_aload_n hx hb dX3_mat_34 rfl (lv_at hl 0 rfl) ?_
  refine lv_iload_n hx hb dX3_mat_35 rfl (lv_at hl 2 rfl) ?_
  refine lv_bipush (v := 90) hx hb dX3_mat_36 (by decide) ?_
  refine lv_icmp_ne (tgt := 47) hx hb dX3_mat_38 (by decide) (fun c_1 => ?_) (fun c_1 => ?_)
  · replace hE := e_f c_1 hE
    refine lv_iload_n hx hb dX3_mat_47 rfl (lv_at hl 2 rfl) ?_
    refine lv_bipush (v := 67) hx hb dX3_mat_48 (by decide) ?_
    refine lv_icmp_ne (tgt := 59) hx hb dX3_mat_50 (by decide) (fun c_2 => ?_) (fun c_2 => ?_)
    · replace hE := e_f c_2 hE
      refine s_ldcw (i := 26) X (by decide) dX3_mat_59 ?_
      exact waf_X3_mat_L62 X hex hr hnm hE h1 h2 Y (lv_sub hl [0, 1, 2] rfl)
    · replace hE := e_t c_2 hE
      refine s_ldcw (i := 25) X (by decide) dX3_mat_53 ?_
      refine lv_goto (tgt := 62) hx hb dX3_mat_56 (by decide) ?_
      exact waf_X3_mat_L62 X hex hr hnm hE h1 h2 Y (lv_sub hl [0, 1, 2] rfl)
  · replace hE := e_t c_1 hE
    refine s_ldcw (i := 24) X (by decide) dX3_mat_41 ?_
    refine lv_goto (tgt := 62) hx hb dX3_mat_44 (by decide) ?_
    exact waf_X3_mat_L62 X hex hr hnm hE h1 h2 Y (lv_sub hl [0, 1, 2] rfl)
set_option maxHeartbeats 4000000 in
set_option maxRecDepth 100000 in
theorem waf_X3_mat_L196 {l : Launch} {x : aP} {As : List Value} {σ0 : aS} {p : Program} {e : Env} {s : State} {m : MethodId} {below : List Frame} {meth : Method} {c : Code} {mc ms : Nat} (X : aX "BasicMachine$Parser" p l s m As.toArray meth c cX3_mat 5 x σ0) (hex : ∀ z ∈ c.exceptionTable.toList, False) (hr : meth.sig.returnType = (some (.object "BasicMachine$Statement"))) (hnm : "mat" = meth.name) {n : Nat} {st : aS} {a0 : Nat} {x1 : Int32} {x3 : Int32} {x4 : Int32} {q : aS × ((Option Nat) ⊕ Nat)} (hE : af_X3_mat_L196 n x.sK st a0 x1 x3 x4 = some q) (h1 : mc + σ0.1 = q.1.1) (h2 : ms + σ0.2.1 = q.1.2.1) {H : Heap} {locs : List Loc} {ls : Array Slot} {kc ks : Nat} (Y : aY x σ0 s st H locs kc ks) (hl : lv_has ls 5 [(0, .ref a0), (1, .int x1), (3, .int x3), (4, .int x4)]) : aG l 86 2028 mc ms x As σ0 (oR q.2) q.1 p e s m below meth c H locs kc ks (F0 m 196 ls []) := by
  have hx := X.1
  have hb := X.2.1
  have hown := X.2.2.2.1
  have hts := X.2.2.2.2.1
  have hK := X.2.2.2.2.2.1
  have hl0 := X.2.2.2.2.2.2.2.2
  unfold af_X3_mat_L196 at hE
  refine lv_aload_n hx hb dX3_mat_196 rfl (lv_at hl 0 rfl) ?_
  refine lv_dup hx hb dX3_mat_197 rfl ?_
  replace hE := e_bind hE
  obtain ⟨v_1, g, hE⟩ := hE
  refine n_gI X Y k_X3 2 g (by decide) q442 dX3_mat_198 ?_
  refine lv_iconst (v := 1) hx hb dX3_mat_201 (by decide) ?_
  refine lv_iadd hx hb dX3_mat_202 ?_
  replace hE := e_bind hE
  obtain ⟨st_2, g, hE⟩ := hE
  refine a_putV X Y k_X3 2 g (by decide) rfl rfl rfl q442 dX3_mat_203 (fun H locs Y => ?_)
  replace hE := e_bind hE
  obtain ⟨st_3, g, hE⟩ := hE
  have M9 := (mo_v fun _ => (mo_x oaf_X3_matrix fun _ _ => (mo_cb oaf_X26_init fun _ _ => mo_ret))) _ hE
  refine a_new X Y k_X26 g b_X26 q1241 q1242 q165 (aRoom1 Y h1 (le_nO1 g) M9) (aRoom2 Y h2 (le_nO2 g) M9) dX3_mat_206 (fun H Y => ?_)
  generalize kc + 1 = kc at Y ⊢
  generalize ks + 5 = ks at Y ⊢
  refine lv_dup hx hb dX3_mat_209 rfl ?_
  refine lv_iload_n hx hb dX3_mat_210 rfl (lv_at hl 1 rfl) ?_
  refine lv_iload hx hb dX3_mat_211 (lv_at hl 3 rfl) ?_
  refine lv_iload_n hx hb dX3_mat_213 rfl (lv_at hl 2 rfl) ?_
  refine lv_aload_n hx hb dX3_mat_214 rfl (lv_at hl 0 rfl) ?_
  replace hE := e_bind hE
  obtain ⟨u_6, g, hE⟩ := hE
  obtain ⟨fs9, g9⟩ := i_gC g
  have g7 := a_recv X Y k_X3.1 g9
  replace hE := e_xb hE
  rcases hE with ⟨st_4, v_5, g, hE⟩ | ⟨st_4, k9, g, hE⟩
  rotate_left
  · subst hE
    refine a_callV (n := 0) (C := "BasicMachine$Parser") (σ1 := st_4) (σf := st_4) [] X Y (maf_X3_matrix hl0 n g) ⟨oaf_X3_matrix _ g, aLe.rf _, h1, h2, (by show _ ≤ 86; decide), (by show _ ≤ 2028; decide)⟩ q867 q869 qs11 q129 q870 (by decide +kernel) g7 rfl hl.1 (Nat.le_of_ble_eq_true rfl) dX3_mat_215 (fun v hv => by cases hv) (fun k hk H locs kc ks q9 ce Y e1 e2 e3 => ?_)
    cases hk
    exact a_out X Y h1 h2 (fun z hz => (hex z hz).elim) e1 e2 e3
  have M9 := (mo_cb oaf_X26_init fun _ _ => mo_ret) _ hE
  refine a_callV (n := 0) (C := "BasicMachine$Parser") (σ1 := st_4) (σf := q.1) [] X Y (maf_X3_matrix hl0 n g) ⟨oaf_X3_matrix _ g, M9, h1, h2, (by show _ ≤ 86; decide), (by show _ ≤ 2028; decide)⟩ q867 q869 qs11 q129 q870 (by decide +kernel) g7 rfl hl.1 (Nat.le_of_ble_eq_true rfl) dX3_mat_215 (fun v hv H locs kc ks Y => ?_) (fun k hk => by cases hk)
  cases hv
  refine lv_null hx hb dX3_mat_218 ?_
  replace hE := e_cb hE
  obtain ⟨st_7, u_8, g, hE⟩ := hE
  have M9 := mo_ret _ hE
  refine a_callIN (host := "BasicMachine") (n := 5) (σ1 := st_7) (σf := q.1) [.int x1, .int x4, .int x3, .int v_5, va_rf (none : Option Nat)] X Y (maf_X26_init hl0 n g) ⟨oaf_X26_init _ g, M9, h1, h2, (by show _ ≤ 86; decide), (by show _ ≤ 2028; decide)⟩ (by decide) q1244 q165 q1245 rfl (by decide +kernel) rfl hl.1 (Nat.le_of_ble_eq_true rfl) dX3_mat_219 (fun v hv H locs kc ks Y => ?_) (fun k hk => by cases hk)
  cases hv
  cases hE
  exact a_aret (r := (some st_2.1)) X Y h1 h2 hr (Or.inl ⟨_, rfl⟩) dX3_mat_222
set_option maxHeartbeats 4000000 in
set_option maxRecDepth 100000 in
theorem maf_X3_mat {l : Launch} (hl0 : l.stackTraces = false) (n : Nat) {x : aP} {st : aS} {a0 : Nat} {q : aS × ((Option Nat) ⊕ Nat)} (hE : af_X3_mat n x.sK st a0 = some q) : aMet l yX3_mat (ws_ yX3_mat cX3_mat 5 (some (.object "BasicMachine$Statement"))) 86 2028 x [.ref a0] st (oR q.2) q.1 := by
  refine a_ofW (own := "BasicMachine$Parser") hl0 (by decide) rfl (Nat.le_of_ble_eq_true rfl) (fun mc ms p e s m below meth c ls H locs kc ks h1 h2 X hex Y hr hnm hl => ?_)
  have hnm : "mat" = meth.name := hnm
  have hl : lv_has ls 5 [(0, .ref a0)] := hl
  have hx := X.1
  have hb := X.2.1
  have hown := X.2.2.2.1
  have hts := X.2.2.2.2.1
  have hK := X.2.2.2.2.2.1
  have hl0 := X.2.2.2.2.2.2.2.2
  unfold af_X3_mat at hE
  refine lv_aload_n hx hb dX3_mat_0 rfl (lv_at hl 0 rfl) ?_
  replace hE := e_bind hE
  obtain ⟨u_3, g, hE⟩ := hE
  obtain ⟨fs9, g9⟩ := i_gC g
  have g7 := a_recv X Y k_X3.1 g9
  replace hE := e_xb hE
  rcases hE with ⟨st_1, v_2, g, hE⟩ | ⟨st_1, k9, g, hE⟩
  rotate_left
  · subst hE
    refine a_callV (n := 0) (C := "BasicMachine$Parser") (σ1 := st_1) (σf := st_1) [] X Y (maf_X3_matrix hl0 n g) ⟨oaf_X3_matrix _ g, aLe.rf _, h1, h2, (by show _ ≤ 86; decide), (by show _ ≤ 2028; decide)⟩ q867 q869 qs11 q129 q870 (by decide +kernel) g7 rfl hl.1 (Nat.le_of_ble_eq_true rfl) dX3_mat_1 (fun v hv => by cases hv) (fun k hk H locs kc ks q9 ce Y e1 e2 e3 => ?_)
    cases hk
    exact a_out X Y h1 h2 (fun z hz => (hex z hz).elim) e1 e2 e3
  have M9 := (mo_v fun _ => (mo_x oaf_X3_take fun _ _ => (mo_v fun _ => (mo_cb oaf_X3_here fun _ _ => (mo_if (oaf_X3_mat_L34 ) (mo_if (oaf_X3_mat_L34 ) (mo_if (oaf_X3_mat_L34 ) (mo_if (mo_v fun _ => (mo_x oaf_X3_take_2 fun _ _ => (mo_v fun _ => (mo_x oaf_X3_matrix fun _ _ => (mo_v fun _ => (mo_x oaf_X3_take fun _ _ => (mo_s (fun _ => le_nO) fun _ => (mo_cb oaf_X26_init fun _ _ => mo_ret)))))))) (mo_if (mo_v fun _ => (mo_x (oaf_X3_inside (of_expr _ _ _)) fun _ _ => (mo_v fun _ => (mo_x oaf_X3_take fun _ _ => (mo_s (fun _ => le_nO) fun _ => (mo_v fun _ => (mo_x oaf_X3_matrix fun _ _ => (mo_cb oaf_X26_init fun _ _ => mo_ret)))))))) (mo_v fun _ => (mo_x oaf_X3_matrix fun _ _ => (mo_v fun _ => (mo_cb oaf_X3_here fun _ _ => (mo_if (oaf_X3_mat_L196 ) (mo_if (oaf_X3_mat_L196 ) (mo_if (oaf_X3_mat_L196 ) (mo_s (fun _ => le_nO) fun _ => (mo_cb oaf_X26_init fun _ _ => mo_ret)))))))))))))))))) _ hE
  refine a_callV (n := 0) (C := "BasicMachine$Parser") (σ1 := st_1) (σf := q.1) [] X Y (maf_X3_matrix hl0 n g) ⟨oaf_X3_matrix _ g, M9, h1, h2, (by show _ ≤ 86; decide), (by show _ ≤ 2028; decide)⟩ q867 q869 qs11 q129 q870 (by decide +kernel) g7 rfl hl.1 (Nat.le_of_ble_eq_true rfl) dX3_mat_1 (fun v hv H locs kc ks Y => ?_) (fun k hk => by cases hk)
  cases hv
  refine lv_istore_n (i := 1) (lv' := [(1, .int v_2), (0, .ref a0)]) hx hb dX3_mat_4 rfl hl (by decide) rfl (fun ls hl => ?_)
  refine lv_aload_n hx hb dX3_mat_5 rfl (lv_at hl 1 rfl) ?_
  refine lv_bipush (v := 61) hx hb dX3_mat_6 (by decide) ?_
  replace hE := e_bind hE
  obtain ⟨u_6, g, hE⟩ := hE
  obtain ⟨fs9, g9⟩ := i_gC g
  have g7 := a_recv X Y k_X3.1 g9
  replace hE := e_xb hE
  rcases hE with ⟨st_4, u_5, g, hE⟩ | ⟨st_4, k9, g, hE⟩
  rotate_left
  · subst hE
    refine a_callV (n := 1) (C := "BasicMachine$Parser") (σ1 := st_4) (σf := st_4) [.int (61 : Int32)] X Y (maf_X3_take hl0 n g) ⟨oaf_X3_take _ g, aLe.rf _, h1, h2, (by show _ ≤ 86; decide), (by show _ ≤ 2028; decide)⟩ q875 q877 qs13 q129 q878 (by decide +kernel) g7 rfl hl.1 (Nat.le_of_ble_eq_true rfl) dX3_mat_8 (fun v hv => by cases hv) (fun k hk H locs kc ks q9 ce Y e1 e2 e3 => ?_)
    cases hk
    exact a_out X Y h1 h2 (fun z hz => (hex z hz).elim) e1 e2 e3
  have M9 := (mo_v fun _ => (mo_cb oaf_X3_here fun _ _ => (mo_if (oaf_X3_mat_L34 ) (mo_if (oaf_X3_mat_L34 ) (mo_if (oaf_X3_mat_L34 ) (mo_if (mo_v fun _ => (mo_x oaf_X3_take_2 fun _ _ => (mo_v fun _ => (mo_x oaf_X3_matrix fun _ _ => (mo_v fun _ => (mo_x oaf_X3_take fun _ _ => (mo_s (fun _ => le_nO) fun _ => (mo_cb oaf_X26_init fun _ _ => mo_ret)))))))) (mo_if (mo_v fun _ => (mo_x (oaf_X3_inside (of_expr _ _ _)) fun _ _ => (mo_v fun _ => (mo_x oaf_X3_take fun _ _ => (mo_s (fun _ => le_nO) fun _ => (mo_v fun _ => (mo_x oaf_X3_matrix fun _ _ => (mo_cb oaf_X26_init fun _ _ => mo_ret)))))))) (mo_v fun _ => (mo_x oaf_X3_matrix fun _ _ => (mo_v fun _ => (mo_cb oaf_X3_here fun _ _ => (mo_if (oaf_X3_mat_L196 ) (mo_if (oaf_X3_mat_L196 ) (mo_if (oaf_X3_mat_L196 ) (mo_s (fun _ => le_nO) fun _ => (mo_cb oaf_X26_init fun _ _ => mo_ret)))))))))))))))) _ hE
  refine a_callV (n := 1) (C := "BasicMachine$Parser") (σ1 := st_4) (σf := q.1) [.int (61 : Int32)] X Y (maf_X3_take hl0 n g) ⟨oaf_X3_take _ g, M9, h1, h2, (by show _ ≤ 86; decide), (by show _ ≤ 2028; decide)⟩ q875 q877 qs13 q129 q878 (by decide +kernel) g7 rfl hl.1 (Nat.le_of_ble_eq_true rfl) dX3_mat_8 (fun v hv H locs kc ks Y => ?_) (fun k hk => by cases hk)
  cases hv
  refine lv_aload_n hx hb dX3_mat_11 rfl (lv_at hl 1 rfl) ?_
  replace hE := e_bind hE
  obtain ⟨u_9, g, hE⟩ := hE
  obtain ⟨fs9, g9⟩ := i_gC g
  have g7 := a_recv X Y k_X3.1 g9
  replace hE := e_cb hE
  obtain ⟨st_7, v_8, g, hE⟩ := hE
  have M9 := (mo_if (oaf_X3_mat_L34 ) (mo_if (oaf_X3_mat_L34 ) (mo_if (oaf_X3_mat_L34 ) (mo_if (mo_v fun _ => (mo_x oaf_X3_take_2 fun _ _ => (mo_v fun _ => (mo_x oaf_X3_matrix fun _ _ => (mo_v fun _ => (mo_x oaf_X3_take fun _ _ => (mo_s (fun _ => le_nO) fun _ => (mo_cb oaf_X26_init fun _ _ => mo_ret)))))))) (mo_if (mo_v fun _ => (mo_x (oaf_X3_inside (of_expr _ _ _)) fun _ _ => (mo_v fun _ => (mo_x oaf_X3_take fun _ _ => (mo_s (fun _ => le_nO) fun _ => (mo_v fun _ => (mo_x oaf_X3_matrix fun _ _ => (mo_cb oaf_X26_init fun _ _ => mo_ret)))))))) (mo_v fun _ => (mo_x oaf_X3_matrix fun _ _ => (mo_v fun _ => (mo_cb oaf_X3_here fun _ _ => (mo_if (oaf_X3_mat_L196 ) (mo_if (oaf_X3_mat_L196 ) (mo_if (oaf_X3_mat_L196 ) (mo_s (fun _ => le_nO) fun _ => (mo_cb oaf_X26_init fun _ _ => mo_ret)))))))))))))) _ hE
  refine a_callV (n := 0) (C := "BasicMachine$Parser") (σ1 := st_7) (σf := q.1) [] X Y (maf_X3_here hl0 n g) ⟨oaf_X3_here _ g, M9, h1, h2, (by show _ ≤ 86; decide), (by show _ ≤ 2028; decide)⟩ q469 q471 qs4 q129 q472 (by decide +kernel) g7 rfl hl.1 (Nat.le_of_ble_eq_true rfl) dX3_mat_12 (fun v hv H locs kc ks Y => ?_) (fun k hk => by cases hk)
  cases hv
  refine lv_istore_n (i := 2) (lv' := [(2, .int v_8), (1, .int v_2), (0, .ref a0)]) hx hb dX3_mat_15 rfl hl (by decide) rfl (fun ls hl => ?_)
  refine lv_iload_n hx hb dX3_mat_16 rfl (lv_at hl 0 rfl) ?_
  refine lv_bipush (v := 90) hx hb dX3_mat_17 (by decide) ?_
  refine lv_icmp_eq (tgt := 34) hx hb dX3_mat_19 (by decide) (fun c_10 => ?_) (fun c_10 => ?_)
  · replace hE := e_t c_10 hE
    exact waf_X3_mat_L34 X hex hr hnm hE h1 h2 Y (lv_sub hl [2, 1, 0] rfl)
  · replace hE := e_f c_10 hE
    refine lv_iload_n hx hb dX3_mat_22 rfl (lv_at hl 0 rfl) ?_
    refine lv_bipush (v := 67) hx hb dX3_mat_23 (by decide) ?_
    refine lv_icmp_eq (tgt := 34) hx hb dX3_mat_25 (by decide) (fun c_11 => ?_) (fun c_11 => ?_)
    · replace hE := e_t c_11 hE
      exact waf_X3_mat_L34 X hex hr hnm hE h1 h2 Y (lv_sub hl [2, 1, 0] rfl)
    · replace hE := e_f c_11 hE
      refine lv_iload_n hx hb dX3_mat_28 rfl (lv_at hl 0 rfl) ?_
      refine lv_bipush (v := 73) hx hb dX3_mat_29 (by decide) ?_
      refine lv_icmp_ne (tgt := 78) hx hb dX3_mat_31 (by decide) (fun c_12 => ?_) (fun c_12 => ?_)
      · replace hE := e_f c_12 hE
        refine lv_iload_n hx hb dX3_mat_78 rfl (lv_at hl 0 rfl) ?_
        refine lv_bipush (v := 84) hx hb dX3_mat_79 (by decide) ?_
        refine lv_icmp_ne (tgt := 116) hx hb dX3_mat_81 (by decide) (fun c_13 => ?_) (fun c_13 => ?_)
        · replace hE := e_f c_13 hE
          refine lv_iload_n hx hb dX3_mat_116 rfl (lv_at hl 0 rfl) ?_
          refine lv_bipush (v := 40) hx hb dX3_mat_117 (by decide) ?_
          refine lv_icmp_ne (tgt := 150) hx hb dX3_mat_119 (by decide) (fun c_14 => ?_) (fun c_14 => ?_)
          · replace hE := e_f c_14 hE
            refine lv_aload_n hx hb dX3_mat_150 rfl (lv_at hl 2 rfl) ?_
            replace hE := e_bind hE
            obtain ⟨u_17, g, hE⟩ := hE
            obtain ⟨fs9, g9⟩ := i_gC g
            have g7 := a_recv X Y k_X3.1 g9
            replace hE := e_xb hE
            rcases hE with ⟨st_15, v_16, g, hE⟩ | ⟨st_15, k9, g, hE⟩
            rotate_left
            · subst hE
              refine a_callV (n := 0) (C := "BasicMachine$Parser") (σ1 := st_15) (σf := st_15) [] X Y (maf_X3_matrix hl0 n g) ⟨oaf_X3_matrix _ g, aLe.rf _, h1, h2, (by show _ ≤ 86; decide), (by show _ ≤ 2028; decide)⟩ q867 q869 qs11 q129 q870 (by decide +kernel) g7 rfl hl.1 (Nat.le_of_ble_eq_true rfl) dX3_mat_151 (fun v hv => by cases hv) (fun k hk H locs kc ks q9 ce Y e1 e2 e3 => ?_)
              cases hk
              exact a_out X Y h1 h2 (fun z hz => (hex z hz).elim) e1 e2 e3
            have M9 := (mo_v fun _ => (mo_cb oaf_X3_here fun _ _ => (mo_if (oaf_X3_mat_L196 ) (mo_if (oaf_X3_mat_L196 ) (mo_if (oaf_X3_mat_L196 ) (mo_s (fun _ => le_nO) fun _ => (mo_cb oaf_X26_init fun _ _ => mo_ret))))))) _ hE
            refine a_callV (n := 0) (C := "BasicMachine$Parser") (σ1 := st_15) (σf := q.1) [] X Y (maf_X3_matrix hl0 n g) ⟨oaf_X3_matrix _ g, M9, h1, h2, (by show _ ≤ 86; decide), (by show _ ≤ 2028; decide)⟩ q867 q869 qs11 q129 q870 (by decide +kernel) g7 rfl hl.1 (Nat.le_of_ble_eq_true rfl) dX3_mat_151 (fun v hv H locs kc ks Y => ?_) (fun k hk => by cases hk)
            cases hv
            refine lv_istore_n (i := 3) (lv' := [(3, .int v_16), (2, .int v_8), (1, .int v_2), (0, .ref a0)]) hx hb dX3_mat_154 rfl hl (by decide) rfl (fun ls hl => ?_)
            refine lv_aload_n hx hb dX3_mat_155 rfl (lv_at hl 3 rfl) ?_
            replace hE := e_bind hE
            obtain ⟨u_20, g, hE⟩ := hE
            obtain ⟨fs9, g9⟩ := i_gC g
            have g7 := a_recv X Y k_X3.1 g9
            replace hE := e_cb hE
            obtain ⟨st_18, v_19, g, hE⟩ := hE
            have M9 := (mo_if (oaf_X3_mat_L196 ) (mo_if (oaf_X3_mat_L196 ) (mo_if (oaf_X3_mat_L196 ) (mo_s (fun _ => le_nO) fun _ => (mo_cb oaf_X26_init fun _ _ => mo_ret))))) _ hE
            refine a_callV (n := 0) (C := "BasicMachine$Parser") (σ1 := st_18) (σf := q.1) [] X Y (maf_X3_here hl0 n g) ⟨oaf_X3_here _ g, M9, h1, h2, (by show _ ≤ 86; decide), (by show _ ≤ 2028; decide)⟩ q469 q471 qs4 q129 q472 (by decide +kernel) g7 rfl hl.1 (Nat.le_of_ble_eq_true rfl) dX3_mat_156 (fun v hv H locs kc ks Y => ?_) (fun k hk => by cases hk)
            cases hv
            refine lv_istore (lv' := [(4, .int v_19), (3, .int v_16), (2, .int v_8), (1, .int v_2), (0, .ref a0)]) hx hb dX3_mat_159 hl (by decide) rfl (fun ls hl => ?_)
            refine lv_iload hx hb dX3_mat_161 (lv_at hl 0 rfl) ?_
            refine lv_bipush (v := 43) hx hb dX3_mat_163 (by decide) ?_
            refine lv_icmp_eq (tgt := 196) hx hb dX3_mat_165 (by decide) (fun c_21 => ?_) (fun c_21 => ?_)
            · replace hE := e_t c_21 hE
              exact waf_X3_mat_L196 X hex hr hnm hE h1 h2 Y (lv_sub hl [4, 3, 1, 0] rfl)
            · replace hE := e_f c_21 hE
              refine lv_iload hx hb dX3_mat_168 (lv_at hl 0 rfl) ?_
              refine lv_bipush (v := 45) hx hb dX3_mat_170 (by decide) ?_
              refine lv_icmp_eq (tgt := 196) hx hb dX3_mat_172 (by decide) (fun c_22 => ?_) (fun c_22 => ?_)
              · replace hE := e_t c_22 hE
                exact waf_X3_mat_L196 X hex hr hnm hE h1 h2 Y (lv_sub hl [4, 3, 1, 0] rfl)
              · replace hE := e_f c_22 hE
                refine lv_iload hx hb dX3_mat_175 (lv_at hl 0 rfl) ?_
                refine lv_bipush (v := 42) hx hb dX3_mat_177 (by decide) ?_
                refine lv_icmp_eq (tgt := 196) hx hb dX3_mat_179 (by decide) (fun c_23 => ?_) (fun c_23 => ?_)
                · replace hE := e_t c_23 hE
                  exact waf_X3_mat_L196 X hex hr hnm hE h1 h2 Y (lv_sub hl [4, 3, 1, 0] rfl)
                · replace hE := e_f c_23 hE
                  replace hE := e_bind hE
                  obtain ⟨st_24, g, hE⟩ := hE
                  have M9 := (mo_cb oaf_X26_init fun _ _ => mo_ret) _ hE
                  refine a_new X Y k_X26 g b_X26 q1241 q1242 q165 (aRoom1 Y h1 (le_nO1 g) M9) (aRoom2 Y h2 (le_nO2 g) M9) dX3_mat_182 (fun H Y => ?_)
                  generalize kc + 1 = kc at Y ⊢
                  generalize ks + 5 = ks at Y ⊢
                  refine lv_dup hx hb dX3_mat_185 rfl ?_
                  refine lv_iload_n hx hb dX3_mat_186 rfl (lv_at hl 3 rfl) ?_
                  refine lv_bipush (v := 61) hx hb dX3_mat_187 (by decide) ?_
                  refine lv_iload_n hx hb dX3_mat_189 rfl (lv_at hl 1 rfl) ?_
                  refine lv_iconst (v := -1) hx hb dX3_mat_190 (by decide) ?_
                  refine lv_null hx hb dX3_mat_191 ?_
                  replace hE := e_cb hE
                  obtain ⟨st_25, u_26, g, hE⟩ := hE
                  have M9 := mo_ret _ hE
                  refine a_callIN (host := "BasicMachine") (n := 5) (σ1 := st_25) (σf := q.1) [.int v_2, .int (61 : Int32), .int v_16, .int (-1 : Int32), va_rf (none : Option Nat)] X Y (maf_X26_init hl0 n g) ⟨oaf_X26_init _ g, M9, h1, h2, (by show _ ≤ 86; decide), (by show _ ≤ 2028; decide)⟩ (by decide) q1244 q165 q1245 rfl (by decide +kernel) rfl hl.1 (Nat.le_of_ble_eq_true rfl) dX3_mat_192 (fun v hv H locs kc ks Y => ?_) (fun k hk => by cases hk)
                  cases hv
                  cases hE
                  exact a_aret (r := (some st_18.1)) X Y h1 h2 hr (Or.inl ⟨_, rfl⟩) dX3_mat_195
          · replace hE := e_t c_14 hE
            refine lv_aload_n hx hb dX3_mat_122 rfl (lv_at hl 2 rfl) ?_
            replace hE := e_bind hE
            obtain ⟨u_29, g, hE⟩ := hE
            obtain ⟨fs9, g9⟩ := i_gC g
            have g7 := a_recv X Y k_X3.1 g9
            replace hE := e_xb hE
            rcases hE with ⟨st_27, r_28, g, hE⟩ | ⟨st_27, k9, g, hE⟩
            rotate_left
            · subst hE
              refine a_callV (n := 0) (C := "BasicMachine$Parser") (σ1 := st_27) (σf := st_27) [] X Y (maf_X3_inside hl0 n (hrx_top hl0 n) g) ⟨(oaf_X3_inside (of_expr _ _ _)) _ g, aLe.rf _, h1, h2, (by show _ ≤ 86; decide), (by show _ ≤ 2028; decide)⟩ q919 q921 qs19 q129 q922 (by decide +kernel) g7 rfl hl.1 (Nat.le_of_ble_eq_true rfl) dX3_mat_123 (fun v hv => by cases hv) (fun k hk H locs kc ks q9 ce Y e1 e2 e3 => ?_)
              cases hk
              exact a_out X Y h1 h2 (fun z hz => (hex z hz).elim) e1 e2 e3
            have M9 := (mo_v fun _ => (mo_x oaf_X3_take fun _ _ => (mo_s (fun _ => le_nO) fun _ => (mo_v fun _ => (mo_x oaf_X3_matrix fun _ _ => (mo_cb oaf_X26_init fun _ _ => mo_ret)))))) _ hE
            refine a_callV (n := 0) (C := "BasicMachine$Parser") (σ1 := st_27) (σf := q.1) [] X Y (maf_X3_inside hl0 n (hrx_top hl0 n) g) ⟨(oaf_X3_inside (of_expr _ _ _)) _ g, M9, h1, h2, (by show _ ≤ 86; decide), (by show _ ≤ 2028; decide)⟩ q919 q921 qs19 q129 q922 (by decide +kernel) g7 rfl hl.1 (Nat.le_of_ble_eq_true rfl) dX3_mat_123 (fun v hv H locs kc ks Y => ?_) (fun k hk => by cases hk)
            cases hv
            refine r_astore_n (i := 3) (lv' := [(3, va_rf r_28), (2, .int v_8), (1, .int v_2), (0, .ref a0)]) hx hb dX3_mat_126 rfl hl (by decide) rfl (fun ls hl => ?_)
            refine lv_aload_n hx hb dX3_mat_127 rfl (lv_at hl 3 rfl) ?_
            refine lv_bipush (v := 42) hx hb dX3_mat_128 (by decide) ?_
            replace hE := e_bind hE
            obtain ⟨u_32, g, hE⟩ := hE
            obtain ⟨fs9, g9⟩ := i_gC g
            have g7 := a_recv X Y k_X3.1 g9
            replace hE := e_xb hE
            rcases hE with ⟨st_30, u_31, g, hE⟩ | ⟨st_30, k9, g, hE⟩
            rotate_left
            · subst hE
              refine a_callV (n := 1) (C := "BasicMachine$Parser") (σ1 := st_30) (σf := st_30) [.int (42 : Int32)] X Y (maf_X3_take hl0 n g) ⟨oaf_X3_take _ g, aLe.rf _, h1, h2, (by show _ ≤ 86; decide), (by show _ ≤ 2028; decide)⟩ q875 q877 qs13 q129 q878 (by decide +kernel) g7 rfl hl.1 (Nat.le_of_ble_eq_true rfl) dX3_mat_130 (fun v hv => by cases hv) (fun k hk H locs kc ks q9 ce Y e1 e2 e3 => ?_)
              cases hk
              exact a_out X Y h1 h2 (fun z hz => (hex z hz).elim) e1 e2 e3
            have M9 := (mo_s (fun _ => le_nO) fun _ => (mo_v fun _ => (mo_x oaf_X3_matrix fun _ _ => (mo_cb oaf_X26_init fun _ _ => mo_ret)))) _ hE
            refine a_callV (n := 1) (C := "BasicMachine$Parser") (σ1 := st_30) (σf := q.1) [.int (42 : Int32)] X Y (maf_X3_take hl0 n g) ⟨oaf_X3_take _ g, M9, h1, h2, (by show _ ≤ 86; decide), (by show _ ≤ 2028; decide)⟩ q875 q877 qs13 q129 q878 (by decide +kernel) g7 rfl hl.1 (Nat.le_of_ble_eq_true rfl) dX3_mat_130 (fun v hv H locs kc ks Y => ?_) (fun k hk => by cases hk)
            cases hv
            replace hE := e_bind hE
            obtain ⟨st_33, g, hE⟩ := hE
            have M9 := (mo_v fun _ => (mo_x oaf_X3_matrix fun _ _ => (mo_cb oaf_X26_init fun _ _ => mo_ret))) _ hE
            refine a_new X Y k_X26 g b_X26 q1241 q1242 q165 (aRoom1 Y h1 (le_nO1 g) M9) (aRoom2 Y h2 (le_nO2 g) M9) dX3_mat_133 (fun H Y => ?_)
            generalize kc + 1 = kc at Y ⊢
            generalize ks + 5 = ks at Y ⊢
            refine lv_dup hx hb dX3_mat_136 rfl ?_
            refine lv_iload_n hx hb dX3_mat_137 rfl (lv_at hl 2 rfl) ?_
            refine lv_bipush (v := 83) hx hb dX3_mat_138 (by decide) ?_
            refine lv_aload_n hx hb dX3_mat_140 rfl (lv_at hl 3 rfl) ?_
            replace hE := e_bind hE
            obtain ⟨u_36, g, hE⟩ := hE
            obtain ⟨fs9, g9⟩ := i_gC g
            have g7 := a_recv X Y k_X3.1 g9
            replace hE := e_xb hE
            rcases hE with ⟨st_34, v_35, g, hE⟩ | ⟨st_34, k9, g, hE⟩
            rotate_left
            · subst hE
              refine a_callV (n := 0) (C := "BasicMachine$Parser") (σ1 := st_34) (σf := st_34) [] X Y (maf_X3_matrix hl0 n g) ⟨oaf_X3_matrix _ g, aLe.rf _, h1, h2, (by show _ ≤ 86; decide), (by show _ ≤ 2028; decide)⟩ q867 q869 qs11 q129 q870 (by decide +kernel) g7 rfl hl.1 (Nat.le_of_ble_eq_true rfl) dX3_mat_141 (fun v hv => by cases hv) (fun k hk H locs kc ks q9 ce Y e1 e2 e3 => ?_)
              cases hk
              exact a_out X Y h1 h2 (fun z hz => (hex z hz).elim) e1 e2 e3
            have M9 := (mo_cb oaf_X26_init fun _ _ => mo_ret) _ hE
            refine a_callV (n := 0) (C := "BasicMachine$Parser") (σ1 := st_34) (σf := q.1) [] X Y (maf_X3_matrix hl0 n g) ⟨oaf_X3_matrix _ g, M9, h1, h2, (by show _ ≤ 86; decide), (by show _ ≤ 2028; decide)⟩ q867 q869 qs11 q129 q870 (by decide +kernel) g7 rfl hl.1 (Nat.le_of_ble_eq_true rfl) dX3_mat_141 (fun v hv H locs kc ks Y => ?_) (fun k hk => by cases hk)
            cases hv
            refine lv_iconst (v := -1) hx hb dX3_mat_144 (by decide) ?_
            refine r_aload_n hx hb dX3_mat_145 rfl (lv_at hl 0 rfl) ?_
            replace hE := e_cb hE
            obtain ⟨st_37, u_38, g, hE⟩ := hE
            have M9 := mo_ret _ hE
            refine a_callIN (host := "BasicMachine") (n := 5) (σ1 := st_37) (σf := q.1) [.int v_2, .int (83 : Int32), .int v_35, .int (-1 : Int32), va_rf r_28] X Y (maf_X26_init hl0 n g) ⟨oaf_X26_init _ g, M9, h1, h2, (by show _ ≤ 86; decide), (by show _ ≤ 2028; decide)⟩ (by decide) q1244 q165 q1245 rfl (by decide +kernel) rfl hl.1 (Nat.le_of_ble_eq_true rfl) dX3_mat_146 (fun v hv H locs kc ks Y => ?_) (fun k hk => by cases hk)
            cases hv
            cases hE
            exact a_aret (r := (some st_30.1)) X Y h1 h2 hr (Or.inl ⟨_, rfl⟩) dX3_mat_149
        · replace hE := e_t c_13 hE
          refine lv_aload_n hx hb dX3_mat_84 rfl (lv_at hl 2 rfl) ?_
          refine s_ldcw (i := 27) X (by decide) dX3_mat_85 ?_
          replace hE := e_bind hE
          obtain ⟨u_41, g, hE⟩ := hE
          obtain ⟨fs9, g9⟩ := i_gC g
          have g7 := a_recv X Y k_X3.1 g9
          replace hE := e_xb hE
          rcases hE with ⟨st_39, u_40, g, hE⟩ | ⟨st_39, k9, g, hE⟩
          rotate_left
          · subst hE
            refine a_callV (n := 1) (C := "BasicMachine$Parser") (σ1 := st_39) (σf := st_39) [.ref (x.sK 27)] X Y (maf_X3_take_2 hl0 n g) ⟨oaf_X3_take_2 _ g, aLe.rf _, h1, h2, (by show _ ≤ 86; decide), (by show _ ≤ 2028; decide)⟩ q936 q938 qs23 q129 q939 (by decide +kernel) g7 rfl hl.1 (Nat.le_of_ble_eq_true rfl) dX3_mat_88 (fun v hv => by cases hv) (fun k hk H locs kc ks q9 ce Y e1 e2 e3 => ?_)
            cases hk
            exact a_out X Y h1 h2 (fun z hz => (hex z hz).elim) e1 e2 e3
          have M9 := (mo_v fun _ => (mo_x oaf_X3_matrix fun _ _ => (mo_v fun _ => (mo_x oaf_X3_take fun _ _ => (mo_s (fun _ => le_nO) fun _ => (mo_cb oaf_X26_init fun _ _ => mo_ret)))))) _ hE
          refine a_callV (n := 1) (C := "BasicMachine$Parser") (σ1 := st_39) (σf := q.1) [.ref (x.sK 27)] X Y (maf_X3_take_2 hl0 n g) ⟨oaf_X3_take_2 _ g, M9, h1, h2, (by show _ ≤ 86; decide), (by show _ ≤ 2028; decide)⟩ q936 q938 qs23 q129 q939 (by decide +kernel) g7 rfl hl.1 (Nat.le_of_ble_eq_true rfl) dX3_mat_88 (fun v hv H locs kc ks Y => ?_) (fun k hk => by cases hk)
          cases hv
          refine lv_aload_n hx hb dX3_mat_91 rfl (lv_at hl 2 rfl) ?_
          replace hE := e_bind hE
          obtain ⟨u_44, g, hE⟩ := hE
          obtain ⟨fs9, g9⟩ := i_gC g
          have g7 := a_recv X Y k_X3.1 g9
          replace hE := e_xb hE
          rcases hE with ⟨st_42, v_43, g, hE⟩ | ⟨st_42, k9, g, hE⟩
          rotate_left
          · subst hE
            refine a_callV (n := 0) (C := "BasicMachine$Parser") (σ1 := st_42) (σf := st_42) [] X Y (maf_X3_matrix hl0 n g) ⟨oaf_X3_matrix _ g, aLe.rf _, h1, h2, (by show _ ≤ 86; decide), (by show _ ≤ 2028; decide)⟩ q867 q869 qs11 q129 q870 (by decide +kernel) g7 rfl hl.1 (Nat.le_of_ble_eq_true rfl) dX3_mat_92 (fun v hv => by cases hv) (fun k hk H locs kc ks q9 ce Y e1 e2 e3 => ?_)
            cases hk
            exact a_out X Y h1 h2 (fun z hz => (hex z hz).elim) e1 e2 e3
          have M9 := (mo_v fun _ => (mo_x oaf_X3_take fun _ _ => (mo_s (fun _ => le_nO) fun _ => (mo_cb oaf_X26_init fun _ _ => mo_ret)))) _ hE
          refine a_callV (n := 0) (C := "BasicMachine$Parser") (σ1 := st_42) (σf := q.1) [] X Y (maf_X3_matrix hl0 n g) ⟨oaf_X3_matrix _ g, M9, h1, h2, (by show _ ≤ 86; decide), (by show _ ≤ 2028; decide)⟩ q867 q869 qs11 q129 q870 (by decide +kernel) g7 rfl hl.1 (Nat.le_of_ble_eq_true rfl) dX3_mat_92 (fun v hv H locs kc ks Y => ?_) (fun k hk => by cases hk)
          cases hv
          refine lv_istore_n (i := 3) (lv' := [(3, .int v_43), (2, .int v_8), (1, .int v_2), (0, .ref a0)]) hx hb dX3_mat_95 rfl hl (by decide) rfl (fun ls hl => ?_)
          refine lv_aload_n hx hb dX3_mat_96 rfl (lv_at hl 3 rfl) ?_
          refine lv_bipush (v := 41) hx hb dX3_mat_97 (by decide) ?_
          replace hE := e_bind hE
          obtain ⟨u_47, g, hE⟩ := hE
          obtain ⟨fs9, g9⟩ := i_gC g
          have g7 := a_recv X Y k_X3.1 g9
          replace hE := e_xb hE
          rcases hE with ⟨st_45, u_46, g, hE⟩ | ⟨st_45, k9, g, hE⟩
          rotate_left
          · subst hE
            refine a_callV (n := 1) (C := "BasicMachine$Parser") (σ1 := st_45) (σf := st_45) [.int (41 : Int32)] X Y (maf_X3_take hl0 n g) ⟨oaf_X3_take _ g, aLe.rf _, h1, h2, (by show _ ≤ 86; decide), (by show _ ≤ 2028; decide)⟩ q875 q877 qs13 q129 q878 (by decide +kernel) g7 rfl hl.1 (Nat.le_of_ble_eq_true rfl) dX3_mat_99 (fun v hv => by cases hv) (fun k hk H locs kc ks q9 ce Y e1 e2 e3 => ?_)
            cases hk
            exact a_out X Y h1 h2 (fun z hz => (hex z hz).elim) e1 e2 e3
          have M9 := (mo_s (fun _ => le_nO) fun _ => (mo_cb oaf_X26_init fun _ _ => mo_ret)) _ hE
          refine a_callV (n := 1) (C := "BasicMachine$Parser") (σ1 := st_45) (σf := q.1) [.int (41 : Int32)] X Y (maf_X3_take hl0 n g) ⟨oaf_X3_take _ g, M9, h1, h2, (by show _ ≤ 86; decide), (by show _ ≤ 2028; decide)⟩ q875 q877 qs13 q129 q878 (by decide +kernel) g7 rfl hl.1 (Nat.le_of_ble_eq_true rfl) dX3_mat_99 (fun v hv H locs kc ks Y => ?_) (fun k hk => by cases hk)
          cases hv
          replace hE := e_bind hE
          obtain ⟨st_48, g, hE⟩ := hE
          have M9 := (mo_cb oaf_X26_init fun _ _ => mo_ret) _ hE
          refine a_new X Y k_X26 g b_X26 q1241 q1242 q165 (aRoom1 Y h1 (le_nO1 g) M9) (aRoom2 Y h2 (le_nO2 g) M9) dX3_mat_102 (fun H Y => ?_)
          generalize kc + 1 = kc at Y ⊢
          generalize ks + 5 = ks at Y ⊢
          refine lv_dup hx hb dX3_mat_105 rfl ?_
          refine lv_iload_n hx hb dX3_mat_106 rfl (lv_at hl 2 rfl) ?_
          refine lv_bipush (v := 84) hx hb dX3_mat_107 (by decide) ?_
          refine lv_iload_n hx hb dX3_mat_109 rfl (lv_at hl 0 rfl) ?_
          refine lv_iconst (v := -1) hx hb dX3_mat_110 (by decide) ?_
          refine lv_null hx hb dX3_mat_111 ?_
          replace hE := e_cb hE
          obtain ⟨st_49, u_50, g, hE⟩ := hE
          have M9 := mo_ret _ hE
          refine a_callIN (host := "BasicMachine") (n := 5) (σ1 := st_49) (σf := q.1) [.int v_2, .int (84 : Int32), .int v_43, .int (-1 : Int32), va_rf (none : Option Nat)] X Y (maf_X26_init hl0 n g) ⟨oaf_X26_init _ g, M9, h1, h2, (by show _ ≤ 86; decide), (by show _ ≤ 2028; decide)⟩ (by decide) q1244 q165 q1245 rfl (by decide +kernel) rfl hl.1 (Nat.le_of_ble_eq_true rfl) dX3_mat_112 (fun v hv H locs kc ks Y => ?_) (fun k hk => by cases hk)
          cases hv
          cases hE
          exact a_aret (r := (some st_45.1)) X Y h1 h2 hr (Or.inl ⟨_, rfl⟩) dX3_mat_115
      · replace hE := e_t c_12 hE
        exact waf_X3_mat_L34 X hex hr hnm hE h1 h2 Y (lv_sub hl [2, 1, 0] rfl)
/-! BasicMachine$Nothing.<init>(Z)V -/
set_option maxHeartbeats 4000000 in
set_option maxRecDepth 100000 in
theorem maf_X27_init {l : Launch} (hl0 : l.stackTraces = false) (n : Nat) {x : aP} {st : aS} {a0 : Nat} {p1 : Int32} {q : aS × Unit} (hE : af_X27_init n x.sK st a0 p1 = some q) : aMet l yX27_init (ws_ yX27_init cX27_init 2 none) 2 40 x [.ref a0, .int p1] st (.inl none) q.1 := by
  refine a_ofW (own := "BasicMachine$Nothing") hl0 (by decide) rfl (Nat.le_of_ble_eq_true rfl) (fun mc ms p e s m below meth c ls H locs kc ks h1 h2 X hex Y hr hnm hl => ?_)
  have hnm : "<init>" = meth.name := hnm
  have hl : lv_has ls 2 [(0, .ref a0), (1, .int p1)] := hl
  have hx := X.1
  have hb := X.2.1
  have hown := X.2.2.2.1
  have hts := X.2.2.2.2.1
  have hK := X.2.2.2.2.2.1
  have hl0 := X.2.2.2.2.2.2.2.2
  unfold af_X27_init at hE
  refine lv_aload_n hx hb dX27_init_0 rfl (lv_at hl 0 rfl) ?_
  replace hE := e_cb hE
  obtain ⟨st_1, u_2, g, hE⟩ := hE
  have M9 := (mo_v fun _ => (mo_s (fun _ => le_pF) fun _ => mo_ret)) _ hE
  refine a_callI (n := 0) (σ1 := st_1) (σf := q.1) [] X Y (maf_J15_init hl0 n g) ⟨oaf_J15_init _ g, M9, h1, h2, (by show _ ≤ 2; decide), (by show _ ≤ 40; decide)⟩ q1269 q912 q143 q913 rfl (by decide +kernel) rfl hl.1 (Nat.le_of_ble_eq_true rfl) dX27_init_1 (fun v hv H locs kc ks Y => ?_) (fun k hk => by cases hk)
  cases hv
  refine lv_aload_n hx hb dX27_init_4 rfl (lv_at hl 0 rfl) ?_
  refine lv_iload_n hx hb dX27_init_5 rfl (lv_at hl 1 rfl) ?_
  replace hE := e_bind hE
  obtain ⟨v_3, g, hE⟩ := hE
  obtain ⟨g1, g2, g3⟩ := i_bz g
  refine n_eqi g1 ?_
  replace hE := e_bind hE
  obtain ⟨st_4, g, hE⟩ := hE
  refine a_putFV X Y k_X27 0 g (by decide) rfl hnm rfl g2 g3 q1270 dX27_init_6 (fun H locs Y => ?_)
  cases hE
  exact a_vret X Y h1 h2 hr dX27_init_9
/-! BasicMachine$Parser.statement()LBasicMachine$Statement; -/
set_option maxHeartbeats 4000000 in
set_option maxRecDepth 100000 in
theorem waf_X3_statement_L379 {l : Launch} {x : aP} {As : List Value} {σ0 : aS} {p : Program} {e : Env} {s : State} {m : MethodId} {below : List Frame} {meth : Method} {c : Code} {mc ms : Nat} (X : aX "BasicMachine$Parser" p l s m As.toArray meth c cX3_statement 4 x σ0) (hex : ∀ z ∈ c.exceptionTable.toList, False) (hr : meth.sig.returnType = (some (.object "BasicMachine$Statement"))) (hnm : "statement" = meth.name) {n : Nat} {st : aS} {a0 : Nat} {x2 : Int32} {q : aS × ((Option Nat) ⊕ Nat)} (hE : af_X3_statement_L379 n x.sK st a0 x2 = some q) (h1 : mc + σ0.1 = q.1.1) (h2 : ms + σ0.2.1 = q.1.2.1) {H : Heap} {locs : List Loc} {ls : Array Slot} {kc ks : Nat} (Y : aY x σ0 s st H locs kc ks) (hl : lv_has ls 4 [(0, .ref a0), (2, .int x2)]) : aG l 87 2052 mc ms x As σ0 (oR q.2) q.1 p e s m below meth c H locs kc ks (F0 m 379 ls []) := by
  have hx := X.1
  have hb := X.2.1
  have hown := X.2.2.2.1
  have hts := X.2.2.2.2.1
  have hK := X.2.2.2.2.2.1
  have hl0 := X.2.2.2.2.2.2.2.2
  unfold af_X3_statement_L379 at hE
  refine lv_iload_n hx hb dX3_statement_379 rfl (lv_at hl 1 rfl) ?_
  by_cases c_1 : x2 = (0 : Int32)
  · replace hE := e_t c_1 hE
    refine lv_tableIn (off := 80) (tgt := 460) hx hb dX3_statement_380 (by rw [c_1]; decide) (by rw [c_1]; decide) (by rw [c_1]; rfl) (by decide) ?_
    refine lv_aload_n hx hb dX3_statement_460 rfl (lv_at hl 0 rfl) ?_
    replace hE := e_bind hE
    obtain ⟨u_4, g, hE⟩ := hE
    obtain ⟨fs9, g9⟩ := i_gC g
    have g7 := a_recv X Y k_X3.1 g9
    replace hE := e_xb hE
    rcases hE with ⟨st_2, r_3, g, hE⟩ | ⟨st_2, k9, g, hE⟩
    rotate_left
    · subst hE
      refine a_callV (n := 0) (C := "BasicMachine$Parser") (σ1 := st_2) (σf := st_2) [] X Y (maf_X3_place hl0 n g) ⟨oaf_X3_place _ g, aLe.rf _, h1, h2, (by show _ ≤ 87; decide), (by show _ ≤ 2052; decide)⟩ q854 q856 qs9 q129 q857 (by decide +kernel) g7 rfl hl.1 (Nat.le_of_ble_eq_true rfl) dX3_statement_461 (fun v hv => by cases hv) (fun k hk H locs kc ks q9 ce Y e1 e2 e3 => ?_)
      cases hk
      exact a_out X Y h1 h2 (fun z hz => (hex z hz).elim) e1 e2 e3
    have M9 := (mo_v fun _ => (mo_x oaf_X3_take fun _ _ => (mo_s (fun _ => le_nO) fun _ => (mo_v fun _ => (mo_x (of_expr _ _ _) fun _ _ => (mo_cb oaf_X12_init fun _ _ => mo_ret)))))) _ hE
    refine a_callV (n := 0) (C := "BasicMachine$Parser") (σ1 := st_2) (σf := q.1) [] X Y (maf_X3_place hl0 n g) ⟨oaf_X3_place _ g, M9, h1, h2, (by show _ ≤ 87; decide), (by show _ ≤ 2052; decide)⟩ q854 q856 qs9 q129 q857 (by decide +kernel) g7 rfl hl.1 (Nat.le_of_ble_eq_true rfl) dX3_statement_461 (fun v hv H locs kc ks Y => ?_) (fun k hk => by cases hk)
    cases hv
    refine r_astore_n (i := 3) (lv' := [(3, va_rf r_3), (0, .ref a0), (2, .int x2)]) hx hb dX3_statement_464 rfl hl (by decide) rfl (fun ls hl => ?_)
    refine lv_aload_n hx hb dX3_statement_465 rfl (lv_at hl 1 rfl) ?_
    refine lv_bipush (v := 61) hx hb dX3_statement_466 (by decide) ?_
    replace hE := e_bind hE
    obtain ⟨u_7, g, hE⟩ := hE
    obtain ⟨fs9, g9⟩ := i_gC g
    have g7 := a_recv X Y k_X3.1 g9
    replace hE := e_xb hE
    rcases hE with ⟨st_5, u_6, g, hE⟩ | ⟨st_5, k9, g, hE⟩
    rotate_left
    · subst hE
      refine a_callV (n := 1) (C := "BasicMachine$Parser") (σ1 := st_5) (σf := st_5) [.int (61 : Int32)] X Y (maf_X3_take hl0 n g) ⟨oaf_X3_take _ g, aLe.rf _, h1, h2, (by show _ ≤ 87; decide), (by show _ ≤ 2052; decide)⟩ q875 q877 qs13 q129 q878 (by decide +kernel) g7 rfl hl.1 (Nat.le_of_ble_eq_true rfl) dX3_statement_468 (fun v hv => by cases hv) (fun k hk H locs kc ks q9 ce Y e1 e2 e3 => ?_)
      cases hk
      exact a_out X Y h1 h2 (fun z hz => (hex z hz).elim) e1 e2 e3
    have M9 := (mo_s (fun _ => le_nO) fun _ => (mo_v fun _ => (mo_x (of_expr _ _ _) fun _ _ => (mo_cb oaf_X12_init fun _ _ => mo_ret)))) _ hE
    refine a_callV (n := 1) (C := "BasicMachine$Parser") (σ1 := st_5) (σf := q.1) [.int (61 : Int32)] X Y (maf_X3_take hl0 n g) ⟨oaf_X3_take _ g, M9, h1, h2, (by show _ ≤ 87; decide), (by show _ ≤ 2052; decide)⟩ q875 q877 qs13 q129 q878 (by decide +kernel) g7 rfl hl.1 (Nat.le_of_ble_eq_true rfl) dX3_statement_468 (fun v hv H locs kc ks Y => ?_) (fun k hk => by cases hk)
    cases hv
    replace hE := e_bind hE
    obtain ⟨st_8, g, hE⟩ := hE
    have M9 := (mo_v fun _ => (mo_x (of_expr _ _ _) fun _ _ => (mo_cb oaf_X12_init fun _ _ => mo_ret))) _ hE
    refine a_new X Y k_X12 g b_X12 q1033 q1034 q151 (aRoom1 Y h1 (le_nO1 g) M9) (aRoom2 Y h2 (le_nO2 g) M9) dX3_statement_471 (fun H Y => ?_)
    generalize kc + 1 = kc at Y ⊢
    generalize ks + 2 = ks at Y ⊢
    refine lv_dup hx hb dX3_statement_474 rfl ?_
    refine r_aload_n hx hb dX3_statement_475 rfl (lv_at hl 0 rfl) ?_
    refine lv_aload_n hx hb dX3_statement_476 rfl (lv_at hl 1 rfl) ?_
    replace hE := e_bind hE
    obtain ⟨u_11, g, hE⟩ := hE
    obtain ⟨fs9, g9⟩ := i_gC g
    have g7 := a_recv X Y k_X3.1 g9
    replace hE := e_xb hE
    rcases hE with ⟨st_9, r_10, g, hE⟩ | ⟨st_9, k9, g, hE⟩
    rotate_left
    · subst hE
      refine a_callV (n := 0) (C := "BasicMachine$Parser") (σ1 := st_9) (σf := st_9) [] X Y (mf_expr hl0 n g) ⟨(of_expr _ _ _) _ g, aLe.rf _, h1, h2, (by show _ ≤ 87; decide), (by show _ ≤ 2052; decide)⟩ q879 q880 q881 q129 q882 (by decide +kernel) g7 rfl hl.1 (by simp only [List.map_cons, List.map_nil, va_rf_cat]; exact Nat.le_of_ble_eq_true rfl) dX3_statement_477 (fun v hv => by cases hv) (fun k hk H locs kc ks q9 ce Y e1 e2 e3 => ?_)
      cases hk
      exact a_out X Y h1 h2 (fun z hz => (hex z hz).elim) e1 e2 e3
    have M9 := (mo_cb oaf_X12_init fun _ _ => mo_ret) _ hE
    refine a_callV (n := 0) (C := "BasicMachine$Parser") (σ1 := st_9) (σf := q.1) [] X Y (mf_expr hl0 n g) ⟨(of_expr _ _ _) _ g, M9, h1, h2, (by show _ ≤ 87; decide), (by show _ ≤ 2052; decide)⟩ q879 q880 q881 q129 q882 (by decide +kernel) g7 rfl hl.1 (by simp only [List.map_cons, List.map_nil, va_rf_cat]; exact Nat.le_of_ble_eq_true rfl) dX3_statement_477 (fun v hv H locs kc ks Y => ?_) (fun k hk => by cases hk)
    cases hv
    replace hE := e_cb hE
    obtain ⟨st_12, u_13, g, hE⟩ := hE
    have M9 := mo_ret _ hE
    refine a_callIN (host := "BasicMachine") (n := 2) (σ1 := st_12) (σf := q.1) [va_rf r_3, va_rf r_10] X Y (maf_X12_init hl0 n g) ⟨oaf_X12_init _ g, M9, h1, h2, (by show _ ≤ 87; decide), (by show _ ≤ 2052; decide)⟩ (by decide) q1036 q151 q1037 rfl (by decide +kernel) rfl hl.1 (Nat.le_of_ble_eq_true rfl) dX3_statement_480 (fun v hv H locs kc ks Y => ?_) (fun k hk => by cases hk)
    cases hv
    cases hE
    exact a_aret (r := (some st_5.1)) X Y h1 h2 hr (Or.inl ⟨_, rfl⟩) dX3_statement_483
  replace hE := e_f c_1 hE
  by_cases c_14 : x2 = (1 : Int32)
  · replace hE := e_t c_14 hE
    refine lv_tableIn (off := 104) (tgt := 484) hx hb dX3_statement_380 (by rw [c_14]; decide) (by rw [c_14]; decide) (by rw [c_14]; rfl) (by decide) ?_
    replace hE := e_bind hE
    obtain ⟨st_15, g, hE⟩ := hE
    have M9 := (mo_v fun _ => (mo_x (of_expr _ _ _) fun _ _ => (mo_cb oaf_X13_init fun _ _ => mo_ret))) _ hE
    refine a_new X Y k_X13 g b_X13 q1046 q1047 q152 (aRoom1 Y h1 (le_nO1 g) M9) (aRoom2 Y h2 (le_nO2 g) M9) dX3_statement_484 (fun H Y => ?_)
    generalize kc + 1 = kc at Y ⊢
    generalize ks + 1 = ks at Y ⊢
    refine lv_dup hx hb dX3_statement_487 rfl ?_
    refine lv_aload_n hx hb dX3_statement_488 rfl (lv_at hl 0 rfl) ?_
    replace hE := e_bind hE
    obtain ⟨u_18, g, hE⟩ := hE
    obtain ⟨fs9, g9⟩ := i_gC g
    have g7 := a_recv X Y k_X3.1 g9
    replace hE := e_xb hE
    rcases hE with ⟨st_16, r_17, g, hE⟩ | ⟨st_16, k9, g, hE⟩
    rotate_left
    · subst hE
      refine a_callV (n := 0) (C := "BasicMachine$Parser") (σ1 := st_16) (σf := st_16) [] X Y (mf_expr hl0 n g) ⟨(of_expr _ _ _) _ g, aLe.rf _, h1, h2, (by show _ ≤ 87; decide), (by show _ ≤ 2052; decide)⟩ q879 q880 q881 q129 q882 (by decide +kernel) g7 rfl hl.1 (Nat.le_of_ble_eq_true rfl) dX3_statement_489 (fun v hv => by cases hv) (fun k hk H locs kc ks q9 ce Y e1 e2 e3 => ?_)
      cases hk
      exact a_out X Y h1 h2 (fun z hz => (hex z hz).elim) e1 e2 e3
    have M9 := (mo_cb oaf_X13_init fun _ _ => mo_ret) _ hE
    refine a_callV (n := 0) (C := "BasicMachine$Parser") (σ1 := st_16) (σf := q.1) [] X Y (mf_expr hl0 n g) ⟨(of_expr _ _ _) _ g, M9, h1, h2, (by show _ ≤ 87; decide), (by show _ ≤ 2052; decide)⟩ q879 q880 q881 q129 q882 (by decide +kernel) g7 rfl hl.1 (Nat.le_of_ble_eq_true rfl) dX3_statement_489 (fun v hv H locs kc ks Y => ?_) (fun k hk => by cases hk)
    cases hv
    replace hE := e_cb hE
    obtain ⟨st_19, u_20, g, hE⟩ := hE
    have M9 := mo_ret _ hE
    refine a_callIN (host := "BasicMachine") (n := 1) (σ1 := st_19) (σf := q.1) [va_rf r_17] X Y (maf_X13_init hl0 n g) ⟨oaf_X13_init _ g, M9, h1, h2, (by show _ ≤ 87; decide), (by show _ ≤ 2052; decide)⟩ (by decide) q1049 q152 q1050 rfl (by decide +kernel) rfl hl.1 (Nat.le_of_ble_eq_true rfl) dX3_statement_492 (fun v hv H locs kc ks Y => ?_) (fun k hk => by cases hk)
    cases hv
    cases hE
    exact a_aret (r := (some st.1)) X Y h1 h2 hr (Or.inl ⟨_, rfl⟩) dX3_statement_495
  replace hE := e_f c_14 hE
  by_cases c_21 : x2 = (2 : Int32)
  · replace hE := e_t c_21 hE
    refine lv_tableIn (off := 116) (tgt := 496) hx hb dX3_statement_380 (by rw [c_21]; decide) (by rw [c_21]; decide) (by rw [c_21]; rfl) (by decide) ?_
    refine lv_aload_n hx hb dX3_statement_496 rfl (lv_at hl 0 rfl) ?_
    replace hE := e_bind hE
    obtain ⟨u_24, g, hE⟩ := hE
    obtain ⟨fs9, g9⟩ := i_gC g
    have g7 := a_recv X Y k_X3.1 g9
    replace hE := e_xb hE
    rcases hE with ⟨st_22, r_23, g, hE⟩ | ⟨st_22, k9, g, hE⟩
    rotate_left
    · subst hE
      refine a_callV (n := 0) (C := "BasicMachine$Parser") (σ1 := st_22) (σf := st_22) [] X Y (maf_X3_ifThen hl0 n g) ⟨oaf_X3_ifThen _ g, aLe.rf _, h1, h2, (by show _ ≤ 87; decide), (by show _ ≤ 2052; decide)⟩ q1056 q1058 qs26 q129 q1059 (by decide +kernel) g7 rfl hl.1 (Nat.le_of_ble_eq_true rfl) dX3_statement_497 (fun v hv => by cases hv) (fun k hk H locs kc ks q9 ce Y e1 e2 e3 => ?_)
      cases hk
      exact a_out X Y h1 h2 (fun z hz => (hex z hz).elim) e1 e2 e3
    have M9 := mo_ret _ hE
    refine a_callV (n := 0) (C := "BasicMachine$Parser") (σ1 := st_22) (σf := q.1) [] X Y (maf_X3_ifThen hl0 n g) ⟨oaf_X3_ifThen _ g, M9, h1, h2, (by show _ ≤ 87; decide), (by show _ ≤ 2052; decide)⟩ q1056 q1058 qs26 q129 q1059 (by decide +kernel) g7 rfl hl.1 (Nat.le_of_ble_eq_true rfl) dX3_statement_497 (fun v hv H locs kc ks Y => ?_) (fun k hk => by cases hk)
    cases hv
    cases hE
    exact a_aret (r := r_23) X Y h1 h2 hr (Or.inl ⟨_, rfl⟩) dX3_statement_500
  replace hE := e_f c_21 hE
  by_cases c_25 : x2 = (3 : Int32)
  · replace hE := e_t c_25 hE
    refine lv_tableIn (off := 121) (tgt := 501) hx hb dX3_statement_380 (by rw [c_25]; decide) (by rw [c_25]; decide) (by rw [c_25]; rfl) (by decide) ?_
    replace hE := e_bind hE
    obtain ⟨st_26, g, hE⟩ := hE
    have M9 := (mo_v fun _ => (mo_x oaf_X3_number fun _ _ => (mo_cb oaf_X15_init fun _ _ => mo_ret))) _ hE
    refine a_new X Y k_X15 g b_X15 q1080 q1081 q154 (aRoom1 Y h1 (le_nO1 g) M9) (aRoom2 Y h2 (le_nO2 g) M9) dX3_statement_501 (fun H Y => ?_)
    generalize kc + 1 = kc at Y ⊢
    generalize ks + 1 = ks at Y ⊢
    refine lv_dup hx hb dX3_statement_504 rfl ?_
    refine lv_aload_n hx hb dX3_statement_505 rfl (lv_at hl 0 rfl) ?_
    replace hE := e_bind hE
    obtain ⟨u_29, g, hE⟩ := hE
    obtain ⟨fs9, g9⟩ := i_gC g
    have g7 := a_recv X Y k_X3.1 g9
    replace hE := e_xb hE
    rcases hE with ⟨st_27, v_28, g, hE⟩ | ⟨st_27, k9, g, hE⟩
    rotate_left
    · subst hE
      refine a_callV (n := 0) (C := "BasicMachine$Parser") (σ1 := st_27) (σf := st_27) [] X Y (maf_X3_number hl0 n g) ⟨oaf_X3_number _ g, aLe.rf _, h1, h2, (by show _ ≤ 87; decide), (by show _ ≤ 2052; decide)⟩ q465 q467 qs3 q129 q468 (by decide +kernel) g7 rfl hl.1 (Nat.le_of_ble_eq_true rfl) dX3_statement_506 (fun v hv => by cases hv) (fun k hk H locs kc ks q9 ce Y e1 e2 e3 => ?_)
      cases hk
      exact a_out X Y h1 h2 (fun z hz => (hex z hz).elim) e1 e2 e3
    have M9 := (mo_cb oaf_X15_init fun _ _ => mo_ret) _ hE
    refine a_callV (n := 0) (C := "BasicMachine$Parser") (σ1 := st_27) (σf := q.1) [] X Y (maf_X3_number hl0 n g) ⟨oaf_X3_number _ g, M9, h1, h2, (by show _ ≤ 87; decide), (by show _ ≤ 2052; decide)⟩ q465 q467 qs3 q129 q468 (by decide +kernel) g7 rfl hl.1 (Nat.le_of_ble_eq_true rfl) dX3_statement_506 (fun v hv H locs kc ks Y => ?_) (fun k hk => by cases hk)
    cases hv
    replace hE := e_cb hE
    obtain ⟨st_30, u_31, g, hE⟩ := hE
    have M9 := mo_ret _ hE
    refine a_callIN (host := "BasicMachine") (n := 1) (σ1 := st_30) (σf := q.1) [.int v_28] X Y (maf_X15_init hl0 n g) ⟨oaf_X15_init _ g, M9, h1, h2, (by show _ ≤ 87; decide), (by show _ ≤ 2052; decide)⟩ (by decide) q1083 q154 q1084 rfl (by decide +kernel) rfl hl.1 (Nat.le_of_ble_eq_true rfl) dX3_statement_509 (fun v hv H locs kc ks Y => ?_) (fun k hk => by cases hk)
    cases hv
    cases hE
    exact a_aret (r := (some st.1)) X Y h1 h2 hr (Or.inl ⟨_, rfl⟩) dX3_statement_512
  replace hE := e_f c_25 hE
  by_cases c_32 : x2 = (4 : Int32)
  · replace hE := e_t c_32 hE
    refine lv_tableIn (off := 133) (tgt := 513) hx hb dX3_statement_380 (by rw [c_32]; decide) (by rw [c_32]; decide) (by rw [c_32]; rfl) (by decide) ?_
    refine lv_aload_n hx hb dX3_statement_513 rfl (lv_at hl 0 rfl) ?_
    replace hE := e_bind hE
    obtain ⟨u_35, g, hE⟩ := hE
    obtain ⟨fs9, g9⟩ := i_gC g
    have g7 := a_recv X Y k_X3.1 g9
    replace hE := e_xb hE
    rcases hE with ⟨st_33, r_34, g, hE⟩ | ⟨st_33, k9, g, hE⟩
    rotate_left
    · subst hE
      refine a_callV (n := 0) (C := "BasicMachine$Parser") (σ1 := st_33) (σf := st_33) [] X Y (maf_X3_on hl0 n g) ⟨oaf_X3_on _ g, aLe.rf _, h1, h2, (by show _ ≤ 87; decide), (by show _ ≤ 2052; decide)⟩ q1090 q1092 qs27 q129 q1093 (by decide +kernel) g7 rfl hl.1 (Nat.le_of_ble_eq_true rfl) dX3_statement_514 (fun v hv => by cases hv) (fun k hk H locs kc ks q9 ce Y e1 e2 e3 => ?_)
      cases hk
      exact a_out X Y h1 h2 (fun z hz => (hex z hz).elim) e1 e2 e3
    have M9 := mo_ret _ hE
    refine a_callV (n := 0) (C := "BasicMachine$Parser") (σ1 := st_33) (σf := q.1) [] X Y (maf_X3_on hl0 n g) ⟨oaf_X3_on _ g, M9, h1, h2, (by show _ ≤ 87; decide), (by show _ ≤ 2052; decide)⟩ q1090 q1092 qs27 q129 q1093 (by decide +kernel) g7 rfl hl.1 (Nat.le_of_ble_eq_true rfl) dX3_statement_514 (fun v hv H locs kc ks Y => ?_) (fun k hk => by cases hk)
    cases hv
    cases hE
    exact a_aret (r := r_34) X Y h1 h2 hr (Or.inl ⟨_, rfl⟩) dX3_statement_517
  replace hE := e_f c_32 hE
  by_cases c_36 : x2 = (5 : Int32)
  · replace hE := e_t c_36 hE
    refine lv_tableIn (off := 138) (tgt := 518) hx hb dX3_statement_380 (by rw [c_36]; decide) (by rw [c_36]; decide) (by rw [c_36]; rfl) (by decide) ?_
    replace hE := e_bind hE
    obtain ⟨st_37, g, hE⟩ := hE
    have M9 := (mo_v fun _ => (mo_x oaf_X3_number fun _ _ => (mo_cb oaf_X17_init fun _ _ => mo_ret))) _ hE
    refine a_new X Y k_X17 g b_X17 q1107 q1108 q156 (aRoom1 Y h1 (le_nO1 g) M9) (aRoom2 Y h2 (le_nO2 g) M9) dX3_statement_518 (fun H Y => ?_)
    generalize kc + 1 = kc at Y ⊢
    generalize ks + 1 = ks at Y ⊢
    refine lv_dup hx hb dX3_statement_521 rfl ?_
    refine lv_aload_n hx hb dX3_statement_522 rfl (lv_at hl 0 rfl) ?_
    replace hE := e_bind hE
    obtain ⟨u_40, g, hE⟩ := hE
    obtain ⟨fs9, g9⟩ := i_gC g
    have g7 := a_recv X Y k_X3.1 g9
    replace hE := e_xb hE
    rcases hE with ⟨st_38, v_39, g, hE⟩ | ⟨st_38, k9, g, hE⟩
    rotate_left
    · subst hE
      refine a_callV (n := 0) (C := "BasicMachine$Parser") (σ1 := st_38) (σf := st_38) [] X Y (maf_X3_number hl0 n g) ⟨oaf_X3_number _ g, aLe.rf _, h1, h2, (by show _ ≤ 87; decide), (by show _ ≤ 2052; decide)⟩ q465 q467 qs3 q129 q468 (by decide +kernel) g7 rfl hl.1 (Nat.le_of_ble_eq_true rfl) dX3_statement_523 (fun v hv => by cases hv) (fun k hk H locs kc ks q9 ce Y e1 e2 e3 => ?_)
      cases hk
      exact a_out X Y h1 h2 (fun z hz => (hex z hz).elim) e1 e2 e3
    have M9 := (mo_cb oaf_X17_init fun _ _ => mo_ret) _ hE
    refine a_callV (n := 0) (C := "BasicMachine$Parser") (σ1 := st_38) (σf := q.1) [] X Y (maf_X3_number hl0 n g) ⟨oaf_X3_number _ g, M9, h1, h2, (by show _ ≤ 87; decide), (by show _ ≤ 2052; decide)⟩ q465 q467 qs3 q129 q468 (by decide +kernel) g7 rfl hl.1 (Nat.le_of_ble_eq_true rfl) dX3_statement_523 (fun v hv H locs kc ks Y => ?_) (fun k hk => by cases hk)
    cases hv
    replace hE := e_cb hE
    obtain ⟨st_41, u_42, g, hE⟩ := hE
    have M9 := mo_ret _ hE
    refine a_callIN (host := "BasicMachine") (n := 1) (σ1 := st_41) (σf := q.1) [.int v_39] X Y (maf_X17_init hl0 n g) ⟨oaf_X17_init _ g, M9, h1, h2, (by show _ ≤ 87; decide), (by show _ ≤ 2052; decide)⟩ (by decide) q1110 q156 q1111 rfl (by decide +kernel) rfl hl.1 (Nat.le_of_ble_eq_true rfl) dX3_statement_526 (fun v hv H locs kc ks Y => ?_) (fun k hk => by cases hk)
    cases hv
    cases hE
    exact a_aret (r := (some st.1)) X Y h1 h2 hr (Or.inl ⟨_, rfl⟩) dX3_statement_529
  replace hE := e_f c_36 hE
  by_cases c_43 : x2 = (6 : Int32)
  · replace hE := e_t c_43 hE
    refine lv_tableIn (off := 150) (tgt := 530) hx hb dX3_statement_380 (by rw [c_43]; decide) (by rw [c_43]; decide) (by rw [c_43]; rfl) (by decide) ?_
    replace hE := e_bind hE
    obtain ⟨st_44, g, hE⟩ := hE
    have M9 := (mo_cb oaf_X18_init fun _ _ => mo_ret) _ hE
    refine a_new X Y k_X18 g b_X18 q1117 q1118 q157 (aRoom1 Y h1 (le_nO1 g) M9) (aRoom2 Y h2 (le_nO2 g) M9) dX3_statement_530 (fun H Y => ?_)
    generalize kc + 1 = kc at Y ⊢
    generalize ks + 0 = ks at Y ⊢
    refine lv_dup hx hb dX3_statement_533 rfl ?_
    replace hE := e_cb hE
    obtain ⟨st_45, u_46, g, hE⟩ := hE
    have M9 := mo_ret _ hE
    refine a_callIN (host := "BasicMachine") (n := 0) (σ1 := st_45) (σf := q.1) [] X Y (maf_X18_init hl0 n g) ⟨oaf_X18_init _ g, M9, h1, h2, (by show _ ≤ 87; decide), (by show _ ≤ 2052; decide)⟩ (by decide) q1120 q157 q1121 rfl (by decide +kernel) rfl hl.1 (Nat.le_of_ble_eq_true rfl) dX3_statement_534 (fun v hv H locs kc ks Y => ?_) (fun k hk => by cases hk)
    cases hv
    cases hE
    exact a_aret (r := (some st.1)) X Y h1 h2 hr (Or.inl ⟨_, rfl⟩) dX3_statement_537
  replace hE := e_f c_43 hE
  by_cases c_47 : x2 = (7 : Int32)
  · replace hE := e_t c_47 hE
    refine lv_tableIn (off := 158) (tgt := 538) hx hb dX3_statement_380 (by rw [c_47]; decide) (by rw [c_47]; decide) (by rw [c_47]; rfl) (by decide) ?_
    refine lv_aload_n hx hb dX3_statement_538 rfl (lv_at hl 0 rfl) ?_
    replace hE := e_bind hE
    obtain ⟨u_50, g, hE⟩ := hE
    obtain ⟨fs9, g9⟩ := i_gC g
    have g7 := a_recv X Y k_X3.1 g9
    replace hE := e_xb hE
    rcases hE with ⟨st_48, r_49, g, hE⟩ | ⟨st_48, k9, g, hE⟩
    rotate_left
    · subst hE
      refine a_callV (n := 0) (C := "BasicMachine$Parser") (σ1 := st_48) (σf := st_48) [] X Y (maf_X3_loop hl0 n g) ⟨oaf_X3_loop _ g, aLe.rf _, h1, h2, (by show _ ≤ 87; decide), (by show _ ≤ 2052; decide)⟩ q1124 q1126 qs28 q129 q1127 (by decide +kernel) g7 rfl hl.1 (Nat.le_of_ble_eq_true rfl) dX3_statement_539 (fun v hv => by cases hv) (fun k hk H locs kc ks q9 ce Y e1 e2 e3 => ?_)
      cases hk
      exact a_out X Y h1 h2 (fun z hz => (hex z hz).elim) e1 e2 e3
    have M9 := mo_ret _ hE
    refine a_callV (n := 0) (C := "BasicMachine$Parser") (σ1 := st_48) (σf := q.1) [] X Y (maf_X3_loop hl0 n g) ⟨oaf_X3_loop _ g, M9, h1, h2, (by show _ ≤ 87; decide), (by show _ ≤ 2052; decide)⟩ q1124 q1126 qs28 q129 q1127 (by decide +kernel) g7 rfl hl.1 (Nat.le_of_ble_eq_true rfl) dX3_statement_539 (fun v hv H locs kc ks Y => ?_) (fun k hk => by cases hk)
    cases hv
    cases hE
    exact a_aret (r := r_49) X Y h1 h2 hr (Or.inl ⟨_, rfl⟩) dX3_statement_542
  replace hE := e_f c_47 hE
  by_cases c_51 : x2 = (8 : Int32)
  · replace hE := e_t c_51 hE
    refine lv_tableIn (off := 163) (tgt := 543) hx hb dX3_statement_380 (by rw [c_51]; decide) (by rw [c_51]; decide) (by rw [c_51]; rfl) (by decide) ?_
    replace hE := e_bind hE
    obtain ⟨st_52, g, hE⟩ := hE
    have M9 := (mo_v fun _ => (mo_x oaf_X3_variable fun _ _ => (mo_cb oaf_X20_init fun _ _ => mo_ret))) _ hE
    refine a_new X Y k_X20 g b_X20 q1149 q1150 q159 (aRoom1 Y h1 (le_nO1 g) M9) (aRoom2 Y h2 (le_nO2 g) M9) dX3_statement_543 (fun H Y => ?_)
    generalize kc + 1 = kc at Y ⊢
    generalize ks + 1 = ks at Y ⊢
    refine lv_dup hx hb dX3_statement_546 rfl ?_
    refine lv_aload_n hx hb dX3_statement_547 rfl (lv_at hl 0 rfl) ?_
    replace hE := e_bind hE
    obtain ⟨u_55, g, hE⟩ := hE
    obtain ⟨fs9, g9⟩ := i_gC g
    have g7 := a_recv X Y k_X3.1 g9
    replace hE := e_xb hE
    rcases hE with ⟨st_53, v_54, g, hE⟩ | ⟨st_53, k9, g, hE⟩
    rotate_left
    · subst hE
      refine a_callV (n := 0) (C := "BasicMachine$Parser") (σ1 := st_53) (σf := st_53) [] X Y (maf_X3_variable hl0 n g) ⟨oaf_X3_variable _ g, aLe.rf _, h1, h2, (by show _ ≤ 87; decide), (by show _ ≤ 2052; decide)⟩ q975 q977 qs25 q129 q978 (by decide +kernel) g7 rfl hl.1 (Nat.le_of_ble_eq_true rfl) dX3_statement_548 (fun v hv => by cases hv) (fun k hk H locs kc ks q9 ce Y e1 e2 e3 => ?_)
      cases hk
      exact a_out X Y h1 h2 (fun z hz => (hex z hz).elim) e1 e2 e3
    have M9 := (mo_cb oaf_X20_init fun _ _ => mo_ret) _ hE
    refine a_callV (n := 0) (C := "BasicMachine$Parser") (σ1 := st_53) (σf := q.1) [] X Y (maf_X3_variable hl0 n g) ⟨oaf_X3_variable _ g, M9, h1, h2, (by show _ ≤ 87; decide), (by show _ ≤ 2052; decide)⟩ q975 q977 qs25 q129 q978 (by decide +kernel) g7 rfl hl.1 (Nat.le_of_ble_eq_true rfl) dX3_statement_548 (fun v hv H locs kc ks Y => ?_) (fun k hk => by cases hk)
    cases hv
    replace hE := e_cb hE
    obtain ⟨st_56, u_57, g, hE⟩ := hE
    have M9 := mo_ret _ hE
    refine a_callIN (host := "BasicMachine") (n := 1) (σ1 := st_56) (σf := q.1) [.int v_54] X Y (maf_X20_init hl0 n g) ⟨oaf_X20_init _ g, M9, h1, h2, (by show _ ≤ 87; decide), (by show _ ≤ 2052; decide)⟩ (by decide) q1152 q159 q1153 rfl (by decide +kernel) rfl hl.1 (Nat.le_of_ble_eq_true rfl) dX3_statement_551 (fun v hv H locs kc ks Y => ?_) (fun k hk => by cases hk)
    cases hv
    cases hE
    exact a_aret (r := (some st.1)) X Y h1 h2 hr (Or.inl ⟨_, rfl⟩) dX3_statement_554
  replace hE := e_f c_51 hE
  by_cases c_58 : x2 = (9 : Int32)
  · replace hE := e_t c_58 hE
    refine lv_tableIn (off := 175) (tgt := 555) hx hb dX3_statement_380 (by rw [c_58]; decide) (by rw [c_58]; decide) (by rw [c_58]; rfl) (by decide) ?_
    replace hE := e_bind hE
    obtain ⟨st_59, g, hE⟩ := hE
    have M9 := (mo_v fun _ => (mo_x oaf_X3_place fun _ _ => (mo_cb oaf_X21_init fun _ _ => mo_ret))) _ hE
    refine a_new X Y k_X21 g b_X21 q1159 q1160 q160 (aRoom1 Y h1 (le_nO1 g) M9) (aRoom2 Y h2 (le_nO2 g) M9) dX3_statement_555 (fun H Y => ?_)
    generalize kc + 1 = kc at Y ⊢
    generalize ks + 1 = ks at Y ⊢
    refine lv_dup hx hb dX3_statement_558 rfl ?_
    refine lv_aload_n hx hb dX3_statement_559 rfl (lv_at hl 0 rfl) ?_
    replace hE := e_bind hE
    obtain ⟨u_62, g, hE⟩ := hE
    obtain ⟨fs9, g9⟩ := i_gC g
    have g7 := a_recv X Y k_X3.1 g9
    replace hE := e_xb hE
    rcases hE with ⟨st_60, r_61, g, hE⟩ | ⟨st_60, k9, g, hE⟩
    rotate_left
    · subst hE
      refine a_callV (n := 0) (C := "BasicMachine$Parser") (σ1 := st_60) (σf := st_60) [] X Y (maf_X3_place hl0 n g) ⟨oaf_X3_place _ g, aLe.rf _, h1, h2, (by show _ ≤ 87; decide), (by show _ ≤ 2052; decide)⟩ q854 q856 qs9 q129 q857 (by decide +kernel) g7 rfl hl.1 (Nat.le_of_ble_eq_true rfl) dX3_statement_560 (fun v hv => by cases hv) (fun k hk H locs kc ks q9 ce Y e1 e2 e3 => ?_)
      cases hk
      exact a_out X Y h1 h2 (fun z hz => (hex z hz).elim) e1 e2 e3
    have M9 := (mo_cb oaf_X21_init fun _ _ => mo_ret) _ hE
    refine a_callV (n := 0) (C := "BasicMachine$Parser") (σ1 := st_60) (σf := q.1) [] X Y (maf_X3_place hl0 n g) ⟨oaf_X3_place _ g, M9, h1, h2, (by show _ ≤ 87; decide), (by show _ ≤ 2052; decide)⟩ q854 q856 qs9 q129 q857 (by decide +kernel) g7 rfl hl.1 (Nat.le_of_ble_eq_true rfl) dX3_statement_560 (fun v hv H locs kc ks Y => ?_) (fun k hk => by cases hk)
    cases hv
    replace hE := e_cb hE
    obtain ⟨st_63, u_64, g, hE⟩ := hE
    have M9 := mo_ret _ hE
    refine a_callIN (host := "BasicMachine") (n := 1) (σ1 := st_63) (σf := q.1) [va_rf r_61] X Y (maf_X21_init hl0 n g) ⟨oaf_X21_init _ g, M9, h1, h2, (by show _ ≤ 87; decide), (by show _ ≤ 2052; decide)⟩ (by decide) q1162 q160 q1163 rfl (by decide +kernel) rfl hl.1 (Nat.le_of_ble_eq_true rfl) dX3_statement_563 (fun v hv H locs kc ks Y => ?_) (fun k hk => by cases hk)
    cases hv
    cases hE
    exact a_aret (r := (some st.1)) X Y h1 h2 hr (Or.inl ⟨_, rfl⟩) dX3_statement_566
  replace hE := e_f c_58 hE
  by_cases c_65 : x2 = (10 : Int32)
  · replace hE := e_t c_65 hE
    refine lv_tableIn (off := 187) (tgt := 567) hx hb dX3_statement_380 (by rw [c_65]; decide) (by rw [c_65]; decide) (by rw [c_65]; rfl) (by decide) ?_
    refine lv_aload_n hx hb dX3_statement_567 rfl (lv_at hl 0 rfl) ?_
    replace hE := e_bind hE
    obtain ⟨u_68, g, hE⟩ := hE
    obtain ⟨fs9, g9⟩ := i_gC g
    have g7 := a_recv X Y k_X3.1 g9
    replace hE := e_xb hE
    rcases hE with ⟨st_66, r_67, g, hE⟩ | ⟨st_66, k9, g, hE⟩
    rotate_left
    · subst hE
      refine a_callV (n := 0) (C := "BasicMachine$Parser") (σ1 := st_66) (σf := st_66) [] X Y (maf_X3_data hl0 n g) ⟨oaf_X3_data _ g, aLe.rf _, h1, h2, (by show _ ≤ 87; decide), (by show _ ≤ 2052; decide)⟩ q1169 q1171 qs29 q129 q1172 (by decide +kernel) g7 rfl hl.1 (Nat.le_of_ble_eq_true rfl) dX3_statement_568 (fun v hv => by cases hv) (fun k hk H locs kc ks q9 ce Y e1 e2 e3 => ?_)
      cases hk
      exact a_out X Y h1 h2 (fun z hz => (hex z hz).elim) e1 e2 e3
    have M9 := mo_ret _ hE
    refine a_callV (n := 0) (C := "BasicMachine$Parser") (σ1 := st_66) (σf := q.1) [] X Y (maf_X3_data hl0 n g) ⟨oaf_X3_data _ g, M9, h1, h2, (by show _ ≤ 87; decide), (by show _ ≤ 2052; decide)⟩ q1169 q1171 qs29 q129 q1172 (by decide +kernel) g7 rfl hl.1 (Nat.le_of_ble_eq_true rfl) dX3_statement_568 (fun v hv H locs kc ks Y => ?_) (fun k hk => by cases hk)
    cases hv
    cases hE
    exact a_aret (r := r_67) X Y h1 h2 hr (Or.inl ⟨_, rfl⟩) dX3_statement_571
  replace hE := e_f c_65 hE
  by_cases c_69 : x2 = (11 : Int32)
  · replace hE := e_t c_69 hE
    refine lv_tableIn (off := 192) (tgt := 572) hx hb dX3_statement_380 (by rw [c_69]; decide) (by rw [c_69]; decide) (by rw [c_69]; rfl) (by decide) ?_
    replace hE := e_bind hE
    obtain ⟨st_70, g, hE⟩ := hE
    have M9 := (mo_cb oaf_X23_init fun _ _ => mo_ret) _ hE
    refine a_new X Y k_X23 g b_X23 q1183 q1184 q162 (aRoom1 Y h1 (le_nO1 g) M9) (aRoom2 Y h2 (le_nO2 g) M9) dX3_statement_572 (fun H Y => ?_)
    generalize kc + 1 = kc at Y ⊢
    generalize ks + 0 = ks at Y ⊢
    refine lv_dup hx hb dX3_statement_575 rfl ?_
    replace hE := e_cb hE
    obtain ⟨st_71, u_72, g, hE⟩ := hE
    have M9 := mo_ret _ hE
    refine a_callIN (host := "BasicMachine") (n := 0) (σ1 := st_71) (σf := q.1) [] X Y (maf_X23_init hl0 n g) ⟨oaf_X23_init _ g, M9, h1, h2, (by show _ ≤ 87; decide), (by show _ ≤ 2052; decide)⟩ (by decide) q1186 q162 q1187 rfl (by decide +kernel) rfl hl.1 (Nat.le_of_ble_eq_true rfl) dX3_statement_576 (fun v hv H locs kc ks Y => ?_) (fun k hk => by cases hk)
    cases hv
    cases hE
    exact a_aret (r := (some st.1)) X Y h1 h2 hr (Or.inl ⟨_, rfl⟩) dX3_statement_579
  replace hE := e_f c_69 hE
  by_cases c_73 : x2 = (12 : Int32)
  · replace hE := e_t c_73 hE
    refine lv_tableIn (off := 200) (tgt := 580) hx hb dX3_statement_380 (by rw [c_73]; decide) (by rw [c_73]; decide) (by rw [c_73]; rfl) (by decide) ?_
    refine lv_aload_n hx hb dX3_statement_580 rfl (lv_at hl 0 rfl) ?_
    replace hE := e_bind hE
    obtain ⟨u_76, g, hE⟩ := hE
    obtain ⟨fs9, g9⟩ := i_gC g
    have g7 := a_recv X Y k_X3.1 g9
    replace hE := e_xb hE
    rcases hE with ⟨st_74, r_75, g, hE⟩ | ⟨st_74, k9, g, hE⟩
    rotate_left
    · subst hE
      refine a_callV (n := 0) (C := "BasicMachine$Parser") (σ1 := st_74) (σf := st_74) [] X Y (maf_X3_dim hl0 n g) ⟨oaf_X3_dim _ g, aLe.rf _, h1, h2, (by show _ ≤ 87; decide), (by show _ ≤ 2052; decide)⟩ q1190 q1192 qs30 q129 q1193 (by decide +kernel) g7 rfl hl.1 (Nat.le_of_ble_eq_true rfl) dX3_statement_581 (fun v hv => by cases hv) (fun k hk H locs kc ks q9 ce Y e1 e2 e3 => ?_)
      cases hk
      exact a_out X Y h1 h2 (fun z hz => (hex z hz).elim) e1 e2 e3
    have M9 := mo_ret _ hE
    refine a_callV (n := 0) (C := "BasicMachine$Parser") (σ1 := st_74) (σf := q.1) [] X Y (maf_X3_dim hl0 n g) ⟨oaf_X3_dim _ g, M9, h1, h2, (by show _ ≤ 87; decide), (by show _ ≤ 2052; decide)⟩ q1190 q1192 qs30 q129 q1193 (by decide +kernel) g7 rfl hl.1 (Nat.le_of_ble_eq_true rfl) dX3_statement_581 (fun v hv H locs kc ks Y => ?_) (fun k hk => by cases hk)
    cases hv
    cases hE
    exact a_aret (r := r_75) X Y h1 h2 hr (Or.inl ⟨_, rfl⟩) dX3_statement_584
  replace hE := e_f c_73 hE
  by_cases c_77 : x2 = (13 : Int32)
  · replace hE := e_t c_77 hE
    refine lv_tableIn (off := 205) (tgt := 585) hx hb dX3_statement_380 (by rw [c_77]; decide) (by rw [c_77]; decide) (by rw [c_77]; rfl) (by decide) ?_
    refine lv_aload_n hx hb dX3_statement_585 rfl (lv_at hl 0 rfl) ?_
    replace hE := e_bind hE
    obtain ⟨u_80, g, hE⟩ := hE
    obtain ⟨fs9, g9⟩ := i_gC g
    have g7 := a_recv X Y k_X3.1 g9
    replace hE := e_xb hE
    rcases hE with ⟨st_78, r_79, g, hE⟩ | ⟨st_78, k9, g, hE⟩
    rotate_left
    · subst hE
      refine a_callV (n := 0) (C := "BasicMachine$Parser") (σ1 := st_78) (σf := st_78) [] X Y (maf_X3_define hl0 n g) ⟨oaf_X3_define _ g, aLe.rf _, h1, h2, (by show _ ≤ 87; decide), (by show _ ≤ 2052; decide)⟩ q1214 q1216 qs32 q129 q1217 (by decide +kernel) g7 rfl hl.1 (Nat.le_of_ble_eq_true rfl) dX3_statement_586 (fun v hv => by cases hv) (fun k hk H locs kc ks q9 ce Y e1 e2 e3 => ?_)
      cases hk
      exact a_out X Y h1 h2 (fun z hz => (hex z hz).elim) e1 e2 e3
    have M9 := mo_ret _ hE
    refine a_callV (n := 0) (C := "BasicMachine$Parser") (σ1 := st_78) (σf := q.1) [] X Y (maf_X3_define hl0 n g) ⟨oaf_X3_define _ g, M9, h1, h2, (by show _ ≤ 87; decide), (by show _ ≤ 2052; decide)⟩ q1214 q1216 qs32 q129 q1217 (by decide +kernel) g7 rfl hl.1 (Nat.le_of_ble_eq_true rfl) dX3_statement_586 (fun v hv H locs kc ks Y => ?_) (fun k hk => by cases hk)
    cases hv
    cases hE
    exact a_aret (r := r_79) X Y h1 h2 hr (Or.inl ⟨_, rfl⟩) dX3_statement_589
  replace hE := e_f c_77 hE
  by_cases c_81 : x2 = (14 : Int32)
  · replace hE := e_t c_81 hE
    refine lv_tableIn (off := 210) (tgt := 590) hx hb dX3_statement_380 (by rw [c_81]; decide) (by rw [c_81]; decide) (by rw [c_81]; rfl) (by decide) ?_
    refine lv_aload_n hx hb dX3_statement_590 rfl (lv_at hl 0 rfl) ?_
    replace hE := e_bind hE
    obtain ⟨u_84, g, hE⟩ := hE
    obtain ⟨fs9, g9⟩ := i_gC g
    have g7 := a_recv X Y k_X3.1 g9
    replace hE := e_xb hE
    rcases hE with ⟨st_82, r_83, g, hE⟩ | ⟨st_82, k9, g, hE⟩
    rotate_left
    · subst hE
      refine a_callV (n := 0) (C := "BasicMachine$Parser") (σ1 := st_82) (σf := st_82) [] X Y (maf_X3_mat hl0 n g) ⟨oaf_X3_mat _ g, aLe.rf _, h1, h2, (by show _ ≤ 87; decide), (by show _ ≤ 2052; decide)⟩ q1234 q1236 qs33 q129 q1237 (by decide +kernel) g7 rfl hl.1 (Nat.le_of_ble_eq_true rfl) dX3_statement_591 (fun v hv => by cases hv) (fun k hk H locs kc ks q9 ce Y e1 e2 e3 => ?_)
      cases hk
      exact a_out X Y h1 h2 (fun z hz => (hex z hz).elim) e1 e2 e3
    have M9 := mo_ret _ hE
    refine a_callV (n := 0) (C := "BasicMachine$Parser") (σ1 := st_82) (σf := q.1) [] X Y (maf_X3_mat hl0 n g) ⟨oaf_X3_mat _ g, M9, h1, h2, (by show _ ≤ 87; decide), (by show _ ≤ 2052; decide)⟩ q1234 q1236 qs33 q129 q1237 (by decide +kernel) g7 rfl hl.1 (Nat.le_of_ble_eq_true rfl) dX3_statement_591 (fun v hv H locs kc ks Y => ?_) (fun k hk => by cases hk)
    cases hv
    cases hE
    exact a_aret (r := r_83) X Y h1 h2 hr (Or.inl ⟨_, rfl⟩) dX3_statement_594
  replace hE := e_f c_81 hE
  by_cases c_85 : x2 = (15 : Int32)
  · replace hE := e_t c_85 hE
    refine lv_tableIn (off := 215) (tgt := 595) hx hb dX3_statement_380 (by rw [c_85]; decide) (by rw [c_85]; decide) (by rw [c_85]; rfl) (by decide) ?_
    refine lv_aload_n hx hb dX3_statement_595 rfl (lv_at hl 0 rfl) ?_
    refine lv_aload_n hx hb dX3_statement_596 rfl (lv_at hl 0 rfl) ?_
    replace hE := e_bind hE
    obtain ⟨v_86, g, hE⟩ := hE
    refine n_gI X Y k_X3 1 g (by decide) q441 dX3_statement_597 ?_
    replace hE := e_bind hE
    obtain ⟨st_87, g, hE⟩ := hE
    refine a_putV X Y k_X3 2 g (by decide) rfl rfl rfl q442 dX3_statement_600 (fun H locs Y => ?_)
    replace hE := e_bind hE
    obtain ⟨st_88, g, hE⟩ := hE
    have M9 := (mo_cb oaf_X27_init fun _ _ => mo_ret) _ hE
    refine a_new X Y k_X27 g b_X27 q1264 q1265 q166 (aRoom1 Y h1 (le_nO1 g) M9) (aRoom2 Y h2 (le_nO2 g) M9) dX3_statement_603 (fun H Y => ?_)
    generalize kc + 1 = kc at Y ⊢
    generalize ks + 1 = ks at Y ⊢
    refine lv_dup hx hb dX3_statement_606 rfl ?_
    refine lv_iconst (v := 0) hx hb dX3_statement_607 (by decide) ?_
    replace hE := e_cb hE
    obtain ⟨st_89, u_90, g, hE⟩ := hE
    have M9 := mo_ret _ hE
    refine a_callIN (host := "BasicMachine") (n := 1) (σ1 := st_89) (σf := q.1) [.int (0 : Int32)] X Y (maf_X27_init hl0 n g) ⟨oaf_X27_init _ g, M9, h1, h2, (by show _ ≤ 87; decide), (by show _ ≤ 2052; decide)⟩ (by decide) q1267 q166 q1268 rfl (by decide +kernel) rfl hl.1 (Nat.le_of_ble_eq_true rfl) dX3_statement_608 (fun v hv H locs kc ks Y => ?_) (fun k hk => by cases hk)
    cases hv
    cases hE
    exact a_aret (r := (some st_87.1)) X Y h1 h2 hr (Or.inl ⟨_, rfl⟩) dX3_statement_611
  replace hE := e_f c_85 hE
  refine lv_tableOut (tgt := 612) hx hb dX3_statement_380 (by have h0 := lv_neT c_1 (a := 0) (by decide); have h1 := lv_neT c_14 (a := 1) (by decide); have h2 := lv_neT c_21 (a := 2) (by decide); have h3 := lv_neT c_25 (a := 3) (by decide); have h4 := lv_neT c_32 (a := 4) (by decide); have h5 := lv_neT c_36 (a := 5) (by decide); have h6 := lv_neT c_43 (a := 6) (by decide); have h7 := lv_neT c_47 (a := 7) (by decide); have h8 := lv_neT c_51 (a := 8) (by decide); have h9 := lv_neT c_58 (a := 9) (by decide); have h10 := lv_neT c_65 (a := 10) (by decide); have h11 := lv_neT c_69 (a := 11) (by decide); have h12 := lv_neT c_73 (a := 12) (by decide); have h13 := lv_neT c_77 (a := 13) (by decide); have h14 := lv_neT c_81 (a := 14) (by decide); have h15 := lv_neT c_85 (a := 15) (by decide); omega) (by decide) ?_
  replace hE := e_bind hE
  obtain ⟨st_91, g, hE⟩ := hE
  have M9 := (mo_cb oaf_X27_init fun _ _ => mo_ret) _ hE
  refine a_new X Y k_X27 g b_X27 q1264 q1265 q166 (aRoom1 Y h1 (le_nO1 g) M9) (aRoom2 Y h2 (le_nO2 g) M9) dX3_statement_612 (fun H Y => ?_)
  generalize kc + 1 = kc at Y ⊢
  generalize ks + 1 = ks at Y ⊢
  refine lv_dup hx hb dX3_statement_615 rfl ?_
  refine lv_iconst (v := 1) hx hb dX3_statement_616 (by decide) ?_
  replace hE := e_cb hE
  obtain ⟨st_92, u_93, g, hE⟩ := hE
  have M9 := mo_ret _ hE
  refine a_callIN (host := "BasicMachine") (n := 1) (σ1 := st_92) (σf := q.1) [.int (1 : Int32)] X Y (maf_X27_init hl0 n g) ⟨oaf_X27_init _ g, M9, h1, h2, (by show _ ≤ 87; decide), (by show _ ≤ 2052; decide)⟩ (by decide) q1267 q166 q1268 rfl (by decide +kernel) rfl hl.1 (Nat.le_of_ble_eq_true rfl) dX3_statement_617 (fun v hv H locs kc ks Y => ?_) (fun k hk => by cases hk)
  cases hv
  cases hE
  exact a_aret (r := (some st.1)) X Y h1 h2 hr (Or.inl ⟨_, rfl⟩) dX3_statement_620
set_option maxHeartbeats 4000000 in
set_option maxRecDepth 100000 in
theorem maf_X3_statement {l : Launch} (hl0 : l.stackTraces = false) (n : Nat) {x : aP} {st : aS} {a0 : Nat} {q : aS × ((Option Nat) ⊕ Nat)} (hE : af_X3_statement n x.sK st a0 = some q) : aMet l yX3_statement (ws_ yX3_statement cX3_statement 4 (some (.object "BasicMachine$Statement"))) 87 2052 x [.ref a0] st (oR q.2) q.1 := by
  refine a_ofW (own := "BasicMachine$Parser") hl0 (by decide) rfl (Nat.le_of_ble_eq_true rfl) (fun mc ms p e s m below meth c ls H locs kc ks h1 h2 X hex Y hr hnm hl => ?_)
  have hnm : "statement" = meth.name := hnm
  have hl : lv_has ls 4 [(0, .ref a0)] := hl
  have hx := X.1
  have hb := X.2.1
  have hown := X.2.2.2.1
  have hts := X.2.2.2.2.1
  have hK := X.2.2.2.2.2.1
  have hl0 := X.2.2.2.2.2.2.2.2
  unfold af_X3_statement at hE
  refine lv_aload_n hx hb dX3_statement_0 rfl (lv_at hl 0 rfl) ?_
  replace hE := e_bind hE
  obtain ⟨u_3, g, hE⟩ := hE
  obtain ⟨fs9, g9⟩ := i_gC g
  have g7 := a_recv X Y k_X3.1 g9
  replace hE := e_xb hE
  rcases hE with ⟨st_1, r_2, g, hE⟩ | ⟨st_1, k9, g, hE⟩
  rotate_left
  · subst hE
    refine a_callV (n := 0) (C := "BasicMachine$Parser") (σ1 := st_1) (σf := st_1) [] X Y (maf_X3_word hl0 n g) ⟨oaf_X3_word _ g, aLe.rf _, h1, h2, (by show _ ≤ 87; decide), (by show _ ≤ 2052; decide)⟩ q504 q506 qs7 q129 q507 (by decide +kernel) g7 rfl hl.1 (Nat.le_of_ble_eq_true rfl) dX3_statement_1 (fun v hv => by cases hv) (fun k hk H locs kc ks q9 ce Y e1 e2 e3 => ?_)
    cases hk
    exact a_out X Y h1 h2 (fun z hz => (hex z hz).elim) e1 e2 e3
  have M9 := (mo_v fun _ => (mo_v fun _ => (mo_if (mo_v fun _ => (mo_if (oaf_X3_statement_L379 ) (oaf_X3_statement_L379 ))) (mo_if (mo_v fun _ => (mo_if (oaf_X3_statement_L379 ) (oaf_X3_statement_L379 ))) (mo_if (mo_v fun _ => (mo_if (oaf_X3_statement_L379 ) (oaf_X3_statement_L379 ))) (mo_if (mo_v fun _ => (mo_if (oaf_X3_statement_L379 ) (oaf_X3_statement_L379 ))) (mo_if (mo_v fun _ => (mo_if (oaf_X3_statement_L379 ) (oaf_X3_statement_L379 ))) (mo_if (mo_v fun _ => (mo_if (oaf_X3_statement_L379 ) (oaf_X3_statement_L379 ))) (mo_if (mo_v fun _ => (mo_if (oaf_X3_statement_L379 ) (oaf_X3_statement_L379 ))) (mo_if (mo_v fun _ => (mo_if (oaf_X3_statement_L379 ) (oaf_X3_statement_L379 ))) (mo_if (mo_v fun _ => (mo_if (oaf_X3_statement_L379 ) (oaf_X3_statement_L379 ))) (mo_if (mo_v fun _ => (mo_if (oaf_X3_statement_L379 ) (oaf_X3_statement_L379 ))) (mo_if (mo_v fun _ => (mo_if (oaf_X3_statement_L379 ) (oaf_X3_statement_L379 ))) (mo_if (mo_v fun _ => (mo_if (oaf_X3_statement_L379 ) (oaf_X3_statement_L379 ))) (mo_if (mo_v fun _ => (mo_if (oaf_X3_statement_L379 ) (oaf_X3_statement_L379 ))) (mo_if (mo_v fun _ => (mo_if (oaf_X3_statement_L379 ) (oaf_X3_statement_L379 ))) (mo_if (mo_v fun _ => (mo_if (oaf_X3_statement_L379 ) (oaf_X3_statement_L379 ))) (mo_if (mo_v fun _ => (mo_if (oaf_X3_statement_L379 ) (oaf_X3_statement_L379 ))) (oaf_X3_statement_L379 ))))))))))))))))))) _ hE
  refine a_callV (n := 0) (C := "BasicMachine$Parser") (σ1 := st_1) (σf := q.1) [] X Y (maf_X3_word hl0 n g) ⟨oaf_X3_word _ g, M9, h1, h2, (by show _ ≤ 87; decide), (by show _ ≤ 2052; decide)⟩ q504 q506 qs7 q129 q507 (by decide +kernel) g7 rfl hl.1 (Nat.le_of_ble_eq_true rfl) dX3_statement_1 (fun v hv H locs kc ks Y => ?_) (fun k hk => by cases hk)
  cases hv
  refine r_astore_n (i := 1) (lv' := [(1, va_rf r_2), (0, .ref a0)]) hx hb dX3_statement_4 rfl hl (by decide) rfl (fun ls hl => ?_)
  refine lv_iconst (v := -1) hx hb dX3_statement_5 (by decide) ?_
  refine lv_istore_n (i := 2) (lv' := [(2, .int (-1 : Int32)), (1, va_rf r_2), (0, .ref a0)]) hx hb dX3_statement_6 rfl hl (by decide) (by cases r_2 <;> rfl) (fun ls hl => ?_)
  refine r_aload_n hx hb dX3_statement_7 rfl (lv_at hl 1 rfl) ?_
  replace hE := e_bind hE
  obtain ⟨a_4, g, hE⟩ := hE
  subst g
  replace hE := e_bind hE
  obtain ⟨v_5, g, hE⟩ := hE
  refine sHash_row (σf := q.1) X Y h1 h2 ((mo_if (mo_v fun _ => (mo_if (oaf_X3_statement_L379 ) (oaf_X3_statement_L379 ))) (mo_if (mo_v fun _ => (mo_if (oaf_X3_statement_L379 ) (oaf_X3_statement_L379 ))) (mo_if (mo_v fun _ => (mo_if (oaf_X3_statement_L379 ) (oaf_X3_statement_L379 ))) (mo_if (mo_v fun _ => (mo_if (oaf_X3_statement_L379 ) (oaf_X3_statement_L379 ))) (mo_if (mo_v fun _ => (mo_if (oaf_X3_statement_L379 ) (oaf_X3_statement_L379 ))) (mo_if (mo_v fun _ => (mo_if (oaf_X3_statement_L379 ) (oaf_X3_statement_L379 ))) (mo_if (mo_v fun _ => (mo_if (oaf_X3_statement_L379 ) (oaf_X3_statement_L379 ))) (mo_if (mo_v fun _ => (mo_if (oaf_X3_statement_L379 ) (oaf_X3_statement_L379 ))) (mo_if (mo_v fun _ => (mo_if (oaf_X3_statement_L379 ) (oaf_X3_statement_L379 ))) (mo_if (mo_v fun _ => (mo_if (oaf_X3_statement_L379 ) (oaf_X3_statement_L379 ))) (mo_if (mo_v fun _ => (mo_if (oaf_X3_statement_L379 ) (oaf_X3_statement_L379 ))) (mo_if (mo_v fun _ => (mo_if (oaf_X3_statement_L379 ) (oaf_X3_statement_L379 ))) (mo_if (mo_v fun _ => (mo_if (oaf_X3_statement_L379 ) (oaf_X3_statement_L379 ))) (mo_if (mo_v fun _ => (mo_if (oaf_X3_statement_L379 ) (oaf_X3_statement_L379 ))) (mo_if (mo_v fun _ => (mo_if (oaf_X3_statement_L379 ) (oaf_X3_statement_L379 ))) (mo_if (mo_v fun _ => (mo_if (oaf_X3_statement_L379 ) (oaf_X3_statement_L379 ))) (oaf_X3_statement_L379 ))))))))))))))))) _ hE) g q560 (by show _ ≤ 87; decide) (by show _ ≤ 2052; decide) hl.1 (Nat.le_of_ble_eq_true rfl) dX3_statement_8 (fun H locs kc ks Y => ?_)
  by_cases c_6 : v_5 = (-1881067216 : Int32)
  · replace hE := e_t c_6 hE
    refine lv_lookup (off := 221) (tgt := 232) hx hb dX3_statement_11 (by decide +kernel) (by rw [c_6]; decide +kernel) (by decide) ?_
    refine lv_aload_n hx hb dX3_statement_232 rfl (lv_at hl 1 rfl) ?_
    refine s_ldc (i := 6) X (by decide) dX3_statement_233 ?_
    replace hE := e_bind hE
    obtain ⟨v_7, g, hE⟩ := hE
    refine sEq_row (σf := q.1) X Y h1 h2 ((mo_if (oaf_X3_statement_L379 ) (oaf_X3_statement_L379 )) _ hE) g q846 (by show _ ≤ 87; decide) (by show _ ≤ 2052; decide) hl.1 (Nat.le_of_ble_eq_true rfl) dX3_statement_235 (fun H locs kc ks Y => ?_)
    refine lv_if_eq (tgt := 379) hx hb dX3_statement_238 (by decide) (fun c_8 => ?_) (fun c_8 => ?_)
    · replace hE := e_t c_8 hE
      exact waf_X3_statement_L379 X hex hr hnm hE h1 h2 Y (lv_sub hl [2, 0] rfl)
    · replace hE := e_f c_8 hE
      refine lv_bipush (v := 6) hx hb dX3_statement_241 (by decide) ?_
      refine lv_istore_n (i := 2) (lv' := [(2, .int (6 : Int32)), (1, .ref a_4), (0, .ref a0)]) hx hb dX3_statement_243 rfl hl (by decide) rfl (fun ls hl => ?_)
      refine lv_goto (tgt := 379) hx hb dX3_statement_244 (by decide) ?_
      exact waf_X3_statement_L379 X hex hr hnm hE h1 h2 Y (lv_sub hl [2, 0] rfl)
  replace hE := e_f c_6 hE
  by_cases c_9 : v_5 = (2333 : Int32)
  · replace hE := e_t c_9 hE
    refine lv_lookup (off := 165) (tgt := 176) hx hb dX3_statement_11 (by decide +kernel) (by rw [c_9]; decide +kernel) (by decide) ?_
    refine lv_aload_n hx hb dX3_statement_176 rfl (lv_at hl 1 rfl) ?_
    refine s_ldc (i := 2) X (by decide) dX3_statement_177 ?_
    replace hE := e_bind hE
    obtain ⟨v_10, g, hE⟩ := hE
    refine sEq_row (σf := q.1) X Y h1 h2 ((mo_if (oaf_X3_statement_L379 ) (oaf_X3_statement_L379 )) _ hE) g q846 (by show _ ≤ 87; decide) (by show _ ≤ 2052; decide) hl.1 (Nat.le_of_ble_eq_true rfl) dX3_statement_179 (fun H locs kc ks Y => ?_)
    refine lv_if_eq (tgt := 379) hx hb dX3_statement_182 (by decide) (fun c_11 => ?_) (fun c_11 => ?_)
    · replace hE := e_t c_11 hE
      exact waf_X3_statement_L379 X hex hr hnm hE h1 h2 Y (lv_sub hl [2, 0] rfl)
    · replace hE := e_f c_11 hE
      refine lv_iconst (v := 2) hx hb dX3_statement_185 (by decide) ?_
      refine lv_istore_n (i := 2) (lv' := [(2, .int (2 : Int32)), (1, .ref a_4), (0, .ref a0)]) hx hb dX3_statement_186 rfl hl (by decide) rfl (fun ls hl => ?_)
      refine lv_goto (tgt := 379) hx hb dX3_statement_187 (by decide) ?_
      exact waf_X3_statement_L379 X hex hr hnm hE h1 h2 Y (lv_sub hl [2, 0] rfl)
  replace hE := e_f c_9 hE
  by_cases c_12 : v_5 = (2527 : Int32)
  · replace hE := e_t c_12 hE
    refine lv_lookup (off := 193) (tgt := 204) hx hb dX3_statement_11 (by decide +kernel) (by rw [c_12]; decide +kernel) (by decide) ?_
    refine lv_aload_n hx hb dX3_statement_204 rfl (lv_at hl 1 rfl) ?_
    refine s_ldc (i := 4) X (by decide) dX3_statement_205 ?_
    replace hE := e_bind hE
    obtain ⟨v_13, g, hE⟩ := hE
    refine sEq_row (σf := q.1) X Y h1 h2 ((mo_if (oaf_X3_statement_L379 ) (oaf_X3_statement_L379 )) _ hE) g q846 (by show _ ≤ 87; decide) (by show _ ≤ 2052; decide) hl.1 (Nat.le_of_ble_eq_true rfl) dX3_statement_207 (fun H locs kc ks Y => ?_)
    refine lv_if_eq (tgt := 379) hx hb dX3_statement_210 (by decide) (fun c_14 => ?_) (fun c_14 => ?_)
    · replace hE := e_t c_14 hE
      exact waf_X3_statement_L379 X hex hr hnm hE h1 h2 Y (lv_sub hl [2, 0] rfl)
    · replace hE := e_f c_14 hE
      refine lv_iconst (v := 4) hx hb dX3_statement_213 (by decide) ?_
      refine lv_istore_n (i := 2) (lv' := [(2, .int (4 : Int32)), (1, .ref a_4), (0, .ref a0)]) hx hb dX3_statement_214 rfl hl (by decide) rfl (fun ls hl => ?_)
      refine lv_goto (tgt := 379) hx hb dX3_statement_215 (by decide) ?_
      exact waf_X3_statement_L379 X hex hr hnm hE h1 h2 Y (lv_sub hl [2, 0] rfl)
  replace hE := e_f c_12 hE
  by_cases c_15 : v_5 = (67557 : Int32)
  · replace hE := e_t c_15 hE
    refine lv_lookup (off := 326) (tgt := 337) hx hb dX3_statement_11 (by decide +kernel) (by rw [c_15]; decide +kernel) (by decide) ?_
    refine lv_aload_n hx hb dX3_statement_337 rfl (lv_at hl 1 rfl) ?_
    refine s_ldc (i := 13) X (by decide) dX3_statement_338 ?_
    replace hE := e_bind hE
    obtain ⟨v_16, g, hE⟩ := hE
    refine sEq_row (σf := q.1) X Y h1 h2 ((mo_if (oaf_X3_statement_L379 ) (oaf_X3_statement_L379 )) _ hE) g q846 (by show _ ≤ 87; decide) (by show _ ≤ 2052; decide) hl.1 (Nat.le_of_ble_eq_true rfl) dX3_statement_340 (fun H locs kc ks Y => ?_)
    refine lv_if_eq (tgt := 379) hx hb dX3_statement_343 (by decide) (fun c_17 => ?_) (fun c_17 => ?_)
    · replace hE := e_t c_17 hE
      exact waf_X3_statement_L379 X hex hr hnm hE h1 h2 Y (lv_sub hl [2, 0] rfl)
    · replace hE := e_f c_17 hE
      refine lv_bipush (v := 13) hx hb dX3_statement_346 (by decide) ?_
      refine lv_istore_n (i := 2) (lv' := [(2, .int (13 : Int32)), (1, .ref a_4), (0, .ref a0)]) hx hb dX3_statement_348 rfl hl (by decide) rfl (fun ls hl => ?_)
      refine lv_goto (tgt := 379) hx hb dX3_statement_349 (by decide) ?_
      exact waf_X3_statement_L379 X hex hr hnm hE h1 h2 Y (lv_sub hl [2, 0] rfl)
  replace hE := e_f c_15 hE
  by_cases c_18 : v_5 = (67688 : Int32)
  · replace hE := e_t c_18 hE
    refine lv_lookup (off := 311) (tgt := 322) hx hb dX3_statement_11 (by decide +kernel) (by rw [c_18]; decide +kernel) (by decide) ?_
    refine lv_aload_n hx hb dX3_statement_322 rfl (lv_at hl 1 rfl) ?_
    refine s_ldc (i := 12) X (by decide) dX3_statement_323 ?_
    replace hE := e_bind hE
    obtain ⟨v_19, g, hE⟩ := hE
    refine sEq_row (σf := q.1) X Y h1 h2 ((mo_if (oaf_X3_statement_L379 ) (oaf_X3_statement_L379 )) _ hE) g q846 (by show _ ≤ 87; decide) (by show _ ≤ 2052; decide) hl.1 (Nat.le_of_ble_eq_true rfl) dX3_statement_325 (fun H locs kc ks Y => ?_)
    refine lv_if_eq (tgt := 379) hx hb dX3_statement_328 (by decide) (fun c_20 => ?_) (fun c_20 => ?_)
    · replace hE := e_t c_20 hE
      exact waf_X3_statement_L379 X hex hr hnm hE h1 h2 Y (lv_sub hl [2, 0] rfl)
    · replace hE := e_f c_20 hE
      refine lv_bipush (v := 12) hx hb dX3_statement_331 (by decide) ?_
      refine lv_istore_n (i := 2) (lv' := [(2, .int (12 : Int32)), (1, .ref a_4), (0, .ref a0)]) hx hb dX3_statement_333 rfl hl (by decide) rfl (fun ls hl => ?_)
      refine lv_goto (tgt := 379) hx hb dX3_statement_334 (by decide) ?_
      exact waf_X3_statement_L379 X hex hr hnm hE h1 h2 Y (lv_sub hl [2, 0] rfl)
  replace hE := e_f c_18 hE
  by_cases c_21 : v_5 = (69801 : Int32)
  · replace hE := e_t c_21 hE
    refine lv_lookup (off := 236) (tgt := 247) hx hb dX3_statement_11 (by decide +kernel) (by rw [c_21]; decide +kernel) (by decide) ?_
    refine lv_aload_n hx hb dX3_statement_247 rfl (lv_at hl 1 rfl) ?_
    refine s_ldc (i := 7) X (by decide) dX3_statement_248 ?_
    replace hE := e_bind hE
    obtain ⟨v_22, g, hE⟩ := hE
    refine sEq_row (σf := q.1) X Y h1 h2 ((mo_if (oaf_X3_statement_L379 ) (oaf_X3_statement_L379 )) _ hE) g q846 (by show _ ≤ 87; decide) (by show _ ≤ 2052; decide) hl.1 (Nat.le_of_ble_eq_true rfl) dX3_statement_250 (fun H locs kc ks Y => ?_)
    refine lv_if_eq (tgt := 379) hx hb dX3_statement_253 (by decide) (fun c_23 => ?_) (fun c_23 => ?_)
    · replace hE := e_t c_23 hE
      exact waf_X3_statement_L379 X hex hr hnm hE h1 h2 Y (lv_sub hl [2, 0] rfl)
    · replace hE := e_f c_23 hE
      refine lv_bipush (v := 7) hx hb dX3_statement_256 (by decide) ?_
      refine lv_istore_n (i := 2) (lv' := [(2, .int (7 : Int32)), (1, .ref a_4), (0, .ref a0)]) hx hb dX3_statement_258 rfl hl (by decide) rfl (fun ls hl => ?_)
      refine lv_goto (tgt := 379) hx hb dX3_statement_259 (by decide) ?_
      exact waf_X3_statement_L379 X hex hr hnm hE h1 h2 Y (lv_sub hl [2, 0] rfl)
  replace hE := e_f c_21 hE
  by_cases c_24 : v_5 = (75259 : Int32)
  · replace hE := e_t c_24 hE
    refine lv_lookup (off := 137) (tgt := 148) hx hb dX3_statement_11 (by decide +kernel) (by rw [c_24]; decide +kernel) (by decide) ?_
    refine lv_aload_n hx hb dX3_statement_148 rfl (lv_at hl 1 rfl) ?_
    refine s_ldc (i := 0) X (by decide) dX3_statement_149 ?_
    replace hE := e_bind hE
    obtain ⟨v_25, g, hE⟩ := hE
    refine sEq_row (σf := q.1) X Y h1 h2 ((mo_if (oaf_X3_statement_L379 ) (oaf_X3_statement_L379 )) _ hE) g q846 (by show _ ≤ 87; decide) (by show _ ≤ 2052; decide) hl.1 (Nat.le_of_ble_eq_true rfl) dX3_statement_151 (fun H locs kc ks Y => ?_)
    refine lv_if_eq (tgt := 379) hx hb dX3_statement_154 (by decide) (fun c_26 => ?_) (fun c_26 => ?_)
    · replace hE := e_t c_26 hE
      exact waf_X3_statement_L379 X hex hr hnm hE h1 h2 Y (lv_sub hl [2, 0] rfl)
    · replace hE := e_f c_26 hE
      refine lv_iconst (v := 0) hx hb dX3_statement_157 (by decide) ?_
      refine lv_istore_n (i := 2) (lv' := [(2, .int (0 : Int32)), (1, .ref a_4), (0, .ref a0)]) hx hb dX3_statement_158 rfl hl (by decide) rfl (fun ls hl => ?_)
      refine lv_goto (tgt := 379) hx hb dX3_statement_159 (by decide) ?_
      exact waf_X3_statement_L379 X hex hr hnm hE h1 h2 Y (lv_sub hl [2, 0] rfl)
  replace hE := e_f c_24 hE
  by_cases c_27 : v_5 = (76096 : Int32)
  · replace hE := e_t c_27 hE
    refine lv_lookup (off := 341) (tgt := 352) hx hb dX3_statement_11 (by decide +kernel) (by rw [c_27]; decide +kernel) (by decide) ?_
    refine lv_aload_n hx hb dX3_statement_352 rfl (lv_at hl 1 rfl) ?_
    refine s_ldc (i := 14) X (by decide) dX3_statement_353 ?_
    replace hE := e_bind hE
    obtain ⟨v_28, g, hE⟩ := hE
    refine sEq_row (σf := q.1) X Y h1 h2 ((mo_if (oaf_X3_statement_L379 ) (oaf_X3_statement_L379 )) _ hE) g q846 (by show _ ≤ 87; decide) (by show _ ≤ 2052; decide) hl.1 (Nat.le_of_ble_eq_true rfl) dX3_statement_355 (fun H locs kc ks Y => ?_)
    refine lv_if_eq (tgt := 379) hx hb dX3_statement_358 (by decide) (fun c_29 => ?_) (fun c_29 => ?_)
    · replace hE := e_t c_29 hE
      exact waf_X3_statement_L379 X hex hr hnm hE h1 h2 Y (lv_sub hl [2, 0] rfl)
    · replace hE := e_f c_29 hE
      refine lv_bipush (v := 14) hx hb dX3_statement_361 (by decide) ?_
      refine lv_istore_n (i := 2) (lv' := [(2, .int (14 : Int32)), (1, .ref a_4), (0, .ref a0)]) hx hb dX3_statement_363 rfl hl (by decide) rfl (fun ls hl => ?_)
      refine lv_goto (tgt := 379) hx hb dX3_statement_364 (by decide) ?_
      exact waf_X3_statement_L379 X hex hr hnm hE h1 h2 Y (lv_sub hl [2, 0] rfl)
  replace hE := e_f c_27 hE
  by_cases c_30 : v_5 = (81018 : Int32)
  · replace hE := e_t c_30 hE
    refine lv_lookup (off := 356) (tgt := 367) hx hb dX3_statement_11 (by decide +kernel) (by rw [c_30]; decide +kernel) (by decide) ?_
    refine lv_aload_n hx hb dX3_statement_367 rfl (lv_at hl 1 rfl) ?_
    refine s_ldc (i := 15) X (by decide) dX3_statement_368 ?_
    replace hE := e_bind hE
    obtain ⟨v_31, g, hE⟩ := hE
    refine sEq_row (σf := q.1) X Y h1 h2 ((mo_if (oaf_X3_statement_L379 ) (oaf_X3_statement_L379 )) _ hE) g q846 (by show _ ≤ 87; decide) (by show _ ≤ 2052; decide) hl.1 (Nat.le_of_ble_eq_true rfl) dX3_statement_370 (fun H locs kc ks Y => ?_)
    refine lv_if_eq (tgt := 379) hx hb dX3_statement_373 (by decide) (fun c_32 => ?_) (fun c_32 => ?_)
    · replace hE := e_t c_32 hE
      exact waf_X3_statement_L379 X hex hr hnm hE h1 h2 Y (lv_sub hl [2, 0] rfl)
    · replace hE := e_f c_32 hE
      refine lv_bipush (v := 15) hx hb dX3_statement_376 (by decide) ?_
      refine lv_istore_n (i := 2) (lv' := [(2, .int (15 : Int32)), (1, .ref a_4), (0, .ref a0)]) hx hb dX3_statement_378 rfl hl (by decide) rfl (fun ls hl => ?_)
      exact waf_X3_statement_L379 X hex hr hnm hE h1 h2 Y (lv_sub hl [2, 0] rfl)
  replace hE := e_f c_30 hE
  by_cases c_33 : v_5 = (2090922 : Int32)
  · replace hE := e_t c_33 hE
    refine lv_lookup (off := 281) (tgt := 292) hx hb dX3_statement_11 (by decide +kernel) (by rw [c_33]; decide +kernel) (by decide) ?_
    refine lv_aload_n hx hb dX3_statement_292 rfl (lv_at hl 1 rfl) ?_
    refine s_ldc (i := 10) X (by decide) dX3_statement_293 ?_
    replace hE := e_bind hE
    obtain ⟨v_34, g, hE⟩ := hE
    refine sEq_row (σf := q.1) X Y h1 h2 ((mo_if (oaf_X3_statement_L379 ) (oaf_X3_statement_L379 )) _ hE) g q846 (by show _ ≤ 87; decide) (by show _ ≤ 2052; decide) hl.1 (Nat.le_of_ble_eq_true rfl) dX3_statement_295 (fun H locs kc ks Y => ?_)
    refine lv_if_eq (tgt := 379) hx hb dX3_statement_298 (by decide) (fun c_35 => ?_) (fun c_35 => ?_)
    · replace hE := e_t c_35 hE
      exact waf_X3_statement_L379 X hex hr hnm hE h1 h2 Y (lv_sub hl [2, 0] rfl)
    · replace hE := e_f c_35 hE
      refine lv_bipush (v := 10) hx hb dX3_statement_301 (by decide) ?_
      refine lv_istore_n (i := 2) (lv' := [(2, .int (10 : Int32)), (1, .ref a_4), (0, .ref a0)]) hx hb dX3_statement_303 rfl hl (by decide) rfl (fun ls hl => ?_)
      refine lv_goto (tgt := 379) hx hb dX3_statement_304 (by decide) ?_
      exact waf_X3_statement_L379 X hex hr hnm hE h1 h2 Y (lv_sub hl [2, 0] rfl)
  replace hE := e_f c_33 hE
  by_cases c_36 : v_5 = (2193763 : Int32)
  · replace hE := e_t c_36 hE
    refine lv_lookup (off := 179) (tgt := 190) hx hb dX3_statement_11 (by decide +kernel) (by rw [c_36]; decide +kernel) (by decide) ?_
    refine lv_aload_n hx hb dX3_statement_190 rfl (lv_at hl 1 rfl) ?_
    refine s_ldc (i := 3) X (by decide) dX3_statement_191 ?_
    replace hE := e_bind hE
    obtain ⟨v_37, g, hE⟩ := hE
    refine sEq_row (σf := q.1) X Y h1 h2 ((mo_if (oaf_X3_statement_L379 ) (oaf_X3_statement_L379 )) _ hE) g q846 (by show _ ≤ 87; decide) (by show _ ≤ 2052; decide) hl.1 (Nat.le_of_ble_eq_true rfl) dX3_statement_193 (fun H locs kc ks Y => ?_)
    refine lv_if_eq (tgt := 379) hx hb dX3_statement_196 (by decide) (fun c_38 => ?_) (fun c_38 => ?_)
    · replace hE := e_t c_38 hE
      exact waf_X3_statement_L379 X hex hr hnm hE h1 h2 Y (lv_sub hl [2, 0] rfl)
    · replace hE := e_f c_38 hE
      refine lv_iconst (v := 3) hx hb dX3_statement_199 (by decide) ?_
      refine lv_istore_n (i := 2) (lv' := [(2, .int (3 : Int32)), (1, .ref a_4), (0, .ref a0)]) hx hb dX3_statement_200 rfl hl (by decide) rfl (fun ls hl => ?_)
      refine lv_goto (tgt := 379) hx hb dX3_statement_201 (by decide) ?_
      exact waf_X3_statement_L379 X hex hr hnm hE h1 h2 Y (lv_sub hl [2, 0] rfl)
  replace hE := e_f c_36 hE
  by_cases c_39 : v_5 = (2392819 : Int32)
  · replace hE := e_t c_39 hE
    refine lv_lookup (off := 251) (tgt := 262) hx hb dX3_statement_11 (by decide +kernel) (by rw [c_39]; decide +kernel) (by decide) ?_
    refine lv_aload_n hx hb dX3_statement_262 rfl (lv_at hl 1 rfl) ?_
    refine s_ldc (i := 8) X (by decide) dX3_statement_263 ?_
    replace hE := e_bind hE
    obtain ⟨v_40, g, hE⟩ := hE
    refine sEq_row (σf := q.1) X Y h1 h2 ((mo_if (oaf_X3_statement_L379 ) (oaf_X3_statement_L379 )) _ hE) g q846 (by show _ ≤ 87; decide) (by show _ ≤ 2052; decide) hl.1 (Nat.le_of_ble_eq_true rfl) dX3_statement_265 (fun H locs kc ks Y => ?_)
    refine lv_if_eq (tgt := 379) hx hb dX3_statement_268 (by decide) (fun c_41 => ?_) (fun c_41 => ?_)
    · replace hE := e_t c_41 hE
      exact waf_X3_statement_L379 X hex hr hnm hE h1 h2 Y (lv_sub hl [2, 0] rfl)
    · replace hE := e_f c_41 hE
      refine lv_bipush (v := 8) hx hb dX3_statement_271 (by decide) ?_
      refine lv_istore_n (i := 2) (lv' := [(2, .int (8 : Int32)), (1, .ref a_4), (0, .ref a0)]) hx hb dX3_statement_273 rfl hl (by decide) rfl (fun ls hl => ?_)
      refine lv_goto (tgt := 379) hx hb dX3_statement_274 (by decide) ?_
      exact waf_X3_statement_L379 X hex hr hnm hE h1 h2 Y (lv_sub hl [2, 0] rfl)
  replace hE := e_f c_39 hE
  by_cases c_42 : v_5 = (2511254 : Int32)
  · replace hE := e_t c_42 hE
    refine lv_lookup (off := 266) (tgt := 277) hx hb dX3_statement_11 (by decide +kernel) (by rw [c_42]; decide +kernel) (by decide) ?_
    refine lv_aload_n hx hb dX3_statement_277 rfl (lv_at hl 1 rfl) ?_
    refine s_ldc (i := 9) X (by decide) dX3_statement_278 ?_
    replace hE := e_bind hE
    obtain ⟨v_43, g, hE⟩ := hE
    refine sEq_row (σf := q.1) X Y h1 h2 ((mo_if (oaf_X3_statement_L379 ) (oaf_X3_statement_L379 )) _ hE) g q846 (by show _ ≤ 87; decide) (by show _ ≤ 2052; decide) hl.1 (Nat.le_of_ble_eq_true rfl) dX3_statement_280 (fun H locs kc ks Y => ?_)
    refine lv_if_eq (tgt := 379) hx hb dX3_statement_283 (by decide) (fun c_44 => ?_) (fun c_44 => ?_)
    · replace hE := e_t c_44 hE
      exact waf_X3_statement_L379 X hex hr hnm hE h1 h2 Y (lv_sub hl [2, 0] rfl)
    · replace hE := e_f c_44 hE
      refine lv_bipush (v := 9) hx hb dX3_statement_286 (by decide) ?_
      refine lv_istore_n (i := 2) (lv' := [(2, .int (9 : Int32)), (1, .ref a_4), (0, .ref a0)]) hx hb dX3_statement_288 rfl hl (by decide) rfl (fun ls hl => ?_)
      refine lv_goto (tgt := 379) hx hb dX3_statement_289 (by decide) ?_
      exact waf_X3_statement_L379 X hex hr hnm hE h1 h2 Y (lv_sub hl [2, 0] rfl)
  replace hE := e_f c_42 hE
  by_cases c_45 : v_5 = (68005944 : Int32)
  · replace hE := e_t c_45 hE
    refine lv_lookup (off := 207) (tgt := 218) hx hb dX3_statement_11 (by decide +kernel) (by rw [c_45]; decide +kernel) (by decide) ?_
    refine lv_aload_n hx hb dX3_statement_218 rfl (lv_at hl 1 rfl) ?_
    refine s_ldc (i := 5) X (by decide) dX3_statement_219 ?_
    replace hE := e_bind hE
    obtain ⟨v_46, g, hE⟩ := hE
    refine sEq_row (σf := q.1) X Y h1 h2 ((mo_if (oaf_X3_statement_L379 ) (oaf_X3_statement_L379 )) _ hE) g q846 (by show _ ≤ 87; decide) (by show _ ≤ 2052; decide) hl.1 (Nat.le_of_ble_eq_true rfl) dX3_statement_221 (fun H locs kc ks Y => ?_)
    refine lv_if_eq (tgt := 379) hx hb dX3_statement_224 (by decide) (fun c_47 => ?_) (fun c_47 => ?_)
    · replace hE := e_t c_47 hE
      exact waf_X3_statement_L379 X hex hr hnm hE h1 h2 Y (lv_sub hl [2, 0] rfl)
    · replace hE := e_f c_47 hE
      refine lv_iconst (v := 5) hx hb dX3_statement_227 (by decide) ?_
      refine lv_istore_n (i := 2) (lv' := [(2, .int (5 : Int32)), (1, .ref a_4), (0, .ref a0)]) hx hb dX3_statement_228 rfl hl (by decide) rfl (fun ls hl => ?_)
      refine lv_goto (tgt := 379) hx hb dX3_statement_229 (by decide) ?_
      exact waf_X3_statement_L379 X hex hr hnm hE h1 h2 Y (lv_sub hl [2, 0] rfl)
  replace hE := e_f c_45 hE
  by_cases c_48 : v_5 = (76397197 : Int32)
  · replace hE := e_t c_48 hE
    refine lv_lookup (off := 151) (tgt := 162) hx hb dX3_statement_11 (by decide +kernel) (by rw [c_48]; decide +kernel) (by decide) ?_
    refine lv_aload_n hx hb dX3_statement_162 rfl (lv_at hl 1 rfl) ?_
    refine s_ldc (i := 1) X (by decide) dX3_statement_163 ?_
    replace hE := e_bind hE
    obtain ⟨v_49, g, hE⟩ := hE
    refine sEq_row (σf := q.1) X Y h1 h2 ((mo_if (oaf_X3_statement_L379 ) (oaf_X3_statement_L379 )) _ hE) g q846 (by show _ ≤ 87; decide) (by show _ ≤ 2052; decide) hl.1 (Nat.le_of_ble_eq_true rfl) dX3_statement_165 (fun H locs kc ks Y => ?_)
    refine lv_if_eq (tgt := 379) hx hb dX3_statement_168 (by decide) (fun c_50 => ?_) (fun c_50 => ?_)
    · replace hE := e_t c_50 hE
      exact waf_X3_statement_L379 X hex hr hnm hE h1 h2 Y (lv_sub hl [2, 0] rfl)
    · replace hE := e_f c_50 hE
      refine lv_iconst (v := 1) hx hb dX3_statement_171 (by decide) ?_
      refine lv_istore_n (i := 2) (lv' := [(2, .int (1 : Int32)), (1, .ref a_4), (0, .ref a0)]) hx hb dX3_statement_172 rfl hl (by decide) rfl (fun ls hl => ?_)
      refine lv_goto (tgt := 379) hx hb dX3_statement_173 (by decide) ?_
      exact waf_X3_statement_L379 X hex hr hnm hE h1 h2 Y (lv_sub hl [2, 0] rfl)
  replace hE := e_f c_48 hE
  by_cases c_51 : v_5 = (1815502446 : Int32)
  · replace hE := e_t c_51 hE
    refine lv_lookup (off := 296) (tgt := 307) hx hb dX3_statement_11 (by decide +kernel) (by rw [c_51]; decide +kernel) (by decide) ?_
    refine lv_aload_n hx hb dX3_statement_307 rfl (lv_at hl 1 rfl) ?_
    refine s_ldc (i := 11) X (by decide) dX3_statement_308 ?_
    replace hE := e_bind hE
    obtain ⟨v_52, g, hE⟩ := hE
    refine sEq_row (σf := q.1) X Y h1 h2 ((mo_if (oaf_X3_statement_L379 ) (oaf_X3_statement_L379 )) _ hE) g q846 (by show _ ≤ 87; decide) (by show _ ≤ 2052; decide) hl.1 (Nat.le_of_ble_eq_true rfl) dX3_statement_310 (fun H locs kc ks Y => ?_)
    refine lv_if_eq (tgt := 379) hx hb dX3_statement_313 (by decide) (fun c_53 => ?_) (fun c_53 => ?_)
    · replace hE := e_t c_53 hE
      exact waf_X3_statement_L379 X hex hr hnm hE h1 h2 Y (lv_sub hl [2, 0] rfl)
    · replace hE := e_f c_53 hE
      refine lv_bipush (v := 11) hx hb dX3_statement_316 (by decide) ?_
      refine lv_istore_n (i := 2) (lv' := [(2, .int (11 : Int32)), (1, .ref a_4), (0, .ref a0)]) hx hb dX3_statement_318 rfl hl (by decide) rfl (fun ls hl => ?_)
      refine lv_goto (tgt := 379) hx hb dX3_statement_319 (by decide) ?_
      exact waf_X3_statement_L379 X hex hr hnm hE h1 h2 Y (lv_sub hl [2, 0] rfl)
  replace hE := e_f c_51 hE
  refine lv_lookup (off := 368) (tgt := 379) hx hb dX3_statement_11 (by decide +kernel) (by rw [lv_osw c_6 (by decide), lv_osw c_9 (by decide), lv_osw c_12 (by decide), lv_osw c_15 (by decide), lv_osw c_18 (by decide), lv_osw c_21 (by decide), lv_osw c_24 (by decide), lv_osw c_27 (by decide), lv_osw c_30 (by decide), lv_osw c_33 (by decide), lv_osw c_36 (by decide), lv_osw c_39 (by decide), lv_osw c_42 (by decide), lv_osw c_45 (by decide), lv_osw c_48 (by decide), lv_osw c_51 (by decide)]; rfl) (by decide) ?_
  exact waf_X3_statement_L379 X hex hr hnm hE h1 h2 Y (lv_sub hl [2, 0] rfl)
/-! BasicMachine$Parser.line()LBasicMachine$Line; -/
set_option maxHeartbeats 4000000 in
set_option maxRecDepth 100000 in
theorem waf_X3_line_L48 {l : Launch} {x : aP} {As : List Value} {σ0 : aS} {p : Program} {e : Env} {s : State} {m : MethodId} {below : List Frame} {meth : Method} {c : Code} {mc ms : Nat} (X : aX "BasicMachine$Parser" p l s m As.toArray meth c cX3_line 3 x σ0) (hex : ∀ z ∈ c.exceptionTable.toList, False) (hr : meth.sig.returnType = (some (.object "BasicMachine$Line"))) (hnm : "line" = meth.name) {n : Nat} {st : aS} {a0 : Nat} {x1 : Int32} {x2 : Option Nat} {z48_1 : Int32} {q : aS × ((Option Nat) ⊕ Nat)} (hE : af_X3_line_L48 n x.sK st a0 x1 x2 z48_1 = some q) (h1 : mc + σ0.1 = q.1.1) (h2 : ms + σ0.2.1 = q.1.2.1) {H : Heap} {locs : List Loc} {ls : Array Slot} {kc ks : Nat} (Y : aY x σ0 s st H locs kc ks) (hl : lv_has ls 3 [(0, .ref a0), (1, .int x1), (2, va_rf x2)]) : aG l 88 2075 mc ms x As σ0 (oR q.2) q.1 p e s m below meth c H locs kc ks (F0 m 48 ls [.int z48_1, .ref a0]) := by
  have hx := X.1
  have hb := X.2.1
  have hown := X.2.2.2.1
  have hts := X.2.2.2.2.1
  have hK := X.2.2.2.2.2.1
  have hl0 := X.2.2.2.2.2.2.2.2
  unfold af_X3_line_L48 at hE
  replace hE := e_bind hE
  obtain ⟨u_3, g, hE⟩ := hE
  obtain ⟨fs9, g9⟩ := i_gC g
  have g7 := a_recv X Y k_X3.1 g9
  replace hE := e_xb hE
  rcases hE with ⟨st_1, u_2, g, hE⟩ | ⟨st_1, k9, g, hE⟩
  rotate_left
  · subst hE
    refine a_callV (n := 1) (C := "BasicMachine$Parser") (σ1 := st_1) (σf := st_1) [.int z48_1] X Y (maf_X3_need hl0 n g) ⟨oaf_X3_need _ g, aLe.rf _, h1, h2, (by show _ ≤ 88; decide), (by show _ ≤ 2075; decide)⟩ q476 q478 qs5 q129 q479 (by decide +kernel) g7 rfl hl.1 (Nat.le_of_ble_eq_true rfl) dX3_line_48 (fun v hv => by cases hv) (fun k hk H locs kc ks q9 ce Y e1 e2 e3 => ?_)
    cases hk
    exact a_out X Y h1 h2 (fun z hz => (hex z hz).elim) e1 e2 e3
  have M9 := (mo_s (fun _ => le_nO) fun _ => (mo_cb oaf_X4_init fun _ _ => mo_ret)) _ hE
  refine a_callV (n := 1) (C := "BasicMachine$Parser") (σ1 := st_1) (σf := q.1) [.int z48_1] X Y (maf_X3_need hl0 n g) ⟨oaf_X3_need _ g, M9, h1, h2, (by show _ ≤ 88; decide), (by show _ ≤ 2075; decide)⟩ q476 q478 qs5 q129 q479 (by decide +kernel) g7 rfl hl.1 (Nat.le_of_ble_eq_true rfl) dX3_line_48 (fun v hv H locs kc ks Y => ?_) (fun k hk => by cases hk)
  cases hv
  replace hE := e_bind hE
  obtain ⟨st_4, g, hE⟩ := hE
  have M9 := (mo_cb oaf_X4_init fun _ _ => mo_ret) _ hE
  refine a_new X Y k_X4 g b_X4 q482 q483 q130 (aRoom1 Y h1 (le_nO1 g) M9) (aRoom2 Y h2 (le_nO2 g) M9) dX3_line_51 (fun H Y => ?_)
  generalize kc + 1 = kc at Y ⊢
  generalize ks + 3 = ks at Y ⊢
  refine lv_dup hx hb dX3_line_54 rfl ?_
  refine lv_iload_n hx hb dX3_line_55 rfl (lv_at hl 1 rfl) ?_
  refine r_aload_n hx hb dX3_line_56 rfl (lv_at hl 2 rfl) ?_
  replace hE := e_cb hE
  obtain ⟨st_5, u_6, g, hE⟩ := hE
  have M9 := mo_ret _ hE
  refine a_callI (n := 2) (σ1 := st_5) (σf := q.1) [.int x1, va_rf x2] X Y (maf_X4_init hl0 n g) ⟨oaf_X4_init _ g, M9, h1, h2, (by show _ ≤ 88; decide), (by show _ ≤ 2075; decide)⟩ q484 q485 q130 q486 rfl (by decide +kernel) rfl hl.1 (Nat.le_of_ble_eq_true rfl) dX3_line_57 (fun v hv H locs kc ks Y => ?_) (fun k hk => by cases hk)
  cases hv
  cases hE
  exact a_aret (r := (some st_1.1)) X Y h1 h2 hr (Or.inl ⟨_, rfl⟩) dX3_line_60
set_option maxHeartbeats 4000000 in
set_option maxRecDepth 100000 in
theorem maf_X3_line {l : Launch} (hl0 : l.stackTraces = false) (n : Nat) {x : aP} {st : aS} {a0 : Nat} {q : aS × ((Option Nat) ⊕ Nat)} (hE : af_X3_line n x.sK st a0 = some q) : aMet l yX3_line (ws_ yX3_line cX3_line 3 (some (.object "BasicMachine$Line"))) 88 2075 x [.ref a0] st (oR q.2) q.1 := by
  refine a_ofW (own := "BasicMachine$Parser") hl0 (by decide) rfl (Nat.le_of_ble_eq_true rfl) (fun mc ms p e s m below meth c ls H locs kc ks h1 h2 X hex Y hr hnm hl => ?_)
  have hnm : "line" = meth.name := hnm
  have hl : lv_has ls 3 [(0, .ref a0)] := hl
  have hx := X.1
  have hb := X.2.1
  have hown := X.2.2.2.1
  have hts := X.2.2.2.2.1
  have hK := X.2.2.2.2.2.1
  have hl0 := X.2.2.2.2.2.2.2.2
  unfold af_X3_line at hE
  refine lv_aload_n hx hb dX3_line_0 rfl (lv_at hl 0 rfl) ?_
  replace hE := e_bind hE
  obtain ⟨u_3, g, hE⟩ := hE
  obtain ⟨fs9, g9⟩ := i_gC g
  have g7 := a_recv X Y k_X3.1 g9
  replace hE := e_xb hE
  rcases hE with ⟨st_1, v_2, g, hE⟩ | ⟨st_1, k9, g, hE⟩
  rotate_left
  · subst hE
    refine a_callV (n := 0) (C := "BasicMachine$Parser") (σ1 := st_1) (σf := st_1) [] X Y (maf_X3_number hl0 n g) ⟨oaf_X3_number _ g, aLe.rf _, h1, h2, (by show _ ≤ 88; decide), (by show _ ≤ 2075; decide)⟩ q465 q467 qs3 q129 q468 (by decide +kernel) g7 rfl hl.1 (Nat.le_of_ble_eq_true rfl) dX3_line_1 (fun v hv => by cases hv) (fun k hk H locs kc ks q9 ce Y e1 e2 e3 => ?_)
    cases hk
    exact a_out X Y h1 h2 (fun z hz => (hex z hz).elim) e1 e2 e3
  have M9 := (mo_v fun _ => (mo_v fun _ => (mo_if (mo_v fun _ => (mo_x oaf_X3_statement fun _ _ => (mo_v fun _ => (mo_v fun _ => (mo_if (oaf_X3_line_L48 ) (oaf_X3_line_L48 )))))) (mo_s (fun _ => le_nO) fun _ => (mo_cb oaf_X4_init fun _ _ => mo_ret))))) _ hE
  refine a_callV (n := 0) (C := "BasicMachine$Parser") (σ1 := st_1) (σf := q.1) [] X Y (maf_X3_number hl0 n g) ⟨oaf_X3_number _ g, M9, h1, h2, (by show _ ≤ 88; decide), (by show _ ≤ 2075; decide)⟩ q465 q467 qs3 q129 q468 (by decide +kernel) g7 rfl hl.1 (Nat.le_of_ble_eq_true rfl) dX3_line_1 (fun v hv H locs kc ks Y => ?_) (fun k hk => by cases hk)
  cases hv
  refine lv_istore_n (i := 1) (lv' := [(1, .int v_2), (0, .ref a0)]) hx hb dX3_line_4 rfl hl (by decide) rfl (fun ls hl => ?_)
  refine lv_aload_n hx hb dX3_line_5 rfl (lv_at hl 1 rfl) ?_
  replace hE := e_bind hE
  obtain ⟨v_4, g, hE⟩ := hE
  refine n_gI X Y k_X3 2 g (by decide) q442 dX3_line_6 ?_
  refine lv_aload_n hx hb dX3_line_9 rfl (lv_at hl 1 rfl) ?_
  replace hE := e_bind hE
  obtain ⟨v_5, g, hE⟩ := hE
  refine n_gI X Y k_X3 1 g (by decide) q441 dX3_line_10 ?_
  refine lv_icmp_lt (tgt := 26) hx hb dX3_line_13 (by decide) (fun c_6 => ?_) (fun c_6 => ?_)
  · replace hE := e_t c_6 hE
    refine lv_aload_n hx hb dX3_line_26 rfl (lv_at hl 1 rfl) ?_
    replace hE := e_bind hE
    obtain ⟨u_9, g, hE⟩ := hE
    obtain ⟨fs9, g9⟩ := i_gC g
    have g7 := a_recv X Y k_X3.1 g9
    replace hE := e_xb hE
    rcases hE with ⟨st_7, r_8, g, hE⟩ | ⟨st_7, k9, g, hE⟩
    rotate_left
    · subst hE
      refine a_callV (n := 0) (C := "BasicMachine$Parser") (σ1 := st_7) (σf := st_7) [] X Y (maf_X3_statement hl0 n g) ⟨oaf_X3_statement _ g, aLe.rf _, h1, h2, (by show _ ≤ 88; decide), (by show _ ≤ 2075; decide)⟩ q500 q502 qs6 q129 q503 (by decide +kernel) g7 rfl hl.1 (Nat.le_of_ble_eq_true rfl) dX3_line_27 (fun v hv => by cases hv) (fun k hk H locs kc ks q9 ce Y e1 e2 e3 => ?_)
      cases hk
      exact a_out X Y h1 h2 (fun z hz => (hex z hz).elim) e1 e2 e3
    have M9 := (mo_v fun _ => (mo_v fun _ => (mo_if (oaf_X3_line_L48 ) (oaf_X3_line_L48 )))) _ hE
    refine a_callV (n := 0) (C := "BasicMachine$Parser") (σ1 := st_7) (σf := q.1) [] X Y (maf_X3_statement hl0 n g) ⟨oaf_X3_statement _ g, M9, h1, h2, (by show _ ≤ 88; decide), (by show _ ≤ 2075; decide)⟩ q500 q502 qs6 q129 q503 (by decide +kernel) g7 rfl hl.1 (Nat.le_of_ble_eq_true rfl) dX3_line_27 (fun v hv H locs kc ks Y => ?_) (fun k hk => by cases hk)
    cases hv
    refine r_astore_n (i := 2) (lv' := [(2, va_rf r_8), (1, .int v_2), (0, .ref a0)]) hx hb dX3_line_30 rfl hl (by decide) rfl (fun ls hl => ?_)
    refine lv_aload_n hx hb dX3_line_31 rfl (lv_at hl 2 rfl) ?_
    refine lv_aload_n hx hb dX3_line_32 rfl (lv_at hl 2 rfl) ?_
    replace hE := e_bind hE
    obtain ⟨v_10, g, hE⟩ := hE
    refine n_gI X Y k_X3 2 g (by decide) q442 dX3_line_33 ?_
    refine lv_aload_n hx hb dX3_line_36 rfl (lv_at hl 2 rfl) ?_
    replace hE := e_bind hE
    obtain ⟨v_11, g, hE⟩ := hE
    refine n_gI X Y k_X3 1 g (by decide) q441 dX3_line_37 ?_
    refine lv_icmp_lt (tgt := 47) hx hb dX3_line_40 (by decide) (fun c_12 => ?_) (fun c_12 => ?_)
    · replace hE := e_t c_12 hE
      refine lv_iconst (v := 0) hx hb dX3_line_47 (by decide) ?_
      exact waf_X3_line_L48 X hex hr hnm hE h1 h2 Y (lv_sub hl [2, 1, 0] rfl)
    · replace hE := e_f c_12 hE
      refine lv_iconst (v := 1) hx hb dX3_line_43 (by decide) ?_
      refine lv_goto (tgt := 48) hx hb dX3_line_44 (by decide) ?_
      exact waf_X3_line_L48 X hex hr hnm hE h1 h2 Y (lv_sub hl [2, 1, 0] rfl)
  · replace hE := e_f c_6 hE
    replace hE := e_bind hE
    obtain ⟨st_13, g, hE⟩ := hE
    have M9 := (mo_cb oaf_X4_init fun _ _ => mo_ret) _ hE
    refine a_new X Y k_X4 g b_X4 q482 q483 q130 (aRoom1 Y h1 (le_nO1 g) M9) (aRoom2 Y h2 (le_nO2 g) M9) dX3_line_16 (fun H Y => ?_)
    generalize kc + 1 = kc at Y ⊢
    generalize ks + 3 = ks at Y ⊢
    refine lv_dup hx hb dX3_line_19 rfl ?_
    refine lv_iload_n hx hb dX3_line_20 rfl (lv_at hl 0 rfl) ?_
    refine lv_null hx hb dX3_line_21 ?_
    replace hE := e_cb hE
    obtain ⟨st_14, u_15, g, hE⟩ := hE
    have M9 := mo_ret _ hE
    refine a_callI (n := 2) (σ1 := st_14) (σf := q.1) [.int v_2, va_rf (none : Option Nat)] X Y (maf_X4_init hl0 n g) ⟨oaf_X4_init _ g, M9, h1, h2, (by show _ ≤ 88; decide), (by show _ ≤ 2075; decide)⟩ q484 q485 q130 q486 rfl (by decide +kernel) rfl hl.1 (Nat.le_of_ble_eq_true rfl) dX3_line_22 (fun v hv H locs kc ks Y => ?_) (fun k hk => by cases hk)
    cases hv
    cases hE
    exact a_aret (r := (some st_1.1)) X Y h1 h2 hr (Or.inl ⟨_, rfl⟩) dX3_line_25
/-! BasicMachine.parse()LBasicMachine$Line; -/
set_option maxHeartbeats 4000000 in
set_option maxRecDepth 100000 in
theorem waf_X1_parse_S9_ {l : Launch} {x : aP} {As : List Value} {σ0 : aS} {p : Program} {e : Env} {s : State} {m : MethodId} {below : List Frame} {meth : Method} {c : Code} {mc ms : Nat} (X : aX "BasicMachine" p l s m As.toArray meth c cX1_parse 5 x σ0) (hex : c.exceptionTable.toList = tableOf [(69, 73, 74, 65)]) (hr : meth.sig.returnType = (some (.object "BasicMachine$Line"))) (hnm : "parse" = meth.name) {n : Nat} {q : aS × ((Option Nat) ⊕ Nat)} : ∀ k : Nat, (∀ {st : aS} {a0 : Nat} {x1 : Option Nat} {x2 : Int32} {x3 : Int32}, af_X1_parse_S9 n x.sK k 0 st a0 x1 x2 x3 = some q → (mc + σ0.1 = q.1.1) → (ms + σ0.2.1 = q.1.2.1) → ∀ {H : Heap} {locs : List Loc} {ls : Array Slot} {kc ks : Nat}, aY x σ0 s st H locs kc ks → lv_has ls 5 [(0, .ref a0), (1, va_rf x1), (2, .int x2), (3, .int x3)] → aG l 89 2097 mc ms x As σ0 (oR q.2) q.1 p e s m below meth c H locs kc ks (F0 m 9 ls [])) ∧ (∀ {st : aS} {a0 : Nat} {x1 : Option Nat} {x2 : Int32} {x3 : Int32}, af_X1_parse_S9 n x.sK k 1 st a0 x1 x2 x3 = some q → (mc + σ0.1 = q.1.1) → (ms + σ0.2.1 = q.1.2.1) → ∀ {H : Heap} {locs : List Loc} {ls : Array Slot} {kc ks : Nat}, aY x σ0 s st H locs kc ks → lv_has ls 5 [(0, .ref a0), (1, va_rf x1), (2, .int x2), (3, .int x3)] → aG l 89 2097 mc ms x As σ0 (oR q.2) q.1 p e s m below meth c H locs kc ks (F0 m 43 ls [])) := by
  have hx := X.1
  have hb := X.2.1
  have hown := X.2.2.2.1
  have hts := X.2.2.2.2.1
  have hK := X.2.2.2.2.2.1
  have hl0 := X.2.2.2.2.2.2.2.2
  intro k
  induction k with
  | zero => exact ⟨(fun h => nomatch (show none = some q from h)), (fun h => nomatch (show none = some q from h))⟩
  | succ k ih =>
    obtain ⟨ih0, ih1⟩ := ih
    have mrec := @oaf_X1_parse_S9_ n x.sK k
    obtain ⟨mrec0, mrec1⟩ := mrec
    refine ⟨?_, ?_⟩
    · intro st a0 x1 x2 x3 hE h1 h2 H locs ls kc ks Y hl
      replace hE : af_X1_parse_B9 n x.sK (af_X1_parse_S9 n x.sK k) st a0 x1 x2 x3 = some q := hE
      unfold af_X1_parse_B9 at hE
      refine lv_iload_n hx hb dX1_parse_9 rfl (lv_at hl 3 rfl) ?_
      refine lv_aload_n hx hb dX1_parse_10 rfl (lv_at hl 0 rfl) ?_
      replace hE := e_bind hE
      obtain ⟨v_1, g, hE⟩ := hE
      refine n_gI X Y k_X1 1 g (by decide) q191 dX1_parse_11 ?_
      refine lv_icmp_ge (tgt := 49) hx hb dX1_parse_14 (by decide) (fun c_2 => ?_) (fun c_2 => ?_)
      · replace hE := e_t c_2 hE
        refine lv_aload_n hx hb dX1_parse_49 rfl (lv_at hl 0 rfl) ?_
        refine lv_iconst (v := 0) hx hb dX1_parse_50 (by decide) ?_
        replace hE := e_bind hE
        obtain ⟨st_3, g, hE⟩ := hE
        refine a_putV X Y k_X1 1 g (by decide) rfl rfl rfl q191 dX1_parse_51 (fun H locs Y => ?_)
        refine lv_aload_n hx hb dX1_parse_54 rfl (lv_at hl 0 rfl) ?_
        refine lv_iconst (v := -1) hx hb dX1_parse_55 (by decide) ?_
        replace hE := e_bind hE
        obtain ⟨st_4, g, hE⟩ := hE
        refine a_putV X Y k_X1 2 g (by decide) rfl rfl rfl q192 dX1_parse_56 (fun H locs Y => ?_)
        replace hE := e_bind hE
        obtain ⟨st_5, g, hE⟩ := hE
        have M9 := (mo_cb oaf_X3_init fun _ _ => (mo_v fun _ => (mo_xc oaf_X3_line (fun _ _ => mo_ret) fun _ _ => (mo_if (mo_v fun _ => (mo_s (fun _ => le_pF) fun _ => mo_tw)) mo_none)))) _ hE
        refine a_new X Y k_X3 g b_X3 q415 q416 q129 (aRoom1 Y h1 (le_nO1 g) M9) (aRoom2 Y h2 (le_nO2 g) M9) dX1_parse_59 (fun H Y => ?_)
        generalize kc + 1 = kc at Y ⊢
        generalize ks + 6 = ks at Y ⊢
        refine lv_dup hx hb dX1_parse_62 rfl ?_
        refine r_aload_n hx hb dX1_parse_63 rfl (lv_at hl 1 rfl) ?_
        refine lv_iload_n hx hb dX1_parse_64 rfl (lv_at hl 2 rfl) ?_
        replace hE := e_cb hE
        obtain ⟨st_6, u_7, g, hE⟩ := hE
        have M9 := (mo_v fun _ => (mo_xc oaf_X3_line (fun _ _ => mo_ret) fun _ _ => (mo_if (mo_v fun _ => (mo_s (fun _ => le_pF) fun _ => mo_tw)) mo_none))) _ hE
        refine a_callI (n := 2) (σ1 := st_6) (σf := q.1) [va_rf x1, .int x2] X Y (maf_X3_init hl0 n g) ⟨oaf_X3_init _ g, M9, h1, h2, (by show _ ≤ 89; decide), (by show _ ≤ 2097; decide)⟩ q417 q418 q129 q419 rfl (by decide +kernel) rfl hl.1 (Nat.le_of_ble_eq_true rfl) dX1_parse_65 (fun v hv H locs kc ks Y => ?_) (fun k hk => by cases hk)
        cases hv
        refine lv_astore_n (i := 3) (lv' := [(3, .ref st_4.1), (0, .ref a0), (1, va_rf x1), (2, .int x2)]) hx hb dX1_parse_68 rfl hl (by decide) rfl (fun ls hl => ?_)
        refine lv_aload_n hx hb dX1_parse_69 rfl (lv_at hl 0 rfl) ?_
        replace hE := e_bind hE
        obtain ⟨u_10, g, hE⟩ := hE
        obtain ⟨fs9, g9⟩ := i_gC g
        have g7 := a_recv X Y k_X3.1 g9
        replace hE := e_xc hE
        rcases hE with ⟨st_8, r_9, g, hE⟩ | ⟨st_8, k9, g, hE⟩
        rotate_left
        · skip
          by_cases c_11 : k9 = 0
          · subst c_11
            replace hE := e_t rfl hE
            have M9 := (mo_v fun _ => (mo_s (fun _ => le_pF) fun _ => mo_tw)) _ hE
            refine a_callV (n := 0) (C := "BasicMachine$Parser") (σ1 := st_8) (σf := q.1) [] X Y (maf_X3_line hl0 n g) ⟨oaf_X3_line _ g, M9, h1, h2, (by show _ ≤ 89; decide), (by show _ ≤ 2097; decide)⟩ q461 q462 q463 q129 q464 (by decide +kernel) g7 rfl hl.1 (Nat.le_of_ble_eq_true rfl) dX1_parse_70 (fun v hv => by cases hv) (fun k hk H locs kc ks q9 ce Y e1 e2 e3 => ?_)
            cases hk
            refine a_catch (E := "java/lang/IllegalArgumentException") X [] ⟨69, 73, 74, 65⟩ [] hex (fun _ h => nomatch h) (by decide) (by decide) q320 (by decide) e1 e2 e3 ?_
            show W _ _ _ _ _ _ _ _ _ _ _ _ _ _ _ (F0 m 74 ls [.ref q9])
            refine lv_astore (lv' := [(4, .ref q9), (3, .ref st_4.1), (0, .ref a0), (1, va_rf x1), (2, .int x2)]) hx hb dX1_parse_74 hl (by decide) rfl (fun ls hl => ?_)
            refine lv_aload_n hx hb dX1_parse_76 rfl (lv_at hl 2 rfl) ?_
            refine lv_aload_n hx hb dX1_parse_77 rfl (lv_at hl 1 rfl) ?_
            replace hE := e_bind hE
            obtain ⟨v_12, g, hE⟩ := hE
            refine n_gI X Y k_X3 2 g (by decide) q443 dX1_parse_78 ?_
            replace hE := e_bind hE
            obtain ⟨st_13, g, hE⟩ := hE
            refine a_putV X Y k_X1 2 g (by decide) rfl rfl rfl q192 dX1_parse_81 (fun H locs Y => ?_)
            cases hE
            exact a_throw X Y h1 h2 rfl (by decide +kernel) q320 q127 (at_B_0 hts hK) at_B_0_o (ho_of hex (by decide)) hl.1 (by show _ ≤ 89; decide) (Nat.le_trans (Nat.add_le_add_right (show _ ≤ 8 from (Nat.le_of_ble_eq_true rfl)) 81) (by show _ ≤ 2097; decide)) dX1_parse_84 dX1_parse_87 dX1_parse_88 dX1_parse_91
          replace hE := e_f c_11 hE
          cases hE
        have M9 := mo_ret _ hE
        refine a_callV (n := 0) (C := "BasicMachine$Parser") (σ1 := st_8) (σf := q.1) [] X Y (maf_X3_line hl0 n g) ⟨oaf_X3_line _ g, M9, h1, h2, (by show _ ≤ 89; decide), (by show _ ≤ 2097; decide)⟩ q461 q462 q463 q129 q464 (by decide +kernel) g7 rfl hl.1 (Nat.le_of_ble_eq_true rfl) dX1_parse_70 (fun v hv H locs kc ks Y => ?_) (fun k hk => by cases hk)
        cases hv
        cases hE
        exact a_aret (r := r_9) X Y h1 h2 hr (Or.inl ⟨_, rfl⟩) dX1_parse_73
      · replace hE := e_f c_2 hE
        refine lv_aload_n hx hb dX1_parse_17 rfl (lv_at hl 0 rfl) ?_
        replace hE := e_bind hE
        obtain ⟨r_14, g, hE⟩ := hE
        refine n_gR X Y k_X1 0 g (by decide) q190 dX1_parse_18 ?_
        refine lv_iload_n hx hb dX1_parse_21 rfl (lv_at hl 3 rfl) ?_
        replace hE := e_bind hE
        obtain ⟨a_15, g, hE⟩ := hE
        subst g
        replace hE := e_bind hE
        obtain ⟨v_16, g, hE⟩ := hE
        refine a_cald X Y g dX1_parse_22 ?_
        refine lv_bipush (v := 32) hx hb dX1_parse_23 (by decide) ?_
        refine lv_icmp_ne (tgt := 31) hx hb dX1_parse_25 (by decide) (fun c_17 => ?_) (fun c_17 => ?_)
        · replace hE := e_f c_17 hE
          refine r_aload_n hx hb dX1_parse_31 rfl (lv_at hl 1 rfl) ?_
          refine lv_iload_n hx hb dX1_parse_32 rfl (lv_at hl 2 rfl) ?_
          refine lv_aload_n hx hb dX1_parse_33 rfl (lv_at hl 0 rfl) ?_
          replace hE := e_bind hE
          obtain ⟨r_18, g, hE⟩ := hE
          refine n_gR X Y k_X1 0 g (by decide) q190 dX1_parse_34 ?_
          refine lv_iload_n hx hb dX1_parse_37 rfl (lv_at hl 3 rfl) ?_
          replace hE := e_bind hE
          obtain ⟨a_19, g, hE⟩ := hE
          subst g
          replace hE := e_bind hE
          obtain ⟨v_20, g, hE⟩ := hE
          refine a_cald X Y g dX1_parse_38 ?_
          replace hE := e_bind hE
          obtain ⟨a_21, g, hE⟩ := hE
          subst g
          replace hE := e_bind hE
          obtain ⟨st_22, g, hE⟩ := hE
          refine a_cast X Y g dX1_parse_39 (fun H locs Y => ?_)
          refine lv_iinc (v := (x2 + (1 : Int32))) (lv' := [(2, .int (x2 + (1 : Int32))), (0, .ref a0), (1, .ref a_21), (3, .int x3)]) hx hb dX1_parse_40 hl (k := 2) rfl rfl (by decide) rfl (fun ls hl => ?_)
          exact ih1 hE h1 h2 Y (lv_sub hl [1, 2, 0, 3] rfl)
        · replace hE := e_t c_17 hE
          refine lv_goto (tgt := 43) hx hb dX1_parse_28 (by decide) ?_
          exact ih1 hE h1 h2 Y (lv_sub hl [0, 1, 2, 3] rfl)
    · intro st a0 x1 x2 x3 hE h1 h2 H locs ls kc ks Y hl
      replace hE : af_X1_parse_B43 n x.sK (af_X1_parse_S9 n x.sK k) st a0 x1 x2 x3 = some q := hE
      unfold af_X1_parse_B43 at hE
      refine lv_iinc (v := (x3 + (1 : Int32))) (lv' := [(3, .int (x3 + (1 : Int32))), (0, .ref a0), (1, va_rf x1), (2, .int x2)]) hx hb dX1_parse_43 hl (k := 3) rfl rfl (by decide) rfl (fun ls hl => ?_)
      refine lv_goto (tgt := 9) hx hb dX1_parse_46 (by decide) ?_
      exact ih0 hE h1 h2 Y (lv_sub hl [1, 2, 3, 0] rfl)
set_option maxHeartbeats 4000000 in
set_option maxRecDepth 100000 in
theorem waf_X1_parse_S9 {l : Launch} {x : aP} {As : List Value} {σ0 : aS} {p : Program} {e : Env} {s : State} {m : MethodId} {below : List Frame} {meth : Method} {c : Code} {mc ms : Nat} (X : aX "BasicMachine" p l s m As.toArray meth c cX1_parse 5 x σ0) (hex : c.exceptionTable.toList = tableOf [(69, 73, 74, 65)]) (hr : meth.sig.returnType = (some (.object "BasicMachine$Line"))) (hnm : "parse" = meth.name) {n : Nat} {q : aS × ((Option Nat) ⊕ Nat)} : (∀ {st : aS} {a0 : Nat} {x1 : Option Nat} {x2 : Int32} {x3 : Int32}, af_X1_parse_S9 n x.sK n 0 st a0 x1 x2 x3 = some q → (mc + σ0.1 = q.1.1) → (ms + σ0.2.1 = q.1.2.1) → ∀ {H : Heap} {locs : List Loc} {ls : Array Slot} {kc ks : Nat}, aY x σ0 s st H locs kc ks → lv_has ls 5 [(0, .ref a0), (1, va_rf x1), (2, .int x2), (3, .int x3)] → aG l 89 2097 mc ms x As σ0 (oR q.2) q.1 p e s m below meth c H locs kc ks (F0 m 9 ls [])) ∧ (∀ {st : aS} {a0 : Nat} {x1 : Option Nat} {x2 : Int32} {x3 : Int32}, af_X1_parse_S9 n x.sK n 1 st a0 x1 x2 x3 = some q → (mc + σ0.1 = q.1.1) → (ms + σ0.2.1 = q.1.2.1) → ∀ {H : Heap} {locs : List Loc} {ls : Array Slot} {kc ks : Nat}, aY x σ0 s st H locs kc ks → lv_has ls 5 [(0, .ref a0), (1, va_rf x1), (2, .int x2), (3, .int x3)] → aG l 89 2097 mc ms x As σ0 (oR q.2) q.1 p e s m below meth c H locs kc ks (F0 m 43 ls [])) := waf_X1_parse_S9_ X hex hr hnm n
set_option maxHeartbeats 4000000 in
set_option maxRecDepth 100000 in
theorem maf_X1_parse {l : Launch} (hl0 : l.stackTraces = false) (n : Nat) {x : aP} {st : aS} {a0 : Nat} {q : aS × ((Option Nat) ⊕ Nat)} (hE : af_X1_parse n x.sK st a0 = some q) : aMet l yX1_parse (wsW_ yX1_parse cX1_parse 5 (some (.object "BasicMachine$Line")) [(69, 73, 74, 65)]) 89 2097 x [.ref a0] st (oR q.2) q.1 := by
  refine a_ofWH (own := "BasicMachine") hl0 (by decide) rfl (Nat.le_of_ble_eq_true rfl) (fun mc ms p e s m below meth c ls H locs kc ks h1 h2 X hex Y hr hnm hl => ?_)
  have hnm : "parse" = meth.name := hnm
  have hl : lv_has ls 5 [(0, .ref a0)] := hl
  have hx := X.1
  have hb := X.2.1
  have hown := X.2.2.2.1
  have hts := X.2.2.2.2.1
  have hK := X.2.2.2.2.2.1
  have hl0 := X.2.2.2.2.2.2.2.2
  unfold af_X1_parse at hE
  refine lv_bipush (v := 60) hx hb dX1_parse_0 (by decide) ?_
  replace hE := e_bind hE
  obtain ⟨st_1, g, hE⟩ := hE
  have M9 := ((oaf_X1_parse_S9 ).1) _ hE
  refine a_newa (atype := .char) X Y g (by decide) rfl (fun _ => rfl) (by decide) q288 (aRoom1 Y h1 (le_nA1 g) M9) (aRoom2 Y h2 (le_nA2 g) M9) dX1_parse_2 (fun H Y => ?_)
  generalize kc + 1 = kc at Y ⊢
  generalize ks + Int32.toNatClampNeg (60 : Int32) = ks at Y ⊢
  refine lv_astore_n (i := 1) (lv' := [(1, .ref st.1), (0, .ref a0)]) hx hb dX1_parse_4 rfl hl (by decide) rfl (fun ls hl => ?_)
  refine lv_iconst (v := 0) hx hb dX1_parse_5 (by decide) ?_
  refine lv_istore_n (i := 2) (lv' := [(2, .int (0 : Int32)), (1, .ref st.1), (0, .ref a0)]) hx hb dX1_parse_6 rfl hl (by decide) rfl (fun ls hl => ?_)
  refine lv_iconst (v := 0) hx hb dX1_parse_7 (by decide) ?_
  refine lv_istore_n (i := 3) (lv' := [(3, .int (0 : Int32)), (2, .int (0 : Int32)), (1, .ref st.1), (0, .ref a0)]) hx hb dX1_parse_8 rfl hl (by decide) rfl (fun ls hl => ?_)
  exact (waf_X1_parse_S9 X hex hr hnm).1 hE h1 h2 Y (lv_sub hl [3, 2, 1, 0] rfl)
/-! BasicMachine.lineOrNull(I)LBasicMachine$Line; -/
set_option maxHeartbeats 4000000 in
set_option maxRecDepth 100000 in
theorem waf_X1_lineOrNull_S5_ {l : Launch} {x : aP} {As : List Value} {σ0 : aS} {p : Program} {e : Env} {s : State} {m : MethodId} {below : List Frame} {meth : Method} {c : Code} {mc ms : Nat} (X : aX "BasicMachine" p l s m As.toArray meth c cX1_lineOrNull 3 x σ0) (hex : ∀ z ∈ c.exceptionTable.toList, False) (hr : meth.sig.returnType = (some (.object "BasicMachine$Line"))) (hnm : "lineOrNull" = meth.name) {n : Nat} {q : aS × (Option Nat)} : ∀ k : Nat, (∀ {st : aS} {a0 : Nat} {x1 : Int32} {x2 : Option Nat}, af_X1_lineOrNull_S5 n x.sK k st a0 x1 x2 = some q → (mc + σ0.1 = q.1.1) → (ms + σ0.2.1 = q.1.2.1) → ∀ {H : Heap} {locs : List Loc} {ls : Array Slot} {kc ks : Nat}, aY x σ0 s st H locs kc ks → lv_has ls 3 [(0, .ref a0), (1, .int x1), (2, va_rf x2)] → aG l 0 0 mc ms x As σ0 (.inl (some (va_rf q.2))) q.1 p e s m below meth c H locs kc ks (F0 m 5 ls [])) := by
  have hx := X.1
  have hb := X.2.1
  have hown := X.2.2.2.1
  have hts := X.2.2.2.2.1
  have hK := X.2.2.2.2.2.1
  have hl0 := X.2.2.2.2.2.2.2.2
  intro k
  induction k with
  | zero => exact fun h => nomatch (show none = some q from h)
  | succ k ih =>
    have mrec := @oaf_X1_lineOrNull_S5_ n x.sK k
    intro st a0 x1 x2 hE h1 h2 H locs ls kc ks Y hl
    replace hE : af_X1_lineOrNull_B5 n x.sK (af_X1_lineOrNull_S5 n x.sK k) st a0 x1 x2 = some q := hE
    unfold af_X1_lineOrNull_B5 at hE
    refine r_aload_n hx hb dX1_lineOrNull_5 rfl (lv_at hl 2 rfl) ?_
    refine r_ifnull (tgt := 25) hx hb dX1_lineOrNull_6 (by decide) (fun c_1 => ?_) (fun c_1 => ?_)
    · replace hE := e_t c_1 hE
      refine r_aload_n hx hb dX1_lineOrNull_25 rfl (lv_at hl 2 rfl) ?_
      cases hE
      exact a_aret (r := x2) X Y h1 h2 hr (Or.inl ⟨_, rfl⟩) dX1_lineOrNull_26
    · replace hE := e_f c_1 hE
      refine r_aload_n hx hb dX1_lineOrNull_9 rfl (lv_at hl 2 rfl) ?_
      replace hE := e_bind hE
      obtain ⟨a_2, g, hE⟩ := hE
      subst g
      replace hE := e_bind hE
      obtain ⟨v_3, g, hE⟩ := hE
      refine n_gI X Y k_X4 0 g (by decide) q489 dX1_lineOrNull_10 ?_
      refine lv_iload_n hx hb dX1_lineOrNull_13 rfl (lv_at hl 1 rfl) ?_
      refine lv_icmp_eq (tgt := 25) hx hb dX1_lineOrNull_14 (by decide) (fun c_4 => ?_) (fun c_4 => ?_)
      · replace hE := e_t c_4 hE
        refine lv_aload_n hx hb dX1_lineOrNull_25 rfl (lv_at hl 2 rfl) ?_
        cases hE
        exact a_aret (r := (some a_2)) X Y h1 h2 hr (Or.inl ⟨_, rfl⟩) dX1_lineOrNull_26
      · replace hE := e_f c_4 hE
        refine lv_aload_n hx hb dX1_lineOrNull_17 rfl (lv_at hl 2 rfl) ?_
        replace hE := e_bind hE
        obtain ⟨r_5, g, hE⟩ := hE
        refine n_gR X Y k_X4 2 g (by decide) q492 dX1_lineOrNull_18 ?_
        refine r_astore_n (i := 2) (lv' := [(2, va_rf r_5), (0, .ref a0), (1, .int x1)]) hx hb dX1_lineOrNull_21 rfl hl (by decide) rfl (fun ls hl => ?_)
        refine lv_goto (tgt := 5) hx hb dX1_lineOrNull_22 (by decide) ?_
        exact ih hE h1 h2 Y (lv_sub hl [1, 2, 0] rfl)
set_option maxHeartbeats 4000000 in
set_option maxRecDepth 100000 in
theorem waf_X1_lineOrNull_S5 {l : Launch} {x : aP} {As : List Value} {σ0 : aS} {p : Program} {e : Env} {s : State} {m : MethodId} {below : List Frame} {meth : Method} {c : Code} {mc ms : Nat} (X : aX "BasicMachine" p l s m As.toArray meth c cX1_lineOrNull 3 x σ0) (hex : ∀ z ∈ c.exceptionTable.toList, False) (hr : meth.sig.returnType = (some (.object "BasicMachine$Line"))) (hnm : "lineOrNull" = meth.name) {n : Nat} {q : aS × (Option Nat)} : (∀ {st : aS} {a0 : Nat} {x1 : Int32} {x2 : Option Nat}, af_X1_lineOrNull_S5 n x.sK n st a0 x1 x2 = some q → (mc + σ0.1 = q.1.1) → (ms + σ0.2.1 = q.1.2.1) → ∀ {H : Heap} {locs : List Loc} {ls : Array Slot} {kc ks : Nat}, aY x σ0 s st H locs kc ks → lv_has ls 3 [(0, .ref a0), (1, .int x1), (2, va_rf x2)] → aG l 0 0 mc ms x As σ0 (.inl (some (va_rf q.2))) q.1 p e s m below meth c H locs kc ks (F0 m 5 ls [])) := waf_X1_lineOrNull_S5_ X hex hr hnm n
set_option maxHeartbeats 4000000 in
set_option maxRecDepth 100000 in
theorem maf_X1_lineOrNull {l : Launch} (hl0 : l.stackTraces = false) (n : Nat) {x : aP} {st : aS} {a0 : Nat} {p1 : Int32} {q : aS × (Option Nat)} (hE : af_X1_lineOrNull n x.sK st a0 p1 = some q) : aMet l yX1_lineOrNull (ws_ yX1_lineOrNull cX1_lineOrNull 3 (some (.object "BasicMachine$Line"))) 0 0 x [.ref a0, .int p1] st (.inl (some (va_rf q.2))) q.1 := by
  refine a_ofW (own := "BasicMachine") hl0 (by decide) rfl (Nat.le_of_ble_eq_true rfl) (fun mc ms p e s m below meth c ls H locs kc ks h1 h2 X hex Y hr hnm hl => ?_)
  have hnm : "lineOrNull" = meth.name := hnm
  have hl : lv_has ls 3 [(0, .ref a0), (1, .int p1)] := hl
  have hx := X.1
  have hb := X.2.1
  have hown := X.2.2.2.1
  have hts := X.2.2.2.2.1
  have hK := X.2.2.2.2.2.1
  have hl0 := X.2.2.2.2.2.2.2.2
  unfold af_X1_lineOrNull at hE
  refine lv_aload_n hx hb dX1_lineOrNull_0 rfl (lv_at hl 0 rfl) ?_
  replace hE := e_bind hE
  obtain ⟨r_1, g, hE⟩ := hE
  refine n_gR X Y k_X1 3 g (by decide) q193 dX1_lineOrNull_1 ?_
  refine r_astore_n (i := 2) (lv' := [(2, va_rf r_1), (0, .ref a0), (1, .int p1)]) hx hb dX1_lineOrNull_4 rfl hl (by decide) rfl (fun ls hl => ?_)
  exact (waf_X1_lineOrNull_S5 X hex hr hnm) hE h1 h2 Y (lv_sub hl [1, 2, 0] rfl)
/-! BasicMachine.unlink(LBasicMachine$Line;)V -/
set_option maxHeartbeats 4000000 in
set_option maxRecDepth 100000 in
theorem waf_X1_unlink_S21_ {l : Launch} {x : aP} {As : List Value} {σ0 : aS} {p : Program} {e : Env} {s : State} {m : MethodId} {below : List Frame} {meth : Method} {c : Code} {mc ms : Nat} (X : aX "BasicMachine" p l s m As.toArray meth c cX1_unlink 3 x σ0) (hex : ∀ z ∈ c.exceptionTable.toList, False) (hr : meth.sig.returnType = none) (hnm : "unlink" = meth.name) {n : Nat} {q : aS × Unit} : ∀ k : Nat, (∀ {st : aS} {a0 : Nat} {x1 : Option Nat} {x2 : Option Nat}, af_X1_unlink_S21 n x.sK k 0 st a0 x1 x2 = some q → (mc + σ0.1 = q.1.1) → (ms + σ0.2.1 = q.1.2.1) → ∀ {H : Heap} {locs : List Loc} {ls : Array Slot} {kc ks : Nat}, aY x σ0 s st H locs kc ks → lv_has ls 3 [(0, .ref a0), (1, va_rf x1), (2, va_rf x2)] → aG l 0 0 mc ms x As σ0 (.inl none) q.1 p e s m below meth c H locs kc ks (F0 m 21 ls [])) ∧ (∀ {st : aS} {a0 : Nat} {x1 : Option Nat} {x2 : Option Nat}, af_X1_unlink_S21 n x.sK k 1 st a0 x1 x2 = some q → (mc + σ0.1 = q.1.1) → (ms + σ0.2.1 = q.1.2.1) → ∀ {H : Heap} {locs : List Loc} {ls : Array Slot} {kc ks : Nat}, aY x σ0 s st H locs kc ks → lv_has ls 3 [(0, .ref a0), (1, va_rf x1), (2, va_rf x2)] → aG l 0 0 mc ms x As σ0 (.inl none) q.1 p e s m below meth c H locs kc ks (F0 m 41 ls [])) := by
  have hx := X.1
  have hb := X.2.1
  have hown := X.2.2.2.1
  have hts := X.2.2.2.2.1
  have hK := X.2.2.2.2.2.1
  have hl0 := X.2.2.2.2.2.2.2.2
  intro k
  induction k with
  | zero => exact ⟨(fun h => nomatch (show none = some q from h)), (fun h => nomatch (show none = some q from h))⟩
  | succ k ih =>
    obtain ⟨ih0, ih1⟩ := ih
    have mrec := @oaf_X1_unlink_S21_ n x.sK k
    obtain ⟨mrec0, mrec1⟩ := mrec
    refine ⟨?_, ?_⟩
    · intro st a0 x1 x2 hE h1 h2 H locs ls kc ks Y hl
      replace hE : af_X1_unlink_B21 n x.sK (af_X1_unlink_S21 n x.sK k) st a0 x1 x2 = some q := hE
      unfold af_X1_unlink_B21 at hE
      refine r_aload_n hx hb dX1_unlink_21 rfl (lv_at hl 2 rfl) ?_
      refine r_ifnull (tgt := 49) hx hb dX1_unlink_22 (by decide) (fun c_1 => ?_) (fun c_1 => ?_)
      · replace hE := e_t c_1 hE
        refine lv_aload_n hx hb dX1_unlink_49 rfl (lv_at hl 0 rfl) ?_
        refine lv_dup hx hb dX1_unlink_50 rfl ?_
        replace hE := e_bind hE
        obtain ⟨v_2, g, hE⟩ := hE
        refine n_gI X Y k_X1 4 g (by decide) q194 dX1_unlink_51 ?_
        refine lv_iconst (v := 1) hx hb dX1_unlink_54 (by decide) ?_
        refine lv_isub hx hb dX1_unlink_55 ?_
        replace hE := e_bind hE
        obtain ⟨st_3, g, hE⟩ := hE
        refine a_putV X Y k_X1 4 g (by decide) rfl rfl rfl q194 dX1_unlink_56 (fun H locs Y => ?_)
        cases hE
        exact a_vret X Y h1 h2 hr dX1_unlink_59
      · replace hE := e_f c_1 hE
        refine r_aload_n hx hb dX1_unlink_25 rfl (lv_at hl 2 rfl) ?_
        replace hE := e_bind hE
        obtain ⟨a_4, g, hE⟩ := hE
        subst g
        replace hE := e_bind hE
        obtain ⟨r_5, g, hE⟩ := hE
        refine n_gR X Y k_X4 2 g (by decide) q492 dX1_unlink_26 ?_
        refine r_aload_n hx hb dX1_unlink_29 rfl (lv_at hl 1 rfl) ?_
        refine lv_acmp_ne (rx := r_5) (ry := x1) (tgt := 41) hx hb dX1_unlink_30 (by decide) (fun c_6 => ?_) (fun c_6 => ?_)
        · replace hE := e_f c_6 hE
          exact ih1 hE h1 h2 Y (lv_sub hl [0, 1, 2] rfl)
        · replace hE := e_t c_6 hE
          refine lv_aload_n hx hb dX1_unlink_33 rfl (lv_at hl 2 rfl) ?_
          refine r_aload_n hx hb dX1_unlink_34 rfl (lv_at hl 1 rfl) ?_
          replace hE := e_bind hE
          obtain ⟨a_7, g, hE⟩ := hE
          subst g
          replace hE := e_bind hE
          obtain ⟨r_8, g, hE⟩ := hE
          refine n_gR X Y k_X4 2 g (by decide) q492 dX1_unlink_35 ?_
          replace hE := e_bind hE
          obtain ⟨st_9, g, hE⟩ := hE
          refine a_putV X Y k_X4 2 g (by decide) rfl (nr_o r_8) (fr_o r_8) q492 dX1_unlink_38 (fun H locs Y => ?_)
          exact ih1 hE h1 h2 Y (lv_sub hl [0, 1, 2] rfl)
    · intro st a0 x1 x2 hE h1 h2 H locs ls kc ks Y hl
      replace hE : af_X1_unlink_B41 n x.sK (af_X1_unlink_S21 n x.sK k) st a0 x1 x2 = some q := hE
      unfold af_X1_unlink_B41 at hE
      refine r_aload_n hx hb dX1_unlink_41 rfl (lv_at hl 2 rfl) ?_
      replace hE := e_bind hE
      obtain ⟨a_1, g, hE⟩ := hE
      subst g
      replace hE := e_bind hE
      obtain ⟨r_2, g, hE⟩ := hE
      refine n_gR X Y k_X4 2 g (by decide) q492 dX1_unlink_42 ?_
      refine r_astore_n (i := 2) (lv' := [(2, va_rf r_2), (0, .ref a0), (1, va_rf x1)]) hx hb dX1_unlink_45 rfl hl (by decide) (by cases x1 <;> rfl) (fun ls hl => ?_)
      refine lv_goto (tgt := 21) hx hb dX1_unlink_46 (by decide) ?_
      exact ih0 hE h1 h2 Y (lv_sub hl [1, 2, 0] rfl)
set_option maxHeartbeats 4000000 in
set_option maxRecDepth 100000 in
theorem waf_X1_unlink_S21 {l : Launch} {x : aP} {As : List Value} {σ0 : aS} {p : Program} {e : Env} {s : State} {m : MethodId} {below : List Frame} {meth : Method} {c : Code} {mc ms : Nat} (X : aX "BasicMachine" p l s m As.toArray meth c cX1_unlink 3 x σ0) (hex : ∀ z ∈ c.exceptionTable.toList, False) (hr : meth.sig.returnType = none) (hnm : "unlink" = meth.name) {n : Nat} {q : aS × Unit} : (∀ {st : aS} {a0 : Nat} {x1 : Option Nat} {x2 : Option Nat}, af_X1_unlink_S21 n x.sK n 0 st a0 x1 x2 = some q → (mc + σ0.1 = q.1.1) → (ms + σ0.2.1 = q.1.2.1) → ∀ {H : Heap} {locs : List Loc} {ls : Array Slot} {kc ks : Nat}, aY x σ0 s st H locs kc ks → lv_has ls 3 [(0, .ref a0), (1, va_rf x1), (2, va_rf x2)] → aG l 0 0 mc ms x As σ0 (.inl none) q.1 p e s m below meth c H locs kc ks (F0 m 21 ls [])) ∧ (∀ {st : aS} {a0 : Nat} {x1 : Option Nat} {x2 : Option Nat}, af_X1_unlink_S21 n x.sK n 1 st a0 x1 x2 = some q → (mc + σ0.1 = q.1.1) → (ms + σ0.2.1 = q.1.2.1) → ∀ {H : Heap} {locs : List Loc} {ls : Array Slot} {kc ks : Nat}, aY x σ0 s st H locs kc ks → lv_has ls 3 [(0, .ref a0), (1, va_rf x1), (2, va_rf x2)] → aG l 0 0 mc ms x As σ0 (.inl none) q.1 p e s m below meth c H locs kc ks (F0 m 41 ls [])) := waf_X1_unlink_S21_ X hex hr hnm n
set_option maxHeartbeats 4000000 in
set_option maxRecDepth 100000 in
theorem waf_X1_unlink_L16 {l : Launch} {x : aP} {As : List Value} {σ0 : aS} {p : Program} {e : Env} {s : State} {m : MethodId} {below : List Frame} {meth : Method} {c : Code} {mc ms : Nat} (X : aX "BasicMachine" p l s m As.toArray meth c cX1_unlink 3 x σ0) (hex : ∀ z ∈ c.exceptionTable.toList, False) (hr : meth.sig.returnType = none) (hnm : "unlink" = meth.name) {n : Nat} {st : aS} {a0 : Nat} {x1 : Option Nat} {q : aS × Unit} (hE : af_X1_unlink_L16 n x.sK st a0 x1 = some q) (h1 : mc + σ0.1 = q.1.1) (h2 : ms + σ0.2.1 = q.1.2.1) {H : Heap} {locs : List Loc} {ls : Array Slot} {kc ks : Nat} (Y : aY x σ0 s st H locs kc ks) (hl : lv_has ls 3 [(0, .ref a0), (1, va_rf x1)]) : aG l 0 0 mc ms x As σ0 (.inl none) q.1 p e s m below meth c H locs kc ks (F0 m 16 ls []) := by
  have hx := X.1
  have hb := X.2.1
  have hown := X.2.2.2.1
  have hts := X.2.2.2.2.1
  have hK := X.2.2.2.2.2.1
  have hl0 := X.2.2.2.2.2.2.2.2
  unfold af_X1_unlink_L16 at hE
  refine lv_aload_n hx hb dX1_unlink_16 rfl (lv_at hl 0 rfl) ?_
  replace hE := e_bind hE
  obtain ⟨r_1, g, hE⟩ := hE
  refine n_gR X Y k_X1 3 g (by decide) q193 dX1_unlink_17 ?_
  refine r_astore_n (i := 2) (lv' := [(2, va_rf r_1), (0, .ref a0), (1, va_rf x1)]) hx hb dX1_unlink_20 rfl hl (by decide) (by cases x1 <;> rfl) (fun ls hl => ?_)
  exact (waf_X1_unlink_S21 X hex hr hnm).1 hE h1 h2 Y (lv_sub hl [1, 2, 0] rfl)
set_option maxHeartbeats 4000000 in
set_option maxRecDepth 100000 in
theorem maf_X1_unlink {l : Launch} (hl0 : l.stackTraces = false) (n : Nat) {x : aP} {st : aS} {a0 : Nat} {p1 : Option Nat} {q : aS × Unit} (hE : af_X1_unlink n x.sK st a0 p1 = some q) : aMet l yX1_unlink (ws_ yX1_unlink cX1_unlink 3 none) 0 0 x [.ref a0, va_rf p1] st (.inl none) q.1 := by
  refine a_ofW (own := "BasicMachine") hl0 (by decide) rfl (by simp only [lg_sl, List.flatMap_cons, List.flatMap_nil, va_rf_cat]; exact Nat.le_of_ble_eq_true rfl) (fun mc ms p e s m below meth c ls H locs kc ks h1 h2 X hex Y hr hnm hl => ?_)
  have hnm : "unlink" = meth.name := hnm
  have hl : lv_has ls 3 [(0, .ref a0), (1, va_rf p1)] := by simp only [lv_args, va_rf_cat] at hl; exact hl
  have hx := X.1
  have hb := X.2.1
  have hown := X.2.2.2.1
  have hts := X.2.2.2.2.1
  have hK := X.2.2.2.2.2.1
  have hl0 := X.2.2.2.2.2.2.2.2
  unfold af_X1_unlink at hE
  refine lv_aload_n hx hb dX1_unlink_0 rfl (lv_at hl 0 rfl) ?_
  replace hE := e_bind hE
  obtain ⟨r_1, g, hE⟩ := hE
  refine n_gR X Y k_X1 3 g (by decide) q193 dX1_unlink_1 ?_
  refine r_aload_n hx hb dX1_unlink_4 rfl (lv_at hl 1 rfl) ?_
  refine lv_acmp_ne (rx := r_1) (ry := p1) (tgt := 16) hx hb dX1_unlink_5 (by decide) (fun c_2 => ?_) (fun c_2 => ?_)
  · replace hE := e_f c_2 hE
    exact waf_X1_unlink_L16 X hex hr hnm hE h1 h2 Y (lv_sub hl [0, 1] rfl)
  · replace hE := e_t c_2 hE
    refine lv_aload_n hx hb dX1_unlink_8 rfl (lv_at hl 0 rfl) ?_
    refine r_aload_n hx hb dX1_unlink_9 rfl (lv_at hl 1 rfl) ?_
    replace hE := e_bind hE
    obtain ⟨a_3, g, hE⟩ := hE
    subst g
    replace hE := e_bind hE
    obtain ⟨r_4, g, hE⟩ := hE
    refine n_gR X Y k_X4 2 g (by decide) q492 dX1_unlink_10 ?_
    replace hE := e_bind hE
    obtain ⟨st_5, g, hE⟩ := hE
    refine a_putV X Y k_X1 3 g (by decide) rfl (nr_o r_4) (fr_o r_4) q193 dX1_unlink_13 (fun H locs Y => ?_)
    exact waf_X1_unlink_L16 X hex hr hnm hE h1 h2 Y (lv_sub hl [0, 1] rfl)
/-! BasicMachine.link(LBasicMachine$Line;)V -/
set_option maxHeartbeats 4000000 in
set_option maxRecDepth 100000 in
theorem waf_X1_link_L79 {l : Launch} {x : aP} {As : List Value} {σ0 : aS} {p : Program} {e : Env} {s : State} {m : MethodId} {below : List Frame} {meth : Method} {c : Code} {mc ms : Nat} (X : aX "BasicMachine" p l s m As.toArray meth c cX1_link 3 x σ0) (hex : ∀ z ∈ c.exceptionTable.toList, False) (hr : meth.sig.returnType = none) (hnm : "link" = meth.name) {n : Nat} {st : aS} {a0 : Nat} {x1 : Option Nat} {x2 : Option Nat} {q : aS × Unit} (hE : af_X1_link_L79 n x.sK st a0 x1 x2 = some q) (h1 : mc + σ0.1 = q.1.1) (h2 : ms + σ0.2.1 = q.1.2.1) {H : Heap} {locs : List Loc} {ls : Array Slot} {kc ks : Nat} (Y : aY x σ0 s st H locs kc ks) (hl : lv_has ls 3 [(0, .ref a0), (1, va_rf x1), (2, va_rf x2)]) : aG l 0 0 mc ms x As σ0 (.inl none) q.1 p e s m below meth c H locs kc ks (F0 m 79 ls []) := by
  have hx := X.1
  have hb := X.2.1
  have hown := X.2.2.2.1
  have hts := X.2.2.2.2.1
  have hK := X.2.2.2.2.2.1
  have hl0 := X.2.2.2.2.2.2.2.2
  unfold af_X1_link_L79 at hE
  refine r_aload_n hx hb dX1_link_79 rfl (lv_at hl 1 rfl) ?_
  refine r_aload_n hx hb dX1_link_80 rfl (lv_at hl 2 rfl) ?_
  replace hE := e_bind hE
  obtain ⟨a_1, g, hE⟩ := hE
  subst g
  replace hE := e_bind hE
  obtain ⟨r_2, g, hE⟩ := hE
  refine n_gR X Y k_X4 2 g (by decide) q492 dX1_link_81 ?_
  replace hE := e_bind hE
  obtain ⟨a_3, g, hE⟩ := hE
  subst g
  replace hE := e_bind hE
  obtain ⟨st_4, g, hE⟩ := hE
  refine a_putV X Y k_X4 2 g (by decide) rfl (nr_o r_2) (fr_o r_2) q492 dX1_link_84 (fun H locs Y => ?_)
  refine lv_aload_n hx hb dX1_link_87 rfl (lv_at hl 2 rfl) ?_
  refine lv_aload_n hx hb dX1_link_88 rfl (lv_at hl 1 rfl) ?_
  replace hE := e_bind hE
  obtain ⟨st_5, g, hE⟩ := hE
  refine a_putV X Y k_X4 2 g (by decide) rfl (nr_o (some a_3)) (fr_o (some a_3)) q492 dX1_link_89 (fun H locs Y => ?_)
  cases hE
  exact a_vret X Y h1 h2 hr dX1_link_92
set_option maxHeartbeats 4000000 in
set_option maxRecDepth 100000 in
theorem waf_X1_link_S50_ {l : Launch} {x : aP} {As : List Value} {σ0 : aS} {p : Program} {e : Env} {s : State} {m : MethodId} {below : List Frame} {meth : Method} {c : Code} {mc ms : Nat} (X : aX "BasicMachine" p l s m As.toArray meth c cX1_link 3 x σ0) (hex : ∀ z ∈ c.exceptionTable.toList, False) (hr : meth.sig.returnType = none) (hnm : "link" = meth.name) {n : Nat} {q : aS × Unit} : ∀ k : Nat, (∀ {st : aS} {a0 : Nat} {x1 : Option Nat} {x2 : Option Nat}, af_X1_link_S50 n x.sK k st a0 x1 x2 = some q → (mc + σ0.1 = q.1.1) → (ms + σ0.2.1 = q.1.2.1) → ∀ {H : Heap} {locs : List Loc} {ls : Array Slot} {kc ks : Nat}, aY x σ0 s st H locs kc ks → lv_has ls 3 [(0, .ref a0), (1, va_rf x1), (2, va_rf x2)] → aG l 0 0 mc ms x As σ0 (.inl none) q.1 p e s m below meth c H locs kc ks (F0 m 50 ls [])) := by
  have hx := X.1
  have hb := X.2.1
  have hown := X.2.2.2.1
  have hts := X.2.2.2.2.1
  have hK := X.2.2.2.2.2.1
  have hl0 := X.2.2.2.2.2.2.2.2
  intro k
  induction k with
  | zero => exact fun h => nomatch (show none = some q from h)
  | succ k ih =>
    have mrec := @oaf_X1_link_S50_ n x.sK k
    intro st a0 x1 x2 hE h1 h2 H locs ls kc ks Y hl
    replace hE : af_X1_link_B50 n x.sK (af_X1_link_S50 n x.sK k) st a0 x1 x2 = some q := hE
    unfold af_X1_link_B50 at hE
    refine r_aload_n hx hb dX1_link_50 rfl (lv_at hl 2 rfl) ?_
    replace hE := e_bind hE
    obtain ⟨a_1, g, hE⟩ := hE
    subst g
    replace hE := e_bind hE
    obtain ⟨r_2, g, hE⟩ := hE
    refine n_gR X Y k_X4 2 g (by decide) q492 dX1_link_51 ?_
    refine r_ifnull (tgt := 79) hx hb dX1_link_54 (by decide) (fun c_3 => ?_) (fun c_3 => ?_)
    · replace hE := e_t c_3 hE
      exact waf_X1_link_L79 X hex hr hnm hE h1 h2 Y (lv_sub hl [0, 1, 2] rfl)
    · replace hE := e_f c_3 hE
      refine lv_aload_n hx hb dX1_link_57 rfl (lv_at hl 2 rfl) ?_
      replace hE := e_bind hE
      obtain ⟨r_4, g, hE⟩ := hE
      refine n_gR X Y k_X4 2 g (by decide) q492 dX1_link_58 ?_
      replace hE := e_bind hE
      obtain ⟨a_5, g, hE⟩ := hE
      subst g
      replace hE := e_bind hE
      obtain ⟨v_6, g, hE⟩ := hE
      refine n_gI X Y k_X4 0 g (by decide) q489 dX1_link_61 ?_
      refine r_aload_n hx hb dX1_link_64 rfl (lv_at hl 1 rfl) ?_
      replace hE := e_bind hE
      obtain ⟨a_7, g, hE⟩ := hE
      subst g
      replace hE := e_bind hE
      obtain ⟨v_8, g, hE⟩ := hE
      refine n_gI X Y k_X4 0 g (by decide) q489 dX1_link_65 ?_
      refine lv_icmp_ge (tgt := 79) hx hb dX1_link_68 (by decide) (fun c_9 => ?_) (fun c_9 => ?_)
      · replace hE := e_t c_9 hE
        exact waf_X1_link_L79 X hex hr hnm hE h1 h2 Y (lv_sub hl [0, 1, 2] rfl)
      · replace hE := e_f c_9 hE
        refine lv_aload_n hx hb dX1_link_71 rfl (lv_at hl 2 rfl) ?_
        replace hE := e_bind hE
        obtain ⟨r_10, g, hE⟩ := hE
        refine n_gR X Y k_X4 2 g (by decide) q492 dX1_link_72 ?_
        refine r_astore_n (i := 2) (lv' := [(2, va_rf r_10), (0, .ref a0), (1, .ref a_7)]) hx hb dX1_link_75 rfl hl (by decide) rfl (fun ls hl => ?_)
        refine lv_goto (tgt := 50) hx hb dX1_link_76 (by decide) ?_
        exact ih hE h1 h2 Y (lv_sub hl [1, 2, 0] rfl)
set_option maxHeartbeats 4000000 in
set_option maxRecDepth 100000 in
theorem waf_X1_link_S50 {l : Launch} {x : aP} {As : List Value} {σ0 : aS} {p : Program} {e : Env} {s : State} {m : MethodId} {below : List Frame} {meth : Method} {c : Code} {mc ms : Nat} (X : aX "BasicMachine" p l s m As.toArray meth c cX1_link 3 x σ0) (hex : ∀ z ∈ c.exceptionTable.toList, False) (hr : meth.sig.returnType = none) (hnm : "link" = meth.name) {n : Nat} {q : aS × Unit} : (∀ {st : aS} {a0 : Nat} {x1 : Option Nat} {x2 : Option Nat}, af_X1_link_S50 n x.sK n st a0 x1 x2 = some q → (mc + σ0.1 = q.1.1) → (ms + σ0.2.1 = q.1.2.1) → ∀ {H : Heap} {locs : List Loc} {ls : Array Slot} {kc ks : Nat}, aY x σ0 s st H locs kc ks → lv_has ls 3 [(0, .ref a0), (1, va_rf x1), (2, va_rf x2)] → aG l 0 0 mc ms x As σ0 (.inl none) q.1 p e s m below meth c H locs kc ks (F0 m 50 ls [])) := waf_X1_link_S50_ X hex hr hnm n
set_option maxHeartbeats 4000000 in
set_option maxRecDepth 100000 in
theorem waf_X1_link_L31 {l : Launch} {x : aP} {As : List Value} {σ0 : aS} {p : Program} {e : Env} {s : State} {m : MethodId} {below : List Frame} {meth : Method} {c : Code} {mc ms : Nat} (X : aX "BasicMachine" p l s m As.toArray meth c cX1_link 3 x σ0) (hex : ∀ z ∈ c.exceptionTable.toList, False) (hr : meth.sig.returnType = none) (hnm : "link" = meth.name) {n : Nat} {st : aS} {a0 : Nat} {x1 : Option Nat} {q : aS × Unit} (hE : af_X1_link_L31 n x.sK st a0 x1 = some q) (h1 : mc + σ0.1 = q.1.1) (h2 : ms + σ0.2.1 = q.1.2.1) {H : Heap} {locs : List Loc} {ls : Array Slot} {kc ks : Nat} (Y : aY x σ0 s st H locs kc ks) (hl : lv_has ls 3 [(0, .ref a0), (1, va_rf x1)]) : aG l 0 0 mc ms x As σ0 (.inl none) q.1 p e s m below meth c H locs kc ks (F0 m 31 ls []) := by
  have hx := X.1
  have hb := X.2.1
  have hown := X.2.2.2.1
  have hts := X.2.2.2.2.1
  have hK := X.2.2.2.2.2.1
  have hl0 := X.2.2.2.2.2.2.2.2
  unfold af_X1_link_L31 at hE
  refine r_aload_n hx hb dX1_link_31 rfl (lv_at hl 1 rfl) ?_
  refine lv_aload_n hx hb dX1_link_32 rfl (lv_at hl 0 rfl) ?_
  replace hE := e_bind hE
  obtain ⟨r_1, g, hE⟩ := hE
  refine n_gR X Y k_X1 3 g (by decide) q193 dX1_link_33 ?_
  replace hE := e_bind hE
  obtain ⟨a_2, g, hE⟩ := hE
  subst g
  replace hE := e_bind hE
  obtain ⟨st_3, g, hE⟩ := hE
  refine a_putV X Y k_X4 2 g (by decide) rfl (nr_o r_1) (fr_o r_1) q492 dX1_link_36 (fun H locs Y => ?_)
  refine lv_aload_n hx hb dX1_link_39 rfl (lv_at hl 0 rfl) ?_
  refine lv_aload_n hx hb dX1_link_40 rfl (lv_at hl 1 rfl) ?_
  replace hE := e_bind hE
  obtain ⟨st_4, g, hE⟩ := hE
  refine a_putV X Y k_X1 3 g (by decide) rfl (nr_o (some a_2)) (fr_o (some a_2)) q193 dX1_link_41 (fun H locs Y => ?_)
  cases hE
  exact a_vret X Y h1 h2 hr dX1_link_44
set_option maxHeartbeats 4000000 in
set_option maxRecDepth 100000 in
theorem maf_X1_link {l : Launch} (hl0 : l.stackTraces = false) (n : Nat) {x : aP} {st : aS} {a0 : Nat} {p1 : Option Nat} {q : aS × Unit} (hE : af_X1_link n x.sK st a0 p1 = some q) : aMet l yX1_link (ws_ yX1_link cX1_link 3 none) 0 0 x [.ref a0, va_rf p1] st (.inl none) q.1 := by
  refine a_ofW (own := "BasicMachine") hl0 (by decide) rfl (by simp only [lg_sl, List.flatMap_cons, List.flatMap_nil, va_rf_cat]; exact Nat.le_of_ble_eq_true rfl) (fun mc ms p e s m below meth c ls H locs kc ks h1 h2 X hex Y hr hnm hl => ?_)
  have hnm : "link" = meth.name := hnm
  have hl : lv_has ls 3 [(0, .ref a0), (1, va_rf p1)] := by simp only [lv_args, va_rf_cat] at hl; exact hl
  have hx := X.1
  have hb := X.2.1
  have hown := X.2.2.2.1
  have hts := X.2.2.2.2.1
  have hK := X.2.2.2.2.2.1
  have hl0 := X.2.2.2.2.2.2.2.2
  unfold af_X1_link at hE
  refine lv_aload_n hx hb dX1_link_0 rfl (lv_at hl 0 rfl) ?_
  refine lv_dup hx hb dX1_link_1 rfl ?_
  replace hE := e_bind hE
  obtain ⟨v_1, g, hE⟩ := hE
  refine n_gI X Y k_X1 4 g (by decide) q194 dX1_link_2 ?_
  refine lv_iconst (v := 1) hx hb dX1_link_5 (by decide) ?_
  refine lv_iadd hx hb dX1_link_6 ?_
  replace hE := e_bind hE
  obtain ⟨st_2, g, hE⟩ := hE
  refine a_putV X Y k_X1 4 g (by decide) rfl rfl rfl q194 dX1_link_7 (fun H locs Y => ?_)
  refine lv_aload_n hx hb dX1_link_10 rfl (lv_at hl 0 rfl) ?_
  replace hE := e_bind hE
  obtain ⟨r_3, g, hE⟩ := hE
  refine n_gR X Y k_X1 3 g (by decide) q193 dX1_link_11 ?_
  refine r_ifnull (tgt := 31) hx hb dX1_link_14 (by decide) (fun c_4 => ?_) (fun c_4 => ?_)
  · replace hE := e_t c_4 hE
    exact waf_X1_link_L31 X hex hr hnm hE h1 h2 Y (lv_sub hl [0, 1] rfl)
  · replace hE := e_f c_4 hE
    refine lv_aload_n hx hb dX1_link_17 rfl (lv_at hl 0 rfl) ?_
    replace hE := e_bind hE
    obtain ⟨r_5, g, hE⟩ := hE
    refine n_gR X Y k_X1 3 g (by decide) q193 dX1_link_18 ?_
    replace hE := e_bind hE
    obtain ⟨a_6, g, hE⟩ := hE
    subst g
    replace hE := e_bind hE
    obtain ⟨v_7, g, hE⟩ := hE
    refine n_gI X Y k_X4 0 g (by decide) q489 dX1_link_21 ?_
    refine r_aload_n hx hb dX1_link_24 rfl (lv_at hl 1 rfl) ?_
    replace hE := e_bind hE
    obtain ⟨a_8, g, hE⟩ := hE
    subst g
    replace hE := e_bind hE
    obtain ⟨v_9, g, hE⟩ := hE
    refine n_gI X Y k_X4 0 g (by decide) q489 dX1_link_25 ?_
    refine lv_icmp_le (tgt := 45) hx hb dX1_link_28 (by decide) (fun c_10 => ?_) (fun c_10 => ?_)
    · replace hE := e_t c_10 hE
      refine lv_aload_n hx hb dX1_link_45 rfl (lv_at hl 0 rfl) ?_
      replace hE := e_bind hE
      obtain ⟨r_11, g, hE⟩ := hE
      refine n_gR X Y k_X1 3 g (by decide) q193 dX1_link_46 ?_
      refine r_astore_n (i := 2) (lv' := [(2, va_rf r_11), (0, .ref a0), (1, .ref a_8)]) hx hb dX1_link_49 rfl hl (by decide) rfl (fun ls hl => ?_)
      exact (waf_X1_link_S50 X hex hr hnm) hE h1 h2 Y (lv_sub hl [1, 2, 0] rfl)
    · replace hE := e_f c_10 hE
      exact waf_X1_link_L31 X hex hr hnm hE h1 h2 Y (lv_sub hl [0, 1] rfl)
/-! BasicMachine.enter()I -/
set_option maxHeartbeats 4000000 in
set_option maxRecDepth 100000 in
theorem waf_X1_enter_L63 {l : Launch} {x : aP} {As : List Value} {σ0 : aS} {p : Program} {e : Env} {s : State} {m : MethodId} {below : List Frame} {meth : Method} {c : Code} {mc ms : Nat} (X : aX "BasicMachine" p l s m As.toArray meth c cX1_enter 3 x σ0) (hex : ∀ z ∈ c.exceptionTable.toList, False) (hr : meth.sig.returnType = (some .int)) (hnm : "enter" = meth.name) {n : Nat} {st : aS} {a0 : Nat} {x1 : Option Nat} {q : aS × ((Int32) ⊕ Nat)} (hE : af_X1_enter_L63 n x.sK st a0 x1 = some q) (h1 : mc + σ0.1 = q.1.1) (h2 : ms + σ0.2.1 = q.1.2.1) {H : Heap} {locs : List Loc} {ls : Array Slot} {kc ks : Nat} (Y : aY x σ0 s st H locs kc ks) (hl : lv_has ls 3 [(0, .ref a0), (1, va_rf x1)]) : aG l 90 2121 mc ms x As σ0 (oI q.2) q.1 p e s m below meth c H locs kc ks (F0 m 63 ls []) := by
  have hx := X.1
  have hb := X.2.1
  have hown := X.2.2.2.1
  have hts := X.2.2.2.2.1
  have hK := X.2.2.2.2.2.1
  have hl0 := X.2.2.2.2.2.2.2.2
  unfold af_X1_enter_L63 at hE
  refine r_aload_n hx hb dX1_enter_63 rfl (lv_at hl 1 rfl) ?_
  replace hE := e_bind hE
  obtain ⟨a_1, g, hE⟩ := hE
  subst g
  replace hE := e_bind hE
  obtain ⟨r_2, g, hE⟩ := hE
  refine n_gR X Y k_X4 1 g (by decide) q491 dX1_enter_64 ?_
  refine r_ifnull (tgt := 75) hx hb dX1_enter_67 (by decide) (fun c_3 => ?_) (fun c_3 => ?_)
  · replace hE := e_t c_3 hE
    refine lv_aload_n hx hb dX1_enter_75 rfl (lv_at hl 0 rfl) ?_
    replace hE := e_bind hE
    obtain ⟨v_4, g, hE⟩ := hE
    refine n_gI X Y k_X1 4 g (by decide) q194 dX1_enter_76 ?_
    cases hE
    exact a_iret X Y h1 h2 hr dX1_enter_79
  · replace hE := e_f c_3 hE
    refine lv_aload_n hx hb dX1_enter_70 rfl (lv_at hl 0 rfl) ?_
    refine lv_aload_n hx hb dX1_enter_71 rfl (lv_at hl 1 rfl) ?_
    replace hE := e_bind hE
    obtain ⟨u_7, g, hE⟩ := hE
    obtain ⟨fs9, g9⟩ := i_gC g
    have g7 := a_recv X Y k_X1.1 g9
    replace hE := e_cb hE
    obtain ⟨st_5, u_6, g, hE⟩ := hE
    have M9 := (mo_v fun _ => mo_ret) _ hE
    refine a_callV (n := 1) (C := "BasicMachine") (σ1 := st_5) (σf := q.1) [.ref a_1] X Y (maf_X1_link hl0 n g) ⟨oaf_X1_link _ g, M9, h1, h2, (by show _ ≤ 90; decide), (by show _ ≤ 2121; decide)⟩ q1297 q1299 qs36 q122 q1300 (by decide +kernel) g7 rfl hl.1 (Nat.le_of_ble_eq_true rfl) dX1_enter_72 (fun v hv H locs kc ks Y => ?_) (fun k hk => by cases hk)
    cases hv
    refine lv_aload_n hx hb dX1_enter_75 rfl (lv_at hl 0 rfl) ?_
    replace hE := e_bind hE
    obtain ⟨v_8, g, hE⟩ := hE
    refine n_gI X Y k_X1 4 g (by decide) q194 dX1_enter_76 ?_
    cases hE
    exact a_iret X Y h1 h2 hr dX1_enter_79
set_option maxHeartbeats 4000000 in
set_option maxRecDepth 100000 in
theorem waf_X1_enter_L54 {l : Launch} {x : aP} {As : List Value} {σ0 : aS} {p : Program} {e : Env} {s : State} {m : MethodId} {below : List Frame} {meth : Method} {c : Code} {mc ms : Nat} (X : aX "BasicMachine" p l s m As.toArray meth c cX1_enter 3 x σ0) (hex : ∀ z ∈ c.exceptionTable.toList, False) (hr : meth.sig.returnType = (some .int)) (hnm : "enter" = meth.name) {n : Nat} {st : aS} {a0 : Nat} {x1 : Option Nat} {x2 : Option Nat} {q : aS × ((Int32) ⊕ Nat)} (hE : af_X1_enter_L54 n x.sK st a0 x1 x2 = some q) (h1 : mc + σ0.1 = q.1.1) (h2 : ms + σ0.2.1 = q.1.2.1) {H : Heap} {locs : List Loc} {ls : Array Slot} {kc ks : Nat} (Y : aY x σ0 s st H locs kc ks) (hl : lv_has ls 3 [(0, .ref a0), (1, va_rf x1), (2, va_rf x2)]) : aG l 90 2121 mc ms x As σ0 (oI q.2) q.1 p e s m below meth c H locs kc ks (F0 m 54 ls []) := by
  have hx := X.1
  have hb := X.2.1
  have hown := X.2.2.2.1
  have hts := X.2.2.2.2.1
  have hK := X.2.2.2.2.2.1
  have hl0 := X.2.2.2.2.2.2.2.2
  unfold af_X1_enter_L54 at hE
  refine r_aload_n hx hb dX1_enter_54 rfl (lv_at hl 2 rfl) ?_
  refine r_ifnull (tgt := 63) hx hb dX1_enter_55 (by decide) (fun c_1 => ?_) (fun c_1 => ?_)
  · replace hE := e_t c_1 hE
    exact waf_X1_enter_L63 X hex hr hnm hE h1 h2 Y (lv_sub hl [0, 1] rfl)
  · replace hE := e_f c_1 hE
    refine lv_aload_n hx hb dX1_enter_58 rfl (lv_at hl 0 rfl) ?_
    refine r_aload_n hx hb dX1_enter_59 rfl (lv_at hl 2 rfl) ?_
    replace hE := e_bind hE
    obtain ⟨u_4, g, hE⟩ := hE
    obtain ⟨fs9, g9⟩ := i_gC g
    have g7 := a_recv X Y k_X1.1 g9
    replace hE := e_cb hE
    obtain ⟨st_2, u_3, g, hE⟩ := hE
    have M9 := (oaf_X1_enter_L63 ) _ hE
    refine a_callV (n := 1) (C := "BasicMachine") (σ1 := st_2) (σf := q.1) [va_rf x2] X Y (maf_X1_unlink hl0 n g) ⟨oaf_X1_unlink _ g, M9, h1, h2, (by show _ ≤ 90; decide), (by show _ ≤ 2121; decide)⟩ q1293 q1295 qs35 q122 q1296 (by decide +kernel) g7 rfl hl.1 (Nat.le_of_ble_eq_true rfl) dX1_enter_60 (fun v hv H locs kc ks Y => ?_) (fun k hk => by cases hk)
    cases hv
    exact waf_X1_enter_L63 X hex hr hnm hE h1 h2 Y (lv_sub hl [0, 1] rfl)
set_option maxHeartbeats 4000000 in
set_option maxRecDepth 100000 in
theorem waf_X1_enter_L33 {l : Launch} {x : aP} {As : List Value} {σ0 : aS} {p : Program} {e : Env} {s : State} {m : MethodId} {below : List Frame} {meth : Method} {c : Code} {mc ms : Nat} (X : aX "BasicMachine" p l s m As.toArray meth c cX1_enter 3 x σ0) (hex : ∀ z ∈ c.exceptionTable.toList, False) (hr : meth.sig.returnType = (some .int)) (hnm : "enter" = meth.name) {n : Nat} {st : aS} {a0 : Nat} {x1 : Option Nat} {x2 : Option Nat} {q : aS × ((Int32) ⊕ Nat)} (hE : af_X1_enter_L33 n x.sK st a0 x1 x2 = some q) (h1 : mc + σ0.1 = q.1.1) (h2 : ms + σ0.2.1 = q.1.2.1) {H : Heap} {locs : List Loc} {ls : Array Slot} {kc ks : Nat} (Y : aY x σ0 s st H locs kc ks) (hl : lv_has ls 3 [(0, .ref a0), (1, va_rf x1), (2, va_rf x2)]) : aG l 90 2121 mc ms x As σ0 (oI q.2) q.1 p e s m below meth c H locs kc ks (F0 m 33 ls []) := by
  have hx := X.1
  have hb := X.2.1
  have hown := X.2.2.2.1
  have hts := X.2.2.2.2.1
  have hK := X.2.2.2.2.2.1
  have hl0 := X.2.2.2.2.2.2.2.2
  unfold af_X1_enter_L33 at hE
  refine r_aload_n hx hb dX1_enter_33 rfl (lv_at hl 2 rfl) ?_
  refine r_ifnonnull (tgt := 54) hx hb dX1_enter_34 (by decide) (fun c_1 => ?_) (fun c_1 => ?_)
  · replace hE := e_f c_1 hE
    exact waf_X1_enter_L54 X hex hr hnm hE h1 h2 Y (lv_sub hl [0, 1, 2] rfl)
  · replace hE := e_t c_1 hE
    refine lv_aload_n hx hb dX1_enter_37 rfl (lv_at hl 0 rfl) ?_
    replace hE := e_bind hE
    obtain ⟨v_2, g, hE⟩ := hE
    refine n_gI X Y k_X1 4 g (by decide) q194 dX1_enter_38 ?_
    refine lv_bipush (v := 24) hx hb dX1_enter_41 (by decide) ?_
    refine lv_icmp_ne (tgt := 54) hx hb dX1_enter_43 (by decide) (fun c_3 => ?_) (fun c_3 => ?_)
    · replace hE := e_f c_3 hE
      exact waf_X1_enter_L54 X hex hr hnm hE h1 h2 Y (lv_sub hl [0, 1, 2] rfl)
    · replace hE := e_t c_3 hE
      cases hE
      exact a_throw X Y h1 h2 rfl (by decide +kernel) q388 q128 (at_B_1 hts hK) at_B_1_o (fun z hz => (hex z hz).elim) hl.1 (by show _ ≤ 90; decide) (Nat.le_trans (Nat.add_le_add_right (show _ ≤ 8 from (Nat.le_of_ble_eq_true rfl)) 81) (by show _ ≤ 2121; decide)) dX1_enter_46 dX1_enter_49 dX1_enter_50 dX1_enter_53
set_option maxHeartbeats 4000000 in
set_option maxRecDepth 100000 in
theorem maf_X1_enter {l : Launch} (hl0 : l.stackTraces = false) (n : Nat) {x : aP} {st : aS} {a0 : Nat} {q : aS × ((Int32) ⊕ Nat)} (hE : af_X1_enter n x.sK st a0 = some q) : aMet l yX1_enter (ws_ yX1_enter cX1_enter 3 (some .int)) 90 2121 x [.ref a0] st (oI q.2) q.1 := by
  refine a_ofW (own := "BasicMachine") hl0 (by decide) rfl (Nat.le_of_ble_eq_true rfl) (fun mc ms p e s m below meth c ls H locs kc ks h1 h2 X hex Y hr hnm hl => ?_)
  have hnm : "enter" = meth.name := hnm
  have hl : lv_has ls 3 [(0, .ref a0)] := hl
  have hx := X.1
  have hb := X.2.1
  have hown := X.2.2.2.1
  have hts := X.2.2.2.2.1
  have hK := X.2.2.2.2.2.1
  have hl0 := X.2.2.2.2.2.2.2.2
  unfold af_X1_enter at hE
  refine lv_aload_n hx hb dX1_enter_0 rfl (lv_at hl 0 rfl) ?_
  replace hE := e_bind hE
  obtain ⟨u_3, g, hE⟩ := hE
  obtain ⟨fs9, g9⟩ := i_gC g
  have g7 := a_recv X Y k_X1.1 g9
  replace hE := e_xb hE
  rcases hE with ⟨st_1, r_2, g, hE⟩ | ⟨st_1, k9, g, hE⟩
  rotate_left
  · subst hE
    refine a_callVX (n := 0) (C := "BasicMachine") (σ1 := st_1) (σf := st_1) [] X Y (maf_X1_parse hl0 n g) ⟨oaf_X1_parse _ g, aLe.rf _, h1, h2, (by show _ ≤ 90; decide), (by show _ ≤ 2121; decide)⟩ q411 q413 qs2 q122 q414 (by decide +kernel) g7 rfl hl.1 (Nat.le_of_ble_eq_true rfl) dX1_enter_1 (fun v hv => by cases hv) (fun k hk H locs kc ks q9 ce Y e1 e2 e3 => ?_)
    cases hk
    exact a_out X Y h1 h2 (fun z hz => (hex z hz).elim) e1 e2 e3
  have M9 := (mo_v fun _ => (mo_v fun _ => (mo_v fun _ => (mo_cb oaf_X1_lineOrNull fun _ _ => (mo_v fun _ => (mo_if (mo_if mo_tw (oaf_X1_enter_L33 )) (oaf_X1_enter_L33 ))))))) _ hE
  refine a_callVX (n := 0) (C := "BasicMachine") (σ1 := st_1) (σf := q.1) [] X Y (maf_X1_parse hl0 n g) ⟨oaf_X1_parse _ g, M9, h1, h2, (by show _ ≤ 90; decide), (by show _ ≤ 2121; decide)⟩ q411 q413 qs2 q122 q414 (by decide +kernel) g7 rfl hl.1 (Nat.le_of_ble_eq_true rfl) dX1_enter_1 (fun v hv H locs kc ks Y => ?_) (fun k hk => by cases hk)
  cases hv
  refine r_astore_n (i := 1) (lv' := [(1, va_rf r_2), (0, .ref a0)]) hx hb dX1_enter_4 rfl hl (by decide) rfl (fun ls hl => ?_)
  refine lv_aload_n hx hb dX1_enter_5 rfl (lv_at hl 1 rfl) ?_
  refine r_aload_n hx hb dX1_enter_6 rfl (lv_at hl 0 rfl) ?_
  replace hE := e_bind hE
  obtain ⟨a_4, g, hE⟩ := hE
  subst g
  replace hE := e_bind hE
  obtain ⟨v_5, g, hE⟩ := hE
  refine n_gI X Y k_X4 0 g (by decide) q489 dX1_enter_7 ?_
  replace hE := e_bind hE
  obtain ⟨u_8, g, hE⟩ := hE
  obtain ⟨fs9, g9⟩ := i_gC g
  have g7 := a_recv X Y k_X1.1 g9
  replace hE := e_cb hE
  obtain ⟨st_6, r_7, g, hE⟩ := hE
  have M9 := (mo_v fun _ => (mo_if (mo_if mo_tw (oaf_X1_enter_L33 )) (oaf_X1_enter_L33 ))) _ hE
  refine a_callV (n := 1) (C := "BasicMachine") (σ1 := st_6) (σf := q.1) [.int v_5] X Y (maf_X1_lineOrNull hl0 n g) ⟨oaf_X1_lineOrNull _ g, M9, h1, h2, (by show _ ≤ 90; decide), (by show _ ≤ 2121; decide)⟩ q1274 q1276 qs34 q122 q1277 (by decide +kernel) g7 rfl hl.1 (Nat.le_of_ble_eq_true rfl) dX1_enter_10 (fun v hv H locs kc ks Y => ?_) (fun k hk => by cases hk)
  cases hv
  refine r_astore_n (i := 2) (lv' := [(2, va_rf r_7), (1, .ref a_4), (0, .ref a0)]) hx hb dX1_enter_13 rfl hl (by decide) rfl (fun ls hl => ?_)
  refine lv_aload_n hx hb dX1_enter_14 rfl (lv_at hl 1 rfl) ?_
  replace hE := e_bind hE
  obtain ⟨r_9, g, hE⟩ := hE
  refine n_gR X Y k_X4 1 g (by decide) q491 dX1_enter_15 ?_
  refine r_ifnonnull (tgt := 33) hx hb dX1_enter_18 (by decide) (fun c_10 => ?_) (fun c_10 => ?_)
  · replace hE := e_f c_10 hE
    exact waf_X1_enter_L33 X hex hr hnm hE h1 h2 Y (lv_sub hl [2, 1, 0] rfl)
  · replace hE := e_t c_10 hE
    refine r_aload_n hx hb dX1_enter_21 rfl (lv_at hl 0 rfl) ?_
    refine r_ifnonnull (tgt := 33) hx hb dX1_enter_22 (by decide) (fun c_11 => ?_) (fun c_11 => ?_)
    · replace hE := e_f c_11 hE
      exact waf_X1_enter_L33 X hex hr hnm hE h1 h2 Y (lv_sub hl [2, 1, 0] rfl)
    · replace hE := e_t c_11 hE
      cases hE
      exact a_throw X Y h1 h2 rfl (by decide +kernel) q1278 q167 (at_B_2 hts hK) at_B_2_o (fun z hz => (hex z hz).elim) hl.1 (by show _ ≤ 90; decide) (Nat.le_trans (Nat.add_le_add_right (show _ ≤ 8 from (Nat.le_of_ble_eq_true rfl)) 81) (by show _ ≤ 2121; decide)) dX1_enter_25 dX1_enter_28 dX1_enter_29 dX1_enter_32
/-! BasicMachine.errorAt()I -/
set_option maxHeartbeats 4000000 in
set_option maxRecDepth 100000 in
theorem maf_X1_errorAt {l : Launch} (hl0 : l.stackTraces = false) (n : Nat) {x : aP} {st : aS} {a0 : Nat} {q : aS × (Int32)} (hE : af_X1_errorAt n x.sK st a0 = some q) : aMet l yX1_errorAt (ws_ yX1_errorAt cX1_errorAt 1 (some .int)) 0 0 x [.ref a0] st (.inl (some (.int q.2))) q.1 := by
  refine a_ofW (own := "BasicMachine") hl0 (by decide) rfl (Nat.le_of_ble_eq_true rfl) (fun mc ms p e s m below meth c ls H locs kc ks h1 h2 X hex Y hr hnm hl => ?_)
  have hnm : "errorAt" = meth.name := hnm
  have hl : lv_has ls 1 [(0, .ref a0)] := hl
  have hx := X.1
  have hb := X.2.1
  have hown := X.2.2.2.1
  have hts := X.2.2.2.2.1
  have hK := X.2.2.2.2.2.1
  have hl0 := X.2.2.2.2.2.2.2.2
  unfold af_X1_errorAt at hE
  refine lv_aload_n hx hb dX1_errorAt_0 rfl (lv_at hl 0 rfl) ?_
  replace hE := e_bind hE
  obtain ⟨v_1, g, hE⟩ := hE
  refine n_gI X Y k_X1 2 g (by decide) q192 dX1_errorAt_1 ?_
  cases hE
  exact a_iret X Y h1 h2 hr dX1_errorAt_4
/-! BasicMachine.wipe()I -/
set_option maxHeartbeats 4000000 in
set_option maxRecDepth 100000 in
theorem maf_X1_wipe {l : Launch} (hl0 : l.stackTraces = false) (n : Nat) {x : aP} {st : aS} {a0 : Nat} {q : aS × (Int32)} (hE : af_X1_wipe n x.sK st a0 = some q) : aMet l yX1_wipe (ws_ yX1_wipe cX1_wipe 2 (some .int)) 0 0 x [.ref a0] st (.inl (some (.int q.2))) q.1 := by
  refine a_ofW (own := "BasicMachine") hl0 (by decide) rfl (Nat.le_of_ble_eq_true rfl) (fun mc ms p e s m below meth c ls H locs kc ks h1 h2 X hex Y hr hnm hl => ?_)
  have hnm : "wipe" = meth.name := hnm
  have hl : lv_has ls 2 [(0, .ref a0)] := hl
  have hx := X.1
  have hb := X.2.1
  have hown := X.2.2.2.1
  have hts := X.2.2.2.2.1
  have hK := X.2.2.2.2.2.1
  have hl0 := X.2.2.2.2.2.2.2.2
  unfold af_X1_wipe at hE
  refine lv_aload_n hx hb dX1_wipe_0 rfl (lv_at hl 0 rfl) ?_
  replace hE := e_bind hE
  obtain ⟨v_1, g, hE⟩ := hE
  refine n_gI X Y k_X1 4 g (by decide) q194 dX1_wipe_1 ?_
  refine lv_istore_n (i := 1) (lv' := [(1, .int v_1), (0, .ref a0)]) hx hb dX1_wipe_4 rfl hl (by decide) rfl (fun ls hl => ?_)
  refine lv_aload_n hx hb dX1_wipe_5 rfl (lv_at hl 1 rfl) ?_
  refine lv_null hx hb dX1_wipe_6 ?_
  replace hE := e_bind hE
  obtain ⟨st_2, g, hE⟩ := hE
  refine a_putV X Y k_X1 3 g (by decide) rfl (nr_o (none : Option Nat)) (fr_o (none : Option Nat)) q193 dX1_wipe_7 (fun H locs Y => ?_)
  refine lv_aload_n hx hb dX1_wipe_10 rfl (lv_at hl 1 rfl) ?_
  refine lv_iconst (v := 0) hx hb dX1_wipe_11 (by decide) ?_
  replace hE := e_bind hE
  obtain ⟨st_3, g, hE⟩ := hE
  refine a_putV X Y k_X1 4 g (by decide) rfl rfl rfl q194 dX1_wipe_12 (fun H locs Y => ?_)
  refine lv_iload_n hx hb dX1_wipe_15 rfl (lv_at hl 0 rfl) ?_
  cases hE
  exact a_iret X Y h1 h2 hr dX1_wipe_16
/-! BasicMachine.matrix(I)LBasicMachine$Matrix; -/
set_option maxHeartbeats 4000000 in
set_option maxRecDepth 100000 in
theorem maf_X1_matrix {l : Launch} (hl0 : l.stackTraces = false) (n : Nat) {x : aP} {st : aS} {a0 : Nat} {p1 : Int32} {q : aS × ((Option Nat) ⊕ Nat)} (hE : af_X1_matrix n x.sK st a0 p1 = some q) : aMet l yX1_matrix (ws_ yX1_matrix cX1_matrix 2 (some (.object "BasicMachine$Matrix"))) 6 90 x [.ref a0, .int p1] st (oR q.2) q.1 := by
  refine a_ofW (own := "BasicMachine") hl0 (by decide) rfl (Nat.le_of_ble_eq_true rfl) (fun mc ms p e s m below meth c ls H locs kc ks h1 h2 X hex Y hr hnm hl => ?_)
  have hnm : "matrix" = meth.name := hnm
  have hl : lv_has ls 2 [(0, .ref a0), (1, .int p1)] := hl
  have hx := X.1
  have hb := X.2.1
  have hown := X.2.2.2.1
  have hts := X.2.2.2.2.1
  have hK := X.2.2.2.2.2.1
  have hl0 := X.2.2.2.2.2.2.2.2
  unfold af_X1_matrix at hE
  refine lv_aload_n hx hb dX1_matrix_0 rfl (lv_at hl 0 rfl) ?_
  replace hE := e_bind hE
  obtain ⟨r_1, g, hE⟩ := hE
  refine n_gR X Y k_X1 6 g (by decide) q204 dX1_matrix_1 ?_
  refine lv_iload_n hx hb dX1_matrix_4 rfl (lv_at hl 1 rfl) ?_
  replace hE := e_bind hE
  obtain ⟨a_2, g, hE⟩ := hE
  subst g
  replace hE := e_bind hE
  obtain ⟨r_3, g, hE⟩ := hE
  refine a_aald X Y (by decide) rfl g dX1_matrix_5 ?_
  refine r_ifnonnull (tgt := 17) hx hb dX1_matrix_6 (by decide) (fun c_4 => ?_) (fun c_4 => ?_)
  · replace hE := e_f c_4 hE
    refine lv_aload_n hx hb dX1_matrix_17 rfl (lv_at hl 0 rfl) ?_
    replace hE := e_bind hE
    obtain ⟨r_5, g, hE⟩ := hE
    refine n_gR X Y k_X1 6 g (by decide) q204 dX1_matrix_18 ?_
    refine lv_iload_n hx hb dX1_matrix_21 rfl (lv_at hl 1 rfl) ?_
    replace hE := e_bind hE
    obtain ⟨a_6, g, hE⟩ := hE
    subst g
    replace hE := e_bind hE
    obtain ⟨r_7, g, hE⟩ := hE
    refine a_aald X Y (by decide) rfl g dX1_matrix_22 ?_
    cases hE
    exact a_aret (r := r_7) X Y h1 h2 hr (Or.inl ⟨_, rfl⟩) dX1_matrix_23
  · replace hE := e_t c_4 hE
    cases hE
    exact a_throw X Y h1 h2 rfl (by decide +kernel) q1343 q169 (at_B_4 hts hK) at_B_4_o (fun z hz => (hex z hz).elim) hl.1 (by show _ ≤ 6; decide) (Nat.le_trans (Nat.add_le_add_right (show _ ≤ 8 from (Nat.le_of_ble_eq_true rfl)) 81) (by show _ ≤ 90; decide)) dX1_matrix_9 dX1_matrix_12 dX1_matrix_13 dX1_matrix_16
/-! BasicMachine.known(I)LBasicMachine$Matrix; -/
set_option maxHeartbeats 4000000 in
set_option maxRecDepth 100000 in
theorem maf_X1_known {l : Launch} (hl0 : l.stackTraces = false) (n : Nat) {x : aP} {st : aS} {a0 : Nat} {p1 : Int32} {q : aS × ((Option Nat) ⊕ Nat)} (hE : af_X1_known n x.sK st a0 p1 = some q) : aMet l yX1_known (ws_ yX1_known cX1_known 2 (some (.object "BasicMachine$Matrix"))) 6 90 x [.ref a0, .int p1] st (oR q.2) q.1 := by
  refine a_ofW (own := "BasicMachine") hl0 (by decide) rfl (Nat.le_of_ble_eq_true rfl) (fun mc ms p e s m below meth c ls H locs kc ks h1 h2 X hex Y hr hnm hl => ?_)
  have hnm : "known" = meth.name := hnm
  have hl : lv_has ls 2 [(0, .ref a0), (1, .int p1)] := hl
  have hx := X.1
  have hb := X.2.1
  have hown := X.2.2.2.1
  have hts := X.2.2.2.2.1
  have hK := X.2.2.2.2.2.1
  have hl0 := X.2.2.2.2.2.2.2.2
  unfold af_X1_known at hE
  refine lv_aload_n hx hb dX1_known_0 rfl (lv_at hl 0 rfl) ?_
  replace hE := e_bind hE
  obtain ⟨r_1, g, hE⟩ := hE
  refine n_gR X Y k_X1 6 g (by decide) q204 dX1_known_1 ?_
  refine lv_iload_n hx hb dX1_known_4 rfl (lv_at hl 1 rfl) ?_
  replace hE := e_bind hE
  obtain ⟨a_2, g, hE⟩ := hE
  subst g
  replace hE := e_bind hE
  obtain ⟨r_3, g, hE⟩ := hE
  refine a_aald X Y (by decide) rfl g dX1_known_5 ?_
  refine r_ifnonnull (tgt := 17) hx hb dX1_known_6 (by decide) (fun c_4 => ?_) (fun c_4 => ?_)
  · replace hE := e_f c_4 hE
    refine lv_aload_n hx hb dX1_known_17 rfl (lv_at hl 0 rfl) ?_
    replace hE := e_bind hE
    obtain ⟨r_5, g, hE⟩ := hE
    refine n_gR X Y k_X1 6 g (by decide) q204 dX1_known_18 ?_
    refine lv_iload_n hx hb dX1_known_21 rfl (lv_at hl 1 rfl) ?_
    replace hE := e_bind hE
    obtain ⟨a_6, g, hE⟩ := hE
    subst g
    replace hE := e_bind hE
    obtain ⟨r_7, g, hE⟩ := hE
    refine a_aald X Y (by decide) rfl g dX1_known_22 ?_
    cases hE
    exact a_aret (r := r_7) X Y h1 h2 hr (Or.inl ⟨_, rfl⟩) dX1_known_23
  · replace hE := e_t c_4 hE
    cases hE
    exact a_throw X Y h1 h2 rfl (by decide +kernel) q1344 q173 (at_B_5 hts hK) at_B_5_o (fun z hz => (hex z hz).elim) hl.1 (by show _ ≤ 6; decide) (Nat.le_trans (Nat.add_le_add_right (show _ ≤ 8 from (Nat.le_of_ble_eq_true rfl)) 81) (by show _ ≤ 90; decide)) dX1_known_9 dX1_known_12 dX1_known_13 dX1_known_16
/-! BasicMachine.line(I)LBasicMachine$Line; -/
set_option maxHeartbeats 4000000 in
set_option maxRecDepth 100000 in
theorem maf_X1_line {l : Launch} (hl0 : l.stackTraces = false) (n : Nat) {x : aP} {st : aS} {a0 : Nat} {p1 : Int32} {q : aS × ((Option Nat) ⊕ Nat)} (hE : af_X1_line n x.sK st a0 p1 = some q) : aMet l yX1_line (ws_ yX1_line cX1_line 3 (some (.object "BasicMachine$Line"))) 6 90 x [.ref a0, .int p1] st (oR q.2) q.1 := by
  refine a_ofW (own := "BasicMachine") hl0 (by decide) rfl (Nat.le_of_ble_eq_true rfl) (fun mc ms p e s m below meth c ls H locs kc ks h1 h2 X hex Y hr hnm hl => ?_)
  have hnm : "line" = meth.name := hnm
  have hl : lv_has ls 3 [(0, .ref a0), (1, .int p1)] := hl
  have hx := X.1
  have hb := X.2.1
  have hown := X.2.2.2.1
  have hts := X.2.2.2.2.1
  have hK := X.2.2.2.2.2.1
  have hl0 := X.2.2.2.2.2.2.2.2
  unfold af_X1_line at hE
  refine lv_aload_n hx hb dX1_line_0 rfl (lv_at hl 0 rfl) ?_
  refine lv_iload_n hx hb dX1_line_1 rfl (lv_at hl 1 rfl) ?_
  replace hE := e_bind hE
  obtain ⟨u_3, g, hE⟩ := hE
  obtain ⟨fs9, g9⟩ := i_gC g
  have g7 := a_recv X Y k_X1.1 g9
  replace hE := e_cb hE
  obtain ⟨st_1, r_2, g, hE⟩ := hE
  have M9 := (mo_if mo_tw mo_ret) _ hE
  refine a_callV (n := 1) (C := "BasicMachine") (σ1 := st_1) (σf := q.1) [.int p1] X Y (maf_X1_lineOrNull hl0 n g) ⟨oaf_X1_lineOrNull _ g, M9, h1, h2, (by show _ ≤ 6; decide), (by show _ ≤ 90; decide)⟩ q1274 q1276 qs34 q122 q1277 (by decide +kernel) g7 rfl hl.1 (Nat.le_of_ble_eq_true rfl) dX1_line_2 (fun v hv H locs kc ks Y => ?_) (fun k hk => by cases hk)
  cases hv
  refine r_astore_n (i := 2) (lv' := [(2, va_rf r_2), (0, .ref a0), (1, .int p1)]) hx hb dX1_line_5 rfl hl (by decide) rfl (fun ls hl => ?_)
  refine r_aload_n hx hb dX1_line_6 rfl (lv_at hl 0 rfl) ?_
  refine r_ifnonnull (tgt := 18) hx hb dX1_line_7 (by decide) (fun c_4 => ?_) (fun c_4 => ?_)
  · replace hE := e_f c_4 hE
    refine r_aload_n hx hb dX1_line_18 rfl (lv_at hl 0 rfl) ?_
    cases hE
    exact a_aret (r := r_2) X Y h1 h2 hr (Or.inl ⟨_, rfl⟩) dX1_line_19
  · replace hE := e_t c_4 hE
    cases hE
    exact a_throw X Y h1 h2 rfl (by decide +kernel) q1278 q167 (at_B_2 hts hK) at_B_2_o (fun z hz => (hex z hz).elim) hl.1 (by show _ ≤ 6; decide) (Nat.le_trans (Nat.add_le_add_right (show _ ≤ 8 from (Nat.le_of_ble_eq_true rfl)) 81) (by show _ ≤ 90; decide)) dX1_line_10 dX1_line_13 dX1_line_14 dX1_line_17
/-! BasicMachine.after(LBasicMachine$Line;)LBasicMachine$Line; -/
set_option maxHeartbeats 4000000 in
set_option maxRecDepth 100000 in
theorem maf_X1_after {l : Launch} (hl0 : l.stackTraces = false) (n : Nat) {x : aP} {st : aS} {a0 : Nat} {p1 : Option Nat} {q : aS × (Option Nat)} (hE : af_X1_after n x.sK st a0 p1 = some q) : aMet l yX1_after (ws_ yX1_after cX1_after 2 (some (.object "BasicMachine$Line"))) 0 0 x [.ref a0, va_rf p1] st (.inl (some (va_rf q.2))) q.1 := by
  refine a_ofW (own := "BasicMachine") hl0 (by decide) rfl (by simp only [lg_sl, List.flatMap_cons, List.flatMap_nil, va_rf_cat]; exact Nat.le_of_ble_eq_true rfl) (fun mc ms p e s m below meth c ls H locs kc ks h1 h2 X hex Y hr hnm hl => ?_)
  have hnm : "after" = meth.name := hnm
  have hl : lv_has ls 2 [(0, .ref a0), (1, va_rf p1)] := by simp only [lv_args, va_rf_cat] at hl; exact hl
  have hx := X.1
  have hb := X.2.1
  have hown := X.2.2.2.1
  have hts := X.2.2.2.2.1
  have hK := X.2.2.2.2.2.1
  have hl0 := X.2.2.2.2.2.2.2.2
  unfold af_X1_after at hE
  refine r_aload_n hx hb dX1_after_0 rfl (lv_at hl 1 rfl) ?_
  replace hE := e_bind hE
  obtain ⟨a_1, g, hE⟩ := hE
  subst g
  replace hE := e_bind hE
  obtain ⟨r_2, g, hE⟩ := hE
  refine n_gR X Y k_X4 2 g (by decide) q492 dX1_after_1 ?_
  refine r_ifnonnull (tgt := 12) hx hb dX1_after_4 (by decide) (fun c_3 => ?_) (fun c_3 => ?_)
  · replace hE := e_f c_3 hE
    refine lv_aload_n hx hb dX1_after_12 rfl (lv_at hl 1 rfl) ?_
    replace hE := e_bind hE
    obtain ⟨r_4, g, hE⟩ := hE
    refine n_gR X Y k_X4 2 g (by decide) q492 dX1_after_13 ?_
    cases hE
    exact a_aret (r := r_4) X Y h1 h2 hr (Or.inl ⟨_, rfl⟩) dX1_after_16
  · replace hE := e_t c_3 hE
    refine lv_aload_n hx hb dX1_after_7 rfl (lv_at hl 0 rfl) ?_
    refine lv_iconst (v := 1) hx hb dX1_after_8 (by decide) ?_
    replace hE := e_bind hE
    obtain ⟨st_5, g, hE⟩ := hE
    refine a_putV X Y k_X1 20 g (by decide) rfl nz1 fz1 q235 dX1_after_9 (fun H locs Y => ?_)
    refine lv_aload_n hx hb dX1_after_12 rfl (lv_at hl 1 rfl) ?_
    replace hE := e_bind hE
    obtain ⟨r_6, g, hE⟩ := hE
    refine n_gR X Y k_X4 2 g (by decide) q492 dX1_after_13 ?_
    cases hE
    exact a_aret (r := r_6) X Y h1 h2 hr (Or.inl ⟨_, rfl⟩) dX1_after_16
/-! BasicMachine$Data.values()[D -/
set_option maxHeartbeats 4000000 in
set_option maxRecDepth 100000 in
theorem maf_X22_values {l : Launch} (hl0 : l.stackTraces = false) (n : Nat) {x : aP} {st : aS} {a0 : Nat} {q : aS × (Option Nat)} (hE : af_X22_values n x.sK st a0 = some q) : aMet l yX22_values (ws_ yX22_values cX22_values 1 (some (.array .double))) 0 0 x [.ref a0] st (.inl (some (va_rf q.2))) q.1 := by
  refine a_ofW (own := "BasicMachine$Data") hl0 (by decide) rfl (Nat.le_of_ble_eq_true rfl) (fun mc ms p e s m below meth c ls H locs kc ks h1 h2 X hex Y hr hnm hl => ?_)
  have hnm : "values" = meth.name := hnm
  have hl : lv_has ls 1 [(0, .ref a0)] := hl
  have hx := X.1
  have hb := X.2.1
  have hown := X.2.2.2.1
  have hts := X.2.2.2.2.1
  have hK := X.2.2.2.2.2.1
  have hl0 := X.2.2.2.2.2.2.2.2
  unfold af_X22_values at hE
  refine lv_aload_n hx hb dX22_values_0 rfl (lv_at hl 0 rfl) ?_
  replace hE := e_bind hE
  obtain ⟨r_1, g, hE⟩ := hE
  refine n_gR X Y k_X22 0 g (by decide) q1179 dX22_values_1 ?_
  cases hE
  exact a_aret (r := r_1) X Y h1 h2 hr (Or.inr ⟨_, rfl⟩) dX22_values_4
/-! BasicMachine.read()D -/
set_option maxHeartbeats 4000000 in
set_option maxRecDepth 100000 in
theorem waf_X1_read_S10_ {l : Launch} {x : aP} {As : List Value} {σ0 : aS} {p : Program} {e : Env} {s : State} {m : MethodId} {below : List Frame} {meth : Method} {c : Code} {mc ms : Nat} (X : aX "BasicMachine" p l s m As.toArray meth c cX1_read 4 x σ0) (hex : ∀ z ∈ c.exceptionTable.toList, False) (hr : meth.sig.returnType = (some .double)) (hnm : "read" = meth.name) {n : Nat} {q : aS × ((UInt64) ⊕ Nat)} : ∀ k : Nat, (∀ {st : aS} {a0 : Nat} {x1 : Int32} {x2 : Option Nat}, af_X1_read_S10 n x.sK k 0 st a0 x1 x2 = some q → (mc + σ0.1 = q.1.1) → (ms + σ0.2.1 = q.1.2.1) → ∀ {H : Heap} {locs : List Loc} {ls : Array Slot} {kc ks : Nat}, aY x σ0 s st H locs kc ks → lv_has ls 4 [(0, .ref a0), (1, .int x1), (2, va_rf x2)] → aG l 6 90 mc ms x As σ0 (oD q.2) q.1 p e s m below meth c H locs kc ks (F0 m 10 ls [])) ∧ (∀ {st : aS} {a0 : Nat} {x1 : Int32} {x2 : Option Nat}, af_X1_read_S10 n x.sK k 1 st a0 x1 x2 = some q → (mc + σ0.1 = q.1.1) → (ms + σ0.2.1 = q.1.2.1) → ∀ {H : Heap} {locs : List Loc} {ls : Array Slot} {kc ks : Nat}, aY x σ0 s st H locs kc ks → lv_has ls 4 [(0, .ref a0), (1, .int x1), (2, va_rf x2)] → aG l 6 90 mc ms x As σ0 (oD q.2) q.1 p e s m below meth c H locs kc ks (F0 m 63 ls [])) := by
  have hx := X.1
  have hb := X.2.1
  have hown := X.2.2.2.1
  have hts := X.2.2.2.2.1
  have hK := X.2.2.2.2.2.1
  have hl0 := X.2.2.2.2.2.2.2.2
  intro k
  induction k with
  | zero => exact ⟨(fun h => nomatch (show none = some q from h)), (fun h => nomatch (show none = some q from h))⟩
  | succ k ih =>
    obtain ⟨ih0, ih1⟩ := ih
    have mrec := @oaf_X1_read_S10_ n x.sK k
    obtain ⟨mrec0, mrec1⟩ := mrec
    refine ⟨?_, ?_⟩
    · intro st a0 x1 x2 hE h1 h2 H locs ls kc ks Y hl
      replace hE : af_X1_read_B10 n x.sK (af_X1_read_S10 n x.sK k) st a0 x1 x2 = some q := hE
      unfold af_X1_read_B10 at hE
      refine r_aload_n hx hb dX1_read_10 rfl (lv_at hl 2 rfl) ?_
      refine r_ifnull (tgt := 71) hx hb dX1_read_11 (by decide) (fun c_1 => ?_) (fun c_1 => ?_)
      · replace hE := e_t c_1 hE
        cases hE
        exact a_throw X Y h1 h2 rfl (by decide +kernel) q1278 q167 (at_B_2 hts hK) at_B_2_o (fun z hz => (hex z hz).elim) hl.1 (by show _ ≤ 6; decide) (Nat.le_trans (Nat.add_le_add_right (show _ ≤ 8 from (Nat.le_of_ble_eq_true rfl)) 81) (by show _ ≤ 90; decide)) dX1_read_71 dX1_read_74 dX1_read_75 dX1_read_78
      · replace hE := e_f c_1 hE
        refine r_aload_n hx hb dX1_read_14 rfl (lv_at hl 2 rfl) ?_
        replace hE := e_bind hE
        obtain ⟨a_2, g, hE⟩ := hE
        subst g
        replace hE := e_bind hE
        obtain ⟨r_3, g, hE⟩ := hE
        refine n_gR X Y k_X4 1 g (by decide) q491 dX1_read_15 ?_
        replace hE := e_bind hE
        obtain ⟨v_4, g, hE⟩ := hE
        refine a_inst X Y k_X22 nc_X22 g q1743 dX1_read_18 ?_
        refine lv_if_ne (tgt := 27) hx hb dX1_read_21 (by decide) (fun c_5 => ?_) (fun c_5 => ?_)
        · replace hE := e_f c_5 hE
          refine lv_aload_n hx hb dX1_read_27 rfl (lv_at hl 2 rfl) ?_
          replace hE := e_bind hE
          obtain ⟨r_6, g, hE⟩ := hE
          refine n_gR X Y k_X4 1 g (by decide) q491 dX1_read_28 ?_
          replace hE := e_bind hE
          obtain ⟨a_7, g, hE⟩ := hE
          subst g
          replace hE := e_bind hE
          obtain ⟨u_8, g, hE⟩ := hE
          obtain ⟨fs9, g9⟩ := i_gC g
          refine va_castE hx hb hown (hts _ q1743) (a_recv X Y k_X22.1 g9) dX1_read_31 ?_
          replace hE := e_bind hE
          obtain ⟨u_11, g, hE⟩ := hE
          obtain ⟨fs9, g9⟩ := i_gC g
          have g7 := a_recv X Y k_X22.1 g9
          replace hE := e_cb hE
          obtain ⟨st_9, r_10, g, hE⟩ := hE
          have M9 := (mo_v fun _ => (mo_v fun _ => (mo_if (mo_v fun _ => (mo_v fun _ => (mrec1))) (mo_v fun _ => (mo_s (fun _ => le_pF) fun _ => (mo_v fun _ => mo_ret)))))) _ hE
          refine a_callV (n := 0) (C := "BasicMachine$Data") (σ1 := st_9) (σf := q.1) [] X Y (maf_X22_values hl0 n g) ⟨oaf_X22_values _ g, M9, h1, h2, (by show _ ≤ 6; decide), (by show _ ≤ 90; decide)⟩ q1744 q1745 q1746 q161 q1747 (by decide +kernel) g7 rfl hl.1 (Nat.le_of_ble_eq_true rfl) dX1_read_34 (fun v hv H locs kc ks Y => ?_) (fun k hk => by cases hk)
          cases hv
          refine r_astore_n (i := 3) (lv' := [(3, va_rf r_10), (0, .ref a0), (1, .int x1), (2, .ref a_2)]) hx hb dX1_read_37 rfl hl (by decide) rfl (fun ls hl => ?_)
          refine lv_iload_n hx hb dX1_read_38 rfl (lv_at hl 2 rfl) ?_
          refine r_aload_n hx hb dX1_read_39 rfl (lv_at hl 0 rfl) ?_
          replace hE := e_bind hE
          obtain ⟨a_12, g, hE⟩ := hE
          subst g
          replace hE := e_bind hE
          obtain ⟨v_13, g, hE⟩ := hE
          refine a_alen X Y g dX1_read_40 ?_
          refine lv_icmp_ge (tgt := 58) hx hb dX1_read_41 (by decide) (fun c_14 => ?_) (fun c_14 => ?_)
          · replace hE := e_t c_14 hE
            refine lv_iload_n hx hb dX1_read_58 rfl (lv_at hl 2 rfl) ?_
            refine lv_aload_n hx hb dX1_read_59 rfl (lv_at hl 0 rfl) ?_
            replace hE := e_bind hE
            obtain ⟨v_15, g, hE⟩ := hE
            refine a_alen X Y g dX1_read_60 ?_
            refine lv_isub hx hb dX1_read_61 ?_
            replace hE := e_bind hE
            obtain ⟨x1_16, g, hE⟩ := hE
            refine n_topi g ?_
            refine lv_istore_n (i := 1) (lv' := [(1, .int x1_16), (3, .ref a_12), (0, .ref a0), (2, .ref a_2)]) hx hb dX1_read_62 rfl hl (by decide) rfl (fun ls hl => ?_)
            exact ih1 hE h1 h2 Y (lv_sub hl [2, 0, 3] rfl)
          · replace hE := e_f c_14 hE
            refine lv_aload_n hx hb dX1_read_44 rfl (lv_at hl 1 rfl) ?_
            refine lv_dup hx hb dX1_read_45 rfl ?_
            replace hE := e_bind hE
            obtain ⟨v_17, g, hE⟩ := hE
            refine n_gI X Y k_X1 18 g (by decide) q232 dX1_read_46 ?_
            refine lv_iconst (v := 1) hx hb dX1_read_49 (by decide) ?_
            refine lv_iadd hx hb dX1_read_50 ?_
            replace hE := e_bind hE
            obtain ⟨st_18, g, hE⟩ := hE
            refine a_putV X Y k_X1 18 g (by decide) rfl rfl rfl q232 dX1_read_51 (fun H locs Y => ?_)
            refine lv_aload_n hx hb dX1_read_54 rfl (lv_at hl 0 rfl) ?_
            refine lv_iload_n hx hb dX1_read_55 rfl (lv_at hl 2 rfl) ?_
            replace hE := e_bind hE
            obtain ⟨v_19, g, hE⟩ := hE
            refine a_dald X Y g dX1_read_56 ?_
            cases hE
            exact a_dret X Y h1 h2 hr dX1_read_57
        · replace hE := e_t c_5 hE
          refine lv_goto (tgt := 63) hx hb dX1_read_24 (by decide) ?_
          exact ih1 hE h1 h2 Y (lv_sub hl [0, 1, 2] rfl)
    · intro st a0 x1 x2 hE h1 h2 H locs ls kc ks Y hl
      replace hE : af_X1_read_B63 n x.sK (af_X1_read_S10 n x.sK k) st a0 x1 x2 = some q := hE
      unfold af_X1_read_B63 at hE
      refine r_aload_n hx hb dX1_read_63 rfl (lv_at hl 2 rfl) ?_
      replace hE := e_bind hE
      obtain ⟨a_1, g, hE⟩ := hE
      subst g
      replace hE := e_bind hE
      obtain ⟨r_2, g, hE⟩ := hE
      refine n_gR X Y k_X4 2 g (by decide) q492 dX1_read_64 ?_
      refine r_astore_n (i := 2) (lv' := [(2, va_rf r_2), (0, .ref a0), (1, .int x1)]) hx hb dX1_read_67 rfl hl (by decide) rfl (fun ls hl => ?_)
      refine lv_goto (tgt := 10) hx hb dX1_read_68 (by decide) ?_
      exact ih0 hE h1 h2 Y (lv_sub hl [1, 2, 0] rfl)
set_option maxHeartbeats 4000000 in
set_option maxRecDepth 100000 in
theorem waf_X1_read_S10 {l : Launch} {x : aP} {As : List Value} {σ0 : aS} {p : Program} {e : Env} {s : State} {m : MethodId} {below : List Frame} {meth : Method} {c : Code} {mc ms : Nat} (X : aX "BasicMachine" p l s m As.toArray meth c cX1_read 4 x σ0) (hex : ∀ z ∈ c.exceptionTable.toList, False) (hr : meth.sig.returnType = (some .double)) (hnm : "read" = meth.name) {n : Nat} {q : aS × ((UInt64) ⊕ Nat)} : (∀ {st : aS} {a0 : Nat} {x1 : Int32} {x2 : Option Nat}, af_X1_read_S10 n x.sK n 0 st a0 x1 x2 = some q → (mc + σ0.1 = q.1.1) → (ms + σ0.2.1 = q.1.2.1) → ∀ {H : Heap} {locs : List Loc} {ls : Array Slot} {kc ks : Nat}, aY x σ0 s st H locs kc ks → lv_has ls 4 [(0, .ref a0), (1, .int x1), (2, va_rf x2)] → aG l 6 90 mc ms x As σ0 (oD q.2) q.1 p e s m below meth c H locs kc ks (F0 m 10 ls [])) ∧ (∀ {st : aS} {a0 : Nat} {x1 : Int32} {x2 : Option Nat}, af_X1_read_S10 n x.sK n 1 st a0 x1 x2 = some q → (mc + σ0.1 = q.1.1) → (ms + σ0.2.1 = q.1.2.1) → ∀ {H : Heap} {locs : List Loc} {ls : Array Slot} {kc ks : Nat}, aY x σ0 s st H locs kc ks → lv_has ls 4 [(0, .ref a0), (1, .int x1), (2, va_rf x2)] → aG l 6 90 mc ms x As σ0 (oD q.2) q.1 p e s m below meth c H locs kc ks (F0 m 63 ls [])) := waf_X1_read_S10_ X hex hr hnm n
set_option maxHeartbeats 4000000 in
set_option maxRecDepth 100000 in
theorem maf_X1_read {l : Launch} (hl0 : l.stackTraces = false) (n : Nat) {x : aP} {st : aS} {a0 : Nat} {q : aS × ((UInt64) ⊕ Nat)} (hE : af_X1_read n x.sK st a0 = some q) : aMet l yX1_read (ws_ yX1_read cX1_read 4 (some .double)) 6 90 x [.ref a0] st (oD q.2) q.1 := by
  refine a_ofW (own := "BasicMachine") hl0 (by decide) rfl (Nat.le_of_ble_eq_true rfl) (fun mc ms p e s m below meth c ls H locs kc ks h1 h2 X hex Y hr hnm hl => ?_)
  have hnm : "read" = meth.name := hnm
  have hl : lv_has ls 4 [(0, .ref a0)] := hl
  have hx := X.1
  have hb := X.2.1
  have hown := X.2.2.2.1
  have hts := X.2.2.2.2.1
  have hK := X.2.2.2.2.2.1
  have hl0 := X.2.2.2.2.2.2.2.2
  unfold af_X1_read at hE
  refine lv_aload_n hx hb dX1_read_0 rfl (lv_at hl 0 rfl) ?_
  replace hE := e_bind hE
  obtain ⟨v_1, g, hE⟩ := hE
  refine n_gI X Y k_X1 18 g (by decide) q232 dX1_read_1 ?_
  refine lv_istore_n (i := 1) (lv' := [(1, .int v_1), (0, .ref a0)]) hx hb dX1_read_4 rfl hl (by decide) rfl (fun ls hl => ?_)
  refine lv_aload_n hx hb dX1_read_5 rfl (lv_at hl 1 rfl) ?_
  replace hE := e_bind hE
  obtain ⟨r_2, g, hE⟩ := hE
  refine n_gR X Y k_X1 3 g (by decide) q193 dX1_read_6 ?_
  refine r_astore_n (i := 2) (lv' := [(2, va_rf r_2), (1, .int v_1), (0, .ref a0)]) hx hb dX1_read_9 rfl hl (by decide) rfl (fun ls hl => ?_)
  exact (waf_X1_read_S10 X hex hr hnm).1 hE h1 h2 Y (lv_sub hl [2, 1, 0] rfl)
/-! BasicMachine$Loop.s()I -/
set_option maxHeartbeats 4000000 in
set_option maxRecDepth 100000 in
theorem maf_X29_s {l : Launch} (hl0 : l.stackTraces = false) (n : Nat) {x : aP} {st : aS} {a0 : Nat} {q : aS × (Int32)} (hE : af_X29_s n x.sK st a0 = some q) : aMet l yX29_s (ws_ yX29_s cX29_s 1 (some .int)) 0 0 x [.ref a0] st (.inl (some (.int q.2))) q.1 := by
  refine a_ofW (own := "BasicMachine$Loop") hl0 (by decide) rfl (Nat.le_of_ble_eq_true rfl) (fun mc ms p e s m below meth c ls H locs kc ks h1 h2 X hex Y hr hnm hl => ?_)
  have hnm : "s" = meth.name := hnm
  have hl : lv_has ls 1 [(0, .ref a0)] := hl
  have hx := X.1
  have hb := X.2.1
  have hown := X.2.2.2.1
  have hts := X.2.2.2.2.1
  have hK := X.2.2.2.2.2.1
  have hl0 := X.2.2.2.2.2.2.2.2
  unfold af_X29_s at hE
  refine lv_aload_n hx hb dX29_s_0 rfl (lv_at hl 0 rfl) ?_
  replace hE := e_bind hE
  obtain ⟨v_1, g, hE⟩ := hE
  refine n_gI X Y k_X29 0 g (by decide) q1559 dX29_s_1 ?_
  cases hE
  exact a_iret X Y h1 h2 hr dX29_s_4
/-! BasicMachine.loop(I)I -/
set_option maxHeartbeats 4000000 in
set_option maxRecDepth 100000 in
theorem waf_X1_loop_S7_ {l : Launch} {x : aP} {As : List Value} {σ0 : aS} {p : Program} {e : Env} {s : State} {m : MethodId} {below : List Frame} {meth : Method} {c : Code} {mc ms : Nat} (X : aX "BasicMachine" p l s m As.toArray meth c cX1_loop 3 x σ0) (hex : ∀ z ∈ c.exceptionTable.toList, False) (hr : meth.sig.returnType = (some .int)) (hnm : "loop" = meth.name) {n : Nat} {q : aS × (Int32)} : ∀ k : Nat, (∀ {st : aS} {a0 : Nat} {x1 : Int32} {x2 : Int32}, af_X1_loop_S7 n x.sK k st a0 x1 x2 = some q → (mc + σ0.1 = q.1.1) → (ms + σ0.2.1 = q.1.2.1) → ∀ {H : Heap} {locs : List Loc} {ls : Array Slot} {kc ks : Nat}, aY x σ0 s st H locs kc ks → lv_has ls 3 [(0, .ref a0), (1, .int x1), (2, .int x2)] → aG l 1 20 mc ms x As σ0 (.inl (some (.int q.2))) q.1 p e s m below meth c H locs kc ks (F0 m 7 ls [])) := by
  have hx := X.1
  have hb := X.2.1
  have hown := X.2.2.2.1
  have hts := X.2.2.2.2.1
  have hK := X.2.2.2.2.2.1
  have hl0 := X.2.2.2.2.2.2.2.2
  intro k
  induction k with
  | zero => exact fun h => nomatch (show none = some q from h)
  | succ k ih =>
    have mrec := @oaf_X1_loop_S7_ n x.sK k
    intro st a0 x1 x2 hE h1 h2 H locs ls kc ks Y hl
    replace hE : af_X1_loop_B7 n x.sK (af_X1_loop_S7 n x.sK k) st a0 x1 x2 = some q := hE
    unfold af_X1_loop_B7 at hE
    refine lv_iload_n hx hb dX1_loop_7 rfl (lv_at hl 2 rfl) ?_
    refine lv_if_lt (tgt := 30) hx hb dX1_loop_8 (by decide) (fun c_1 => ?_) (fun c_1 => ?_)
    · replace hE := e_t c_1 hE
      refine lv_iload_n hx hb dX1_loop_30 rfl (lv_at hl 2 rfl) ?_
      cases hE
      exact a_iret X Y h1 h2 hr dX1_loop_31
    · replace hE := e_f c_1 hE
      refine lv_aload_n hx hb dX1_loop_11 rfl (lv_at hl 0 rfl) ?_
      replace hE := e_bind hE
      obtain ⟨r_2, g, hE⟩ := hE
      refine n_gR X Y k_X1 14 g (by decide) q223 dX1_loop_12 ?_
      refine lv_iload_n hx hb dX1_loop_15 rfl (lv_at hl 2 rfl) ?_
      replace hE := e_bind hE
      obtain ⟨a_3, g, hE⟩ := hE
      subst g
      replace hE := e_bind hE
      obtain ⟨r_4, g, hE⟩ := hE
      refine a_aald X Y (by decide) rfl g dX1_loop_16 ?_
      replace hE := e_bind hE
      obtain ⟨a_5, g, hE⟩ := hE
      subst g
      replace hE := e_bind hE
      obtain ⟨u_8, g, hE⟩ := hE
      obtain ⟨fs9, g9⟩ := i_gC g
      have g7 := a_recv X Y k_X29.1 g9
      replace hE := e_cb hE
      obtain ⟨st_6, v_7, g, hE⟩ := hE
      have M9 := (mo_if mo_ret (mrec)) _ hE
      refine a_callV (n := 0) (C := "BasicMachine$Loop") (σ1 := st_6) (σf := q.1) [] X Y (maf_X29_s hl0 n g) ⟨oaf_X29_s _ g, M9, h1, h2, (by show _ ≤ 1; decide), (by show _ ≤ 20; decide)⟩ q1531 q1532 q1533 q172 q1534 (by decide +kernel) g7 rfl hl.1 (Nat.le_of_ble_eq_true rfl) dX1_loop_17 (fun v hv H locs kc ks Y => ?_) (fun k hk => by cases hk)
      cases hv
      refine lv_iload_n hx hb dX1_loop_20 rfl (lv_at hl 1 rfl) ?_
      refine lv_icmp_eq (tgt := 30) hx hb dX1_loop_21 (by decide) (fun c_9 => ?_) (fun c_9 => ?_)
      · replace hE := e_t c_9 hE
        refine lv_iload_n hx hb dX1_loop_30 rfl (lv_at hl 2 rfl) ?_
        cases hE
        exact a_iret X Y h1 h2 hr dX1_loop_31
      · replace hE := e_f c_9 hE
        refine lv_iinc (v := (x2 + (-1 : Int32))) (lv' := [(2, .int (x2 + (-1 : Int32))), (0, .ref a0), (1, .int x1)]) hx hb dX1_loop_24 hl (k := 2) rfl rfl (by decide) rfl (fun ls hl => ?_)
        refine lv_goto (tgt := 7) hx hb dX1_loop_27 (by decide) ?_
        exact ih hE h1 h2 Y (lv_sub hl [1, 2, 0] rfl)
set_option maxHeartbeats 4000000 in
set_option maxRecDepth 100000 in
theorem waf_X1_loop_S7 {l : Launch} {x : aP} {As : List Value} {σ0 : aS} {p : Program} {e : Env} {s : State} {m : MethodId} {below : List Frame} {meth : Method} {c : Code} {mc ms : Nat} (X : aX "BasicMachine" p l s m As.toArray meth c cX1_loop 3 x σ0) (hex : ∀ z ∈ c.exceptionTable.toList, False) (hr : meth.sig.returnType = (some .int)) (hnm : "loop" = meth.name) {n : Nat} {q : aS × (Int32)} : (∀ {st : aS} {a0 : Nat} {x1 : Int32} {x2 : Int32}, af_X1_loop_S7 n x.sK n st a0 x1 x2 = some q → (mc + σ0.1 = q.1.1) → (ms + σ0.2.1 = q.1.2.1) → ∀ {H : Heap} {locs : List Loc} {ls : Array Slot} {kc ks : Nat}, aY x σ0 s st H locs kc ks → lv_has ls 3 [(0, .ref a0), (1, .int x1), (2, .int x2)] → aG l 1 20 mc ms x As σ0 (.inl (some (.int q.2))) q.1 p e s m below meth c H locs kc ks (F0 m 7 ls [])) := waf_X1_loop_S7_ X hex hr hnm n
set_option maxHeartbeats 4000000 in
set_option maxRecDepth 100000 in
theorem maf_X1_loop {l : Launch} (hl0 : l.stackTraces = false) (n : Nat) {x : aP} {st : aS} {a0 : Nat} {p1 : Int32} {q : aS × (Int32)} (hE : af_X1_loop n x.sK st a0 p1 = some q) : aMet l yX1_loop (ws_ yX1_loop cX1_loop 3 (some .int)) 1 20 x [.ref a0, .int p1] st (.inl (some (.int q.2))) q.1 := by
  refine a_ofW (own := "BasicMachine") hl0 (by decide) rfl (Nat.le_of_ble_eq_true rfl) (fun mc ms p e s m below meth c ls H locs kc ks h1 h2 X hex Y hr hnm hl => ?_)
  have hnm : "loop" = meth.name := hnm
  have hl : lv_has ls 3 [(0, .ref a0), (1, .int p1)] := hl
  have hx := X.1
  have hb := X.2.1
  have hown := X.2.2.2.1
  have hts := X.2.2.2.2.1
  have hK := X.2.2.2.2.2.1
  have hl0 := X.2.2.2.2.2.2.2.2
  unfold af_X1_loop at hE
  refine lv_aload_n hx hb dX1_loop_0 rfl (lv_at hl 0 rfl) ?_
  replace hE := e_bind hE
  obtain ⟨v_1, g, hE⟩ := hE
  refine n_gI X Y k_X1 15 g (by decide) q226 dX1_loop_1 ?_
  refine lv_iconst (v := 1) hx hb dX1_loop_4 (by decide) ?_
  refine lv_isub hx hb dX1_loop_5 ?_
  replace hE := e_bind hE
  obtain ⟨x2_2, g, hE⟩ := hE
  refine n_topi g ?_
  refine lv_istore_n (i := 2) (lv' := [(2, .int x2_2), (0, .ref a0), (1, .int p1)]) hx hb dX1_loop_6 rfl hl (by decide) rfl (fun ls hl => ?_)
  exact (waf_X1_loop_S7 X hex hr hnm) hE h1 h2 Y (lv_sub hl [1, 2, 0] rfl)
/-! BasicMachine$Next.s()I -/
set_option maxHeartbeats 4000000 in
set_option maxRecDepth 100000 in
theorem maf_X20_s {l : Launch} (hl0 : l.stackTraces = false) (n : Nat) {x : aP} {st : aS} {a0 : Nat} {q : aS × (Int32)} (hE : af_X20_s n x.sK st a0 = some q) : aMet l yX20_s (ws_ yX20_s cX20_s 1 (some .int)) 0 0 x [.ref a0] st (.inl (some (.int q.2))) q.1 := by
  refine a_ofW (own := "BasicMachine$Next") hl0 (by decide) rfl (Nat.le_of_ble_eq_true rfl) (fun mc ms p e s m below meth c ls H locs kc ks h1 h2 X hex Y hr hnm hl => ?_)
  have hnm : "s" = meth.name := hnm
  have hl : lv_has ls 1 [(0, .ref a0)] := hl
  have hx := X.1
  have hb := X.2.1
  have hown := X.2.2.2.1
  have hts := X.2.2.2.2.1
  have hK := X.2.2.2.2.2.1
  have hl0 := X.2.2.2.2.2.2.2.2
  unfold af_X20_s at hE
  refine lv_aload_n hx hb dX20_s_0 rfl (lv_at hl 0 rfl) ?_
  replace hE := e_bind hE
  obtain ⟨v_1, g, hE⟩ := hE
  refine n_gI X Y k_X20 0 g (by decide) q1155 dX20_s_1 ?_
  cases hE
  exact a_iret X Y h1 h2 hr dX20_s_4
/-! BasicMachine.nextOf(ILBasicMachine$Line;)LBasicMachine$Line; -/
set_option maxHeartbeats 4000000 in
set_option maxRecDepth 100000 in
theorem waf_X1_nextOf_S5_ {l : Launch} {x : aP} {As : List Value} {σ0 : aS} {p : Program} {e : Env} {s : State} {m : MethodId} {below : List Frame} {meth : Method} {c : Code} {mc ms : Nat} (X : aX "BasicMachine" p l s m As.toArray meth c cX1_nextOf 4 x σ0) (hex : ∀ z ∈ c.exceptionTable.toList, False) (hr : meth.sig.returnType = (some (.object "BasicMachine$Line"))) (hnm : "nextOf" = meth.name) {n : Nat} {q : aS × ((Option Nat) ⊕ Nat)} : ∀ k : Nat, (∀ {st : aS} {a0 : Nat} {x1 : Int32} {x3 : Option Nat}, af_X1_nextOf_S5 n x.sK k 0 st a0 x1 x3 = some q → (mc + σ0.1 = q.1.1) → (ms + σ0.2.1 = q.1.2.1) → ∀ {H : Heap} {locs : List Loc} {ls : Array Slot} {kc ks : Nat}, aY x σ0 s st H locs kc ks → lv_has ls 4 [(0, .ref a0), (1, .int x1), (3, va_rf x3)] → aG l 6 90 mc ms x As σ0 (oR q.2) q.1 p e s m below meth c H locs kc ks (F0 m 5 ls [])) ∧ (∀ {st : aS} {a0 : Nat} {x1 : Int32} {x3 : Option Nat}, af_X1_nextOf_S5 n x.sK k 1 st a0 x1 x3 = some q → (mc + σ0.1 = q.1.1) → (ms + σ0.2.1 = q.1.2.1) → ∀ {H : Heap} {locs : List Loc} {ls : Array Slot} {kc ks : Nat}, aY x σ0 s st H locs kc ks → lv_has ls 4 [(0, .ref a0), (1, .int x1), (3, va_rf x3)] → aG l 6 90 mc ms x As σ0 (oR q.2) q.1 p e s m below meth c H locs kc ks (F0 m 35 ls [])) := by
  have hx := X.1
  have hb := X.2.1
  have hown := X.2.2.2.1
  have hts := X.2.2.2.2.1
  have hK := X.2.2.2.2.2.1
  have hl0 := X.2.2.2.2.2.2.2.2
  intro k
  induction k with
  | zero => exact ⟨(fun h => nomatch (show none = some q from h)), (fun h => nomatch (show none = some q from h))⟩
  | succ k ih =>
    obtain ⟨ih0, ih1⟩ := ih
    have mrec := @oaf_X1_nextOf_S5_ n x.sK k
    obtain ⟨mrec0, mrec1⟩ := mrec
    refine ⟨?_, ?_⟩
    · intro st a0 x1 x3 hE h1 h2 H locs ls kc ks Y hl
      replace hE : af_X1_nextOf_B5 n x.sK (af_X1_nextOf_S5 n x.sK k) st a0 x1 x3 = some q := hE
      unfold af_X1_nextOf_B5 at hE
      refine r_aload_n hx hb dX1_nextOf_5 rfl (lv_at hl 2 rfl) ?_
      refine r_ifnull (tgt := 43) hx hb dX1_nextOf_6 (by decide) (fun c_1 => ?_) (fun c_1 => ?_)
      · replace hE := e_t c_1 hE
        cases hE
        exact a_throw X Y h1 h2 rfl (by decide +kernel) q388 q128 (at_B_1 hts hK) at_B_1_o (fun z hz => (hex z hz).elim) hl.1 (by show _ ≤ 6; decide) (Nat.le_trans (Nat.add_le_add_right (show _ ≤ 8 from (Nat.le_of_ble_eq_true rfl)) 81) (by show _ ≤ 90; decide)) dX1_nextOf_43 dX1_nextOf_46 dX1_nextOf_47 dX1_nextOf_50
      · replace hE := e_f c_1 hE
        refine r_aload_n hx hb dX1_nextOf_9 rfl (lv_at hl 2 rfl) ?_
        replace hE := e_bind hE
        obtain ⟨a_2, g, hE⟩ := hE
        subst g
        replace hE := e_bind hE
        obtain ⟨r_3, g, hE⟩ := hE
        refine n_gR X Y k_X4 1 g (by decide) q491 dX1_nextOf_10 ?_
        replace hE := e_bind hE
        obtain ⟨v_4, g, hE⟩ := hE
        refine a_inst X Y k_X20 nc_X20 g q1542 dX1_nextOf_13 ?_
        refine lv_if_eq (tgt := 35) hx hb dX1_nextOf_16 (by decide) (fun c_5 => ?_) (fun c_5 => ?_)
        · replace hE := e_t c_5 hE
          exact ih1 hE h1 h2 Y (lv_sub hl [0, 1, 2] rfl)
        · replace hE := e_f c_5 hE
          refine lv_aload_n hx hb dX1_nextOf_19 rfl (lv_at hl 2 rfl) ?_
          replace hE := e_bind hE
          obtain ⟨r_6, g, hE⟩ := hE
          refine n_gR X Y k_X4 1 g (by decide) q491 dX1_nextOf_20 ?_
          replace hE := e_bind hE
          obtain ⟨a_7, g, hE⟩ := hE
          subst g
          replace hE := e_bind hE
          obtain ⟨u_8, g, hE⟩ := hE
          obtain ⟨fs9, g9⟩ := i_gC g
          refine va_castE hx hb hown (hts _ q1542) (a_recv X Y k_X20.1 g9) dX1_nextOf_23 ?_
          replace hE := e_bind hE
          obtain ⟨u_11, g, hE⟩ := hE
          obtain ⟨fs9, g9⟩ := i_gC g
          have g7 := a_recv X Y k_X20.1 g9
          replace hE := e_cb hE
          obtain ⟨st_9, v_10, g, hE⟩ := hE
          have M9 := (mo_if mo_ret (mrec1)) _ hE
          refine a_callV (n := 0) (C := "BasicMachine$Next") (σ1 := st_9) (σf := q.1) [] X Y (maf_X20_s hl0 n g) ⟨oaf_X20_s _ g, M9, h1, h2, (by show _ ≤ 6; decide), (by show _ ≤ 90; decide)⟩ q1543 q1544 q1545 q159 q1546 (by decide +kernel) g7 rfl hl.1 (Nat.le_of_ble_eq_true rfl) dX1_nextOf_26 (fun v hv H locs kc ks Y => ?_) (fun k hk => by cases hk)
          cases hv
          refine lv_iload_n hx hb dX1_nextOf_29 rfl (lv_at hl 1 rfl) ?_
          refine lv_icmp_ne (tgt := 35) hx hb dX1_nextOf_30 (by decide) (fun c_12 => ?_) (fun c_12 => ?_)
          · replace hE := e_f c_12 hE
            exact ih1 hE h1 h2 Y (lv_sub hl [0, 1, 2] rfl)
          · replace hE := e_t c_12 hE
            refine lv_aload_n hx hb dX1_nextOf_33 rfl (lv_at hl 2 rfl) ?_
            cases hE
            exact a_aret (r := (some a_2)) X Y h1 h2 hr (Or.inl ⟨_, rfl⟩) dX1_nextOf_34
    · intro st a0 x1 x3 hE h1 h2 H locs ls kc ks Y hl
      replace hE : af_X1_nextOf_B35 n x.sK (af_X1_nextOf_S5 n x.sK k) st a0 x1 x3 = some q := hE
      unfold af_X1_nextOf_B35 at hE
      refine r_aload_n hx hb dX1_nextOf_35 rfl (lv_at hl 2 rfl) ?_
      replace hE := e_bind hE
      obtain ⟨a_1, g, hE⟩ := hE
      subst g
      replace hE := e_bind hE
      obtain ⟨r_2, g, hE⟩ := hE
      refine n_gR X Y k_X4 2 g (by decide) q492 dX1_nextOf_36 ?_
      refine r_astore_n (i := 3) (lv' := [(3, va_rf r_2), (0, .ref a0), (1, .int x1)]) hx hb dX1_nextOf_39 rfl hl (by decide) rfl (fun ls hl => ?_)
      refine lv_goto (tgt := 5) hx hb dX1_nextOf_40 (by decide) ?_
      exact ih0 hE h1 h2 Y (lv_sub hl [1, 2, 0] rfl)
set_option maxHeartbeats 4000000 in
set_option maxRecDepth 100000 in
theorem waf_X1_nextOf_S5 {l : Launch} {x : aP} {As : List Value} {σ0 : aS} {p : Program} {e : Env} {s : State} {m : MethodId} {below : List Frame} {meth : Method} {c : Code} {mc ms : Nat} (X : aX "BasicMachine" p l s m As.toArray meth c cX1_nextOf 4 x σ0) (hex : ∀ z ∈ c.exceptionTable.toList, False) (hr : meth.sig.returnType = (some (.object "BasicMachine$Line"))) (hnm : "nextOf" = meth.name) {n : Nat} {q : aS × ((Option Nat) ⊕ Nat)} : (∀ {st : aS} {a0 : Nat} {x1 : Int32} {x3 : Option Nat}, af_X1_nextOf_S5 n x.sK n 0 st a0 x1 x3 = some q → (mc + σ0.1 = q.1.1) → (ms + σ0.2.1 = q.1.2.1) → ∀ {H : Heap} {locs : List Loc} {ls : Array Slot} {kc ks : Nat}, aY x σ0 s st H locs kc ks → lv_has ls 4 [(0, .ref a0), (1, .int x1), (3, va_rf x3)] → aG l 6 90 mc ms x As σ0 (oR q.2) q.1 p e s m below meth c H locs kc ks (F0 m 5 ls [])) ∧ (∀ {st : aS} {a0 : Nat} {x1 : Int32} {x3 : Option Nat}, af_X1_nextOf_S5 n x.sK n 1 st a0 x1 x3 = some q → (mc + σ0.1 = q.1.1) → (ms + σ0.2.1 = q.1.2.1) → ∀ {H : Heap} {locs : List Loc} {ls : Array Slot} {kc ks : Nat}, aY x σ0 s st H locs kc ks → lv_has ls 4 [(0, .ref a0), (1, .int x1), (3, va_rf x3)] → aG l 6 90 mc ms x As σ0 (oR q.2) q.1 p e s m below meth c H locs kc ks (F0 m 35 ls [])) := waf_X1_nextOf_S5_ X hex hr hnm n
set_option maxHeartbeats 4000000 in
set_option maxRecDepth 100000 in
theorem maf_X1_nextOf {l : Launch} (hl0 : l.stackTraces = false) (n : Nat) {x : aP} {st : aS} {a0 : Nat} {p1 : Int32} {p2 : Option Nat} {q : aS × ((Option Nat) ⊕ Nat)} (hE : af_X1_nextOf n x.sK st a0 p1 p2 = some q) : aMet l yX1_nextOf (ws_ yX1_nextOf cX1_nextOf 4 (some (.object "BasicMachine$Line"))) 6 90 x [.ref a0, .int p1, va_rf p2] st (oR q.2) q.1 := by
  refine a_ofW (own := "BasicMachine") hl0 (by decide) rfl (by simp only [lg_sl, List.flatMap_cons, List.flatMap_nil, va_rf_cat]; exact Nat.le_of_ble_eq_true rfl) (fun mc ms p e s m below meth c ls H locs kc ks h1 h2 X hex Y hr hnm hl => ?_)
  have hnm : "nextOf" = meth.name := hnm
  have hl : lv_has ls 4 [(0, .ref a0), (1, .int p1), (2, va_rf p2)] := by simp only [lv_args, va_rf_cat] at hl; exact hl
  have hx := X.1
  have hb := X.2.1
  have hown := X.2.2.2.1
  have hts := X.2.2.2.2.1
  have hK := X.2.2.2.2.2.1
  have hl0 := X.2.2.2.2.2.2.2.2
  unfold af_X1_nextOf at hE
  refine r_aload_n hx hb dX1_nextOf_0 rfl (lv_at hl 2 rfl) ?_
  replace hE := e_bind hE
  obtain ⟨a_1, g, hE⟩ := hE
  subst g
  replace hE := e_bind hE
  obtain ⟨r_2, g, hE⟩ := hE
  refine n_gR X Y k_X4 2 g (by decide) q492 dX1_nextOf_1 ?_
  refine r_astore_n (i := 3) (lv' := [(3, va_rf r_2), (0, .ref a0), (1, .int p1), (2, .ref a_1)]) hx hb dX1_nextOf_4 rfl hl (by decide) rfl (fun ls hl => ?_)
  exact (waf_X1_nextOf_S5 X hex hr hnm).1 hE h1 h2 Y (lv_sub hl [1, 2, 0] rfl)

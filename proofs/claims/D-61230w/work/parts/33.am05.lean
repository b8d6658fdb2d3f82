/-! contracts of the machine (printed by gena.py) -/
/-! BasicMachineLaw.enter(LBasicMachine;[J)I -/
set_option maxHeartbeats 4000000 in
set_option maxRecDepth 100000 in
theorem maf_X0_enter {l : Launch} (hl0 : l.stackTraces = false) (n : Nat) {x : aP} {st : aS} {p0 : Option Nat} {p1 : Option Nat} {q : aS × (Int32)} (hE : af_X0_enter n x.sK st p0 p1 = some q) : aMet l yX0_enter (wsW_ yX0_enter cX0_enter 3 (some .int) [(0, 8, 11, 13), (0, 8, 14, 21), (0, 8, 17, 15)]) 91 2143 x [va_rf p0, va_rf p1] st (.inl (some (.int q.2))) q.1 := by
  refine a_ofWH (own := "BasicMachineLaw") hl0 (by decide) rfl (by simp only [lg_sl, List.flatMap_cons, List.flatMap_nil, va_rf_cat]; exact Nat.le_of_ble_eq_true rfl) (fun mc ms p e s m below meth c ls H locs kc ks h1 h2 X hex Y hr hnm hl => ?_)
  have hnm : "enter" = meth.name := hnm
  have hl : lv_has ls 3 [(0, va_rf p0), (1, va_rf p1)] := by simp only [lv_args, va_rf_cat] at hl; exact hl
  have hx := X.1
  have hb := X.2.1
  have hown := X.2.2.2.1
  have hts := X.2.2.2.2.1
  have hK := X.2.2.2.2.2.1
  have hl0 := X.2.2.2.2.2.2.2.2
  unfold af_X0_enter at hE
  refine r_aload_n hx hb dX0_enter_0 rfl (lv_at hl 1 rfl) ?_
  refine lv_iconst (v := 0) hx hb dX0_enter_1 (by decide) ?_
  refine r_aload_n hx hb dX0_enter_2 rfl (lv_at hl 0 rfl) ?_
  replace hE := e_bind hE
  obtain ⟨a_1, g, hE⟩ := hE
  subst g
  replace hE := e_bind hE
  obtain ⟨u_4, g, hE⟩ := hE
  obtain ⟨fs9, g9⟩ := i_gC g
  have g7 := a_recv X Y k_X1.1 g9
  replace hE := e_xc hE
  rcases hE with ⟨st_2, v_3, g, hE⟩ | ⟨st_2, k9, g, hE⟩
  rotate_left
  · skip
    by_cases c_5 : k9 = 0
    · subst c_5
      replace hE := e_t rfl hE
      have M9 := mo_ret _ hE
      refine a_callV (n := 0) (C := "BasicMachine") (σ1 := st_2) (σf := q.1) [] X Y (maf_X1_enter hl0 n g) ⟨oaf_X1_enter _ g, M9, h1, h2, (by show _ ≤ 91; decide), (by show _ ≤ 2143; decide)⟩ q407 q408 q409 q122 q410 (by decide +kernel) g7 rfl hl.1 (by simp only [List.map_cons, List.map_nil, va_rf_cat]; exact Nat.le_of_ble_eq_true rfl) dX0_enter_3 (fun v hv => by cases hv) (fun k hk H locs kc ks q9 ce Y e1 e2 e3 => ?_)
      cases hk
      refine a_catch (E := "java/lang/IllegalArgumentException") X [] ⟨0, 8, 11, 13⟩ [⟨0, 8, 14, 21⟩, ⟨0, 8, 17, 15⟩] hex (fun _ h => nomatch h) (by decide) (by decide) q314 (by decide) e1 e2 e3 ?_
      show W _ _ _ _ _ _ _ _ _ _ _ _ _ _ _ (F0 m 11 ls [.ref q9])
      refine lv_astore_n (i := 2) (lv' := [(2, .ref q9), (0, .ref a_1), (1, va_rf p1)]) hx hb dX0_enter_11 rfl hl (by decide) (by cases p1 <;> rfl) (fun ls hl => ?_)
      refine lv_iconst (v := 1) hx hb dX0_enter_12 (by decide) ?_
      cases hE
      exact a_iret X Y h1 h2 hr dX0_enter_13
    replace hE := e_f c_5 hE
    by_cases c_6 : k9 = 2
    · subst c_6
      replace hE := e_t rfl hE
      have M9 := mo_ret _ hE
      refine a_callV (n := 0) (C := "BasicMachine") (σ1 := st_2) (σf := q.1) [] X Y (maf_X1_enter hl0 n g) ⟨oaf_X1_enter _ g, M9, h1, h2, (by show _ ≤ 91; decide), (by show _ ≤ 2143; decide)⟩ q407 q408 q409 q122 q410 (by decide +kernel) g7 rfl hl.1 (by simp only [List.map_cons, List.map_nil, va_rf_cat]; exact Nat.le_of_ble_eq_true rfl) dX0_enter_3 (fun v hv => by cases hv) (fun k hk H locs kc ks q9 ce Y e1 e2 e3 => ?_)
      cases hk
      refine a_catch (E := "java/util/NoSuchElementException") X [⟨0, 8, 11, 13⟩] ⟨0, 8, 14, 21⟩ [⟨0, 8, 17, 15⟩] hex (List.forall_mem_cons.mpr ⟨⟨by decide, "java/lang/IllegalArgumentException", q314, by decide⟩, fun _ h => nomatch h⟩) (by decide) (by decide) q406 (by decide) e1 e2 e3 ?_
      show W _ _ _ _ _ _ _ _ _ _ _ _ _ _ _ (F0 m 14 ls [.ref q9])
      refine lv_astore_n (i := 2) (lv' := [(2, .ref q9), (0, .ref a_1), (1, va_rf p1)]) hx hb dX0_enter_14 rfl hl (by decide) (by cases p1 <;> rfl) (fun ls hl => ?_)
      refine lv_iconst (v := 2) hx hb dX0_enter_15 (by decide) ?_
      cases hE
      exact a_iret X Y h1 h2 hr dX0_enter_16
    replace hE := e_f c_6 hE
    by_cases c_7 : k9 = 1
    · subst c_7
      replace hE := e_t rfl hE
      have M9 := mo_ret _ hE
      refine a_callV (n := 0) (C := "BasicMachine") (σ1 := st_2) (σf := q.1) [] X Y (maf_X1_enter hl0 n g) ⟨oaf_X1_enter _ g, M9, h1, h2, (by show _ ≤ 91; decide), (by show _ ≤ 2143; decide)⟩ q407 q408 q409 q122 q410 (by decide +kernel) g7 rfl hl.1 (by simp only [List.map_cons, List.map_nil, va_rf_cat]; exact Nat.le_of_ble_eq_true rfl) dX0_enter_3 (fun v hv => by cases hv) (fun k hk H locs kc ks q9 ce Y e1 e2 e3 => ?_)
      cases hk
      refine a_catch (E := "java/lang/IllegalStateException") X [⟨0, 8, 11, 13⟩, ⟨0, 8, 14, 21⟩] ⟨0, 8, 17, 15⟩ [] hex (List.forall_mem_cons.mpr ⟨⟨by decide, "java/lang/IllegalArgumentException", q314, by decide⟩, List.forall_mem_cons.mpr ⟨⟨by decide, "java/util/NoSuchElementException", q406, by decide⟩, fun _ h => nomatch h⟩⟩) (by decide) (by decide) q315 (by decide) e1 e2 e3 ?_
      show W _ _ _ _ _ _ _ _ _ _ _ _ _ _ _ (F0 m 17 ls [.ref q9])
      refine lv_astore_n (i := 2) (lv' := [(2, .ref q9), (0, .ref a_1), (1, va_rf p1)]) hx hb dX0_enter_17 rfl hl (by decide) (by cases p1 <;> rfl) (fun ls hl => ?_)
      refine lv_iconst (v := 3) hx hb dX0_enter_18 (by decide) ?_
      cases hE
      exact a_iret X Y h1 h2 hr dX0_enter_19
    replace hE := e_f c_7 hE
    cases hE
  have M9 := (mo_v fun _ => (mo_s (fun _ => le_wL) fun _ => mo_ret)) _ hE
  refine a_callV (n := 0) (C := "BasicMachine") (σ1 := st_2) (σf := q.1) [] X Y (maf_X1_enter hl0 n g) ⟨oaf_X1_enter _ g, M9, h1, h2, (by show _ ≤ 91; decide), (by show _ ≤ 2143; decide)⟩ q407 q408 q409 q122 q410 (by decide +kernel) g7 rfl hl.1 (by simp only [List.map_cons, List.map_nil, va_rf_cat]; exact Nat.le_of_ble_eq_true rfl) dX0_enter_3 (fun v hv H locs kc ks Y => ?_) (fun k hk => by cases hk)
  cases hv
  refine lv_i2l hx hb dX0_enter_6 rfl ?_
  replace hE := e_bind hE
  obtain ⟨a_8, g, hE⟩ := hE
  subst g
  replace hE := e_bind hE
  obtain ⟨st_9, g, hE⟩ := hE
  refine a_last X Y g dX0_enter_7 (fun H locs Y => ?_)
  refine lv_goto (tgt := 20) hx hb dX0_enter_8 (by decide) ?_
  refine lv_iconst (v := 0) hx hb dX0_enter_20 (by decide) ?_
  cases hE
  exact a_iret X Y h1 h2 hr dX0_enter_21
/-! BasicMachineLaw.run(LBasicMachine;[J)I -/
set_option maxHeartbeats 4000000 in
set_option maxRecDepth 100000 in
theorem maf_X0_run {l : Launch} (hl0 : l.stackTraces = false) (n : Nat) {x : aP} {st : aS} {p0 : Option Nat} {p1 : Option Nat} {q : aS × (Int32)} (hE : af_X0_run n x.sK st p0 p1 = some q) : aMet l yX0_run (wsW_ yX0_run cX0_run 3 (some .int) [(0, 8, 11, 13), (0, 8, 14, 15), (0, 8, 17, 21), (0, 8, 20, 26), (0, 8, 23, 28), (0, 8, 26, 30)]) 345 10274 x [va_rf p0, va_rf p1] st (.inl (some (.int q.2))) q.1 := by
  refine a_ofWH (own := "BasicMachineLaw") hl0 (by decide) rfl (by simp only [lg_sl, List.flatMap_cons, List.flatMap_nil, va_rf_cat]; exact Nat.le_of_ble_eq_true rfl) (fun mc ms p e s m below meth c ls H locs kc ks h1 h2 X hex Y hr hnm hl => ?_)
  have hnm : "run" = meth.name := hnm
  have hl : lv_has ls 3 [(0, va_rf p0), (1, va_rf p1)] := by simp only [lv_args, va_rf_cat] at hl; exact hl
  have hx := X.1
  have hb := X.2.1
  have hown := X.2.2.2.1
  have hts := X.2.2.2.2.1
  have hK := X.2.2.2.2.2.1
  have hl0 := X.2.2.2.2.2.2.2.2
  unfold af_X0_run at hE
  refine r_aload_n hx hb dX0_run_0 rfl (lv_at hl 1 rfl) ?_
  refine lv_iconst (v := 0) hx hb dX0_run_1 (by decide) ?_
  refine r_aload_n hx hb dX0_run_2 rfl (lv_at hl 0 rfl) ?_
  replace hE := e_bind hE
  obtain ⟨a_1, g, hE⟩ := hE
  subst g
  replace hE := e_bind hE
  obtain ⟨u_4, g, hE⟩ := hE
  obtain ⟨fs9, g9⟩ := i_gC g
  have g7 := a_recv X Y k_X1.1 g9
  replace hE := e_xc hE
  rcases hE with ⟨st_2, v_3, g, hE⟩ | ⟨st_2, k9, g, hE⟩
  rotate_left
  · skip
    by_cases c_5 : k9 = 0
    · subst c_5
      replace hE := e_t rfl hE
      have M9 := mo_ret _ hE
      refine a_callVX (n := 0) (C := "BasicMachine") (σ1 := st_2) (σf := q.1) [] X Y (maf_X1_run hl0 n g) ⟨oaf_X1_run _ g, M9, h1, h2, (by show _ ≤ 345; decide), (by show _ ≤ 10274; decide)⟩ q1338 q1339 q1340 q122 q1341 (by decide +kernel) g7 rfl hl.1 (by simp only [List.map_cons, List.map_nil, va_rf_cat]; exact Nat.le_of_ble_eq_true rfl) dX0_run_3 (fun v hv => by cases hv) (fun k hk H locs kc ks q9 ce Y e1 e2 e3 => ?_)
      cases hk
      refine a_catch (E := "java/lang/IllegalArgumentException") X [] ⟨0, 8, 11, 13⟩ [⟨0, 8, 14, 15⟩, ⟨0, 8, 17, 21⟩, ⟨0, 8, 20, 26⟩, ⟨0, 8, 23, 28⟩, ⟨0, 8, 26, 30⟩] hex (fun _ h => nomatch h) (by decide) (by decide) q314 (by decide) e1 e2 e3 ?_
      show W _ _ _ _ _ _ _ _ _ _ _ _ _ _ _ (F0 m 11 ls [.ref q9])
      refine lv_astore_n (i := 2) (lv' := [(2, .ref q9), (0, .ref a_1), (1, va_rf p1)]) hx hb dX0_run_11 rfl hl (by decide) (by cases p1 <;> rfl) (fun ls hl => ?_)
      refine lv_iconst (v := 1) hx hb dX0_run_12 (by decide) ?_
      cases hE
      exact a_iret X Y h1 h2 hr dX0_run_13
    replace hE := e_f c_5 hE
    by_cases c_6 : k9 = 1
    · subst c_6
      replace hE := e_t rfl hE
      have M9 := mo_ret _ hE
      refine a_callVX (n := 0) (C := "BasicMachine") (σ1 := st_2) (σf := q.1) [] X Y (maf_X1_run hl0 n g) ⟨oaf_X1_run _ g, M9, h1, h2, (by show _ ≤ 345; decide), (by show _ ≤ 10274; decide)⟩ q1338 q1339 q1340 q122 q1341 (by decide +kernel) g7 rfl hl.1 (by simp only [List.map_cons, List.map_nil, va_rf_cat]; exact Nat.le_of_ble_eq_true rfl) dX0_run_3 (fun v hv => by cases hv) (fun k hk H locs kc ks q9 ce Y e1 e2 e3 => ?_)
      cases hk
      refine a_catch (E := "java/lang/IllegalStateException") X [⟨0, 8, 11, 13⟩] ⟨0, 8, 14, 15⟩ [⟨0, 8, 17, 21⟩, ⟨0, 8, 20, 26⟩, ⟨0, 8, 23, 28⟩, ⟨0, 8, 26, 30⟩] hex (List.forall_mem_cons.mpr ⟨⟨by decide, "java/lang/IllegalArgumentException", q314, by decide⟩, fun _ h => nomatch h⟩) (by decide) (by decide) q315 (by decide) e1 e2 e3 ?_
      show W _ _ _ _ _ _ _ _ _ _ _ _ _ _ _ (F0 m 14 ls [.ref q9])
      refine lv_astore_n (i := 2) (lv' := [(2, .ref q9), (0, .ref a_1), (1, va_rf p1)]) hx hb dX0_run_14 rfl hl (by decide) (by cases p1 <;> rfl) (fun ls hl => ?_)
      refine lv_iconst (v := 2) hx hb dX0_run_15 (by decide) ?_
      cases hE
      exact a_iret X Y h1 h2 hr dX0_run_16
    replace hE := e_f c_6 hE
    by_cases c_7 : k9 = 2
    · subst c_7
      replace hE := e_t rfl hE
      have M9 := mo_ret _ hE
      refine a_callVX (n := 0) (C := "BasicMachine") (σ1 := st_2) (σf := q.1) [] X Y (maf_X1_run hl0 n g) ⟨oaf_X1_run _ g, M9, h1, h2, (by show _ ≤ 345; decide), (by show _ ≤ 10274; decide)⟩ q1338 q1339 q1340 q122 q1341 (by decide +kernel) g7 rfl hl.1 (by simp only [List.map_cons, List.map_nil, va_rf_cat]; exact Nat.le_of_ble_eq_true rfl) dX0_run_3 (fun v hv => by cases hv) (fun k hk H locs kc ks q9 ce Y e1 e2 e3 => ?_)
      cases hk
      refine a_catch (E := "java/util/NoSuchElementException") X [⟨0, 8, 11, 13⟩, ⟨0, 8, 14, 15⟩] ⟨0, 8, 17, 21⟩ [⟨0, 8, 20, 26⟩, ⟨0, 8, 23, 28⟩, ⟨0, 8, 26, 30⟩] hex (List.forall_mem_cons.mpr ⟨⟨by decide, "java/lang/IllegalArgumentException", q314, by decide⟩, List.forall_mem_cons.mpr ⟨⟨by decide, "java/lang/IllegalStateException", q315, by decide⟩, fun _ h => nomatch h⟩⟩) (by decide) (by decide) q406 (by decide) e1 e2 e3 ?_
      show W _ _ _ _ _ _ _ _ _ _ _ _ _ _ _ (F0 m 17 ls [.ref q9])
      refine lv_astore_n (i := 2) (lv' := [(2, .ref q9), (0, .ref a_1), (1, va_rf p1)]) hx hb dX0_run_17 rfl hl (by decide) (by cases p1 <;> rfl) (fun ls hl => ?_)
      refine lv_iconst (v := 3) hx hb dX0_run_18 (by decide) ?_
      cases hE
      exact a_iret X Y h1 h2 hr dX0_run_19
    replace hE := e_f c_7 hE
    by_cases c_8 : k9 = 3
    · subst c_8
      replace hE := e_t rfl hE
      have M9 := mo_ret _ hE
      refine a_callVX (n := 0) (C := "BasicMachine") (σ1 := st_2) (σf := q.1) [] X Y (maf_X1_run hl0 n g) ⟨oaf_X1_run _ g, M9, h1, h2, (by show _ ≤ 345; decide), (by show _ ≤ 10274; decide)⟩ q1338 q1339 q1340 q122 q1341 (by decide +kernel) g7 rfl hl.1 (by simp only [List.map_cons, List.map_nil, va_rf_cat]; exact Nat.le_of_ble_eq_true rfl) dX0_run_3 (fun v hv => by cases hv) (fun k hk H locs kc ks q9 ce Y e1 e2 e3 => ?_)
      cases hk
      refine a_catch (E := "java/lang/ArithmeticException") X [⟨0, 8, 11, 13⟩, ⟨0, 8, 14, 15⟩, ⟨0, 8, 17, 21⟩] ⟨0, 8, 20, 26⟩ [⟨0, 8, 23, 28⟩, ⟨0, 8, 26, 30⟩] hex (List.forall_mem_cons.mpr ⟨⟨by decide, "java/lang/IllegalArgumentException", q314, by decide⟩, List.forall_mem_cons.mpr ⟨⟨by decide, "java/lang/IllegalStateException", q315, by decide⟩, List.forall_mem_cons.mpr ⟨⟨by decide, "java/util/NoSuchElementException", q406, by decide⟩, fun _ h => nomatch h⟩⟩⟩) (by decide) (by decide) q1304 (by decide) e1 e2 e3 ?_
      show W _ _ _ _ _ _ _ _ _ _ _ _ _ _ _ (F0 m 20 ls [.ref q9])
      refine lv_astore_n (i := 2) (lv' := [(2, .ref q9), (0, .ref a_1), (1, va_rf p1)]) hx hb dX0_run_20 rfl hl (by decide) (by cases p1 <;> rfl) (fun ls hl => ?_)
      refine lv_iconst (v := 4) hx hb dX0_run_21 (by decide) ?_
      cases hE
      exact a_iret X Y h1 h2 hr dX0_run_22
    replace hE := e_f c_8 hE
    by_cases c_9 : k9 = 4
    · subst c_9
      replace hE := e_t rfl hE
      have M9 := mo_ret _ hE
      refine a_callVX (n := 0) (C := "BasicMachine") (σ1 := st_2) (σf := q.1) [] X Y (maf_X1_run hl0 n g) ⟨oaf_X1_run _ g, M9, h1, h2, (by show _ ≤ 345; decide), (by show _ ≤ 10274; decide)⟩ q1338 q1339 q1340 q122 q1341 (by decide +kernel) g7 rfl hl.1 (by simp only [List.map_cons, List.map_nil, va_rf_cat]; exact Nat.le_of_ble_eq_true rfl) dX0_run_3 (fun v hv => by cases hv) (fun k hk H locs kc ks q9 ce Y e1 e2 e3 => ?_)
      cases hk
      refine a_catch (E := "java/lang/IndexOutOfBoundsException") X [⟨0, 8, 11, 13⟩, ⟨0, 8, 14, 15⟩, ⟨0, 8, 17, 21⟩, ⟨0, 8, 20, 26⟩] ⟨0, 8, 23, 28⟩ [⟨0, 8, 26, 30⟩] hex (List.forall_mem_cons.mpr ⟨⟨by decide, "java/lang/IllegalArgumentException", q314, by decide⟩, List.forall_mem_cons.mpr ⟨⟨by decide, "java/lang/IllegalStateException", q315, by decide⟩, List.forall_mem_cons.mpr ⟨⟨by decide, "java/util/NoSuchElementException", q406, by decide⟩, List.forall_mem_cons.mpr ⟨⟨by decide, "java/lang/ArithmeticException", q1304, by decide⟩, fun _ h => nomatch h⟩⟩⟩⟩) (by decide) (by decide) q1318 (by decide) e1 e2 e3 ?_
      show W _ _ _ _ _ _ _ _ _ _ _ _ _ _ _ (F0 m 23 ls [.ref q9])
      refine lv_astore_n (i := 2) (lv' := [(2, .ref q9), (0, .ref a_1), (1, va_rf p1)]) hx hb dX0_run_23 rfl hl (by decide) (by cases p1 <;> rfl) (fun ls hl => ?_)
      refine lv_iconst (v := 5) hx hb dX0_run_24 (by decide) ?_
      cases hE
      exact a_iret X Y h1 h2 hr dX0_run_25
    replace hE := e_f c_9 hE
    by_cases c_10 : k9 = 5
    · subst c_10
      replace hE := e_t rfl hE
      have M9 := mo_ret _ hE
      refine a_callVX (n := 0) (C := "BasicMachine") (σ1 := st_2) (σf := q.1) [] X Y (maf_X1_run hl0 n g) ⟨oaf_X1_run _ g, M9, h1, h2, (by show _ ≤ 345; decide), (by show _ ≤ 10274; decide)⟩ q1338 q1339 q1340 q122 q1341 (by decide +kernel) g7 rfl hl.1 (by simp only [List.map_cons, List.map_nil, va_rf_cat]; exact Nat.le_of_ble_eq_true rfl) dX0_run_3 (fun v hv => by cases hv) (fun k hk H locs kc ks q9 ce Y e1 e2 e3 => ?_)
      cases hk
      refine a_catch (E := "java/lang/UnsupportedOperationException") X [⟨0, 8, 11, 13⟩, ⟨0, 8, 14, 15⟩, ⟨0, 8, 17, 21⟩, ⟨0, 8, 20, 26⟩, ⟨0, 8, 23, 28⟩] ⟨0, 8, 26, 30⟩ [] hex (List.forall_mem_cons.mpr ⟨⟨by decide, "java/lang/IllegalArgumentException", q314, by decide⟩, List.forall_mem_cons.mpr ⟨⟨by decide, "java/lang/IllegalStateException", q315, by decide⟩, List.forall_mem_cons.mpr ⟨⟨by decide, "java/util/NoSuchElementException", q406, by decide⟩, List.forall_mem_cons.mpr ⟨⟨by decide, "java/lang/ArithmeticException", q1304, by decide⟩, List.forall_mem_cons.mpr ⟨⟨by decide, "java/lang/IndexOutOfBoundsException", q1318, by decide⟩, fun _ h => nomatch h⟩⟩⟩⟩⟩) (by decide) (by decide) q1337 (by decide) e1 e2 e3 ?_
      show W _ _ _ _ _ _ _ _ _ _ _ _ _ _ _ (F0 m 26 ls [.ref q9])
      refine lv_astore_n (i := 2) (lv' := [(2, .ref q9), (0, .ref a_1), (1, va_rf p1)]) hx hb dX0_run_26 rfl hl (by decide) (by cases p1 <;> rfl) (fun ls hl => ?_)
      refine lv_bipush (v := 6) hx hb dX0_run_27 (by decide) ?_
      cases hE
      exact a_iret X Y h1 h2 hr dX0_run_29
    replace hE := e_f c_10 hE
    cases hE
  have M9 := (mo_v fun _ => (mo_s (fun _ => le_wL) fun _ => mo_ret)) _ hE
  refine a_callVX (n := 0) (C := "BasicMachine") (σ1 := st_2) (σf := q.1) [] X Y (maf_X1_run hl0 n g) ⟨oaf_X1_run _ g, M9, h1, h2, (by show _ ≤ 345; decide), (by show _ ≤ 10274; decide)⟩ q1338 q1339 q1340 q122 q1341 (by decide +kernel) g7 rfl hl.1 (by simp only [List.map_cons, List.map_nil, va_rf_cat]; exact Nat.le_of_ble_eq_true rfl) dX0_run_3 (fun v hv H locs kc ks Y => ?_) (fun k hk => by cases hk)
  cases hv
  refine lv_i2l hx hb dX0_run_6 rfl ?_
  replace hE := e_bind hE
  obtain ⟨a_11, g, hE⟩ := hE
  subst g
  replace hE := e_bind hE
  obtain ⟨st_12, g, hE⟩ := hE
  refine a_last X Y g dX0_run_7 (fun H locs Y => ?_)
  refine lv_goto (tgt := 30) hx hb dX0_run_8 (by decide) ?_
  refine lv_iconst (v := 0) hx hb dX0_run_30 (by decide) ?_
  cases hE
  exact a_iret X Y h1 h2 hr dX0_run_31
/-! BasicMachineLaw.printed(LBasicMachine;I[D)I -/
set_option maxHeartbeats 4000000 in
set_option maxRecDepth 100000 in
theorem maf_X0_printed {l : Launch} (hl0 : l.stackTraces = false) (n : Nat) {x : aP} {st : aS} {p0 : Option Nat} {p1 : Int32} {p2 : Option Nat} {q : aS × (Int32)} (hE : af_X0_printed n x.sK st p0 p1 p2 = some q) : aMet l yX0_printed (wsW_ yX0_printed cX0_printed 4 (some .int) [(0, 8, 11, 21)]) 7 111 x [va_rf p0, .int p1, va_rf p2] st (.inl (some (.int q.2))) q.1 := by
  refine a_ofWH (own := "BasicMachineLaw") hl0 (by decide) rfl (by simp only [lg_sl, List.flatMap_cons, List.flatMap_nil, va_rf_cat]; exact Nat.le_of_ble_eq_true rfl) (fun mc ms p e s m below meth c ls H locs kc ks h1 h2 X hex Y hr hnm hl => ?_)
  have hnm : "printed" = meth.name := hnm
  have hl : lv_has ls 4 [(0, va_rf p0), (1, .int p1), (2, va_rf p2)] := by simp only [lv_args, va_rf_cat] at hl; exact hl
  have hx := X.1
  have hb := X.2.1
  have hown := X.2.2.2.1
  have hts := X.2.2.2.2.1
  have hK := X.2.2.2.2.2.1
  have hl0 := X.2.2.2.2.2.2.2.2
  unfold af_X0_printed at hE
  refine r_aload_n hx hb dX0_printed_0 rfl (lv_at hl 2 rfl) ?_
  refine lv_iconst (v := 0) hx hb dX0_printed_1 (by decide) ?_
  refine r_aload_n hx hb dX0_printed_2 rfl (lv_at hl 0 rfl) ?_
  refine lv_iload_n hx hb dX0_printed_3 rfl (lv_at hl 1 rfl) ?_
  replace hE := e_bind hE
  obtain ⟨a_1, g, hE⟩ := hE
  subst g
  replace hE := e_bind hE
  obtain ⟨u_4, g, hE⟩ := hE
  obtain ⟨fs9, g9⟩ := i_gC g
  have g7 := a_recv X Y k_X1.1 g9
  replace hE := e_xc hE
  rcases hE with ⟨st_2, v_3, g, hE⟩ | ⟨st_2, k9, g, hE⟩
  rotate_left
  · skip
    by_cases c_5 : k9 = 2
    · subst c_5
      replace hE := e_t rfl hE
      have M9 := mo_ret _ hE
      refine a_callV (n := 1) (C := "BasicMachine") (σ1 := st_2) (σf := q.1) [.int p1] X Y (maf_X1_printed hl0 n g) ⟨oaf_X1_printed _ g, M9, h1, h2, (by show _ ≤ 7; decide), (by show _ ≤ 111; decide)⟩ q1777 q1778 q1779 q122 q1780 (by decide +kernel) g7 rfl hl.1 (by simp only [List.map_cons, List.map_nil, va_rf_cat]; exact Nat.le_of_ble_eq_true rfl) dX0_printed_4 (fun v hv => by cases hv) (fun k hk H locs kc ks q9 ce Y e1 e2 e3 => ?_)
      cases hk
      refine a_catch (E := "java/util/NoSuchElementException") X [] ⟨0, 8, 11, 21⟩ [] hex (fun _ h => nomatch h) (by decide) (by decide) q406 (by decide) e1 e2 e3 ?_
      show W _ _ _ _ _ _ _ _ _ _ _ _ _ _ _ (F0 m 11 ls [.ref q9])
      refine lv_astore_n (i := 3) (lv' := [(3, .ref q9), (0, .ref a_1), (1, .int p1), (2, va_rf p2)]) hx hb dX0_printed_11 rfl hl (by decide) (by cases p2 <;> rfl) (fun ls hl => ?_)
      refine lv_iconst (v := 1) hx hb dX0_printed_12 (by decide) ?_
      cases hE
      exact a_iret X Y h1 h2 hr dX0_printed_13
    replace hE := e_f c_5 hE
    cases hE
  have M9 := (mo_v fun _ => (mo_s (fun _ => le_wD) fun _ => mo_ret)) _ hE
  refine a_callV (n := 1) (C := "BasicMachine") (σ1 := st_2) (σf := q.1) [.int p1] X Y (maf_X1_printed hl0 n g) ⟨oaf_X1_printed _ g, M9, h1, h2, (by show _ ≤ 7; decide), (by show _ ≤ 111; decide)⟩ q1777 q1778 q1779 q122 q1780 (by decide +kernel) g7 rfl hl.1 (by simp only [List.map_cons, List.map_nil, va_rf_cat]; exact Nat.le_of_ble_eq_true rfl) dX0_printed_4 (fun v hv H locs kc ks Y => ?_) (fun k hk => by cases hk)
  cases hv
  replace hE := e_bind hE
  obtain ⟨a_6, g, hE⟩ := hE
  subst g
  replace hE := e_bind hE
  obtain ⟨st_7, g, hE⟩ := hE
  refine a_dast X Y g dX0_printed_7 (fun H locs Y => ?_)
  refine lv_goto (tgt := 14) hx hb dX0_printed_8 (by decide) ?_
  refine lv_iconst (v := 0) hx hb dX0_printed_14 (by decide) ?_
  cases hE
  exact a_iret X Y h1 h2 hr dX0_printed_15
/-! BasicMachineLaw.variable(LBasicMachine;I[D)I -/
set_option maxHeartbeats 4000000 in
set_option maxRecDepth 100000 in
theorem maf_X0_variable {l : Launch} (hl0 : l.stackTraces = false) (n : Nat) {x : aP} {st : aS} {p0 : Option Nat} {p1 : Int32} {p2 : Option Nat} {q : aS × (Int32)} (hE : af_X0_variable n x.sK st p0 p1 p2 = some q) : aMet l yX0_variable (wsW_ yX0_variable cX0_variable 4 (some .int) [(0, 8, 11, 13)]) 7 111 x [va_rf p0, .int p1, va_rf p2] st (.inl (some (.int q.2))) q.1 := by
  refine a_ofWH (own := "BasicMachineLaw") hl0 (by decide) rfl (by simp only [lg_sl, List.flatMap_cons, List.flatMap_nil, va_rf_cat]; exact Nat.le_of_ble_eq_true rfl) (fun mc ms p e s m below meth c ls H locs kc ks h1 h2 X hex Y hr hnm hl => ?_)
  have hnm : "variable" = meth.name := hnm
  have hl : lv_has ls 4 [(0, va_rf p0), (1, .int p1), (2, va_rf p2)] := by simp only [lv_args, va_rf_cat] at hl; exact hl
  have hx := X.1
  have hb := X.2.1
  have hown := X.2.2.2.1
  have hts := X.2.2.2.2.1
  have hK := X.2.2.2.2.2.1
  have hl0 := X.2.2.2.2.2.2.2.2
  unfold af_X0_variable at hE
  refine r_aload_n hx hb dX0_variable_0 rfl (lv_at hl 2 rfl) ?_
  refine lv_iconst (v := 0) hx hb dX0_variable_1 (by decide) ?_
  refine r_aload_n hx hb dX0_variable_2 rfl (lv_at hl 0 rfl) ?_
  refine lv_iload_n hx hb dX0_variable_3 rfl (lv_at hl 1 rfl) ?_
  replace hE := e_bind hE
  obtain ⟨a_1, g, hE⟩ := hE
  subst g
  replace hE := e_bind hE
  obtain ⟨u_4, g, hE⟩ := hE
  obtain ⟨fs9, g9⟩ := i_gC g
  have g7 := a_recv X Y k_X1.1 g9
  replace hE := e_xc hE
  rcases hE with ⟨st_2, v_3, g, hE⟩ | ⟨st_2, k9, g, hE⟩
  rotate_left
  · skip
    by_cases c_5 : k9 = 0
    · subst c_5
      replace hE := e_t rfl hE
      have M9 := mo_ret _ hE
      refine a_callV (n := 1) (C := "BasicMachine") (σ1 := st_2) (σf := q.1) [.int p1] X Y (maf_X1_variable hl0 n g) ⟨oaf_X1_variable _ g, M9, h1, h2, (by show _ ≤ 7; decide), (by show _ ≤ 111; decide)⟩ q1784 q1785 q1786 q122 q1787 (by decide +kernel) g7 rfl hl.1 (by simp only [List.map_cons, List.map_nil, va_rf_cat]; exact Nat.le_of_ble_eq_true rfl) dX0_variable_4 (fun v hv => by cases hv) (fun k hk H locs kc ks q9 ce Y e1 e2 e3 => ?_)
      cases hk
      refine a_catch (E := "java/lang/IllegalArgumentException") X [] ⟨0, 8, 11, 13⟩ [] hex (fun _ h => nomatch h) (by decide) (by decide) q314 (by decide) e1 e2 e3 ?_
      show W _ _ _ _ _ _ _ _ _ _ _ _ _ _ _ (F0 m 11 ls [.ref q9])
      refine lv_astore_n (i := 3) (lv' := [(3, .ref q9), (0, .ref a_1), (1, .int p1), (2, va_rf p2)]) hx hb dX0_variable_11 rfl hl (by decide) (by cases p2 <;> rfl) (fun ls hl => ?_)
      refine lv_iconst (v := 1) hx hb dX0_variable_12 (by decide) ?_
      cases hE
      exact a_iret X Y h1 h2 hr dX0_variable_13
    replace hE := e_f c_5 hE
    cases hE
  have M9 := (mo_v fun _ => (mo_s (fun _ => le_wD) fun _ => mo_ret)) _ hE
  refine a_callV (n := 1) (C := "BasicMachine") (σ1 := st_2) (σf := q.1) [.int p1] X Y (maf_X1_variable hl0 n g) ⟨oaf_X1_variable _ g, M9, h1, h2, (by show _ ≤ 7; decide), (by show _ ≤ 111; decide)⟩ q1784 q1785 q1786 q122 q1787 (by decide +kernel) g7 rfl hl.1 (by simp only [List.map_cons, List.map_nil, va_rf_cat]; exact Nat.le_of_ble_eq_true rfl) dX0_variable_4 (fun v hv H locs kc ks Y => ?_) (fun k hk => by cases hk)
  cases hv
  replace hE := e_bind hE
  obtain ⟨a_6, g, hE⟩ := hE
  subst g
  replace hE := e_bind hE
  obtain ⟨st_7, g, hE⟩ := hE
  refine a_dast X Y g dX0_variable_7 (fun H locs Y => ?_)
  refine lv_goto (tgt := 14) hx hb dX0_variable_8 (by decide) ?_
  refine lv_iconst (v := 0) hx hb dX0_variable_14 (by decide) ?_
  cases hE
  exact a_iret X Y h1 h2 hr dX0_variable_15
/-! BasicMachineLaw.element(LBasicMachine;III[D)I -/
set_option maxHeartbeats 4000000 in
set_option maxRecDepth 100000 in
theorem maf_X0_element {l : Launch} (hl0 : l.stackTraces = false) (n : Nat) {x : aP} {st : aS} {p0 : Option Nat} {p1 : Int32} {p2 : Int32} {p3 : Int32} {p4 : Option Nat} {q : aS × (Int32)} (hE : af_X0_element n x.sK st p0 p1 p2 p3 p4 = some q) : aMet l yX0_element (wsW_ yX0_element cX0_element 6 (some .int) [(0, 11, 14, 13), (0, 11, 18, 28)]) 9 161 x [va_rf p0, .int p1, .int p2, .int p3, va_rf p4] st (.inl (some (.int q.2))) q.1 := by
  refine a_ofWH (own := "BasicMachineLaw") hl0 (by decide) rfl (by simp only [lg_sl, List.flatMap_cons, List.flatMap_nil, va_rf_cat]; exact Nat.le_of_ble_eq_true rfl) (fun mc ms p e s m below meth c ls H locs kc ks h1 h2 X hex Y hr hnm hl => ?_)
  have hnm : "element" = meth.name := hnm
  have hl : lv_has ls 6 [(0, va_rf p0), (1, .int p1), (2, .int p2), (3, .int p3), (4, va_rf p4)] := by simp only [lv_args, va_rf_cat] at hl; exact hl
  have hx := X.1
  have hb := X.2.1
  have hown := X.2.2.2.1
  have hts := X.2.2.2.2.1
  have hK := X.2.2.2.2.2.1
  have hl0 := X.2.2.2.2.2.2.2.2
  unfold af_X0_element at hE
  refine r_aload hx hb dX0_element_0 (lv_at hl 4 rfl) ?_
  refine lv_iconst (v := 0) hx hb dX0_element_2 (by decide) ?_
  refine r_aload_n hx hb dX0_element_3 rfl (lv_at hl 0 rfl) ?_
  refine lv_iload_n hx hb dX0_element_4 rfl (lv_at hl 1 rfl) ?_
  refine lv_iload_n hx hb dX0_element_5 rfl (lv_at hl 2 rfl) ?_
  refine lv_iload_n hx hb dX0_element_6 rfl (lv_at hl 3 rfl) ?_
  replace hE := e_bind hE
  obtain ⟨a_1, g, hE⟩ := hE
  subst g
  replace hE := e_bind hE
  obtain ⟨u_4, g, hE⟩ := hE
  obtain ⟨fs9, g9⟩ := i_gC g
  have g7 := a_recv X Y k_X1.1 g9
  replace hE := e_xc hE
  rcases hE with ⟨st_2, v_3, g, hE⟩ | ⟨st_2, k9, g, hE⟩
  rotate_left
  · skip
    by_cases c_5 : k9 = 0
    · subst c_5
      replace hE := e_t rfl hE
      have M9 := mo_ret _ hE
      refine a_callV (n := 3) (C := "BasicMachine") (σ1 := st_2) (σf := q.1) [.int p1, .int p2, .int p3] X Y (maf_X1_element hl0 n g) ⟨oaf_X1_element _ g, M9, h1, h2, (by show _ ≤ 9; decide), (by show _ ≤ 161; decide)⟩ q1791 q1792 q1793 q122 q1794 (by decide +kernel) g7 rfl hl.1 (by simp only [List.map_cons, List.map_nil, va_rf_cat]; exact Nat.le_of_ble_eq_true rfl) dX0_element_7 (fun v hv => by cases hv) (fun k hk H locs kc ks q9 ce Y e1 e2 e3 => ?_)
      cases hk
      refine a_catch (E := "java/lang/IllegalArgumentException") X [] ⟨0, 11, 14, 13⟩ [⟨0, 11, 18, 28⟩] hex (fun _ h => nomatch h) (by decide) (by decide) q314 (by decide) e1 e2 e3 ?_
      show W _ _ _ _ _ _ _ _ _ _ _ _ _ _ _ (F0 m 14 ls [.ref q9])
      refine lv_astore (lv' := [(5, .ref q9), (0, .ref a_1), (1, .int p1), (2, .int p2), (3, .int p3), (4, va_rf p4)]) hx hb dX0_element_14 hl (by decide) (by cases p4 <;> rfl) (fun ls hl => ?_)
      refine lv_iconst (v := 1) hx hb dX0_element_16 (by decide) ?_
      cases hE
      exact a_iret X Y h1 h2 hr dX0_element_17
    replace hE := e_f c_5 hE
    by_cases c_6 : k9 = 4
    · subst c_6
      replace hE := e_t rfl hE
      have M9 := mo_ret _ hE
      refine a_callV (n := 3) (C := "BasicMachine") (σ1 := st_2) (σf := q.1) [.int p1, .int p2, .int p3] X Y (maf_X1_element hl0 n g) ⟨oaf_X1_element _ g, M9, h1, h2, (by show _ ≤ 9; decide), (by show _ ≤ 161; decide)⟩ q1791 q1792 q1793 q122 q1794 (by decide +kernel) g7 rfl hl.1 (by simp only [List.map_cons, List.map_nil, va_rf_cat]; exact Nat.le_of_ble_eq_true rfl) dX0_element_7 (fun v hv => by cases hv) (fun k hk H locs kc ks q9 ce Y e1 e2 e3 => ?_)
      cases hk
      refine a_catch (E := "java/lang/IndexOutOfBoundsException") X [⟨0, 11, 14, 13⟩] ⟨0, 11, 18, 28⟩ [] hex (List.forall_mem_cons.mpr ⟨⟨by decide, "java/lang/IllegalArgumentException", q314, by decide⟩, fun _ h => nomatch h⟩) (by decide) (by decide) q1318 (by decide) e1 e2 e3 ?_
      show W _ _ _ _ _ _ _ _ _ _ _ _ _ _ _ (F0 m 18 ls [.ref q9])
      refine lv_astore (lv' := [(5, .ref q9), (0, .ref a_1), (1, .int p1), (2, .int p2), (3, .int p3), (4, va_rf p4)]) hx hb dX0_element_18 hl (by decide) (by cases p4 <;> rfl) (fun ls hl => ?_)
      refine lv_iconst (v := 2) hx hb dX0_element_20 (by decide) ?_
      cases hE
      exact a_iret X Y h1 h2 hr dX0_element_21
    replace hE := e_f c_6 hE
    cases hE
  have M9 := (mo_v fun _ => (mo_s (fun _ => le_wD) fun _ => mo_ret)) _ hE
  refine a_callV (n := 3) (C := "BasicMachine") (σ1 := st_2) (σf := q.1) [.int p1, .int p2, .int p3] X Y (maf_X1_element hl0 n g) ⟨oaf_X1_element _ g, M9, h1, h2, (by show _ ≤ 9; decide), (by show _ ≤ 161; decide)⟩ q1791 q1792 q1793 q122 q1794 (by decide +kernel) g7 rfl hl.1 (by simp only [List.map_cons, List.map_nil, va_rf_cat]; exact Nat.le_of_ble_eq_true rfl) dX0_element_7 (fun v hv H locs kc ks Y => ?_) (fun k hk => by cases hk)
  cases hv
  replace hE := e_bind hE
  obtain ⟨a_7, g, hE⟩ := hE
  subst g
  replace hE := e_bind hE
  obtain ⟨st_8, g, hE⟩ := hE
  refine a_dast X Y g dX0_element_10 (fun H locs Y => ?_)
  refine lv_goto (tgt := 22) hx hb dX0_element_11 (by decide) ?_
  refine lv_iconst (v := 0) hx hb dX0_element_22 (by decide) ?_
  cases hE
  exact a_iret X Y h1 h2 hr dX0_element_23

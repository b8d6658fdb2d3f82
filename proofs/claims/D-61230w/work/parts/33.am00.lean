/-! contracts of the machine (printed by gena.py) -/
/-! BasicMachine.checked(D)D -/
set_option maxHeartbeats 4000000 in
set_option maxRecDepth 100000 in
theorem maf_X1_checked {l : Launch} (hl0 : l.stackTraces = false) (n : Nat) {x : aP} {st : aS} {p0 : UInt64} {q : aS × ((UInt64) ⊕ Nat)} (hE : af_X1_checked n x.sK st p0 = some q) : aMet l yX1_checked (ws_ yX1_checked cX1_checked 2 (some .double)) 6 90 x [.double p0] st (oD q.2) q.1 := by
  refine a_ofW (own := "BasicMachine") hl0 (by decide) rfl (Nat.le_of_ble_eq_true rfl) (fun mc ms p e s m below meth c ls H locs kc ks h1 h2 X hex Y hr hnm hl => ?_)
  have hnm : "checked" = meth.name := hnm
  have hl : lv_has ls 2 [(0, .double p0)] := hl
  have hx := X.1
  have hb := X.2.1
  have hown := X.2.2.2.1
  have hts := X.2.2.2.2.1
  have hK := X.2.2.2.2.2.1
  have hl0 := X.2.2.2.2.2.2.2.2
  unfold af_X1_checked at hE
  refine lv_dload_n hx hb dX1_checked_0 rfl (lv_at hl 0 rfl) ?_
  refine lv_ldc2d (v := (4877398396442247168 : UInt64)) hx hb hown (hts _ q1467) dX1_checked_1 ?_
  refine lv_dcmp hx hb dX1_checked_4 ?_
  refine lv_if_gt (tgt := 16) hx hb dX1_checked_5 (by decide) (fun c_1 => ?_) (fun c_1 => ?_)
  · replace hE := e_t c_1 hE
    cases hE
    exact a_throw X Y h1 h2 rfl (by decide +kernel) q1342 q168 (at_B_3 hts hK) at_B_3_o (fun z hz => (hex z hz).elim) hl.1 (by show _ ≤ 6; decide) (Nat.le_trans (Nat.add_le_add_right (show _ ≤ 8 from (Nat.le_of_ble_eq_true rfl)) 81) (by show _ ≤ 90; decide)) dX1_checked_16 dX1_checked_19 dX1_checked_20 dX1_checked_23
  · replace hE := e_f c_1 hE
    refine lv_dload_n hx hb dX1_checked_8 rfl (lv_at hl 0 rfl) ?_
    refine lv_ldc2d (v := (14100770433297022976 : UInt64)) hx hb hown (hts _ q1468) dX1_checked_9 ?_
    refine lv_dcmp hx hb dX1_checked_12 ?_
    refine lv_if_ge (tgt := 24) hx hb dX1_checked_13 (by decide) (fun c_2 => ?_) (fun c_2 => ?_)
    · replace hE := e_t c_2 hE
      refine lv_dload_n hx hb dX1_checked_24 rfl (lv_at hl 0 rfl) ?_
      cases hE
      exact a_dret X Y h1 h2 hr dX1_checked_25
    · replace hE := e_f c_2 hE
      cases hE
      exact a_throw X Y h1 h2 rfl (by decide +kernel) q1342 q168 (at_B_3 hts hK) at_B_3_o (fun z hz => (hex z hz).elim) hl.1 (by show _ ≤ 6; decide) (Nat.le_trans (Nat.add_le_add_right (show _ ≤ 8 from (Nat.le_of_ble_eq_true rfl)) 81) (by show _ ≤ 90; decide)) dX1_checked_16 dX1_checked_19 dX1_checked_20 dX1_checked_23
/-! BasicMachine.whole(D)J -/
set_option maxHeartbeats 4000000 in
set_option maxRecDepth 100000 in
theorem maf_X1_whole {l : Launch} (hl0 : l.stackTraces = false) (n : Nat) {x : aP} {st : aS} {p0 : UInt64} {q : aS × (Int64)} (hE : af_X1_whole n x.sK st p0 = some q) : aMet l yX1_whole (ws_ yX1_whole cX1_whole 2 (some .long)) 0 0 x [.double p0] st (.inl (some (.long q.2))) q.1 := by
  refine a_ofW (own := "BasicMachine") hl0 (by decide) rfl (Nat.le_of_ble_eq_true rfl) (fun mc ms p e s m below meth c ls H locs kc ks h1 h2 X hex Y hr hnm hl => ?_)
  have hnm : "whole" = meth.name := hnm
  have hl : lv_has ls 2 [(0, .double p0)] := hl
  have hx := X.1
  have hb := X.2.1
  have hown := X.2.2.2.1
  have hts := X.2.2.2.2.1
  have hK := X.2.2.2.2.2.1
  have hl0 := X.2.2.2.2.2.2.2.2
  unfold af_X1_whole at hE
  refine lv_dload_n hx hb dX1_whole_0 rfl (lv_at hl 0 rfl) ?_
  refine lv_d2l hx hb dX1_whole_1 ?_
  cases hE
  exact a_lret X Y h1 h2 hr dX1_whole_2
/-! BasicMachine.<init>()V -/
set_option maxHeartbeats 4000000 in
set_option maxRecDepth 100000 in
theorem maf_X1_init {l : Launch} (hl0 : l.stackTraces = false) (n : Nat) {x : aP} {st : aS} {a0 : Nat} {q : aS × Unit} (hE : af_X1_init n x.sK st a0 = some q) : aMet l yX1_init (ws_ yX1_init cX1_init 1 none) 1 20 x [.ref a0] st (.inl none) q.1 := by
  refine a_ofW (own := "BasicMachine") hl0 (by decide) rfl (Nat.le_of_ble_eq_true rfl) (fun mc ms p e s m below meth c ls H locs kc ks h1 h2 X hex Y hr hnm hl => ?_)
  have hnm : "<init>" = meth.name := hnm
  have hl : lv_has ls 1 [(0, .ref a0)] := hl
  have hx := X.1
  have hb := X.2.1
  have hown := X.2.2.2.1
  have hts := X.2.2.2.2.1
  have hK := X.2.2.2.2.2.1
  have hl0 := X.2.2.2.2.2.2.2.2
  unfold af_X1_init at hE
  refine lv_aload_n hx hb dX1_init_0 rfl (lv_at hl 0 rfl) ?_
  refine W.objInit hx hb hown (hts _ q179) (hts _ q_oi) (hts _ q_oc) rfl (by rw [X.2.2.1]; exact hl.1) rfl dX1_init_1 (by show _ ≤ 1; decide) (Nat.le_trans (Nat.add_le_add_right (show _ ≤ 8 from (Nat.le_of_ble_eq_true rfl)) 12) (by show _ ≤ 20; decide)) ?_
  refine W.eq (g2 := F0 m 4 ls []) rfl ?_
  refine lv_aload_n hx hb dX1_init_4 rfl (lv_at hl 0 rfl) ?_
  refine lv_bipush (v := 60) hx hb dX1_init_5 (by decide) ?_
  replace hE := e_bind hE
  obtain ⟨st_1, g, hE⟩ := hE
  have M9 := (mo_s (fun _ => le_pF) fun _ => (mo_s (fun _ => le_pF) fun _ => (mo_s (fun _ => le_nA) fun _ => (mo_s (fun _ => le_pF) fun _ => (mo_s (fun _ => le_nA) fun _ => (mo_s (fun _ => le_pF) fun _ => (mo_s (fun _ => le_nA) fun _ => (mo_s (fun _ => le_pF) fun _ => (mo_s (fun _ => le_nA) fun _ => (mo_s (fun _ => le_pF) fun _ => (mo_s (fun _ => le_nA) fun _ => (mo_s (fun _ => le_pF) fun _ => (mo_s (fun _ => le_nA) fun _ => (mo_s (fun _ => le_pF) fun _ => (mo_s (fun _ => le_nA) fun _ => (mo_s (fun _ => le_pF) fun _ => (mo_s (fun _ => le_nA) fun _ => (mo_s (fun _ => le_pF) fun _ => (mo_s (fun _ => le_pF) fun _ => mo_ret))))))))))))))))))) _ hE
  refine a_newa (atype := .char) X Y g (by decide) rfl (fun _ => rfl) (by decide) q288 (aRoom1 Y h1 (le_nA1 g) M9) (aRoom2 Y h2 (le_nA2 g) M9) dX1_init_7 (fun H Y => ?_)
  generalize kc + 1 = kc at Y ⊢
  generalize ks + Int32.toNatClampNeg (60 : Int32) = ks at Y ⊢
  replace hE := e_bind hE
  obtain ⟨st_2, g, hE⟩ := hE
  refine a_putFV X Y k_X1 0 g (by decide) rfl hnm rfl (nr_a (some st.1)) (fr_a (some st.1)) q190 dX1_init_9 (fun H locs Y => ?_)
  refine lv_aload_n hx hb dX1_init_12 rfl (lv_at hl 0 rfl) ?_
  refine lv_iconst (v := -1) hx hb dX1_init_13 (by decide) ?_
  replace hE := e_bind hE
  obtain ⟨st_3, g, hE⟩ := hE
  refine a_putV X Y k_X1 2 g (by decide) rfl rfl rfl q192 dX1_init_14 (fun H locs Y => ?_)
  refine lv_aload_n hx hb dX1_init_17 rfl (lv_at hl 0 rfl) ?_
  refine lv_bipush (v := 26) hx hb dX1_init_18 (by decide) ?_
  replace hE := e_bind hE
  obtain ⟨st_4, g, hE⟩ := hE
  have M9 := (mo_s (fun _ => le_pF) fun _ => (mo_s (fun _ => le_nA) fun _ => (mo_s (fun _ => le_pF) fun _ => (mo_s (fun _ => le_nA) fun _ => (mo_s (fun _ => le_pF) fun _ => (mo_s (fun _ => le_nA) fun _ => (mo_s (fun _ => le_pF) fun _ => (mo_s (fun _ => le_nA) fun _ => (mo_s (fun _ => le_pF) fun _ => (mo_s (fun _ => le_nA) fun _ => (mo_s (fun _ => le_pF) fun _ => (mo_s (fun _ => le_nA) fun _ => (mo_s (fun _ => le_pF) fun _ => (mo_s (fun _ => le_nA) fun _ => (mo_s (fun _ => le_pF) fun _ => (mo_s (fun _ => le_pF) fun _ => mo_ret)))))))))))))))) _ hE
  refine a_newa (atype := .double) X Y g (by decide) rfl (fun _ => rfl) (by decide) q289 (aRoom1 Y h1 (le_nA1 g) M9) (aRoom2 Y h2 (le_nA2 g) M9) dX1_init_20 (fun H Y => ?_)
  generalize kc + 1 = kc at Y ⊢
  generalize ks + Int32.toNatClampNeg (26 : Int32) = ks at Y ⊢
  replace hE := e_bind hE
  obtain ⟨st_5, g, hE⟩ := hE
  refine a_putFV X Y k_X1 5 g (by decide) rfl hnm rfl (nr_a (some st_3.1)) (fr_a (some st_3.1)) q200 dX1_init_22 (fun H locs Y => ?_)
  refine lv_aload_n hx hb dX1_init_25 rfl (lv_at hl 0 rfl) ?_
  refine lv_iconst (v := 3) hx hb dX1_init_26 (by decide) ?_
  replace hE := e_bind hE
  obtain ⟨st_6, g, hE⟩ := hE
  have M9 := (mo_s (fun _ => le_pF) fun _ => (mo_s (fun _ => le_nA) fun _ => (mo_s (fun _ => le_pF) fun _ => (mo_s (fun _ => le_nA) fun _ => (mo_s (fun _ => le_pF) fun _ => (mo_s (fun _ => le_nA) fun _ => (mo_s (fun _ => le_pF) fun _ => (mo_s (fun _ => le_nA) fun _ => (mo_s (fun _ => le_pF) fun _ => (mo_s (fun _ => le_nA) fun _ => (mo_s (fun _ => le_pF) fun _ => (mo_s (fun _ => le_nA) fun _ => (mo_s (fun _ => le_pF) fun _ => (mo_s (fun _ => le_pF) fun _ => mo_ret)))))))))))))) _ hE
  refine a_newq X Y g (by decide) rfl q182 (by decide) (aRoom1 Y h1 (le_nA1 g) M9) (aRoom2 Y h2 (le_nA2 g) M9) dX1_init_27 (fun H Y => ?_)
  generalize kc + 1 = kc at Y ⊢
  generalize ks + Int32.toNatClampNeg (3 : Int32) = ks at Y ⊢
  replace hE := e_bind hE
  obtain ⟨st_7, g, hE⟩ := hE
  refine a_putFV X Y k_X1 6 g (by decide) rfl hnm rfl (nr_a (some st_5.1)) (fr_a (some st_5.1)) q204 dX1_init_30 (fun H locs Y => ?_)
  refine lv_aload_n hx hb dX1_init_33 rfl (lv_at hl 0 rfl) ?_
  refine lv_iconst (v := 3) hx hb dX1_init_34 (by decide) ?_
  replace hE := e_bind hE
  obtain ⟨st_8, g, hE⟩ := hE
  have M9 := (mo_s (fun _ => le_pF) fun _ => (mo_s (fun _ => le_nA) fun _ => (mo_s (fun _ => le_pF) fun _ => (mo_s (fun _ => le_nA) fun _ => (mo_s (fun _ => le_pF) fun _ => (mo_s (fun _ => le_nA) fun _ => (mo_s (fun _ => le_pF) fun _ => (mo_s (fun _ => le_nA) fun _ => (mo_s (fun _ => le_pF) fun _ => (mo_s (fun _ => le_nA) fun _ => (mo_s (fun _ => le_pF) fun _ => (mo_s (fun _ => le_pF) fun _ => mo_ret)))))))))))) _ hE
  refine a_newq X Y g (by decide) rfl q184 (by decide) (aRoom1 Y h1 (le_nA1 g) M9) (aRoom2 Y h2 (le_nA2 g) M9) dX1_init_35 (fun H Y => ?_)
  generalize kc + 1 = kc at Y ⊢
  generalize ks + Int32.toNatClampNeg (3 : Int32) = ks at Y ⊢
  replace hE := e_bind hE
  obtain ⟨st_9, g, hE⟩ := hE
  refine a_putFV X Y k_X1 8 g (by decide) rfl hnm rfl (nr_a (some st_7.1)) (fr_a (some st_7.1)) q208 dX1_init_38 (fun H locs Y => ?_)
  refine lv_aload_n hx hb dX1_init_41 rfl (lv_at hl 0 rfl) ?_
  refine lv_iconst (v := 3) hx hb dX1_init_42 (by decide) ?_
  replace hE := e_bind hE
  obtain ⟨st_10, g, hE⟩ := hE
  have M9 := (mo_s (fun _ => le_pF) fun _ => (mo_s (fun _ => le_nA) fun _ => (mo_s (fun _ => le_pF) fun _ => (mo_s (fun _ => le_nA) fun _ => (mo_s (fun _ => le_pF) fun _ => (mo_s (fun _ => le_nA) fun _ => (mo_s (fun _ => le_pF) fun _ => (mo_s (fun _ => le_nA) fun _ => (mo_s (fun _ => le_pF) fun _ => (mo_s (fun _ => le_pF) fun _ => mo_ret)))))))))) _ hE
  refine a_newa (atype := .int) X Y g (by decide) rfl (fun _ => rfl) (by decide) q290 (aRoom1 Y h1 (le_nA1 g) M9) (aRoom2 Y h2 (le_nA2 g) M9) dX1_init_43 (fun H Y => ?_)
  generalize kc + 1 = kc at Y ⊢
  generalize ks + Int32.toNatClampNeg (3 : Int32) = ks at Y ⊢
  replace hE := e_bind hE
  obtain ⟨st_11, g, hE⟩ := hE
  refine a_putFV X Y k_X1 10 g (by decide) rfl hnm rfl (nr_a (some st_9.1)) (fr_a (some st_9.1)) q212 dX1_init_45 (fun H locs Y => ?_)
  refine lv_aload_n hx hb dX1_init_48 rfl (lv_at hl 0 rfl) ?_
  refine lv_iconst (v := 3) hx hb dX1_init_49 (by decide) ?_
  replace hE := e_bind hE
  obtain ⟨st_12, g, hE⟩ := hE
  have M9 := (mo_s (fun _ => le_pF) fun _ => (mo_s (fun _ => le_nA) fun _ => (mo_s (fun _ => le_pF) fun _ => (mo_s (fun _ => le_nA) fun _ => (mo_s (fun _ => le_pF) fun _ => (mo_s (fun _ => le_nA) fun _ => (mo_s (fun _ => le_pF) fun _ => (mo_s (fun _ => le_pF) fun _ => mo_ret)))))))) _ hE
  refine a_newa (atype := .double) X Y g (by decide) rfl (fun _ => rfl) (by decide) q289 (aRoom1 Y h1 (le_nA1 g) M9) (aRoom2 Y h2 (le_nA2 g) M9) dX1_init_50 (fun H Y => ?_)
  generalize kc + 1 = kc at Y ⊢
  generalize ks + Int32.toNatClampNeg (3 : Int32) = ks at Y ⊢
  replace hE := e_bind hE
  obtain ⟨st_13, g, hE⟩ := hE
  refine a_putFV X Y k_X1 11 g (by decide) rfl hnm rfl (nr_a (some st_11.1)) (fr_a (some st_11.1)) q214 dX1_init_52 (fun H locs Y => ?_)
  refine lv_aload_n hx hb dX1_init_55 rfl (lv_at hl 0 rfl) ?_
  refine lv_bipush (v := 8) hx hb dX1_init_56 (by decide) ?_
  replace hE := e_bind hE
  obtain ⟨st_14, g, hE⟩ := hE
  have M9 := (mo_s (fun _ => le_pF) fun _ => (mo_s (fun _ => le_nA) fun _ => (mo_s (fun _ => le_pF) fun _ => (mo_s (fun _ => le_nA) fun _ => (mo_s (fun _ => le_pF) fun _ => (mo_s (fun _ => le_pF) fun _ => mo_ret)))))) _ hE
  refine a_newq X Y g (by decide) rfl q186 (by decide) (aRoom1 Y h1 (le_nA1 g) M9) (aRoom2 Y h2 (le_nA2 g) M9) dX1_init_58 (fun H Y => ?_)
  generalize kc + 1 = kc at Y ⊢
  generalize ks + Int32.toNatClampNeg (8 : Int32) = ks at Y ⊢
  replace hE := e_bind hE
  obtain ⟨st_15, g, hE⟩ := hE
  refine a_putFV X Y k_X1 12 g (by decide) rfl hnm rfl (nr_a (some st_13.1)) (fr_a (some st_13.1)) q217 dX1_init_61 (fun H locs Y => ?_)
  refine lv_aload_n hx hb dX1_init_64 rfl (lv_at hl 0 rfl) ?_
  refine lv_bipush (v := 6) hx hb dX1_init_65 (by decide) ?_
  replace hE := e_bind hE
  obtain ⟨st_16, g, hE⟩ := hE
  have M9 := (mo_s (fun _ => le_pF) fun _ => (mo_s (fun _ => le_nA) fun _ => (mo_s (fun _ => le_pF) fun _ => (mo_s (fun _ => le_pF) fun _ => mo_ret)))) _ hE
  refine a_newq X Y g (by decide) rfl q188 (by decide) (aRoom1 Y h1 (le_nA1 g) M9) (aRoom2 Y h2 (le_nA2 g) M9) dX1_init_67 (fun H Y => ?_)
  generalize kc + 1 = kc at Y ⊢
  generalize ks + Int32.toNatClampNeg (6 : Int32) = ks at Y ⊢
  replace hE := e_bind hE
  obtain ⟨st_17, g, hE⟩ := hE
  refine a_putFV X Y k_X1 14 g (by decide) rfl hnm rfl (nr_a (some st_15.1)) (fr_a (some st_15.1)) q223 dX1_init_70 (fun H locs Y => ?_)
  refine lv_aload_n hx hb dX1_init_73 rfl (lv_at hl 0 rfl) ?_
  refine lv_bipush (v := 40) hx hb dX1_init_74 (by decide) ?_
  replace hE := e_bind hE
  obtain ⟨st_18, g, hE⟩ := hE
  have M9 := (mo_s (fun _ => le_pF) fun _ => (mo_s (fun _ => le_pF) fun _ => mo_ret)) _ hE
  refine a_newa (atype := .double) X Y g (by decide) rfl (fun _ => rfl) (by decide) q289 (aRoom1 Y h1 (le_nA1 g) M9) (aRoom2 Y h2 (le_nA2 g) M9) dX1_init_76 (fun H Y => ?_)
  generalize kc + 1 = kc at Y ⊢
  generalize ks + Int32.toNatClampNeg (40 : Int32) = ks at Y ⊢
  replace hE := e_bind hE
  obtain ⟨st_19, g, hE⟩ := hE
  refine a_putFV X Y k_X1 16 g (by decide) rfl hnm rfl (nr_a (some st_17.1)) (fr_a (some st_17.1)) q228 dX1_init_78 (fun H locs Y => ?_)
  refine lv_aload_n hx hb dX1_init_81 rfl (lv_at hl 0 rfl) ?_
  refine lv_iconst (v := -1) hx hb dX1_init_82 (by decide) ?_
  replace hE := e_bind hE
  obtain ⟨st_20, g, hE⟩ := hE
  refine a_putV X Y k_X1 22 g (by decide) rfl rfl rfl q237 dX1_init_83 (fun H locs Y => ?_)
  cases hE
  exact a_vret X Y h1 h2 hr dX1_init_86
/-! BasicMachine.type(I)I -/
set_option maxHeartbeats 4000000 in
set_option maxRecDepth 100000 in
theorem maf_X1_type {l : Launch} (hl0 : l.stackTraces = false) (n : Nat) {x : aP} {st : aS} {a0 : Nat} {p1 : Int32} {q : aS × ((Int32) ⊕ Nat)} (hE : af_X1_type n x.sK st a0 p1 = some q) : aMet l yX1_type (ws_ yX1_type cX1_type 2 (some .int)) 6 90 x [.ref a0, .int p1] st (oI q.2) q.1 := by
  refine a_ofW (own := "BasicMachine") hl0 (by decide) rfl (Nat.le_of_ble_eq_true rfl) (fun mc ms p e s m below meth c ls H locs kc ks h1 h2 X hex Y hr hnm hl => ?_)
  have hnm : "type" = meth.name := hnm
  have hl : lv_has ls 2 [(0, .ref a0), (1, .int p1)] := hl
  have hx := X.1
  have hb := X.2.1
  have hown := X.2.2.2.1
  have hts := X.2.2.2.2.1
  have hK := X.2.2.2.2.2.1
  have hl0 := X.2.2.2.2.2.2.2.2
  unfold af_X1_type at hE
  refine lv_iload_n hx hb dX1_type_0 rfl (lv_at hl 1 rfl) ?_
  refine lv_if_lt (tgt := 10) hx hb dX1_type_1 (by decide) (fun c_1 => ?_) (fun c_1 => ?_)
  · replace hE := e_t c_1 hE
    cases hE
    exact a_throw X Y h1 h2 rfl (by decide +kernel) q320 q127 (at_B_0 hts hK) at_B_0_o (fun z hz => (hex z hz).elim) hl.1 (by show _ ≤ 6; decide) (Nat.le_trans (Nat.add_le_add_right (show _ ≤ 8 from (Nat.le_of_ble_eq_true rfl)) 81) (by show _ ≤ 90; decide)) dX1_type_10 dX1_type_13 dX1_type_14 dX1_type_17
  · replace hE := e_f c_1 hE
    refine lv_iload_n hx hb dX1_type_4 rfl (lv_at hl 1 rfl) ?_
    refine lv_bipush (v := 127) hx hb dX1_type_5 (by decide) ?_
    refine lv_icmp_le (tgt := 18) hx hb dX1_type_7 (by decide) (fun c_2 => ?_) (fun c_2 => ?_)
    · replace hE := e_t c_2 hE
      refine lv_aload_n hx hb dX1_type_18 rfl (lv_at hl 0 rfl) ?_
      replace hE := e_bind hE
      obtain ⟨v_3, g, hE⟩ := hE
      refine n_gI X Y k_X1 1 g (by decide) q191 dX1_type_19 ?_
      refine lv_bipush (v := 60) hx hb dX1_type_22 (by decide) ?_
      refine lv_icmp_ne (tgt := 35) hx hb dX1_type_24 (by decide) (fun c_4 => ?_) (fun c_4 => ?_)
      · replace hE := e_f c_4 hE
        refine lv_aload_n hx hb dX1_type_35 rfl (lv_at hl 0 rfl) ?_
        replace hE := e_bind hE
        obtain ⟨r_5, g, hE⟩ := hE
        refine n_gR X Y k_X1 0 g (by decide) q190 dX1_type_36 ?_
        refine lv_aload_n hx hb dX1_type_39 rfl (lv_at hl 0 rfl) ?_
        replace hE := e_bind hE
        obtain ⟨v_6, g, hE⟩ := hE
        refine n_gI X Y k_X1 1 g (by decide) q191 dX1_type_40 ?_
        refine lv_iload_n hx hb dX1_type_43 rfl (lv_at hl 1 rfl) ?_
        refine lv_i2c hx hb dX1_type_44 rfl ?_
        replace hE := e_bind hE
        obtain ⟨a_7, g, hE⟩ := hE
        subst g
        replace hE := e_bind hE
        obtain ⟨st_8, g, hE⟩ := hE
        refine a_cast X Y g dX1_type_45 (fun H locs Y => ?_)
        refine lv_aload_n hx hb dX1_type_46 rfl (lv_at hl 0 rfl) ?_
        refine lv_dup hx hb dX1_type_47 rfl ?_
        replace hE := e_bind hE
        obtain ⟨v_9, g, hE⟩ := hE
        refine n_gI X Y k_X1 1 g (by decide) q191 dX1_type_48 ?_
        refine lv_iconst (v := 1) hx hb dX1_type_51 (by decide) ?_
        refine lv_iadd hx hb dX1_type_52 ?_
        replace hE := e_bind hE
        obtain ⟨st_10, g, hE⟩ := hE
        refine a_putV X Y k_X1 1 g (by decide) rfl rfl rfl q191 dX1_type_53 (fun H locs Y => ?_)
        refine lv_aload_n hx hb dX1_type_56 rfl (lv_at hl 0 rfl) ?_
        replace hE := e_bind hE
        obtain ⟨v_11, g, hE⟩ := hE
        refine n_gI X Y k_X1 1 g (by decide) q191 dX1_type_57 ?_
        cases hE
        exact a_iret X Y h1 h2 hr dX1_type_60
      · replace hE := e_t c_4 hE
        cases hE
        exact a_throw X Y h1 h2 rfl (by decide +kernel) q388 q128 (at_B_1 hts hK) at_B_1_o (fun z hz => (hex z hz).elim) hl.1 (by show _ ≤ 6; decide) (Nat.le_trans (Nat.add_le_add_right (show _ ≤ 8 from (Nat.le_of_ble_eq_true rfl)) 81) (by show _ ≤ 90; decide)) dX1_type_27 dX1_type_30 dX1_type_31 dX1_type_34
    · replace hE := e_f c_2 hE
      cases hE
      exact a_throw X Y h1 h2 rfl (by decide +kernel) q320 q127 (at_B_0 hts hK) at_B_0_o (fun z hz => (hex z hz).elim) hl.1 (by show _ ≤ 6; decide) (Nat.le_trans (Nat.add_le_add_right (show _ ≤ 8 from (Nat.le_of_ble_eq_true rfl)) 81) (by show _ ≤ 90; decide)) dX1_type_10 dX1_type_13 dX1_type_14 dX1_type_17
/-! BasicMachine$Parser.<init>([CI)V -/
set_option maxHeartbeats 4000000 in
set_option maxRecDepth 100000 in
theorem maf_X3_init {l : Launch} (hl0 : l.stackTraces = false) (n : Nat) {x : aP} {st : aS} {a0 : Nat} {p1 : Option Nat} {p2 : Int32} {q : aS × Unit} (hE : af_X3_init n x.sK st a0 p1 p2 = some q) : aMet l yX3_init (ws_ yX3_init cX3_init 3 none) 1 20 x [.ref a0, va_rf p1, .int p2] st (.inl none) q.1 := by
  refine a_ofW (own := "BasicMachine$Parser") hl0 (by decide) rfl (by simp only [lg_sl, List.flatMap_cons, List.flatMap_nil, va_rf_cat]; exact Nat.le_of_ble_eq_true rfl) (fun mc ms p e s m below meth c ls H locs kc ks h1 h2 X hex Y hr hnm hl => ?_)
  have hnm : "<init>" = meth.name := hnm
  have hl : lv_has ls 3 [(0, .ref a0), (1, va_rf p1), (2, .int p2)] := by simp only [lv_args, va_rf_cat] at hl; exact hl
  have hx := X.1
  have hb := X.2.1
  have hown := X.2.2.2.1
  have hts := X.2.2.2.2.1
  have hK := X.2.2.2.2.2.1
  have hl0 := X.2.2.2.2.2.2.2.2
  unfold af_X3_init at hE
  refine lv_aload_n hx hb dX3_init_0 rfl (lv_at hl 0 rfl) ?_
  refine W.objInit hx hb hown (hts _ q420) (hts _ q_oi) (hts _ q_oc) rfl (by rw [X.2.2.1]; exact hl.1) rfl dX3_init_1 (by show _ ≤ 1; decide) (Nat.le_trans (Nat.add_le_add_right (show _ ≤ 8 from (Nat.le_of_ble_eq_true rfl)) 12) (by show _ ≤ 20; decide)) ?_
  refine W.eq (g2 := F0 m 4 ls []) rfl ?_
  refine lv_aload_n hx hb dX3_init_4 rfl (lv_at hl 0 rfl) ?_
  refine lv_bipush (v := 17) hx hb dX3_init_5 (by decide) ?_
  replace hE := e_bind hE
  obtain ⟨st_1, g, hE⟩ := hE
  have M9 := (mo_s (fun _ => le_wR) fun _ => (mo_s (fun _ => le_wR) fun _ => (mo_s (fun _ => le_wR) fun _ => (mo_s (fun _ => le_wR) fun _ => (mo_s (fun _ => le_wR) fun _ => (mo_s (fun _ => le_wR) fun _ => (mo_s (fun _ => le_wR) fun _ => (mo_s (fun _ => le_wR) fun _ => (mo_s (fun _ => le_wR) fun _ => (mo_s (fun _ => le_wR) fun _ => (mo_s (fun _ => le_wR) fun _ => (mo_s (fun _ => le_wR) fun _ => (mo_s (fun _ => le_wR) fun _ => (mo_s (fun _ => le_wR) fun _ => (mo_s (fun _ => le_wR) fun _ => (mo_s (fun _ => le_wR) fun _ => (mo_s (fun _ => le_wR) fun _ => (mo_s (fun _ => le_pF) fun _ => (mo_s (fun _ => le_pF) fun _ => (mo_s (fun _ => le_pF) fun _ => mo_ret)))))))))))))))))))) _ hE
  refine a_newq X Y g (by decide) rfl q421 (by decide) (aRoom1 Y h1 (le_nA1 g) M9) (aRoom2 Y h2 (le_nA2 g) M9) dX3_init_7 (fun H Y => ?_)
  generalize kc + 1 = kc at Y ⊢
  generalize ks + Int32.toNatClampNeg (17 : Int32) = ks at Y ⊢
  refine lv_dup hx hb dX3_init_10 rfl ?_
  refine lv_iconst (v := 0) hx hb dX3_init_11 (by decide) ?_
  refine s_ldc (i := 0) X (by decide) dX3_init_12 ?_
  replace hE := e_bind hE
  obtain ⟨st_2, g, hE⟩ := hE
  refine a_aastC X Y (by decide) rfl g (a_srecv X Y (i := 0) (by decide)) dX3_init_14 (fun H locs Y => ?_)
  refine lv_dup hx hb dX3_init_15 rfl ?_
  refine lv_iconst (v := 1) hx hb dX3_init_16 (by decide) ?_
  refine s_ldc (i := 1) X (by decide) dX3_init_17 ?_
  replace hE := e_bind hE
  obtain ⟨st_3, g, hE⟩ := hE
  refine a_aastC X Y (by decide) rfl g (a_srecv X Y (i := 1) (by decide)) dX3_init_19 (fun H locs Y => ?_)
  refine lv_dup hx hb dX3_init_20 rfl ?_
  refine lv_iconst (v := 2) hx hb dX3_init_21 (by decide) ?_
  refine s_ldc (i := 2) X (by decide) dX3_init_22 ?_
  replace hE := e_bind hE
  obtain ⟨st_4, g, hE⟩ := hE
  refine a_aastC X Y (by decide) rfl g (a_srecv X Y (i := 2) (by decide)) dX3_init_24 (fun H locs Y => ?_)
  refine lv_dup hx hb dX3_init_25 rfl ?_
  refine lv_iconst (v := 3) hx hb dX3_init_26 (by decide) ?_
  refine s_ldc (i := 3) X (by decide) dX3_init_27 ?_
  replace hE := e_bind hE
  obtain ⟨st_5, g, hE⟩ := hE
  refine a_aastC X Y (by decide) rfl g (a_srecv X Y (i := 3) (by decide)) dX3_init_29 (fun H locs Y => ?_)
  refine lv_dup hx hb dX3_init_30 rfl ?_
  refine lv_iconst (v := 4) hx hb dX3_init_31 (by decide) ?_
  refine s_ldc (i := 4) X (by decide) dX3_init_32 ?_
  replace hE := e_bind hE
  obtain ⟨st_6, g, hE⟩ := hE
  refine a_aastC X Y (by decide) rfl g (a_srecv X Y (i := 4) (by decide)) dX3_init_34 (fun H locs Y => ?_)
  refine lv_dup hx hb dX3_init_35 rfl ?_
  refine lv_iconst (v := 5) hx hb dX3_init_36 (by decide) ?_
  refine s_ldc (i := 5) X (by decide) dX3_init_37 ?_
  replace hE := e_bind hE
  obtain ⟨st_7, g, hE⟩ := hE
  refine a_aastC X Y (by decide) rfl g (a_srecv X Y (i := 5) (by decide)) dX3_init_39 (fun H locs Y => ?_)
  refine lv_dup hx hb dX3_init_40 rfl ?_
  refine lv_bipush (v := 6) hx hb dX3_init_41 (by decide) ?_
  refine s_ldc (i := 6) X (by decide) dX3_init_43 ?_
  replace hE := e_bind hE
  obtain ⟨st_8, g, hE⟩ := hE
  refine a_aastC X Y (by decide) rfl g (a_srecv X Y (i := 6) (by decide)) dX3_init_45 (fun H locs Y => ?_)
  refine lv_dup hx hb dX3_init_46 rfl ?_
  refine lv_bipush (v := 7) hx hb dX3_init_47 (by decide) ?_
  refine s_ldc (i := 7) X (by decide) dX3_init_49 ?_
  replace hE := e_bind hE
  obtain ⟨st_9, g, hE⟩ := hE
  refine a_aastC X Y (by decide) rfl g (a_srecv X Y (i := 7) (by decide)) dX3_init_51 (fun H locs Y => ?_)
  refine lv_dup hx hb dX3_init_52 rfl ?_
  refine lv_bipush (v := 8) hx hb dX3_init_53 (by decide) ?_
  refine s_ldc (i := 8) X (by decide) dX3_init_55 ?_
  replace hE := e_bind hE
  obtain ⟨st_10, g, hE⟩ := hE
  refine a_aastC X Y (by decide) rfl g (a_srecv X Y (i := 8) (by decide)) dX3_init_57 (fun H locs Y => ?_)
  refine lv_dup hx hb dX3_init_58 rfl ?_
  refine lv_bipush (v := 9) hx hb dX3_init_59 (by decide) ?_
  refine s_ldc (i := 9) X (by decide) dX3_init_61 ?_
  replace hE := e_bind hE
  obtain ⟨st_11, g, hE⟩ := hE
  refine a_aastC X Y (by decide) rfl g (a_srecv X Y (i := 9) (by decide)) dX3_init_63 (fun H locs Y => ?_)
  refine lv_dup hx hb dX3_init_64 rfl ?_
  refine lv_bipush (v := 10) hx hb dX3_init_65 (by decide) ?_
  refine s_ldc (i := 10) X (by decide) dX3_init_67 ?_
  replace hE := e_bind hE
  obtain ⟨st_12, g, hE⟩ := hE
  refine a_aastC X Y (by decide) rfl g (a_srecv X Y (i := 10) (by decide)) dX3_init_69 (fun H locs Y => ?_)
  refine lv_dup hx hb dX3_init_70 rfl ?_
  refine lv_bipush (v := 11) hx hb dX3_init_71 (by decide) ?_
  refine s_ldc (i := 11) X (by decide) dX3_init_73 ?_
  replace hE := e_bind hE
  obtain ⟨st_13, g, hE⟩ := hE
  refine a_aastC X Y (by decide) rfl g (a_srecv X Y (i := 11) (by decide)) dX3_init_75 (fun H locs Y => ?_)
  refine lv_dup hx hb dX3_init_76 rfl ?_
  refine lv_bipush (v := 12) hx hb dX3_init_77 (by decide) ?_
  refine s_ldc (i := 12) X (by decide) dX3_init_79 ?_
  replace hE := e_bind hE
  obtain ⟨st_14, g, hE⟩ := hE
  refine a_aastC X Y (by decide) rfl g (a_srecv X Y (i := 12) (by decide)) dX3_init_81 (fun H locs Y => ?_)
  refine lv_dup hx hb dX3_init_82 rfl ?_
  refine lv_bipush (v := 13) hx hb dX3_init_83 (by decide) ?_
  refine s_ldc (i := 13) X (by decide) dX3_init_85 ?_
  replace hE := e_bind hE
  obtain ⟨st_15, g, hE⟩ := hE
  refine a_aastC X Y (by decide) rfl g (a_srecv X Y (i := 13) (by decide)) dX3_init_87 (fun H locs Y => ?_)
  refine lv_dup hx hb dX3_init_88 rfl ?_
  refine lv_bipush (v := 14) hx hb dX3_init_89 (by decide) ?_
  refine s_ldc (i := 14) X (by decide) dX3_init_91 ?_
  replace hE := e_bind hE
  obtain ⟨st_16, g, hE⟩ := hE
  refine a_aastC X Y (by decide) rfl g (a_srecv X Y (i := 14) (by decide)) dX3_init_93 (fun H locs Y => ?_)
  refine lv_dup hx hb dX3_init_94 rfl ?_
  refine lv_bipush (v := 15) hx hb dX3_init_95 (by decide) ?_
  refine s_ldc (i := 15) X (by decide) dX3_init_97 ?_
  replace hE := e_bind hE
  obtain ⟨st_17, g, hE⟩ := hE
  refine a_aastC X Y (by decide) rfl g (a_srecv X Y (i := 15) (by decide)) dX3_init_99 (fun H locs Y => ?_)
  refine lv_dup hx hb dX3_init_100 rfl ?_
  refine lv_bipush (v := 16) hx hb dX3_init_101 (by decide) ?_
  refine s_ldc (i := 16) X (by decide) dX3_init_103 ?_
  replace hE := e_bind hE
  obtain ⟨st_18, g, hE⟩ := hE
  refine a_aastC X Y (by decide) rfl g (a_srecv X Y (i := 16) (by decide)) dX3_init_105 (fun H locs Y => ?_)
  replace hE := e_bind hE
  obtain ⟨st_19, g, hE⟩ := hE
  refine a_putFV X Y k_X3 5 g (by decide) rfl hnm rfl (nr_a (some st.1)) (fr_a (some st.1)) q446 dX3_init_106 (fun H locs Y => ?_)
  refine lv_aload_n hx hb dX3_init_109 rfl (lv_at hl 0 rfl) ?_
  refine r_aload_n hx hb dX3_init_110 rfl (lv_at hl 1 rfl) ?_
  replace hE := e_bind hE
  obtain ⟨st_20, g, hE⟩ := hE
  refine a_putFV X Y k_X3 0 g (by decide) rfl hnm rfl (nr_a p1) (fr_a p1) q440 dX3_init_111 (fun H locs Y => ?_)
  refine lv_aload_n hx hb dX3_init_114 rfl (lv_at hl 0 rfl) ?_
  refine lv_iload_n hx hb dX3_init_115 rfl (lv_at hl 2 rfl) ?_
  replace hE := e_bind hE
  obtain ⟨st_21, g, hE⟩ := hE
  refine a_putFV X Y k_X3 1 g (by decide) rfl hnm rfl rfl rfl q441 dX3_init_116 (fun H locs Y => ?_)
  cases hE
  exact a_vret X Y h1 h2 hr dX3_init_119
/-! BasicMachine$Parser.here()C -/
set_option maxHeartbeats 4000000 in
set_option maxRecDepth 100000 in
theorem maf_X3_here {l : Launch} (hl0 : l.stackTraces = false) (n : Nat) {x : aP} {st : aS} {a0 : Nat} {q : aS × (Int32)} (hE : af_X3_here n x.sK st a0 = some q) : aMet l yX3_here (ws_ yX3_here cX3_here 1 (some .char)) 0 0 x [.ref a0] st (.inl (some (.int q.2))) q.1 := by
  refine a_ofW (own := "BasicMachine$Parser") hl0 (by decide) rfl (Nat.le_of_ble_eq_true rfl) (fun mc ms p e s m below meth c ls H locs kc ks h1 h2 X hex Y hr hnm hl => ?_)
  have hnm : "here" = meth.name := hnm
  have hl : lv_has ls 1 [(0, .ref a0)] := hl
  have hx := X.1
  have hb := X.2.1
  have hown := X.2.2.2.1
  have hts := X.2.2.2.2.1
  have hK := X.2.2.2.2.2.1
  have hl0 := X.2.2.2.2.2.2.2.2
  unfold af_X3_here at hE
  refine lv_aload_n hx hb dX3_here_0 rfl (lv_at hl 0 rfl) ?_
  replace hE := e_bind hE
  obtain ⟨v_1, g, hE⟩ := hE
  refine n_gI X Y k_X3 2 g (by decide) q442 dX3_here_1 ?_
  refine lv_aload_n hx hb dX3_here_4 rfl (lv_at hl 0 rfl) ?_
  replace hE := e_bind hE
  obtain ⟨v_2, g, hE⟩ := hE
  refine n_gI X Y k_X3 1 g (by decide) q441 dX3_here_5 ?_
  refine lv_icmp_ge (tgt := 23) hx hb dX3_here_8 (by decide) (fun c_3 => ?_) (fun c_3 => ?_)
  · replace hE := e_t c_3 hE
    refine lv_iconst (v := 0) hx hb dX3_here_23 (by decide) ?_
    replace hE := e_bind hE
    obtain ⟨v_4, g, hE⟩ := hE
    obtain ⟨g1, g2, g3⟩ := i_cz g
    refine n_eqi g1 ?_
    cases hE
    exact a_zret (v := v_4) X Y h1 h2 hr g2 dX3_here_24
  · replace hE := e_f c_3 hE
    refine lv_aload_n hx hb dX3_here_11 rfl (lv_at hl 0 rfl) ?_
    replace hE := e_bind hE
    obtain ⟨r_5, g, hE⟩ := hE
    refine n_gR X Y k_X3 0 g (by decide) q440 dX3_here_12 ?_
    refine lv_aload_n hx hb dX3_here_15 rfl (lv_at hl 0 rfl) ?_
    replace hE := e_bind hE
    obtain ⟨v_6, g, hE⟩ := hE
    refine n_gI X Y k_X3 2 g (by decide) q442 dX3_here_16 ?_
    replace hE := e_bind hE
    obtain ⟨a_7, g, hE⟩ := hE
    subst g
    replace hE := e_bind hE
    obtain ⟨v_8, g, hE⟩ := hE
    refine a_cald X Y g dX3_here_19 ?_
    refine lv_goto (tgt := 24) hx hb dX3_here_20 (by decide) ?_
    replace hE := e_bind hE
    obtain ⟨v_9, g, hE⟩ := hE
    obtain ⟨g1, g2, g3⟩ := i_cz g
    refine n_eqi g1 ?_
    cases hE
    exact a_zret (v := v_9) X Y h1 h2 hr g2 dX3_here_24
/-! BasicMachine$Parser.digit(C)Z -/
set_option maxHeartbeats 4000000 in
set_option maxRecDepth 100000 in
theorem maf_X3_digit {l : Launch} (hl0 : l.stackTraces = false) (n : Nat) {x : aP} {st : aS} {p0 : Int32} {q : aS × (Int32)} (hE : af_X3_digit n x.sK st p0 = some q) : aMet l yX3_digit (ws_ yX3_digit cX3_digit 1 (some .boolean)) 0 0 x [.int p0] st (.inl (some (.int q.2))) q.1 := by
  refine a_ofW (own := "BasicMachine$Parser") hl0 (by decide) rfl (Nat.le_of_ble_eq_true rfl) (fun mc ms p e s m below meth c ls H locs kc ks h1 h2 X hex Y hr hnm hl => ?_)
  have hnm : "digit" = meth.name := hnm
  have hl : lv_has ls 1 [(0, .int p0)] := hl
  have hx := X.1
  have hb := X.2.1
  have hown := X.2.2.2.1
  have hts := X.2.2.2.2.1
  have hK := X.2.2.2.2.2.1
  have hl0 := X.2.2.2.2.2.2.2.2
  unfold af_X3_digit at hE
  refine lv_iload_n hx hb dX3_digit_0 rfl (lv_at hl 0 rfl) ?_
  refine lv_bipush (v := 48) hx hb dX3_digit_1 (by decide) ?_
  refine lv_icmp_lt (tgt := 16) hx hb dX3_digit_3 (by decide) (fun c_1 => ?_) (fun c_1 => ?_)
  · replace hE := e_t c_1 hE
    refine lv_iconst (v := 0) hx hb dX3_digit_16 (by decide) ?_
    cases hE
    exact a_zret (v := 0) X Y h1 h2 hr nz0 dX3_digit_17
  · replace hE := e_f c_1 hE
    refine lv_iload_n hx hb dX3_digit_6 rfl (lv_at hl 0 rfl) ?_
    refine lv_bipush (v := 57) hx hb dX3_digit_7 (by decide) ?_
    refine lv_icmp_gt (tgt := 16) hx hb dX3_digit_9 (by decide) (fun c_2 => ?_) (fun c_2 => ?_)
    · replace hE := e_t c_2 hE
      refine lv_iconst (v := 0) hx hb dX3_digit_16 (by decide) ?_
      cases hE
      exact a_zret (v := 0) X Y h1 h2 hr nz0 dX3_digit_17
    · replace hE := e_f c_2 hE
      refine lv_iconst (v := 1) hx hb dX3_digit_12 (by decide) ?_
      refine lv_goto (tgt := 17) hx hb dX3_digit_13 (by decide) ?_
      cases hE
      exact a_zret (v := 1) X Y h1 h2 hr nz1 dX3_digit_17
/-! BasicMachine$Parser.need(Z)V -/
set_option maxHeartbeats 4000000 in
set_option maxRecDepth 100000 in
theorem maf_X3_need {l : Launch} (hl0 : l.stackTraces = false) (n : Nat) {x : aP} {st : aS} {a0 : Nat} {p1 : Int32} {q : aS × (Unit ⊕ Nat)} (hE : af_X3_need n x.sK st a0 p1 = some q) : aMet l yX3_need (ws_ yX3_need cX3_need 2 none) 6 90 x [.ref a0, .int p1] st (oV q.2) q.1 := by
  refine a_ofW (own := "BasicMachine$Parser") hl0 (by decide) rfl (Nat.le_of_ble_eq_true rfl) (fun mc ms p e s m below meth c ls H locs kc ks h1 h2 X hex Y hr hnm hl => ?_)
  have hnm : "need" = meth.name := hnm
  have hl : lv_has ls 2 [(0, .ref a0), (1, .int p1)] := hl
  have hx := X.1
  have hb := X.2.1
  have hown := X.2.2.2.1
  have hts := X.2.2.2.2.1
  have hK := X.2.2.2.2.2.1
  have hl0 := X.2.2.2.2.2.2.2.2
  unfold af_X3_need at hE
  refine lv_iload_n hx hb dX3_need_0 rfl (lv_at hl 1 rfl) ?_
  refine lv_if_ne (tgt := 12) hx hb dX3_need_1 (by decide) (fun c_1 => ?_) (fun c_1 => ?_)
  · replace hE := e_f c_1 hE
    cases hE
    exact a_vret X Y h1 h2 hr dX3_need_12
  · replace hE := e_t c_1 hE
    cases hE
    exact a_throw X Y h1 h2 rfl (by decide +kernel) q480 q127 (at_B_Parser_0 hts hK) at_B_Parser_0_o (fun z hz => (hex z hz).elim) hl.1 (by show _ ≤ 6; decide) (Nat.le_trans (Nat.add_le_add_right (show _ ≤ 8 from (Nat.le_of_ble_eq_true rfl)) 81) (by show _ ≤ 90; decide)) dX3_need_4 dX3_need_7 dX3_need_8 dX3_need_11
/-! BasicMachine$Parser.number()I -/
set_option maxHeartbeats 4000000 in
set_option maxRecDepth 100000 in
theorem waf_X3_number_L80 {l : Launch} {x : aP} {As : List Value} {σ0 : aS} {p : Program} {e : Env} {s : State} {m : MethodId} {below : List Frame} {meth : Method} {c : Code} {mc ms : Nat} (X : aX "BasicMachine$Parser" p l s m As.toArray meth c cX3_number 3 x σ0) (hex : ∀ z ∈ c.exceptionTable.toList, False) (hr : meth.sig.returnType = (some .int)) (hnm : "number" = meth.name) {n : Nat} {st : aS} {a0 : Nat} {x1 : Int32} {z80_1 : Int32} {q : aS × ((Int32) ⊕ Nat)} (hE : af_X3_number_L80 n x.sK st a0 x1 z80_1 = some q) (h1 : mc + σ0.1 = q.1.1) (h2 : ms + σ0.2.1 = q.1.2.1) {H : Heap} {locs : List Loc} {ls : Array Slot} {kc ks : Nat} (Y : aY x σ0 s st H locs kc ks) (hl : lv_has ls 3 [(0, .ref a0), (1, .int x1)]) : aG l 7 111 mc ms x As σ0 (oI q.2) q.1 p e s m below meth c H locs kc ks (F0 m 80 ls [.int z80_1, .ref a0]) := by
  have hx := X.1
  have hb := X.2.1
  have hown := X.2.2.2.1
  have hts := X.2.2.2.2.1
  have hK := X.2.2.2.2.2.1
  have hl0 := X.2.2.2.2.2.2.2.2
  unfold af_X3_number_L80 at hE
  replace hE := e_bind hE
  obtain ⟨u_3, g, hE⟩ := hE
  obtain ⟨fs9, g9⟩ := i_gC g
  have g7 := a_recv X Y k_X3.1 g9
  replace hE := e_xb hE
  rcases hE with ⟨st_1, u_2, g, hE⟩ | ⟨st_1, k9, g, hE⟩
  rotate_left
  · subst hE
    refine a_callV (n := 1) (C := "BasicMachine$Parser") (σ1 := st_1) (σf := st_1) [.int z80_1] X Y (maf_X3_need hl0 n g) ⟨oaf_X3_need _ g, aLe.rf _, h1, h2, (by show _ ≤ 7; decide), (by show _ ≤ 111; decide)⟩ q476 q478 qs5 q129 q479 (by decide +kernel) g7 rfl hl.1 (Nat.le_of_ble_eq_true rfl) dX3_number_80 (fun v hv => by cases hv) (fun k hk H locs kc ks q9 ce Y e1 e2 e3 => ?_)
    cases hk
    exact a_out X Y h1 h2 (fun z hz => (hex z hz).elim) e1 e2 e3
  have M9 := mo_ret _ hE
  refine a_callV (n := 1) (C := "BasicMachine$Parser") (σ1 := st_1) (σf := q.1) [.int z80_1] X Y (maf_X3_need hl0 n g) ⟨oaf_X3_need _ g, M9, h1, h2, (by show _ ≤ 7; decide), (by show _ ≤ 111; decide)⟩ q476 q478 qs5 q129 q479 (by decide +kernel) g7 rfl hl.1 (Nat.le_of_ble_eq_true rfl) dX3_number_80 (fun v hv H locs kc ks Y => ?_) (fun k hk => by cases hk)
  cases hv
  refine lv_iload_n hx hb dX3_number_83 rfl (lv_at hl 1 rfl) ?_
  cases hE
  exact a_iret X Y h1 h2 hr dX3_number_84
set_option maxHeartbeats 4000000 in
set_option maxRecDepth 100000 in
theorem waf_X3_number_L79 {l : Launch} {x : aP} {As : List Value} {σ0 : aS} {p : Program} {e : Env} {s : State} {m : MethodId} {below : List Frame} {meth : Method} {c : Code} {mc ms : Nat} (X : aX "BasicMachine$Parser" p l s m As.toArray meth c cX3_number 3 x σ0) (hex : ∀ z ∈ c.exceptionTable.toList, False) (hr : meth.sig.returnType = (some .int)) (hnm : "number" = meth.name) {n : Nat} {st : aS} {a0 : Nat} {x1 : Int32} {q : aS × ((Int32) ⊕ Nat)} (hE : af_X3_number_L79 n x.sK st a0 x1 = some q) (h1 : mc + σ0.1 = q.1.1) (h2 : ms + σ0.2.1 = q.1.2.1) {H : Heap} {locs : List Loc} {ls : Array Slot} {kc ks : Nat} (Y : aY x σ0 s st H locs kc ks) (hl : lv_has ls 3 [(0, .ref a0), (1, .int x1)]) : aG l 7 111 mc ms x As σ0 (oI q.2) q.1 p e s m below meth c H locs kc ks (F0 m 79 ls [.ref a0]) := by
  have hx := X.1
  have hb := X.2.1
  have hown := X.2.2.2.1
  have hts := X.2.2.2.2.1
  have hK := X.2.2.2.2.2.1
  have hl0 := X.2.2.2.2.2.2.2.2
  unfold af_X3_number_L79 at hE
  refine lv_iconst (v := 0) hx hb dX3_number_79 (by decide) ?_
  exact waf_X3_number_L80 X hex hr hnm hE h1 h2 Y (lv_sub hl [0, 1] rfl)
set_option maxHeartbeats 4000000 in
set_option maxRecDepth 100000 in
theorem waf_X3_number_L66 {l : Launch} {x : aP} {As : List Value} {σ0 : aS} {p : Program} {e : Env} {s : State} {m : MethodId} {below : List Frame} {meth : Method} {c : Code} {mc ms : Nat} (X : aX "BasicMachine$Parser" p l s m As.toArray meth c cX3_number 3 x σ0) (hex : ∀ z ∈ c.exceptionTable.toList, False) (hr : meth.sig.returnType = (some .int)) (hnm : "number" = meth.name) {n : Nat} {st : aS} {a0 : Nat} {x1 : Int32} {x2 : Int32} {q : aS × ((Int32) ⊕ Nat)} (hE : af_X3_number_L66 n x.sK st a0 x1 x2 = some q) (h1 : mc + σ0.1 = q.1.1) (h2 : ms + σ0.2.1 = q.1.2.1) {H : Heap} {locs : List Loc} {ls : Array Slot} {kc ks : Nat} (Y : aY x σ0 s st H locs kc ks) (hl : lv_has ls 3 [(0, .ref a0), (1, .int x1), (2, .int x2)]) : aG l 7 111 mc ms x As σ0 (oI q.2) q.1 p e s m below meth c H locs kc ks (F0 m 66 ls []) := by
  have hx := X.1
  have hb := X.2.1
  have hown := X.2.2.2.1
  have hts := X.2.2.2.2.1
  have hK := X.2.2.2.2.2.1
  have hl0 := X.2.2.2.2.2.2.2.2
  unfold af_X3_number_L66 at hE
  refine lv_aload_n hx hb dX3_number_66 rfl (lv_at hl 0 rfl) ?_
  refine lv_iload_n hx hb dX3_number_67 rfl (lv_at hl 2 rfl) ?_
  refine lv_if_le (tgt := 79) hx hb dX3_number_68 (by decide) (fun c_1 => ?_) (fun c_1 => ?_)
  · replace hE := e_t c_1 hE
    exact waf_X3_number_L79 X hex hr hnm hE h1 h2 Y (lv_sub hl [0, 1] rfl)
  · replace hE := e_f c_1 hE
    refine lv_iload_n hx hb dX3_number_71 rfl (lv_at hl 1 rfl) ?_
    refine lv_if_le (tgt := 79) hx hb dX3_number_72 (by decide) (fun c_2 => ?_) (fun c_2 => ?_)
    · replace hE := e_t c_2 hE
      exact waf_X3_number_L79 X hex hr hnm hE h1 h2 Y (lv_sub hl [0, 1] rfl)
    · replace hE := e_f c_2 hE
      refine lv_iconst (v := 1) hx hb dX3_number_75 (by decide) ?_
      refine lv_goto (tgt := 80) hx hb dX3_number_76 (by decide) ?_
      exact waf_X3_number_L80 X hex hr hnm hE h1 h2 Y (lv_sub hl [0, 1] rfl)
set_option maxHeartbeats 4000000 in
set_option maxRecDepth 100000 in
theorem waf_X3_number_S4_ {l : Launch} {x : aP} {As : List Value} {σ0 : aS} {p : Program} {e : Env} {s : State} {m : MethodId} {below : List Frame} {meth : Method} {c : Code} {mc ms : Nat} (X : aX "BasicMachine$Parser" p l s m As.toArray meth c cX3_number 3 x σ0) (hex : ∀ z ∈ c.exceptionTable.toList, False) (hr : meth.sig.returnType = (some .int)) (hnm : "number" = meth.name) {n : Nat} {q : aS × ((Int32) ⊕ Nat)} : ∀ k : Nat, (∀ {st : aS} {a0 : Nat} {x1 : Int32} {x2 : Int32} {z47_1 : Int32}, af_X3_number_S4 n x.sK k 0 st a0 x1 x2 z47_1 = some q → (mc + σ0.1 = q.1.1) → (ms + σ0.2.1 = q.1.2.1) → ∀ {H : Heap} {locs : List Loc} {ls : Array Slot} {kc ks : Nat}, aY x σ0 s st H locs kc ks → lv_has ls 3 [(0, .ref a0), (1, .int x1), (2, .int x2)] → aG l 7 111 mc ms x As σ0 (oI q.2) q.1 p e s m below meth c H locs kc ks (F0 m 4 ls [])) ∧ (∀ {st : aS} {a0 : Nat} {x1 : Int32} {x2 : Int32} {z47_1 : Int32}, af_X3_number_S4 n x.sK k 1 st a0 x1 x2 z47_1 = some q → (mc + σ0.1 = q.1.1) → (ms + σ0.2.1 = q.1.2.1) → ∀ {H : Heap} {locs : List Loc} {ls : Array Slot} {kc ks : Nat}, aY x σ0 s st H locs kc ks → lv_has ls 3 [(0, .ref a0), (1, .int x1), (2, .int x2)] → aG l 7 111 mc ms x As σ0 (oI q.2) q.1 p e s m below meth c H locs kc ks (F0 m 42 ls [.ref a0])) ∧ (∀ {st : aS} {a0 : Nat} {x1 : Int32} {x2 : Int32} {z47_1 : Int32}, af_X3_number_S4 n x.sK k 2 st a0 x1 x2 z47_1 = some q → (mc + σ0.1 = q.1.1) → (ms + σ0.2.1 = q.1.2.1) → ∀ {H : Heap} {locs : List Loc} {ls : Array Slot} {kc ks : Nat}, aY x σ0 s st H locs kc ks → lv_has ls 3 [(0, .ref a0), (1, .int x1), (2, .int x2)] → aG l 7 111 mc ms x As σ0 (oI q.2) q.1 p e s m below meth c H locs kc ks (F0 m 47 ls [.int z47_1, .ref a0])) := by
  have hx := X.1
  have hb := X.2.1
  have hown := X.2.2.2.1
  have hts := X.2.2.2.2.1
  have hK := X.2.2.2.2.2.1
  have hl0 := X.2.2.2.2.2.2.2.2
  intro k
  induction k with
  | zero => exact ⟨(fun h => nomatch (show none = some q from h)), (fun h => nomatch (show none = some q from h)), (fun h => nomatch (show none = some q from h))⟩
  | succ k ih =>
    obtain ⟨ih0, ih1, ih2⟩ := ih
    have mrec := @oaf_X3_number_S4_ n x.sK k
    obtain ⟨mrec0, mrec1, mrec2⟩ := mrec
    refine ⟨?_, ?_, ?_⟩
    · intro st a0 x1 x2 z47_1 hE h1 h2 H locs ls kc ks Y hl
      replace hE : af_X3_number_B4 n x.sK (af_X3_number_S4 n x.sK k) st a0 x1 x2 z47_1 = some q := hE
      unfold af_X3_number_B4 at hE
      refine lv_iload_n hx hb dX3_number_4 rfl (lv_at hl 2 rfl) ?_
      refine lv_iconst (v := 3) hx hb dX3_number_5 (by decide) ?_
      refine lv_icmp_ge (tgt := 66) hx hb dX3_number_6 (by decide) (fun c_1 => ?_) (fun c_1 => ?_)
      · replace hE := e_t c_1 hE
        exact waf_X3_number_L66 X hex hr hnm hE h1 h2 Y (lv_sub hl [0, 1, 2] rfl)
      · replace hE := e_f c_1 hE
        refine lv_aload_n hx hb dX3_number_9 rfl (lv_at hl 0 rfl) ?_
        replace hE := e_bind hE
        obtain ⟨u_4, g, hE⟩ := hE
        obtain ⟨fs9, g9⟩ := i_gC g
        have g7 := a_recv X Y k_X3.1 g9
        replace hE := e_cb hE
        obtain ⟨st_2, v_3, g, hE⟩ := hE
        have M9 := (mo_cb oaf_X3_digit fun _ _ => (mo_if (oaf_X3_number_L66 ) (mo_v fun _ => (mo_cb oaf_X3_here fun _ _ => (mo_v fun _ => (mo_if (mrec1) (mo_if (mrec2) (mrec1)))))))) _ hE
        refine a_callV (n := 0) (C := "BasicMachine$Parser") (σ1 := st_2) (σf := q.1) [] X Y (maf_X3_here hl0 n g) ⟨oaf_X3_here _ g, M9, h1, h2, (by show _ ≤ 7; decide), (by show _ ≤ 111; decide)⟩ q469 q471 qs4 q129 q472 (by decide +kernel) g7 rfl hl.1 (Nat.le_of_ble_eq_true rfl) dX3_number_10 (fun v hv H locs kc ks Y => ?_) (fun k hk => by cases hk)
        cases hv
        replace hE := e_cb hE
        obtain ⟨st_5, v_6, g, hE⟩ := hE
        have M9 := (mo_if (oaf_X3_number_L66 ) (mo_v fun _ => (mo_cb oaf_X3_here fun _ _ => (mo_v fun _ => (mo_if (mrec1) (mo_if (mrec2) (mrec1))))))) _ hE
        refine a_callS (n := 1) (σ1 := st_5) (σf := q.1) [.int v_3] X Y (maf_X3_digit hl0 n g) ⟨oaf_X3_digit _ g, M9, h1, h2, (by show _ ≤ 7; decide), (by show _ ≤ 111; decide)⟩ q473 q474 q129 q475 (by decide +kernel) rfl hl.1 (Nat.le_of_ble_eq_true rfl) dX3_number_13 (fun v hv H locs kc ks Y => ?_) (fun k hk => by cases hk)
        cases hv
        refine lv_if_eq (tgt := 66) hx hb dX3_number_16 (by decide) (fun c_7 => ?_) (fun c_7 => ?_)
        · replace hE := e_t c_7 hE
          exact waf_X3_number_L66 X hex hr hnm hE h1 h2 Y (lv_sub hl [0, 1, 2] rfl)
        · replace hE := e_f c_7 hE
          refine lv_bipush (v := 10) hx hb dX3_number_19 (by decide) ?_
          refine lv_iload_n hx hb dX3_number_21 rfl (lv_at hl 1 rfl) ?_
          refine lv_imul hx hb dX3_number_22 ?_
          refine lv_aload_n hx hb dX3_number_23 rfl (lv_at hl 0 rfl) ?_
          replace hE := e_bind hE
          obtain ⟨u_10, g, hE⟩ := hE
          obtain ⟨fs9, g9⟩ := i_gC g
          have g7 := a_recv X Y k_X3.1 g9
          replace hE := e_cb hE
          obtain ⟨st_8, v_9, g, hE⟩ := hE
          have M9 := (mo_v fun _ => (mo_if (mrec1) (mo_if (mrec2) (mrec1)))) _ hE
          refine a_callV (n := 0) (C := "BasicMachine$Parser") (σ1 := st_8) (σf := q.1) [] X Y (maf_X3_here hl0 n g) ⟨oaf_X3_here _ g, M9, h1, h2, (by show _ ≤ 7; decide), (by show _ ≤ 111; decide)⟩ q469 q471 qs4 q129 q472 (by decide +kernel) g7 rfl hl.1 (Nat.le_of_ble_eq_true rfl) dX3_number_24 (fun v hv H locs kc ks Y => ?_) (fun k hk => by cases hk)
          cases hv
          refine lv_iadd hx hb dX3_number_27 ?_
          refine lv_bipush (v := 48) hx hb dX3_number_28 (by decide) ?_
          refine lv_isub hx hb dX3_number_30 ?_
          replace hE := e_bind hE
          obtain ⟨x1_11, g, hE⟩ := hE
          refine n_topi g ?_
          refine lv_istore_n (i := 1) (lv' := [(1, .int x1_11), (0, .ref a0), (2, .int x2)]) hx hb dX3_number_31 rfl hl (by decide) rfl (fun ls hl => ?_)
          refine lv_aload_n hx hb dX3_number_32 rfl (lv_at hl 1 rfl) ?_
          refine lv_iload_n hx hb dX3_number_33 rfl (lv_at hl 0 rfl) ?_
          refine lv_if_gt (tgt := 42) hx hb dX3_number_34 (by decide) (fun c_12 => ?_) (fun c_12 => ?_)
          · replace hE := e_t c_12 hE
            exact ih1 hE h1 h2 Y (lv_sub hl [1, 0, 2] rfl)
          · replace hE := e_f c_12 hE
            refine lv_iload_n hx hb dX3_number_37 rfl (lv_at hl 2 rfl) ?_
            refine lv_iconst (v := 2) hx hb dX3_number_38 (by decide) ?_
            refine lv_icmp_ge (tgt := 46) hx hb dX3_number_39 (by decide) (fun c_13 => ?_) (fun c_13 => ?_)
            · replace hE := e_t c_13 hE
              refine lv_iconst (v := 0) hx hb dX3_number_46 (by decide) ?_
              exact ih2 hE h1 h2 Y (lv_sub hl [1, 0, 2] rfl)
            · replace hE := e_f c_13 hE
              exact ih1 hE h1 h2 Y (lv_sub hl [1, 0, 2] rfl)
    · intro st a0 x1 x2 z47_1 hE h1 h2 H locs ls kc ks Y hl
      replace hE : af_X3_number_B42 n x.sK (af_X3_number_S4 n x.sK k) st a0 x1 x2 z47_1 = some q := hE
      unfold af_X3_number_B42 at hE
      refine lv_iconst (v := 1) hx hb dX3_number_42 (by decide) ?_
      refine lv_goto (tgt := 47) hx hb dX3_number_43 (by decide) ?_
      exact ih2 hE h1 h2 Y (lv_sub hl [0, 1, 2] rfl)
    · intro st a0 x1 x2 z47_1 hE h1 h2 H locs ls kc ks Y hl
      replace hE : af_X3_number_B47 n x.sK (af_X3_number_S4 n x.sK k) st a0 x1 x2 z47_1 = some q := hE
      unfold af_X3_number_B47 at hE
      replace hE := e_bind hE
      obtain ⟨u_3, g, hE⟩ := hE
      obtain ⟨fs9, g9⟩ := i_gC g
      have g7 := a_recv X Y k_X3.1 g9
      replace hE := e_xb hE
      rcases hE with ⟨st_1, u_2, g, hE⟩ | ⟨st_1, k9, g, hE⟩
      rotate_left
      · subst hE
        refine a_callV (n := 1) (C := "BasicMachine$Parser") (σ1 := st_1) (σf := st_1) [.int z47_1] X Y (maf_X3_need hl0 n g) ⟨oaf_X3_need _ g, aLe.rf _, h1, h2, (by show _ ≤ 7; decide), (by show _ ≤ 111; decide)⟩ q476 q478 qs5 q129 q479 (by decide +kernel) g7 rfl hl.1 (Nat.le_of_ble_eq_true rfl) dX3_number_47 (fun v hv => by cases hv) (fun k hk H locs kc ks q9 ce Y e1 e2 e3 => ?_)
        cases hk
        exact a_out X Y h1 h2 (fun z hz => (hex z hz).elim) e1 e2 e3
      have M9 := (mo_v fun _ => (mo_s (fun _ => le_pF) fun _ => (mrec0))) _ hE
      refine a_callV (n := 1) (C := "BasicMachine$Parser") (σ1 := st_1) (σf := q.1) [.int z47_1] X Y (maf_X3_need hl0 n g) ⟨oaf_X3_need _ g, M9, h1, h2, (by show _ ≤ 7; decide), (by show _ ≤ 111; decide)⟩ q476 q478 qs5 q129 q479 (by decide +kernel) g7 rfl hl.1 (Nat.le_of_ble_eq_true rfl) dX3_number_47 (fun v hv H locs kc ks Y => ?_) (fun k hk => by cases hk)
      cases hv
      refine lv_aload_n hx hb dX3_number_50 rfl (lv_at hl 0 rfl) ?_
      refine lv_dup hx hb dX3_number_51 rfl ?_
      replace hE := e_bind hE
      obtain ⟨v_4, g, hE⟩ := hE
      refine n_gI X Y k_X3 2 g (by decide) q442 dX3_number_52 ?_
      refine lv_iconst (v := 1) hx hb dX3_number_55 (by decide) ?_
      refine lv_iadd hx hb dX3_number_56 ?_
      replace hE := e_bind hE
      obtain ⟨st_5, g, hE⟩ := hE
      refine a_putV X Y k_X3 2 g (by decide) rfl rfl rfl q442 dX3_number_57 (fun H locs Y => ?_)
      refine lv_iinc (v := (x2 + (1 : Int32))) (lv' := [(2, .int (x2 + (1 : Int32))), (0, .ref a0), (1, .int x1)]) hx hb dX3_number_60 hl (k := 2) rfl rfl (by decide) rfl (fun ls hl => ?_)
      refine lv_goto (tgt := 4) hx hb dX3_number_63 (by decide) ?_
      exact ih0 hE h1 h2 Y (lv_sub hl [1, 2, 0] rfl)
set_option maxHeartbeats 4000000 in
set_option maxRecDepth 100000 in
theorem waf_X3_number_S4 {l : Launch} {x : aP} {As : List Value} {σ0 : aS} {p : Program} {e : Env} {s : State} {m : MethodId} {below : List Frame} {meth : Method} {c : Code} {mc ms : Nat} (X : aX "BasicMachine$Parser" p l s m As.toArray meth c cX3_number 3 x σ0) (hex : ∀ z ∈ c.exceptionTable.toList, False) (hr : meth.sig.returnType = (some .int)) (hnm : "number" = meth.name) {n : Nat} {q : aS × ((Int32) ⊕ Nat)} : (∀ {st : aS} {a0 : Nat} {x1 : Int32} {x2 : Int32} {z47_1 : Int32}, af_X3_number_S4 n x.sK n 0 st a0 x1 x2 z47_1 = some q → (mc + σ0.1 = q.1.1) → (ms + σ0.2.1 = q.1.2.1) → ∀ {H : Heap} {locs : List Loc} {ls : Array Slot} {kc ks : Nat}, aY x σ0 s st H locs kc ks → lv_has ls 3 [(0, .ref a0), (1, .int x1), (2, .int x2)] → aG l 7 111 mc ms x As σ0 (oI q.2) q.1 p e s m below meth c H locs kc ks (F0 m 4 ls [])) ∧ (∀ {st : aS} {a0 : Nat} {x1 : Int32} {x2 : Int32} {z47_1 : Int32}, af_X3_number_S4 n x.sK n 1 st a0 x1 x2 z47_1 = some q → (mc + σ0.1 = q.1.1) → (ms + σ0.2.1 = q.1.2.1) → ∀ {H : Heap} {locs : List Loc} {ls : Array Slot} {kc ks : Nat}, aY x σ0 s st H locs kc ks → lv_has ls 3 [(0, .ref a0), (1, .int x1), (2, .int x2)] → aG l 7 111 mc ms x As σ0 (oI q.2) q.1 p e s m below meth c H locs kc ks (F0 m 42 ls [.ref a0])) ∧ (∀ {st : aS} {a0 : Nat} {x1 : Int32} {x2 : Int32} {z47_1 : Int32}, af_X3_number_S4 n x.sK n 2 st a0 x1 x2 z47_1 = some q → (mc + σ0.1 = q.1.1) → (ms + σ0.2.1 = q.1.2.1) → ∀ {H : Heap} {locs : List Loc} {ls : Array Slot} {kc ks : Nat}, aY x σ0 s st H locs kc ks → lv_has ls 3 [(0, .ref a0), (1, .int x1), (2, .int x2)] → aG l 7 111 mc ms x As σ0 (oI q.2) q.1 p e s m below meth c H locs kc ks (F0 m 47 ls [.int z47_1, .ref a0])) := waf_X3_number_S4_ X hex hr hnm n
set_option maxHeartbeats 4000000 in
set_option maxRecDepth 100000 in
theorem maf_X3_number {l : Launch} (hl0 : l.stackTraces = false) (n : Nat) {x : aP} {st : aS} {a0 : Nat} {q : aS × ((Int32) ⊕ Nat)} (hE : af_X3_number n x.sK st a0 = some q) : aMet l yX3_number (ws_ yX3_number cX3_number 3 (some .int)) 7 111 x [.ref a0] st (oI q.2) q.1 := by
  refine a_ofW (own := "BasicMachine$Parser") hl0 (by decide) rfl (Nat.le_of_ble_eq_true rfl) (fun mc ms p e s m below meth c ls H locs kc ks h1 h2 X hex Y hr hnm hl => ?_)
  have hnm : "number" = meth.name := hnm
  have hl : lv_has ls 3 [(0, .ref a0)] := hl
  have hx := X.1
  have hb := X.2.1
  have hown := X.2.2.2.1
  have hts := X.2.2.2.2.1
  have hK := X.2.2.2.2.2.1
  have hl0 := X.2.2.2.2.2.2.2.2
  unfold af_X3_number at hE
  refine lv_iconst (v := 0) hx hb dX3_number_0 (by decide) ?_
  refine lv_istore_n (i := 1) (lv' := [(1, .int (0 : Int32)), (0, .ref a0)]) hx hb dX3_number_1 rfl hl (by decide) rfl (fun ls hl => ?_)
  refine lv_iconst (v := 0) hx hb dX3_number_2 (by decide) ?_
  refine lv_istore_n (i := 2) (lv' := [(2, .int (0 : Int32)), (1, .int (0 : Int32)), (0, .ref a0)]) hx hb dX3_number_3 rfl hl (by decide) rfl (fun ls hl => ?_)
  exact (waf_X3_number_S4 X hex hr hnm).1 hE h1 h2 Y (lv_sub hl [2, 1, 0] rfl)
/-! BasicMachine$Line.<init>(ILBasicMachine$Statement;)V -/
set_option maxHeartbeats 4000000 in
set_option maxRecDepth 100000 in
theorem maf_X4_init {l : Launch} (hl0 : l.stackTraces = false) (n : Nat) {x : aP} {st : aS} {a0 : Nat} {p1 : Int32} {p2 : Option Nat} {q : aS × Unit} (hE : af_X4_init n x.sK st a0 p1 p2 = some q) : aMet l yX4_init (ws_ yX4_init cX4_init 3 none) 1 20 x [.ref a0, .int p1, va_rf p2] st (.inl none) q.1 := by
  refine a_ofW (own := "BasicMachine$Line") hl0 (by decide) rfl (by simp only [lg_sl, List.flatMap_cons, List.flatMap_nil, va_rf_cat]; exact Nat.le_of_ble_eq_true rfl) (fun mc ms p e s m below meth c ls H locs kc ks h1 h2 X hex Y hr hnm hl => ?_)
  have hnm : "<init>" = meth.name := hnm
  have hl : lv_has ls 3 [(0, .ref a0), (1, .int p1), (2, va_rf p2)] := by simp only [lv_args, va_rf_cat] at hl; exact hl
  have hx := X.1
  have hb := X.2.1
  have hown := X.2.2.2.1
  have hts := X.2.2.2.2.1
  have hK := X.2.2.2.2.2.1
  have hl0 := X.2.2.2.2.2.2.2.2
  unfold af_X4_init at hE
  refine lv_aload_n hx hb dX4_init_0 rfl (lv_at hl 0 rfl) ?_
  refine W.objInit hx hb hown (hts _ q487) (hts _ q_oi) (hts _ q_oc) rfl (by rw [X.2.2.1]; exact hl.1) rfl dX4_init_1 (by show _ ≤ 1; decide) (Nat.le_trans (Nat.add_le_add_right (show _ ≤ 8 from (Nat.le_of_ble_eq_true rfl)) 12) (by show _ ≤ 20; decide)) ?_
  refine W.eq (g2 := F0 m 4 ls []) rfl ?_
  refine lv_aload_n hx hb dX4_init_4 rfl (lv_at hl 0 rfl) ?_
  refine lv_iload_n hx hb dX4_init_5 rfl (lv_at hl 1 rfl) ?_
  replace hE := e_bind hE
  obtain ⟨st_1, g, hE⟩ := hE
  refine a_putFV X Y k_X4 0 g (by decide) rfl hnm rfl rfl rfl q488 dX4_init_6 (fun H locs Y => ?_)
  refine lv_aload_n hx hb dX4_init_9 rfl (lv_at hl 0 rfl) ?_
  refine r_aload_n hx hb dX4_init_10 rfl (lv_at hl 2 rfl) ?_
  replace hE := e_bind hE
  obtain ⟨st_2, g, hE⟩ := hE
  refine a_putFV X Y k_X4 1 g (by decide) rfl hnm rfl (nr_o p2) (fr_o p2) q490 dX4_init_11 (fun H locs Y => ?_)
  cases hE
  exact a_vret X Y h1 h2 hr dX4_init_14
/-! BasicMachine$Parser.same(Ljava/lang/String;I)I -/
set_option maxHeartbeats 4000000 in
set_option maxRecDepth 100000 in
theorem waf_X3_same_S2_ {l : Launch} {x : aP} {As : List Value} {σ0 : aS} {p : Program} {e : Env} {s : State} {m : MethodId} {below : List Frame} {meth : Method} {c : Code} {mc ms : Nat} (X : aX "BasicMachine$Parser" p l s m As.toArray meth c cX3_same 4 x σ0) (hex : ∀ z ∈ c.exceptionTable.toList, False) (hr : meth.sig.returnType = (some .int)) (hnm : "same" = meth.name) {n : Nat} {q : aS × (Int32)} : ∀ k : Nat, (∀ {st : aS} {a0 : Nat} {x1 : Option Nat} {x2 : Int32} {x3 : Int32}, af_X3_same_S2 n x.sK k st a0 x1 x2 x3 = some q → (mc + σ0.1 = q.1.1) → (ms + σ0.2.1 = q.1.2.1) → ∀ {H : Heap} {locs : List Loc} {ls : Array Slot} {kc ks : Nat}, aY x σ0 s st H locs kc ks → lv_has ls 4 [(0, .ref a0), (1, va_rf x1), (2, .int x2), (3, .int x3)] → aG l 8 200 mc ms x As σ0 (.inl (some (.int q.2))) q.1 p e s m below meth c H locs kc ks (F0 m 2 ls [])) := by
  have hx := X.1
  have hb := X.2.1
  have hown := X.2.2.2.1
  have hts := X.2.2.2.2.1
  have hK := X.2.2.2.2.2.1
  have hl0 := X.2.2.2.2.2.2.2.2
  intro k
  induction k with
  | zero => exact fun h => nomatch (show none = some q from h)
  | succ k ih =>
    have mrec := @oaf_X3_same_S2_ n x.sK k
    intro st a0 x1 x2 x3 hE h1 h2 H locs ls kc ks Y hl
    replace hE : af_X3_same_B2 n x.sK (af_X3_same_S2 n x.sK k) st a0 x1 x2 x3 = some q := hE
    unfold af_X3_same_B2 at hE
    refine lv_iload_n hx hb dX3_same_2 rfl (lv_at hl 3 rfl) ?_
    refine r_aload_n hx hb dX3_same_3 rfl (lv_at hl 1 rfl) ?_
    replace hE := e_bind hE
    obtain ⟨a_1, g, hE⟩ := hE
    subst g
    replace hE := e_bind hE
    obtain ⟨v_2, g, hE⟩ := hE
    refine sLen_row (σf := q.1) X Y h1 h2 ((mo_if mo_ret (mo_v fun _ => (mo_if mo_ret (mo_v fun _ => (mo_v fun _ => (mo_v fun _ => (mo_v fun _ => (mo_if (mrec) mo_ret)))))))) _ hE) g q512 (by show _ ≤ 8; decide) (by show _ ≤ 200; decide) hl.1 (Nat.le_of_ble_eq_true rfl) dX3_same_4 (fun H locs kc ks Y => ?_)
    refine lv_icmp_ge (tgt := 42) hx hb dX3_same_7 (by decide) (fun c_3 => ?_) (fun c_3 => ?_)
    · replace hE := e_t c_3 hE
      refine lv_iload_n hx hb dX3_same_42 rfl (lv_at hl 3 rfl) ?_
      cases hE
      exact a_iret X Y h1 h2 hr dX3_same_43
    · replace hE := e_f c_3 hE
      refine lv_iload_n hx hb dX3_same_10 rfl (lv_at hl 2 rfl) ?_
      refine lv_iload_n hx hb dX3_same_11 rfl (lv_at hl 3 rfl) ?_
      refine lv_iadd hx hb dX3_same_12 ?_
      refine lv_aload_n hx hb dX3_same_13 rfl (lv_at hl 0 rfl) ?_
      replace hE := e_bind hE
      obtain ⟨v_4, g, hE⟩ := hE
      refine n_gI X Y k_X3 1 g (by decide) q441 dX3_same_14 ?_
      refine lv_icmp_ge (tgt := 42) hx hb dX3_same_17 (by decide) (fun c_5 => ?_) (fun c_5 => ?_)
      · replace hE := e_t c_5 hE
        refine lv_iload_n hx hb dX3_same_42 rfl (lv_at hl 3 rfl) ?_
        cases hE
        exact a_iret X Y h1 h2 hr dX3_same_43
      · replace hE := e_f c_5 hE
        refine lv_aload_n hx hb dX3_same_20 rfl (lv_at hl 0 rfl) ?_
        replace hE := e_bind hE
        obtain ⟨r_6, g, hE⟩ := hE
        refine n_gR X Y k_X3 0 g (by decide) q440 dX3_same_21 ?_
        refine lv_iload_n hx hb dX3_same_24 rfl (lv_at hl 2 rfl) ?_
        refine lv_iload_n hx hb dX3_same_25 rfl (lv_at hl 3 rfl) ?_
        refine lv_iadd hx hb dX3_same_26 ?_
        replace hE := e_bind hE
        obtain ⟨a_7, g, hE⟩ := hE
        subst g
        replace hE := e_bind hE
        obtain ⟨v_8, g, hE⟩ := hE
        refine a_cald X Y g dX3_same_27 ?_
        refine lv_aload_n hx hb dX3_same_28 rfl (lv_at hl 1 rfl) ?_
        refine lv_iload_n hx hb dX3_same_29 rfl (lv_at hl 3 rfl) ?_
        replace hE := e_bind hE
        obtain ⟨v_9, g, hE⟩ := hE
        refine sAt_row (σf := q.1) X Y h1 h2 ((mo_if (mrec) mo_ret) _ hE) g q522 (by show _ ≤ 8; decide) (by show _ ≤ 200; decide) hl.1 (Nat.le_of_ble_eq_true rfl) dX3_same_30 (fun H locs kc ks Y => ?_)
        refine lv_icmp_ne (tgt := 42) hx hb dX3_same_33 (by decide) (fun c_10 => ?_) (fun c_10 => ?_)
        · replace hE := e_f c_10 hE
          refine lv_iload_n hx hb dX3_same_42 rfl (lv_at hl 3 rfl) ?_
          cases hE
          exact a_iret X Y h1 h2 hr dX3_same_43
        · replace hE := e_t c_10 hE
          refine lv_iinc (v := (x3 + (1 : Int32))) (lv' := [(3, .int (x3 + (1 : Int32))), (0, .ref a0), (1, .ref a_1), (2, .int x2)]) hx hb dX3_same_36 hl (k := 3) rfl rfl (by decide) rfl (fun ls hl => ?_)
          refine lv_goto (tgt := 2) hx hb dX3_same_39 (by decide) ?_
          exact ih hE h1 h2 Y (lv_sub hl [1, 2, 3, 0] rfl)
set_option maxHeartbeats 4000000 in
set_option maxRecDepth 100000 in
theorem waf_X3_same_S2 {l : Launch} {x : aP} {As : List Value} {σ0 : aS} {p : Program} {e : Env} {s : State} {m : MethodId} {below : List Frame} {meth : Method} {c : Code} {mc ms : Nat} (X : aX "BasicMachine$Parser" p l s m As.toArray meth c cX3_same 4 x σ0) (hex : ∀ z ∈ c.exceptionTable.toList, False) (hr : meth.sig.returnType = (some .int)) (hnm : "same" = meth.name) {n : Nat} {q : aS × (Int32)} : (∀ {st : aS} {a0 : Nat} {x1 : Option Nat} {x2 : Int32} {x3 : Int32}, af_X3_same_S2 n x.sK n st a0 x1 x2 x3 = some q → (mc + σ0.1 = q.1.1) → (ms + σ0.2.1 = q.1.2.1) → ∀ {H : Heap} {locs : List Loc} {ls : Array Slot} {kc ks : Nat}, aY x σ0 s st H locs kc ks → lv_has ls 4 [(0, .ref a0), (1, va_rf x1), (2, .int x2), (3, .int x3)] → aG l 8 200 mc ms x As σ0 (.inl (some (.int q.2))) q.1 p e s m below meth c H locs kc ks (F0 m 2 ls [])) := waf_X3_same_S2_ X hex hr hnm n
set_option maxHeartbeats 4000000 in
set_option maxRecDepth 100000 in
theorem maf_X3_same {l : Launch} (hl0 : l.stackTraces = false) (n : Nat) {x : aP} {st : aS} {a0 : Nat} {p1 : Option Nat} {p2 : Int32} {q : aS × (Int32)} (hE : af_X3_same n x.sK st a0 p1 p2 = some q) : aMet l yX3_same (ws_ yX3_same cX3_same 4 (some .int)) 8 200 x [.ref a0, va_rf p1, .int p2] st (.inl (some (.int q.2))) q.1 := by
  refine a_ofW (own := "BasicMachine$Parser") hl0 (by decide) rfl (by simp only [lg_sl, List.flatMap_cons, List.flatMap_nil, va_rf_cat]; exact Nat.le_of_ble_eq_true rfl) (fun mc ms p e s m below meth c ls H locs kc ks h1 h2 X hex Y hr hnm hl => ?_)
  have hnm : "same" = meth.name := hnm
  have hl : lv_has ls 4 [(0, .ref a0), (1, va_rf p1), (2, .int p2)] := by simp only [lv_args, va_rf_cat] at hl; exact hl
  have hx := X.1
  have hb := X.2.1
  have hown := X.2.2.2.1
  have hts := X.2.2.2.2.1
  have hK := X.2.2.2.2.2.1
  have hl0 := X.2.2.2.2.2.2.2.2
  unfold af_X3_same at hE
  refine lv_iconst (v := 0) hx hb dX3_same_0 (by decide) ?_
  refine lv_istore_n (i := 3) (lv' := [(3, .int (0 : Int32)), (0, .ref a0), (1, va_rf p1), (2, .int p2)]) hx hb dX3_same_1 rfl hl (by decide) rfl (fun ls hl => ?_)
  exact (waf_X3_same_S2 X hex hr hnm) hE h1 h2 Y (lv_sub hl [1, 2, 3, 0] rfl)
/-! BasicMachine$Parser.word()Ljava/lang/String; -/
set_option maxHeartbeats 4000000 in
set_option maxRecDepth 100000 in
theorem waf_X3_word_S5_ {l : Launch} {x : aP} {As : List Value} {σ0 : aS} {p : Program} {e : Env} {s : State} {m : MethodId} {below : List Frame} {meth : Method} {c : Code} {mc ms : Nat} (X : aX "BasicMachine$Parser" p l s m As.toArray meth c cX3_word 5 x σ0) (hex : ∀ z ∈ c.exceptionTable.toList, False) (hr : meth.sig.returnType = (some (.object "java/lang/String"))) (hnm : "word" = meth.name) {n : Nat} {q : aS × ((Option Nat) ⊕ Nat)} : ∀ k : Nat, (∀ {st : aS} {a0 : Nat} {x1 : Int32} {x2 : Int32} {x3 : Int32}, af_X3_word_S5 n x.sK k 0 st a0 x1 x2 x3 = some q → (mc + σ0.1 = q.1.1) → (ms + σ0.2.1 = q.1.2.1) → ∀ {H : Heap} {locs : List Loc} {ls : Array Slot} {kc ks : Nat}, aY x σ0 s st H locs kc ks → lv_has ls 5 [(0, .ref a0), (1, .int x1)] → aG l 9 223 mc ms x As σ0 (oR q.2) q.1 p e s m below meth c H locs kc ks (F0 m 5 ls [])) ∧ (∀ {st : aS} {a0 : Nat} {x1 : Int32} {x2 : Int32} {x3 : Int32}, af_X3_word_S5 n x.sK k 1 st a0 x1 x2 x3 = some q → (mc + σ0.1 = q.1.1) → (ms + σ0.2.1 = q.1.2.1) → ∀ {H : Heap} {locs : List Loc} {ls : Array Slot} {kc ks : Nat}, aY x σ0 s st H locs kc ks → lv_has ls 5 [(0, .ref a0), (1, .int x1), (2, .int x2), (3, .int x3)] → aG l 9 223 mc ms x As σ0 (oR q.2) q.1 p e s m below meth c H locs kc ks (F0 m 9 ls [])) ∧ (∀ {st : aS} {a0 : Nat} {x1 : Int32} {x2 : Int32} {x3 : Int32}, af_X3_word_S5 n x.sK k 2 st a0 x1 x2 x3 = some q → (mc + σ0.1 = q.1.1) → (ms + σ0.2.1 = q.1.2.1) → ∀ {H : Heap} {locs : List Loc} {ls : Array Slot} {kc ks : Nat}, aY x σ0 s st H locs kc ks → lv_has ls 5 [(0, .ref a0), (1, .int x1), (2, .int x2), (3, .int x3)] → aG l 9 223 mc ms x As σ0 (oR q.2) q.1 p e s m below meth c H locs kc ks (F0 m 73 ls [])) := by
  have hx := X.1
  have hb := X.2.1
  have hown := X.2.2.2.1
  have hts := X.2.2.2.2.1
  have hK := X.2.2.2.2.2.1
  have hl0 := X.2.2.2.2.2.2.2.2
  intro k
  induction k with
  | zero => exact ⟨(fun h => nomatch (show none = some q from h)), (fun h => nomatch (show none = some q from h)), (fun h => nomatch (show none = some q from h))⟩
  | succ k ih =>
    obtain ⟨ih0, ih1, ih2⟩ := ih
    have mrec := @oaf_X3_word_S5_ n x.sK k
    obtain ⟨mrec0, mrec1, mrec2⟩ := mrec
    refine ⟨?_, ?_, ?_⟩
    · intro st a0 x1 x2 x3 hE h1 h2 H locs ls kc ks Y hl
      replace hE : af_X3_word_B5 n x.sK (af_X3_word_S5 n x.sK k) st a0 x1 x2 x3 = some q := hE
      unfold af_X3_word_B5 at hE
      refine lv_iconst (v := 0) hx hb dX3_word_5 (by decide) ?_
      refine lv_istore_n (i := 2) (lv' := [(2, .int (0 : Int32)), (0, .ref a0), (1, .int x1)]) hx hb dX3_word_6 rfl hl (by decide) rfl (fun ls hl => ?_)
      refine lv_iconst (v := 0) hx hb dX3_word_7 (by decide) ?_
      refine lv_istore_n (i := 3) (lv' := [(3, .int (0 : Int32)), (2, .int (0 : Int32)), (0, .ref a0), (1, .int x1)]) hx hb dX3_word_8 rfl hl (by decide) rfl (fun ls hl => ?_)
      exact ih1 hE h1 h2 Y (lv_sub hl [2, 3, 1, 0] rfl)
    · intro st a0 x1 x2 x3 hE h1 h2 H locs ls kc ks Y hl
      replace hE : af_X3_word_B9 n x.sK (af_X3_word_S5 n x.sK k) st a0 x1 x2 x3 = some q := hE
      unfold af_X3_word_B9 at hE
      refine lv_iload_n hx hb dX3_word_9 rfl (lv_at hl 3 rfl) ?_
      refine lv_aload_n hx hb dX3_word_10 rfl (lv_at hl 0 rfl) ?_
      replace hE := e_bind hE
      obtain ⟨r_1, g, hE⟩ := hE
      refine n_gR X Y k_X3 5 g (by decide) q446 dX3_word_11 ?_
      replace hE := e_bind hE
      obtain ⟨a_2, g, hE⟩ := hE
      subst g
      replace hE := e_bind hE
      obtain ⟨v_3, g, hE⟩ := hE
      refine a_alen X Y g dX3_word_14 ?_
      refine lv_icmp_ge (tgt := 79) hx hb dX3_word_15 (by decide) (fun c_4 => ?_) (fun c_4 => ?_)
      · replace hE := e_t c_4 hE
        refine lv_aload_n hx hb dX3_word_79 rfl (lv_at hl 0 rfl) ?_
        refine lv_iload_n hx hb dX3_word_80 rfl (lv_at hl 2 rfl) ?_
        replace hE := e_bind hE
        obtain ⟨u_7, g, hE⟩ := hE
        obtain ⟨fs9, g9⟩ := i_gC g
        have g7 := a_recv X Y k_X3.1 g9
        replace hE := e_xb hE
        rcases hE with ⟨st_5, u_6, g, hE⟩ | ⟨st_5, k9, g, hE⟩
        rotate_left
        · subst hE
          refine a_callV (n := 1) (C := "BasicMachine$Parser") (σ1 := st_5) (σf := st_5) [.int x2] X Y (maf_X3_need hl0 n g) ⟨oaf_X3_need _ g, aLe.rf _, h1, h2, (by show _ ≤ 9; decide), (by show _ ≤ 223; decide)⟩ q476 q478 qs5 q129 q479 (by decide +kernel) g7 rfl hl.1 (Nat.le_of_ble_eq_true rfl) dX3_word_81 (fun v hv => by cases hv) (fun k hk H locs kc ks q9 ce Y e1 e2 e3 => ?_)
          cases hk
          exact a_out X Y h1 h2 (fun z hz => (hex z hz).elim) e1 e2 e3
        have M9 := (mo_v fun _ => (mo_s (fun _ => le_pF) fun _ => (mrec0))) _ hE
        refine a_callV (n := 1) (C := "BasicMachine$Parser") (σ1 := st_5) (σf := q.1) [.int x2] X Y (maf_X3_need hl0 n g) ⟨oaf_X3_need _ g, M9, h1, h2, (by show _ ≤ 9; decide), (by show _ ≤ 223; decide)⟩ q476 q478 qs5 q129 q479 (by decide +kernel) g7 rfl hl.1 (Nat.le_of_ble_eq_true rfl) dX3_word_81 (fun v hv H locs kc ks Y => ?_) (fun k hk => by cases hk)
        cases hv
        refine lv_aload_n hx hb dX3_word_84 rfl (lv_at hl 0 rfl) ?_
        refine lv_dup hx hb dX3_word_85 rfl ?_
        replace hE := e_bind hE
        obtain ⟨v_8, g, hE⟩ := hE
        refine n_gI X Y k_X3 2 g (by decide) q442 dX3_word_86 ?_
        refine lv_iconst (v := 1) hx hb dX3_word_89 (by decide) ?_
        refine lv_iadd hx hb dX3_word_90 ?_
        replace hE := e_bind hE
        obtain ⟨st_9, g, hE⟩ := hE
        refine a_putV X Y k_X3 2 g (by decide) rfl rfl rfl q442 dX3_word_91 (fun H locs Y => ?_)
        refine lv_goto (tgt := 5) hx hb dX3_word_94 (by decide) ?_
        exact ih0 hE h1 h2 Y (lv_sub hl [0, 1] rfl)
      · replace hE := e_f c_4 hE
        refine lv_aload_n hx hb dX3_word_18 rfl (lv_at hl 0 rfl) ?_
        refine lv_aload_n hx hb dX3_word_19 rfl (lv_at hl 0 rfl) ?_
        replace hE := e_bind hE
        obtain ⟨r_10, g, hE⟩ := hE
        refine n_gR X Y k_X3 5 g (by decide) q446 dX3_word_20 ?_
        refine lv_iload_n hx hb dX3_word_23 rfl (lv_at hl 3 rfl) ?_
        replace hE := e_bind hE
        obtain ⟨a_11, g, hE⟩ := hE
        subst g
        replace hE := e_bind hE
        obtain ⟨r_12, g, hE⟩ := hE
        refine a_aald X Y (by decide) rfl g dX3_word_24 ?_
        refine lv_iload_n hx hb dX3_word_25 rfl (lv_at hl 1 rfl) ?_
        replace hE := e_bind hE
        obtain ⟨u_15, g, hE⟩ := hE
        obtain ⟨fs9, g9⟩ := i_gC g
        have g7 := a_recv X Y k_X3.1 g9
        replace hE := e_cb hE
        obtain ⟨st_13, v_14, g, hE⟩ := hE
        have M9 := (mo_v fun _ => (mo_v fun _ => (mo_v fun _ => (mo_v fun _ => (mo_v fun _ => (mo_if (mo_s (fun _ => le_pF) fun _ => (mo_v fun _ => (mo_v fun _ => (mo_v fun _ => mo_ret)))) (mo_v fun _ => (mo_if (mrec2) (mrec2))))))))) _ hE
        refine a_callV (n := 2) (C := "BasicMachine$Parser") (σ1 := st_13) (σf := q.1) [va_rf r_12, .int x1] X Y (maf_X3_same hl0 n g) ⟨oaf_X3_same _ g, M9, h1, h2, (by show _ ≤ 9; decide), (by show _ ≤ 223; decide)⟩ q508 q510 qs8 q129 q511 (by decide +kernel) g7 rfl hl.1 (Nat.le_of_ble_eq_true rfl) dX3_word_26 (fun v hv H locs kc ks Y => ?_) (fun k hk => by cases hk)
        cases hv
        refine lv_istore (lv' := [(4, .int v_14), (0, .ref a0), (1, .int x1), (2, .int x2), (3, .int x3)]) hx hb dX3_word_29 hl (by decide) rfl (fun ls hl => ?_)
        refine lv_iload hx hb dX3_word_31 (lv_at hl 0 rfl) ?_
        refine lv_aload_n hx hb dX3_word_33 rfl (lv_at hl 1 rfl) ?_
        replace hE := e_bind hE
        obtain ⟨r_16, g, hE⟩ := hE
        refine n_gR X Y k_X3 5 g (by decide) q446 dX3_word_34 ?_
        refine lv_iload_n hx hb dX3_word_37 rfl (lv_at hl 4 rfl) ?_
        replace hE := e_bind hE
        obtain ⟨a_17, g, hE⟩ := hE
        subst g
        replace hE := e_bind hE
        obtain ⟨r_18, g, hE⟩ := hE
        refine a_aald X Y (by decide) rfl g dX3_word_38 ?_
        replace hE := e_bind hE
        obtain ⟨a_19, g, hE⟩ := hE
        subst g
        replace hE := e_bind hE
        obtain ⟨v_20, g, hE⟩ := hE
        refine sLen_row (σf := q.1) X Y h1 h2 ((mo_if (mo_s (fun _ => le_pF) fun _ => (mo_v fun _ => (mo_v fun _ => (mo_v fun _ => mo_ret)))) (mo_v fun _ => (mo_if (mrec2) (mrec2)))) _ hE) g q512 (by show _ ≤ 9; decide) (by show _ ≤ 223; decide) hl.1 (Nat.le_of_ble_eq_true rfl) dX3_word_39 (fun H locs kc ks Y => ?_)
        refine lv_icmp_ne (tgt := 60) hx hb dX3_word_42 (by decide) (fun c_21 => ?_) (fun c_21 => ?_)
        · replace hE := e_f c_21 hE
          refine lv_iload hx hb dX3_word_60 (lv_at hl 0 rfl) ?_
          refine lv_aload_n hx hb dX3_word_62 rfl (lv_at hl 1 rfl) ?_
          replace hE := e_bind hE
          obtain ⟨v_22, g, hE⟩ := hE
          refine n_gI X Y k_X3 2 g (by decide) q442 dX3_word_63 ?_
          refine lv_iload_n hx hb dX3_word_66 rfl (lv_at hl 2 rfl) ?_
          refine lv_isub hx hb dX3_word_67 ?_
          refine lv_icmp_le (tgt := 73) hx hb dX3_word_68 (by decide) (fun c_23 => ?_) (fun c_23 => ?_)
          · replace hE := e_t c_23 hE
            exact ih2 hE h1 h2 Y (lv_sub hl [1, 2, 3, 4] rfl)
          · replace hE := e_f c_23 hE
            refine lv_iconst (v := 1) hx hb dX3_word_71 (by decide) ?_
            refine lv_istore_n (i := 2) (lv' := [(2, .int (1 : Int32)), (4, .int v_14), (0, .ref a0), (1, .int x1), (3, .int x3)]) hx hb dX3_word_72 rfl hl (by decide) rfl (fun ls hl => ?_)
            exact ih2 hE h1 h2 Y (lv_sub hl [2, 3, 0, 4] rfl)
        · replace hE := e_t c_21 hE
          refine lv_aload_n hx hb dX3_word_45 rfl (lv_at hl 1 rfl) ?_
          refine lv_iload_n hx hb dX3_word_46 rfl (lv_at hl 2 rfl) ?_
          refine lv_iload hx hb dX3_word_47 (lv_at hl 0 rfl) ?_
          refine lv_iadd hx hb dX3_word_49 ?_
          replace hE := e_bind hE
          obtain ⟨st_24, g, hE⟩ := hE
          refine a_putV X Y k_X3 2 g (by decide) rfl rfl rfl q442 dX3_word_50 (fun H locs Y => ?_)
          refine lv_aload_n hx hb dX3_word_53 rfl (lv_at hl 1 rfl) ?_
          replace hE := e_bind hE
          obtain ⟨r_25, g, hE⟩ := hE
          refine n_gR X Y k_X3 5 g (by decide) q446 dX3_word_54 ?_
          refine lv_iload_n hx hb dX3_word_57 rfl (lv_at hl 4 rfl) ?_
          replace hE := e_bind hE
          obtain ⟨a_26, g, hE⟩ := hE
          subst g
          replace hE := e_bind hE
          obtain ⟨r_27, g, hE⟩ := hE
          refine a_aald X Y (by decide) rfl g dX3_word_58 ?_
          cases hE
          exact a_aret (r := r_27) X Y h1 h2 hr (Or.inl ⟨_, rfl⟩) dX3_word_59
    · intro st a0 x1 x2 x3 hE h1 h2 H locs ls kc ks Y hl
      replace hE : af_X3_word_B73 n x.sK (af_X3_word_S5 n x.sK k) st a0 x1 x2 x3 = some q := hE
      unfold af_X3_word_B73 at hE
      refine lv_iinc (v := (x3 + (1 : Int32))) (lv' := [(3, .int (x3 + (1 : Int32))), (0, .ref a0), (1, .int x1), (2, .int x2)]) hx hb dX3_word_73 hl (k := 3) rfl rfl (by decide) rfl (fun ls hl => ?_)
      refine lv_goto (tgt := 9) hx hb dX3_word_76 (by decide) ?_
      exact ih1 hE h1 h2 Y (lv_sub hl [1, 2, 3, 0] rfl)
set_option maxHeartbeats 4000000 in
set_option maxRecDepth 100000 in
theorem waf_X3_word_S5 {l : Launch} {x : aP} {As : List Value} {σ0 : aS} {p : Program} {e : Env} {s : State} {m : MethodId} {below : List Frame} {meth : Method} {c : Code} {mc ms : Nat} (X : aX "BasicMachine$Parser" p l s m As.toArray meth c cX3_word 5 x σ0) (hex : ∀ z ∈ c.exceptionTable.toList, False) (hr : meth.sig.returnType = (some (.object "java/lang/String"))) (hnm : "word" = meth.name) {n : Nat} {q : aS × ((Option Nat) ⊕ Nat)} : (∀ {st : aS} {a0 : Nat} {x1 : Int32} {x2 : Int32} {x3 : Int32}, af_X3_word_S5 n x.sK n 0 st a0 x1 x2 x3 = some q → (mc + σ0.1 = q.1.1) → (ms + σ0.2.1 = q.1.2.1) → ∀ {H : Heap} {locs : List Loc} {ls : Array Slot} {kc ks : Nat}, aY x σ0 s st H locs kc ks → lv_has ls 5 [(0, .ref a0), (1, .int x1)] → aG l 9 223 mc ms x As σ0 (oR q.2) q.1 p e s m below meth c H locs kc ks (F0 m 5 ls [])) ∧ (∀ {st : aS} {a0 : Nat} {x1 : Int32} {x2 : Int32} {x3 : Int32}, af_X3_word_S5 n x.sK n 1 st a0 x1 x2 x3 = some q → (mc + σ0.1 = q.1.1) → (ms + σ0.2.1 = q.1.2.1) → ∀ {H : Heap} {locs : List Loc} {ls : Array Slot} {kc ks : Nat}, aY x σ0 s st H locs kc ks → lv_has ls 5 [(0, .ref a0), (1, .int x1), (2, .int x2), (3, .int x3)] → aG l 9 223 mc ms x As σ0 (oR q.2) q.1 p e s m below meth c H locs kc ks (F0 m 9 ls [])) ∧ (∀ {st : aS} {a0 : Nat} {x1 : Int32} {x2 : Int32} {x3 : Int32}, af_X3_word_S5 n x.sK n 2 st a0 x1 x2 x3 = some q → (mc + σ0.1 = q.1.1) → (ms + σ0.2.1 = q.1.2.1) → ∀ {H : Heap} {locs : List Loc} {ls : Array Slot} {kc ks : Nat}, aY x σ0 s st H locs kc ks → lv_has ls 5 [(0, .ref a0), (1, .int x1), (2, .int x2), (3, .int x3)] → aG l 9 223 mc ms x As σ0 (oR q.2) q.1 p e s m below meth c H locs kc ks (F0 m 73 ls [])) := waf_X3_word_S5_ X hex hr hnm n
set_option maxHeartbeats 4000000 in
set_option maxRecDepth 100000 in
theorem maf_X3_word {l : Launch} (hl0 : l.stackTraces = false) (n : Nat) {x : aP} {st : aS} {a0 : Nat} {q : aS × ((Option Nat) ⊕ Nat)} (hE : af_X3_word n x.sK st a0 = some q) : aMet l yX3_word (ws_ yX3_word cX3_word 5 (some (.object "java/lang/String"))) 9 223 x [.ref a0] st (oR q.2) q.1 := by
  refine a_ofW (own := "BasicMachine$Parser") hl0 (by decide) rfl (Nat.le_of_ble_eq_true rfl) (fun mc ms p e s m below meth c ls H locs kc ks h1 h2 X hex Y hr hnm hl => ?_)
  have hnm : "word" = meth.name := hnm
  have hl : lv_has ls 5 [(0, .ref a0)] := hl
  have hx := X.1
  have hb := X.2.1
  have hown := X.2.2.2.1
  have hts := X.2.2.2.2.1
  have hK := X.2.2.2.2.2.1
  have hl0 := X.2.2.2.2.2.2.2.2
  unfold af_X3_word at hE
  refine lv_aload_n hx hb dX3_word_0 rfl (lv_at hl 0 rfl) ?_
  replace hE := e_bind hE
  obtain ⟨v_1, g, hE⟩ := hE
  refine n_gI X Y k_X3 2 g (by decide) q442 dX3_word_1 ?_
  refine lv_istore_n (i := 1) (lv' := [(1, .int v_1), (0, .ref a0)]) hx hb dX3_word_4 rfl hl (by decide) rfl (fun ls hl => ?_)
  exact (waf_X3_word_S5 X hex hr hnm).1 hE h1 h2 Y (lv_sub hl [1, 0] rfl)
/-! BasicMachine$Parser.isMatrix(C)Z -/
set_option maxHeartbeats 4000000 in
set_option maxRecDepth 100000 in
theorem maf_X3_isMatrix {l : Launch} (hl0 : l.stackTraces = false) (n : Nat) {x : aP} {st : aS} {p0 : Int32} {q : aS × (Int32)} (hE : af_X3_isMatrix n x.sK st p0 = some q) : aMet l yX3_isMatrix (ws_ yX3_isMatrix cX3_isMatrix 1 (some .boolean)) 0 0 x [.int p0] st (.inl (some (.int q.2))) q.1 := by
  refine a_ofW (own := "BasicMachine$Parser") hl0 (by decide) rfl (Nat.le_of_ble_eq_true rfl) (fun mc ms p e s m below meth c ls H locs kc ks h1 h2 X hex Y hr hnm hl => ?_)
  have hnm : "isMatrix" = meth.name := hnm
  have hl : lv_has ls 1 [(0, .int p0)] := hl
  have hx := X.1
  have hb := X.2.1
  have hown := X.2.2.2.1
  have hts := X.2.2.2.2.1
  have hK := X.2.2.2.2.2.1
  have hl0 := X.2.2.2.2.2.2.2.2
  unfold af_X3_isMatrix at hE
  refine lv_iload_n hx hb dX3_isMatrix_0 rfl (lv_at hl 0 rfl) ?_
  refine lv_bipush (v := 80) hx hb dX3_isMatrix_1 (by decide) ?_
  refine lv_icmp_lt (tgt := 16) hx hb dX3_isMatrix_3 (by decide) (fun c_1 => ?_) (fun c_1 => ?_)
  · replace hE := e_t c_1 hE
    refine lv_iconst (v := 0) hx hb dX3_isMatrix_16 (by decide) ?_
    cases hE
    exact a_zret (v := 0) X Y h1 h2 hr nz0 dX3_isMatrix_17
  · replace hE := e_f c_1 hE
    refine lv_iload_n hx hb dX3_isMatrix_6 rfl (lv_at hl 0 rfl) ?_
    refine lv_bipush (v := 82) hx hb dX3_isMatrix_7 (by decide) ?_
    refine lv_icmp_gt (tgt := 16) hx hb dX3_isMatrix_9 (by decide) (fun c_2 => ?_) (fun c_2 => ?_)
    · replace hE := e_t c_2 hE
      refine lv_iconst (v := 0) hx hb dX3_isMatrix_16 (by decide) ?_
      cases hE
      exact a_zret (v := 0) X Y h1 h2 hr nz0 dX3_isMatrix_17
    · replace hE := e_f c_2 hE
      refine lv_iconst (v := 1) hx hb dX3_isMatrix_12 (by decide) ?_
      refine lv_goto (tgt := 17) hx hb dX3_isMatrix_13 (by decide) ?_
      cases hE
      exact a_zret (v := 1) X Y h1 h2 hr nz1 dX3_isMatrix_17
/-! BasicMachine$Parser.takes(C)Z -/
set_option maxHeartbeats 4000000 in
set_option maxRecDepth 100000 in
theorem maf_X3_takes {l : Launch} (hl0 : l.stackTraces = false) (n : Nat) {x : aP} {st : aS} {a0 : Nat} {p1 : Int32} {q : aS × (Int32)} (hE : af_X3_takes n x.sK st a0 p1 = some q) : aMet l yX3_takes (ws_ yX3_takes cX3_takes 2 (some .boolean)) 1 20 x [.ref a0, .int p1] st (.inl (some (.int q.2))) q.1 := by
  refine a_ofW (own := "BasicMachine$Parser") hl0 (by decide) rfl (Nat.le_of_ble_eq_true rfl) (fun mc ms p e s m below meth c ls H locs kc ks h1 h2 X hex Y hr hnm hl => ?_)
  have hnm : "takes" = meth.name := hnm
  have hl : lv_has ls 2 [(0, .ref a0), (1, .int p1)] := hl
  have hx := X.1
  have hb := X.2.1
  have hown := X.2.2.2.1
  have hts := X.2.2.2.2.1
  have hK := X.2.2.2.2.2.1
  have hl0 := X.2.2.2.2.2.2.2.2
  unfold af_X3_takes at hE
  refine lv_aload_n hx hb dX3_takes_0 rfl (lv_at hl 0 rfl) ?_
  replace hE := e_bind hE
  obtain ⟨u_3, g, hE⟩ := hE
  obtain ⟨fs9, g9⟩ := i_gC g
  have g7 := a_recv X Y k_X3.1 g9
  replace hE := e_cb hE
  obtain ⟨st_1, v_2, g, hE⟩ := hE
  have M9 := (mo_if (mo_v fun _ => (mo_v fun _ => (mo_if (mo_v fun _ => (mo_s (fun _ => le_pF) fun _ => mo_ret)) mo_ret))) mo_ret) _ hE
  refine a_callV (n := 0) (C := "BasicMachine$Parser") (σ1 := st_1) (σf := q.1) [] X Y (maf_X3_here hl0 n g) ⟨oaf_X3_here _ g, M9, h1, h2, (by show _ ≤ 1; decide), (by show _ ≤ 20; decide)⟩ q469 q471 qs4 q129 q472 (by decide +kernel) g7 rfl hl.1 (Nat.le_of_ble_eq_true rfl) dX3_takes_1 (fun v hv H locs kc ks Y => ?_) (fun k hk => by cases hk)
  cases hv
  refine lv_iload_n hx hb dX3_takes_4 rfl (lv_at hl 1 rfl) ?_
  refine lv_icmp_ne (tgt := 19) hx hb dX3_takes_5 (by decide) (fun c_4 => ?_) (fun c_4 => ?_)
  · replace hE := e_f c_4 hE
    refine lv_iconst (v := 0) hx hb dX3_takes_19 (by decide) ?_
    cases hE
    exact a_zret (v := 0) X Y h1 h2 hr nz0 dX3_takes_20
  · replace hE := e_t c_4 hE
    refine lv_aload_n hx hb dX3_takes_8 rfl (lv_at hl 0 rfl) ?_
    replace hE := e_bind hE
    obtain ⟨v_5, g, hE⟩ := hE
    refine n_gI X Y k_X3 2 g (by decide) q442 dX3_takes_9 ?_
    refine lv_aload_n hx hb dX3_takes_12 rfl (lv_at hl 0 rfl) ?_
    replace hE := e_bind hE
    obtain ⟨v_6, g, hE⟩ := hE
    refine n_gI X Y k_X3 1 g (by decide) q441 dX3_takes_13 ?_
    refine lv_icmp_lt (tgt := 21) hx hb dX3_takes_16 (by decide) (fun c_7 => ?_) (fun c_7 => ?_)
    · replace hE := e_t c_7 hE
      refine lv_aload_n hx hb dX3_takes_21 rfl (lv_at hl 0 rfl) ?_
      refine lv_dup hx hb dX3_takes_22 rfl ?_
      replace hE := e_bind hE
      obtain ⟨v_8, g, hE⟩ := hE
      refine n_gI X Y k_X3 2 g (by decide) q442 dX3_takes_23 ?_
      refine lv_iconst (v := 1) hx hb dX3_takes_26 (by decide) ?_
      refine lv_iadd hx hb dX3_takes_27 ?_
      replace hE := e_bind hE
      obtain ⟨st_9, g, hE⟩ := hE
      refine a_putV X Y k_X3 2 g (by decide) rfl rfl rfl q442 dX3_takes_28 (fun H locs Y => ?_)
      refine lv_iconst (v := 1) hx hb dX3_takes_31 (by decide) ?_
      cases hE
      exact a_zret (v := 1) X Y h1 h2 hr nz1 dX3_takes_32
    · replace hE := e_f c_7 hE
      refine lv_iconst (v := 0) hx hb dX3_takes_19 (by decide) ?_
      cases hE
      exact a_zret (v := 0) X Y h1 h2 hr nz0 dX3_takes_20
/-! BasicMachine$Parser.numeral()D -/
set_option maxHeartbeats 4000000 in
set_option maxRecDepth 100000 in
theorem waf_X3_numeral_L88 {l : Launch} {x : aP} {As : List Value} {σ0 : aS} {p : Program} {e : Env} {s : State} {m : MethodId} {below : List Frame} {meth : Method} {c : Code} {mc ms : Nat} (X : aX "BasicMachine$Parser" p l s m As.toArray meth c cX3_numeral 6 x σ0) (hex : ∀ z ∈ c.exceptionTable.toList, False) (hr : meth.sig.returnType = (some .double)) (hnm : "numeral" = meth.name) {n : Nat} {st : aS} {a0 : Nat} {x1 : Int64} {z88_1 : Int32} {q : aS × ((UInt64) ⊕ Nat)} (hE : af_X3_numeral_L88 n x.sK st a0 x1 z88_1 = some q) (h1 : mc + σ0.1 = q.1.1) (h2 : ms + σ0.2.1 = q.1.2.1) {H : Heap} {locs : List Loc} {ls : Array Slot} {kc ks : Nat} (Y : aY x σ0 s st H locs kc ks) (hl : lv_has ls 6 [(0, .ref a0), (1, .long x1)]) : aG l 7 111 mc ms x As σ0 (oD q.2) q.1 p e s m below meth c H locs kc ks (F0 m 88 ls [.int z88_1, .ref a0]) := by
  have hx := X.1
  have hb := X.2.1
  have hown := X.2.2.2.1
  have hts := X.2.2.2.2.1
  have hK := X.2.2.2.2.2.1
  have hl0 := X.2.2.2.2.2.2.2.2
  unfold af_X3_numeral_L88 at hE
  replace hE := e_bind hE
  obtain ⟨u_3, g, hE⟩ := hE
  obtain ⟨fs9, g9⟩ := i_gC g
  have g7 := a_recv X Y k_X3.1 g9
  replace hE := e_xb hE
  rcases hE with ⟨st_1, u_2, g, hE⟩ | ⟨st_1, k9, g, hE⟩
  rotate_left
  · subst hE
    refine a_callV (n := 1) (C := "BasicMachine$Parser") (σ1 := st_1) (σf := st_1) [.int z88_1] X Y (maf_X3_need hl0 n g) ⟨oaf_X3_need _ g, aLe.rf _, h1, h2, (by show _ ≤ 7; decide), (by show _ ≤ 111; decide)⟩ q476 q478 qs5 q129 q479 (by decide +kernel) g7 rfl hl.1 (Nat.le_of_ble_eq_true rfl) dX3_numeral_88 (fun v hv => by cases hv) (fun k hk H locs kc ks q9 ce Y e1 e2 e3 => ?_)
    cases hk
    exact a_out X Y h1 h2 (fun z hz => (hex z hz).elim) e1 e2 e3
  have M9 := mo_ret _ hE
  refine a_callV (n := 1) (C := "BasicMachine$Parser") (σ1 := st_1) (σf := q.1) [.int z88_1] X Y (maf_X3_need hl0 n g) ⟨oaf_X3_need _ g, M9, h1, h2, (by show _ ≤ 7; decide), (by show _ ≤ 111; decide)⟩ q476 q478 qs5 q129 q479 (by decide +kernel) g7 rfl hl.1 (Nat.le_of_ble_eq_true rfl) dX3_numeral_88 (fun v hv H locs kc ks Y => ?_) (fun k hk => by cases hk)
  cases hv
  refine lv_lload_n hx hb dX3_numeral_91 rfl (lv_at hl 1 rfl) ?_
  refine lv_l2d hx hb dX3_numeral_92 ?_
  cases hE
  exact a_dret X Y h1 h2 hr dX3_numeral_93
set_option maxHeartbeats 4000000 in
set_option maxRecDepth 100000 in
theorem waf_X3_numeral_L181 {l : Launch} {x : aP} {As : List Value} {σ0 : aS} {p : Program} {e : Env} {s : State} {m : MethodId} {below : List Frame} {meth : Method} {c : Code} {mc ms : Nat} (X : aX "BasicMachine$Parser" p l s m As.toArray meth c cX3_numeral 6 x σ0) (hex : ∀ z ∈ c.exceptionTable.toList, False) (hr : meth.sig.returnType = (some .double)) (hnm : "numeral" = meth.name) {n : Nat} {st : aS} {a0 : Nat} {x1 : Int64} {x4 : UInt64} {z181_1 : Int32} {q : aS × ((UInt64) ⊕ Nat)} (hE : af_X3_numeral_L181 n x.sK st a0 x1 x4 z181_1 = some q) (h1 : mc + σ0.1 = q.1.1) (h2 : ms + σ0.2.1 = q.1.2.1) {H : Heap} {locs : List Loc} {ls : Array Slot} {kc ks : Nat} (Y : aY x σ0 s st H locs kc ks) (hl : lv_has ls 6 [(0, .ref a0), (1, .long x1), (4, .double x4)]) : aG l 7 111 mc ms x As σ0 (oD q.2) q.1 p e s m below meth c H locs kc ks (F0 m 181 ls [.int z181_1, .ref a0]) := by
  have hx := X.1
  have hb := X.2.1
  have hown := X.2.2.2.1
  have hts := X.2.2.2.2.1
  have hK := X.2.2.2.2.2.1
  have hl0 := X.2.2.2.2.2.2.2.2
  unfold af_X3_numeral_L181 at hE
  replace hE := e_bind hE
  obtain ⟨u_3, g, hE⟩ := hE
  obtain ⟨fs9, g9⟩ := i_gC g
  have g7 := a_recv X Y k_X3.1 g9
  replace hE := e_xb hE
  rcases hE with ⟨st_1, u_2, g, hE⟩ | ⟨st_1, k9, g, hE⟩
  rotate_left
  · subst hE
    refine a_callV (n := 1) (C := "BasicMachine$Parser") (σ1 := st_1) (σf := st_1) [.int z181_1] X Y (maf_X3_need hl0 n g) ⟨oaf_X3_need _ g, aLe.rf _, h1, h2, (by show _ ≤ 7; decide), (by show _ ≤ 111; decide)⟩ q476 q478 qs5 q129 q479 (by decide +kernel) g7 rfl hl.1 (Nat.le_of_ble_eq_true rfl) dX3_numeral_181 (fun v hv => by cases hv) (fun k hk H locs kc ks q9 ce Y e1 e2 e3 => ?_)
    cases hk
    exact a_out X Y h1 h2 (fun z hz => (hex z hz).elim) e1 e2 e3
  have M9 := (mo_v fun _ => mo_ret) _ hE
  refine a_callV (n := 1) (C := "BasicMachine$Parser") (σ1 := st_1) (σf := q.1) [.int z181_1] X Y (maf_X3_need hl0 n g) ⟨oaf_X3_need _ g, M9, h1, h2, (by show _ ≤ 7; decide), (by show _ ≤ 111; decide)⟩ q476 q478 qs5 q129 q479 (by decide +kernel) g7 rfl hl.1 (Nat.le_of_ble_eq_true rfl) dX3_numeral_181 (fun v hv H locs kc ks Y => ?_) (fun k hk => by cases hk)
  cases hv
  refine lv_lload_n hx hb dX3_numeral_184 rfl (lv_at hl 1 rfl) ?_
  refine lv_l2d hx hb dX3_numeral_185 ?_
  refine lv_dload hx hb dX3_numeral_186 (lv_at hl 2 rfl) ?_
  replace hE := e_bind hE
  obtain ⟨v_4, g, hE⟩ := hE
  refine n_ddiv hx hb g dX3_numeral_188 ?_
  cases hE
  exact a_dret X Y h1 h2 hr dX3_numeral_189
set_option maxHeartbeats 4000000 in
set_option maxRecDepth 100000 in
theorem waf_X3_numeral_L165 {l : Launch} {x : aP} {As : List Value} {σ0 : aS} {p : Program} {e : Env} {s : State} {m : MethodId} {below : List Frame} {meth : Method} {c : Code} {mc ms : Nat} (X : aX "BasicMachine$Parser" p l s m As.toArray meth c cX3_numeral 6 x σ0) (hex : ∀ z ∈ c.exceptionTable.toList, False) (hr : meth.sig.returnType = (some .double)) (hnm : "numeral" = meth.name) {n : Nat} {st : aS} {a0 : Nat} {x1 : Int64} {x4 : UInt64} {q : aS × ((UInt64) ⊕ Nat)} (hE : af_X3_numeral_L165 n x.sK st a0 x1 x4 = some q) (h1 : mc + σ0.1 = q.1.1) (h2 : ms + σ0.2.1 = q.1.2.1) {H : Heap} {locs : List Loc} {ls : Array Slot} {kc ks : Nat} (Y : aY x σ0 s st H locs kc ks) (hl : lv_has ls 6 [(0, .ref a0), (1, .long x1), (4, .double x4)]) : aG l 7 111 mc ms x As σ0 (oD q.2) q.1 p e s m below meth c H locs kc ks (F0 m 165 ls []) := by
  have hx := X.1
  have hb := X.2.1
  have hown := X.2.2.2.1
  have hts := X.2.2.2.2.1
  have hK := X.2.2.2.2.2.1
  have hl0 := X.2.2.2.2.2.2.2.2
  unfold af_X3_numeral_L165 at hE
  refine lv_aload_n hx hb dX3_numeral_165 rfl (lv_at hl 0 rfl) ?_
  refine lv_aload_n hx hb dX3_numeral_166 rfl (lv_at hl 0 rfl) ?_
  replace hE := e_bind hE
  obtain ⟨u_3, g, hE⟩ := hE
  obtain ⟨fs9, g9⟩ := i_gC g
  have g7 := a_recv X Y k_X3.1 g9
  replace hE := e_cb hE
  obtain ⟨st_1, v_2, g, hE⟩ := hE
  have M9 := (mo_cb oaf_X3_digit fun _ _ => (mo_if (oaf_X3_numeral_L181 ) (oaf_X3_numeral_L181 ))) _ hE
  refine a_callV (n := 0) (C := "BasicMachine$Parser") (σ1 := st_1) (σf := q.1) [] X Y (maf_X3_here hl0 n g) ⟨oaf_X3_here _ g, M9, h1, h2, (by show _ ≤ 7; decide), (by show _ ≤ 111; decide)⟩ q469 q471 qs4 q129 q472 (by decide +kernel) g7 rfl hl.1 (Nat.le_of_ble_eq_true rfl) dX3_numeral_167 (fun v hv H locs kc ks Y => ?_) (fun k hk => by cases hk)
  cases hv
  replace hE := e_cb hE
  obtain ⟨st_4, v_5, g, hE⟩ := hE
  have M9 := (mo_if (oaf_X3_numeral_L181 ) (oaf_X3_numeral_L181 )) _ hE
  refine a_callS (n := 1) (σ1 := st_4) (σf := q.1) [.int v_2] X Y (maf_X3_digit hl0 n g) ⟨oaf_X3_digit _ g, M9, h1, h2, (by show _ ≤ 7; decide), (by show _ ≤ 111; decide)⟩ q473 q474 q129 q475 (by decide +kernel) rfl hl.1 (Nat.le_of_ble_eq_true rfl) dX3_numeral_170 (fun v hv H locs kc ks Y => ?_) (fun k hk => by cases hk)
  cases hv
  refine lv_if_ne (tgt := 180) hx hb dX3_numeral_173 (by decide) (fun c_6 => ?_) (fun c_6 => ?_)
  · replace hE := e_f c_6 hE
    refine lv_iconst (v := 0) hx hb dX3_numeral_180 (by decide) ?_
    exact waf_X3_numeral_L181 X hex hr hnm hE h1 h2 Y (lv_sub hl [0, 1, 2] rfl)
  · replace hE := e_t c_6 hE
    refine lv_iconst (v := 1) hx hb dX3_numeral_176 (by decide) ?_
    refine lv_goto (tgt := 181) hx hb dX3_numeral_177 (by decide) ?_
    exact waf_X3_numeral_L181 X hex hr hnm hE h1 h2 Y (lv_sub hl [0, 1, 2] rfl)
set_option maxHeartbeats 4000000 in
set_option maxRecDepth 100000 in
theorem waf_X3_numeral_S110_ {l : Launch} {x : aP} {As : List Value} {σ0 : aS} {p : Program} {e : Env} {s : State} {m : MethodId} {below : List Frame} {meth : Method} {c : Code} {mc ms : Nat} (X : aX "BasicMachine$Parser" p l s m As.toArray meth c cX3_numeral 6 x σ0) (hex : ∀ z ∈ c.exceptionTable.toList, False) (hr : meth.sig.returnType = (some .double)) (hnm : "numeral" = meth.name) {n : Nat} {q : aS × ((UInt64) ⊕ Nat)} : ∀ k : Nat, (∀ {st : aS} {a0 : Nat} {x1 : Int64} {x3 : Int32} {x4 : UInt64}, af_X3_numeral_S110 n x.sK k st a0 x1 x3 x4 = some q → (mc + σ0.1 = q.1.1) → (ms + σ0.2.1 = q.1.2.1) → ∀ {H : Heap} {locs : List Loc} {ls : Array Slot} {kc ks : Nat}, aY x σ0 s st H locs kc ks → lv_has ls 6 [(0, .ref a0), (1, .long x1), (3, .int x3), (4, .double x4)] → aG l 7 111 mc ms x As σ0 (oD q.2) q.1 p e s m below meth c H locs kc ks (F0 m 110 ls [])) := by
  have hx := X.1
  have hb := X.2.1
  have hown := X.2.2.2.1
  have hts := X.2.2.2.2.1
  have hK := X.2.2.2.2.2.1
  have hl0 := X.2.2.2.2.2.2.2.2
  intro k
  induction k with
  | zero => exact fun h => nomatch (show none = some q from h)
  | succ k ih =>
    have mrec := @oaf_X3_numeral_S110_ n x.sK k
    intro st a0 x1 x3 x4 hE h1 h2 H locs ls kc ks Y hl
    replace hE : af_X3_numeral_B110 n x.sK (af_X3_numeral_S110 n x.sK k) st a0 x1 x3 x4 = some q := hE
    unfold af_X3_numeral_B110 at hE
    refine lv_iload_n hx hb dX3_numeral_110 rfl (lv_at hl 2 rfl) ?_
    refine lv_iconst (v := 3) hx hb dX3_numeral_111 (by decide) ?_
    refine lv_icmp_ge (tgt := 165) hx hb dX3_numeral_112 (by decide) (fun c_1 => ?_) (fun c_1 => ?_)
    · replace hE := e_t c_1 hE
      exact waf_X3_numeral_L165 X hex hr hnm hE h1 h2 Y (lv_sub hl [0, 1, 3] rfl)
    · replace hE := e_f c_1 hE
      refine lv_aload_n hx hb dX3_numeral_115 rfl (lv_at hl 0 rfl) ?_
      replace hE := e_bind hE
      obtain ⟨u_4, g, hE⟩ := hE
      obtain ⟨fs9, g9⟩ := i_gC g
      have g7 := a_recv X Y k_X3.1 g9
      replace hE := e_cb hE
      obtain ⟨st_2, v_3, g, hE⟩ := hE
      have M9 := (mo_cb oaf_X3_digit fun _ _ => (mo_if (oaf_X3_numeral_L165 ) (mo_v fun _ => (mo_cb oaf_X3_here fun _ _ => (mo_v fun _ => (mo_v fun _ => (mo_v fun _ => (mo_s (fun _ => le_pF) fun _ => (mrec))))))))) _ hE
      refine a_callV (n := 0) (C := "BasicMachine$Parser") (σ1 := st_2) (σf := q.1) [] X Y (maf_X3_here hl0 n g) ⟨oaf_X3_here _ g, M9, h1, h2, (by show _ ≤ 7; decide), (by show _ ≤ 111; decide)⟩ q469 q471 qs4 q129 q472 (by decide +kernel) g7 rfl hl.1 (Nat.le_of_ble_eq_true rfl) dX3_numeral_116 (fun v hv H locs kc ks Y => ?_) (fun k hk => by cases hk)
      cases hv
      replace hE := e_cb hE
      obtain ⟨st_5, v_6, g, hE⟩ := hE
      have M9 := (mo_if (oaf_X3_numeral_L165 ) (mo_v fun _ => (mo_cb oaf_X3_here fun _ _ => (mo_v fun _ => (mo_v fun _ => (mo_v fun _ => (mo_s (fun _ => le_pF) fun _ => (mrec)))))))) _ hE
      refine a_callS (n := 1) (σ1 := st_5) (σf := q.1) [.int v_3] X Y (maf_X3_digit hl0 n g) ⟨oaf_X3_digit _ g, M9, h1, h2, (by show _ ≤ 7; decide), (by show _ ≤ 111; decide)⟩ q473 q474 q129 q475 (by decide +kernel) rfl hl.1 (Nat.le_of_ble_eq_true rfl) dX3_numeral_119 (fun v hv H locs kc ks Y => ?_) (fun k hk => by cases hk)
      cases hv
      refine lv_if_eq (tgt := 165) hx hb dX3_numeral_122 (by decide) (fun c_7 => ?_) (fun c_7 => ?_)
      · replace hE := e_t c_7 hE
        exact waf_X3_numeral_L165 X hex hr hnm hE h1 h2 Y (lv_sub hl [0, 1, 3] rfl)
      · replace hE := e_f c_7 hE
        refine lv_ldc2 (v := (10 : Int64)) hx hb hown (hts _ q905) dX3_numeral_125 ?_
        refine lv_lload_n hx hb dX3_numeral_128 rfl (lv_at hl 1 rfl) ?_
        refine lv_lmul hx hb dX3_numeral_129 ?_
        refine lv_aload_n hx hb dX3_numeral_130 rfl (lv_at hl 0 rfl) ?_
        replace hE := e_bind hE
        obtain ⟨u_10, g, hE⟩ := hE
        obtain ⟨fs9, g9⟩ := i_gC g
        have g7 := a_recv X Y k_X3.1 g9
        replace hE := e_cb hE
        obtain ⟨st_8, v_9, g, hE⟩ := hE
        have M9 := (mo_v fun _ => (mo_v fun _ => (mo_v fun _ => (mo_s (fun _ => le_pF) fun _ => (mrec))))) _ hE
        refine a_callV (n := 0) (C := "BasicMachine$Parser") (σ1 := st_8) (σf := q.1) [] X Y (maf_X3_here hl0 n g) ⟨oaf_X3_here _ g, M9, h1, h2, (by show _ ≤ 7; decide), (by show _ ≤ 111; decide)⟩ q469 q471 qs4 q129 q472 (by decide +kernel) g7 rfl hl.1 (Nat.le_of_ble_eq_true rfl) dX3_numeral_131 (fun v hv H locs kc ks Y => ?_) (fun k hk => by cases hk)
        cases hv
        refine lv_i2l hx hb dX3_numeral_134 rfl ?_
        refine lv_ladd hx hb dX3_numeral_135 ?_
        refine lv_ldc2 (v := (48 : Int64)) hx hb hown (hts _ q906) dX3_numeral_136 ?_
        refine lv_lsub hx hb dX3_numeral_139 ?_
        replace hE := e_bind hE
        obtain ⟨x1_11, g, hE⟩ := hE
        refine n_topl g ?_
        refine lv_lstore_n (i := 1) (lv' := [(1, .long x1_11), (0, .ref a0), (3, .int x3), (4, .double x4)]) hx hb dX3_numeral_140 rfl hl (by decide) rfl (fun ls hl => ?_)
        refine lv_dload hx hb dX3_numeral_141 (lv_at hl 3 rfl) ?_
        refine lv_ldc2d (v := (4621819117588971520 : UInt64)) hx hb hown (hts _ q907) dX3_numeral_143 ?_
        replace hE := e_bind hE
        obtain ⟨v_12, g, hE⟩ := hE
        refine n_dmul hx hb g dX3_numeral_146 ?_
        refine lv_dstore (lv' := [(4, .double v_12), (1, .long x1_11), (0, .ref a0), (3, .int x3)]) hx hb dX3_numeral_147 hl (by decide) rfl (fun ls hl => ?_)
        refine lv_aload_n hx hb dX3_numeral_149 rfl (lv_at hl 2 rfl) ?_
        refine lv_dup hx hb dX3_numeral_150 rfl ?_
        replace hE := e_bind hE
        obtain ⟨v_13, g, hE⟩ := hE
        refine n_gI X Y k_X3 2 g (by decide) q442 dX3_numeral_151 ?_
        refine lv_iconst (v := 1) hx hb dX3_numeral_154 (by decide) ?_
        refine lv_iadd hx hb dX3_numeral_155 ?_
        replace hE := e_bind hE
        obtain ⟨st_14, g, hE⟩ := hE
        refine a_putV X Y k_X3 2 g (by decide) rfl rfl rfl q442 dX3_numeral_156 (fun H locs Y => ?_)
        refine lv_iinc (v := (x3 + (1 : Int32))) (lv' := [(3, .int (x3 + (1 : Int32))), (4, .double v_12), (1, .long x1_11), (0, .ref a0)]) hx hb dX3_numeral_159 hl (k := 3) rfl rfl (by decide) rfl (fun ls hl => ?_)
        refine lv_goto (tgt := 110) hx hb dX3_numeral_162 (by decide) ?_
        exact ih hE h1 h2 Y (lv_sub hl [3, 2, 0, 1] rfl)
set_option maxHeartbeats 4000000 in
set_option maxRecDepth 100000 in
theorem waf_X3_numeral_S110 {l : Launch} {x : aP} {As : List Value} {σ0 : aS} {p : Program} {e : Env} {s : State} {m : MethodId} {below : List Frame} {meth : Method} {c : Code} {mc ms : Nat} (X : aX "BasicMachine$Parser" p l s m As.toArray meth c cX3_numeral 6 x σ0) (hex : ∀ z ∈ c.exceptionTable.toList, False) (hr : meth.sig.returnType = (some .double)) (hnm : "numeral" = meth.name) {n : Nat} {q : aS × ((UInt64) ⊕ Nat)} : (∀ {st : aS} {a0 : Nat} {x1 : Int64} {x3 : Int32} {x4 : UInt64}, af_X3_numeral_S110 n x.sK n st a0 x1 x3 x4 = some q → (mc + σ0.1 = q.1.1) → (ms + σ0.2.1 = q.1.2.1) → ∀ {H : Heap} {locs : List Loc} {ls : Array Slot} {kc ks : Nat}, aY x σ0 s st H locs kc ks → lv_has ls 6 [(0, .ref a0), (1, .long x1), (3, .int x3), (4, .double x4)] → aG l 7 111 mc ms x As σ0 (oD q.2) q.1 p e s m below meth c H locs kc ks (F0 m 110 ls [])) := waf_X3_numeral_S110_ X hex hr hnm n
set_option maxHeartbeats 4000000 in
set_option maxRecDepth 100000 in
theorem waf_X3_numeral_L63 {l : Launch} {x : aP} {As : List Value} {σ0 : aS} {p : Program} {e : Env} {s : State} {m : MethodId} {below : List Frame} {meth : Method} {c : Code} {mc ms : Nat} (X : aX "BasicMachine$Parser" p l s m As.toArray meth c cX3_numeral 6 x σ0) (hex : ∀ z ∈ c.exceptionTable.toList, False) (hr : meth.sig.returnType = (some .double)) (hnm : "numeral" = meth.name) {n : Nat} {st : aS} {a0 : Nat} {x1 : Int64} {q : aS × ((UInt64) ⊕ Nat)} (hE : af_X3_numeral_L63 n x.sK st a0 x1 = some q) (h1 : mc + σ0.1 = q.1.1) (h2 : ms + σ0.2.1 = q.1.2.1) {H : Heap} {locs : List Loc} {ls : Array Slot} {kc ks : Nat} (Y : aY x σ0 s st H locs kc ks) (hl : lv_has ls 6 [(0, .ref a0), (1, .long x1)]) : aG l 7 111 mc ms x As σ0 (oD q.2) q.1 p e s m below meth c H locs kc ks (F0 m 63 ls []) := by
  have hx := X.1
  have hb := X.2.1
  have hown := X.2.2.2.1
  have hts := X.2.2.2.2.1
  have hK := X.2.2.2.2.2.1
  have hl0 := X.2.2.2.2.2.2.2.2
  unfold af_X3_numeral_L63 at hE
  refine lv_aload_n hx hb dX3_numeral_63 rfl (lv_at hl 0 rfl) ?_
  refine lv_bipush (v := 46) hx hb dX3_numeral_64 (by decide) ?_
  replace hE := e_bind hE
  obtain ⟨u_3, g, hE⟩ := hE
  obtain ⟨fs9, g9⟩ := i_gC g
  have g7 := a_recv X Y k_X3.1 g9
  replace hE := e_cb hE
  obtain ⟨st_1, v_2, g, hE⟩ := hE
  have M9 := (mo_if (mo_v fun _ => (mo_cb oaf_X3_here fun _ _ => (mo_cb oaf_X3_digit fun _ _ => (mo_if (oaf_X3_numeral_L88 ) (oaf_X3_numeral_L88 ))))) (mo_v fun _ => (mo_cb oaf_X3_here fun _ _ => (mo_cb oaf_X3_digit fun _ _ => (mo_v fun _ => (mo_x oaf_X3_need fun _ _ => ((oaf_X3_numeral_S110 )))))))) _ hE
  refine a_callV (n := 1) (C := "BasicMachine$Parser") (σ1 := st_1) (σf := q.1) [.int (46 : Int32)] X Y (maf_X3_takes hl0 n g) ⟨oaf_X3_takes _ g, M9, h1, h2, (by show _ ≤ 7; decide), (by show _ ≤ 111; decide)⟩ q883 q885 qs14 q129 q886 (by decide +kernel) g7 rfl hl.1 (Nat.le_of_ble_eq_true rfl) dX3_numeral_66 (fun v hv H locs kc ks Y => ?_) (fun k hk => by cases hk)
  cases hv
  refine lv_if_ne (tgt := 94) hx hb dX3_numeral_69 (by decide) (fun c_4 => ?_) (fun c_4 => ?_)
  · replace hE := e_f c_4 hE
    refine lv_dconst1 hx hb dX3_numeral_94 ?_
    refine lv_dstore (lv' := [(4, .double FP.dconst1), (0, .ref a0), (1, .long x1)]) hx hb dX3_numeral_95 hl (by decide) rfl (fun ls hl => ?_)
    refine lv_iconst (v := 0) hx hb dX3_numeral_97 (by decide) ?_
    refine lv_istore_n (i := 3) (lv' := [(3, .int (0 : Int32)), (4, .double FP.dconst1), (0, .ref a0), (1, .long x1)]) hx hb dX3_numeral_98 rfl hl (by decide) rfl (fun ls hl => ?_)
    refine lv_aload_n hx hb dX3_numeral_99 rfl (lv_at hl 2 rfl) ?_
    refine lv_aload_n hx hb dX3_numeral_100 rfl (lv_at hl 2 rfl) ?_
    replace hE := e_bind hE
    obtain ⟨u_7, g, hE⟩ := hE
    obtain ⟨fs9, g9⟩ := i_gC g
    have g7 := a_recv X Y k_X3.1 g9
    replace hE := e_cb hE
    obtain ⟨st_5, v_6, g, hE⟩ := hE
    have M9 := (mo_cb oaf_X3_digit fun _ _ => (mo_v fun _ => (mo_x oaf_X3_need fun _ _ => ((oaf_X3_numeral_S110 ))))) _ hE
    refine a_callV (n := 0) (C := "BasicMachine$Parser") (σ1 := st_5) (σf := q.1) [] X Y (maf_X3_here hl0 n g) ⟨oaf_X3_here _ g, M9, h1, h2, (by show _ ≤ 7; decide), (by show _ ≤ 111; decide)⟩ q469 q471 qs4 q129 q472 (by decide +kernel) g7 rfl hl.1 (Nat.le_of_ble_eq_true rfl) dX3_numeral_101 (fun v hv H locs kc ks Y => ?_) (fun k hk => by cases hk)
    cases hv
    replace hE := e_cb hE
    obtain ⟨st_8, v_9, g, hE⟩ := hE
    have M9 := (mo_v fun _ => (mo_x oaf_X3_need fun _ _ => ((oaf_X3_numeral_S110 )))) _ hE
    refine a_callS (n := 1) (σ1 := st_8) (σf := q.1) [.int v_6] X Y (maf_X3_digit hl0 n g) ⟨oaf_X3_digit _ g, M9, h1, h2, (by show _ ≤ 7; decide), (by show _ ≤ 111; decide)⟩ q473 q474 q129 q475 (by decide +kernel) rfl hl.1 (Nat.le_of_ble_eq_true rfl) dX3_numeral_104 (fun v hv H locs kc ks Y => ?_) (fun k hk => by cases hk)
    cases hv
    replace hE := e_bind hE
    obtain ⟨u_12, g, hE⟩ := hE
    obtain ⟨fs9, g9⟩ := i_gC g
    have g7 := a_recv X Y k_X3.1 g9
    replace hE := e_xb hE
    rcases hE with ⟨st_10, u_11, g, hE⟩ | ⟨st_10, k9, g, hE⟩
    rotate_left
    · subst hE
      refine a_callV (n := 1) (C := "BasicMachine$Parser") (σ1 := st_10) (σf := st_10) [.int v_9] X Y (maf_X3_need hl0 n g) ⟨oaf_X3_need _ g, aLe.rf _, h1, h2, (by show _ ≤ 7; decide), (by show _ ≤ 111; decide)⟩ q476 q478 qs5 q129 q479 (by decide +kernel) g7 rfl hl.1 (Nat.le_of_ble_eq_true rfl) dX3_numeral_107 (fun v hv => by cases hv) (fun k hk H locs kc ks q9 ce Y e1 e2 e3 => ?_)
      cases hk
      exact a_out X Y h1 h2 (fun z hz => (hex z hz).elim) e1 e2 e3
    have M9 := ((oaf_X3_numeral_S110 )) _ hE
    refine a_callV (n := 1) (C := "BasicMachine$Parser") (σ1 := st_10) (σf := q.1) [.int v_9] X Y (maf_X3_need hl0 n g) ⟨oaf_X3_need _ g, M9, h1, h2, (by show _ ≤ 7; decide), (by show _ ≤ 111; decide)⟩ q476 q478 qs5 q129 q479 (by decide +kernel) g7 rfl hl.1 (Nat.le_of_ble_eq_true rfl) dX3_numeral_107 (fun v hv H locs kc ks Y => ?_) (fun k hk => by cases hk)
    cases hv
    exact (waf_X3_numeral_S110 X hex hr hnm) hE h1 h2 Y (lv_sub hl [2, 3, 0, 1] rfl)
  · replace hE := e_t c_4 hE
    refine lv_aload_n hx hb dX3_numeral_72 rfl (lv_at hl 0 rfl) ?_
    refine lv_aload_n hx hb dX3_numeral_73 rfl (lv_at hl 0 rfl) ?_
    replace hE := e_bind hE
    obtain ⟨u_15, g, hE⟩ := hE
    obtain ⟨fs9, g9⟩ := i_gC g
    have g7 := a_recv X Y k_X3.1 g9
    replace hE := e_cb hE
    obtain ⟨st_13, v_14, g, hE⟩ := hE
    have M9 := (mo_cb oaf_X3_digit fun _ _ => (mo_if (oaf_X3_numeral_L88 ) (oaf_X3_numeral_L88 ))) _ hE
    refine a_callV (n := 0) (C := "BasicMachine$Parser") (σ1 := st_13) (σf := q.1) [] X Y (maf_X3_here hl0 n g) ⟨oaf_X3_here _ g, M9, h1, h2, (by show _ ≤ 7; decide), (by show _ ≤ 111; decide)⟩ q469 q471 qs4 q129 q472 (by decide +kernel) g7 rfl hl.1 (Nat.le_of_ble_eq_true rfl) dX3_numeral_74 (fun v hv H locs kc ks Y => ?_) (fun k hk => by cases hk)
    cases hv
    replace hE := e_cb hE
    obtain ⟨st_16, v_17, g, hE⟩ := hE
    have M9 := (mo_if (oaf_X3_numeral_L88 ) (oaf_X3_numeral_L88 )) _ hE
    refine a_callS (n := 1) (σ1 := st_16) (σf := q.1) [.int v_14] X Y (maf_X3_digit hl0 n g) ⟨oaf_X3_digit _ g, M9, h1, h2, (by show _ ≤ 7; decide), (by show _ ≤ 111; decide)⟩ q473 q474 q129 q475 (by decide +kernel) rfl hl.1 (Nat.le_of_ble_eq_true rfl) dX3_numeral_77 (fun v hv H locs kc ks Y => ?_) (fun k hk => by cases hk)
    cases hv
    refine lv_if_ne (tgt := 87) hx hb dX3_numeral_80 (by decide) (fun c_18 => ?_) (fun c_18 => ?_)
    · replace hE := e_f c_18 hE
      refine lv_iconst (v := 0) hx hb dX3_numeral_87 (by decide) ?_
      exact waf_X3_numeral_L88 X hex hr hnm hE h1 h2 Y (lv_sub hl [0, 1] rfl)
    · replace hE := e_t c_18 hE
      refine lv_iconst (v := 1) hx hb dX3_numeral_83 (by decide) ?_
      refine lv_goto (tgt := 88) hx hb dX3_numeral_84 (by decide) ?_
      exact waf_X3_numeral_L88 X hex hr hnm hE h1 h2 Y (lv_sub hl [0, 1] rfl)
set_option maxHeartbeats 4000000 in
set_option maxRecDepth 100000 in
theorem waf_X3_numeral_S15_ {l : Launch} {x : aP} {As : List Value} {σ0 : aS} {p : Program} {e : Env} {s : State} {m : MethodId} {below : List Frame} {meth : Method} {c : Code} {mc ms : Nat} (X : aX "BasicMachine$Parser" p l s m As.toArray meth c cX3_numeral 6 x σ0) (hex : ∀ z ∈ c.exceptionTable.toList, False) (hr : meth.sig.returnType = (some .double)) (hnm : "numeral" = meth.name) {n : Nat} {q : aS × ((UInt64) ⊕ Nat)} : ∀ k : Nat, (∀ {st : aS} {a0 : Nat} {x1 : Int64} {x3 : Int32}, af_X3_numeral_S15 n x.sK k st a0 x1 x3 = some q → (mc + σ0.1 = q.1.1) → (ms + σ0.2.1 = q.1.2.1) → ∀ {H : Heap} {locs : List Loc} {ls : Array Slot} {kc ks : Nat}, aY x σ0 s st H locs kc ks → lv_has ls 6 [(0, .ref a0), (1, .long x1), (3, .int x3)] → aG l 7 111 mc ms x As σ0 (oD q.2) q.1 p e s m below meth c H locs kc ks (F0 m 15 ls [])) := by
  have hx := X.1
  have hb := X.2.1
  have hown := X.2.2.2.1
  have hts := X.2.2.2.2.1
  have hK := X.2.2.2.2.2.1
  have hl0 := X.2.2.2.2.2.2.2.2
  intro k
  induction k with
  | zero => exact fun h => nomatch (show none = some q from h)
  | succ k ih =>
    have mrec := @oaf_X3_numeral_S15_ n x.sK k
    intro st a0 x1 x3 hE h1 h2 H locs ls kc ks Y hl
    replace hE : af_X3_numeral_B15 n x.sK (af_X3_numeral_S15 n x.sK k) st a0 x1 x3 = some q := hE
    unfold af_X3_numeral_B15 at hE
    refine lv_iload_n hx hb dX3_numeral_15 rfl (lv_at hl 2 rfl) ?_
    refine lv_bipush (v := 6) hx hb dX3_numeral_16 (by decide) ?_
    refine lv_icmp_ge (tgt := 63) hx hb dX3_numeral_18 (by decide) (fun c_1 => ?_) (fun c_1 => ?_)
    · replace hE := e_t c_1 hE
      exact waf_X3_numeral_L63 X hex hr hnm hE h1 h2 Y (lv_sub hl [0, 1] rfl)
    · replace hE := e_f c_1 hE
      refine lv_aload_n hx hb dX3_numeral_21 rfl (lv_at hl 0 rfl) ?_
      replace hE := e_bind hE
      obtain ⟨u_4, g, hE⟩ := hE
      obtain ⟨fs9, g9⟩ := i_gC g
      have g7 := a_recv X Y k_X3.1 g9
      replace hE := e_cb hE
      obtain ⟨st_2, v_3, g, hE⟩ := hE
      have M9 := (mo_cb oaf_X3_digit fun _ _ => (mo_if (oaf_X3_numeral_L63 ) (mo_v fun _ => (mo_cb oaf_X3_here fun _ _ => (mo_v fun _ => (mo_v fun _ => (mo_s (fun _ => le_pF) fun _ => (mrec)))))))) _ hE
      refine a_callV (n := 0) (C := "BasicMachine$Parser") (σ1 := st_2) (σf := q.1) [] X Y (maf_X3_here hl0 n g) ⟨oaf_X3_here _ g, M9, h1, h2, (by show _ ≤ 7; decide), (by show _ ≤ 111; decide)⟩ q469 q471 qs4 q129 q472 (by decide +kernel) g7 rfl hl.1 (Nat.le_of_ble_eq_true rfl) dX3_numeral_22 (fun v hv H locs kc ks Y => ?_) (fun k hk => by cases hk)
      cases hv
      replace hE := e_cb hE
      obtain ⟨st_5, v_6, g, hE⟩ := hE
      have M9 := (mo_if (oaf_X3_numeral_L63 ) (mo_v fun _ => (mo_cb oaf_X3_here fun _ _ => (mo_v fun _ => (mo_v fun _ => (mo_s (fun _ => le_pF) fun _ => (mrec))))))) _ hE
      refine a_callS (n := 1) (σ1 := st_5) (σf := q.1) [.int v_3] X Y (maf_X3_digit hl0 n g) ⟨oaf_X3_digit _ g, M9, h1, h2, (by show _ ≤ 7; decide), (by show _ ≤ 111; decide)⟩ q473 q474 q129 q475 (by decide +kernel) rfl hl.1 (Nat.le_of_ble_eq_true rfl) dX3_numeral_25 (fun v hv H locs kc ks Y => ?_) (fun k hk => by cases hk)
      cases hv
      refine lv_if_eq (tgt := 63) hx hb dX3_numeral_28 (by decide) (fun c_7 => ?_) (fun c_7 => ?_)
      · replace hE := e_t c_7 hE
        exact waf_X3_numeral_L63 X hex hr hnm hE h1 h2 Y (lv_sub hl [0, 1] rfl)
      · replace hE := e_f c_7 hE
        refine lv_ldc2 (v := (10 : Int64)) hx hb hown (hts _ q905) dX3_numeral_31 ?_
        refine lv_lload_n hx hb dX3_numeral_34 rfl (lv_at hl 1 rfl) ?_
        refine lv_lmul hx hb dX3_numeral_35 ?_
        refine lv_aload_n hx hb dX3_numeral_36 rfl (lv_at hl 0 rfl) ?_
        replace hE := e_bind hE
        obtain ⟨u_10, g, hE⟩ := hE
        obtain ⟨fs9, g9⟩ := i_gC g
        have g7 := a_recv X Y k_X3.1 g9
        replace hE := e_cb hE
        obtain ⟨st_8, v_9, g, hE⟩ := hE
        have M9 := (mo_v fun _ => (mo_v fun _ => (mo_s (fun _ => le_pF) fun _ => (mrec)))) _ hE
        refine a_callV (n := 0) (C := "BasicMachine$Parser") (σ1 := st_8) (σf := q.1) [] X Y (maf_X3_here hl0 n g) ⟨oaf_X3_here _ g, M9, h1, h2, (by show _ ≤ 7; decide), (by show _ ≤ 111; decide)⟩ q469 q471 qs4 q129 q472 (by decide +kernel) g7 rfl hl.1 (Nat.le_of_ble_eq_true rfl) dX3_numeral_37 (fun v hv H locs kc ks Y => ?_) (fun k hk => by cases hk)
        cases hv
        refine lv_i2l hx hb dX3_numeral_40 rfl ?_
        refine lv_ladd hx hb dX3_numeral_41 ?_
        refine lv_ldc2 (v := (48 : Int64)) hx hb hown (hts _ q906) dX3_numeral_42 ?_
        refine lv_lsub hx hb dX3_numeral_45 ?_
        replace hE := e_bind hE
        obtain ⟨x1_11, g, hE⟩ := hE
        refine n_topl g ?_
        refine lv_lstore_n (i := 1) (lv' := [(1, .long x1_11), (0, .ref a0), (3, .int x3)]) hx hb dX3_numeral_46 rfl hl (by decide) rfl (fun ls hl => ?_)
        refine lv_aload_n hx hb dX3_numeral_47 rfl (lv_at hl 1 rfl) ?_
        refine lv_dup hx hb dX3_numeral_48 rfl ?_
        replace hE := e_bind hE
        obtain ⟨v_12, g, hE⟩ := hE
        refine n_gI X Y k_X3 2 g (by decide) q442 dX3_numeral_49 ?_
        refine lv_iconst (v := 1) hx hb dX3_numeral_52 (by decide) ?_
        refine lv_iadd hx hb dX3_numeral_53 ?_
        replace hE := e_bind hE
        obtain ⟨st_13, g, hE⟩ := hE
        refine a_putV X Y k_X3 2 g (by decide) rfl rfl rfl q442 dX3_numeral_54 (fun H locs Y => ?_)
        refine lv_iinc (v := (x3 + (1 : Int32))) (lv' := [(3, .int (x3 + (1 : Int32))), (1, .long x1_11), (0, .ref a0)]) hx hb dX3_numeral_57 hl (k := 2) rfl rfl (by decide) rfl (fun ls hl => ?_)
        refine lv_goto (tgt := 15) hx hb dX3_numeral_60 (by decide) ?_
        exact ih hE h1 h2 Y (lv_sub hl [2, 1, 0] rfl)
set_option maxHeartbeats 4000000 in
set_option maxRecDepth 100000 in
theorem waf_X3_numeral_S15 {l : Launch} {x : aP} {As : List Value} {σ0 : aS} {p : Program} {e : Env} {s : State} {m : MethodId} {below : List Frame} {meth : Method} {c : Code} {mc ms : Nat} (X : aX "BasicMachine$Parser" p l s m As.toArray meth c cX3_numeral 6 x σ0) (hex : ∀ z ∈ c.exceptionTable.toList, False) (hr : meth.sig.returnType = (some .double)) (hnm : "numeral" = meth.name) {n : Nat} {q : aS × ((UInt64) ⊕ Nat)} : (∀ {st : aS} {a0 : Nat} {x1 : Int64} {x3 : Int32}, af_X3_numeral_S15 n x.sK n st a0 x1 x3 = some q → (mc + σ0.1 = q.1.1) → (ms + σ0.2.1 = q.1.2.1) → ∀ {H : Heap} {locs : List Loc} {ls : Array Slot} {kc ks : Nat}, aY x σ0 s st H locs kc ks → lv_has ls 6 [(0, .ref a0), (1, .long x1), (3, .int x3)] → aG l 7 111 mc ms x As σ0 (oD q.2) q.1 p e s m below meth c H locs kc ks (F0 m 15 ls [])) := waf_X3_numeral_S15_ X hex hr hnm n
set_option maxHeartbeats 4000000 in
set_option maxRecDepth 100000 in
theorem maf_X3_numeral {l : Launch} (hl0 : l.stackTraces = false) (n : Nat) {x : aP} {st : aS} {a0 : Nat} {q : aS × ((UInt64) ⊕ Nat)} (hE : af_X3_numeral n x.sK st a0 = some q) : aMet l yX3_numeral (ws_ yX3_numeral cX3_numeral 6 (some .double)) 7 111 x [.ref a0] st (oD q.2) q.1 := by
  refine a_ofW (own := "BasicMachine$Parser") hl0 (by decide) rfl (Nat.le_of_ble_eq_true rfl) (fun mc ms p e s m below meth c ls H locs kc ks h1 h2 X hex Y hr hnm hl => ?_)
  have hnm : "numeral" = meth.name := hnm
  have hl : lv_has ls 6 [(0, .ref a0)] := hl
  have hx := X.1
  have hb := X.2.1
  have hown := X.2.2.2.1
  have hts := X.2.2.2.2.1
  have hK := X.2.2.2.2.2.1
  have hl0 := X.2.2.2.2.2.2.2.2
  unfold af_X3_numeral at hE
  refine lv_lconst (v := 0) hx hb dX3_numeral_0 (by decide) ?_
  refine lv_lstore_n (i := 1) (lv' := [(1, .long (0 : Int64)), (0, .ref a0)]) hx hb dX3_numeral_1 rfl hl (by decide) rfl (fun ls hl => ?_)
  refine lv_iconst (v := 0) hx hb dX3_numeral_2 (by decide) ?_
  refine lv_istore_n (i := 3) (lv' := [(3, .int (0 : Int32)), (1, .long (0 : Int64)), (0, .ref a0)]) hx hb dX3_numeral_3 rfl hl (by decide) rfl (fun ls hl => ?_)
  refine lv_aload_n hx hb dX3_numeral_4 rfl (lv_at hl 2 rfl) ?_
  refine lv_aload_n hx hb dX3_numeral_5 rfl (lv_at hl 2 rfl) ?_
  replace hE := e_bind hE
  obtain ⟨u_3, g, hE⟩ := hE
  obtain ⟨fs9, g9⟩ := i_gC g
  have g7 := a_recv X Y k_X3.1 g9
  replace hE := e_cb hE
  obtain ⟨st_1, v_2, g, hE⟩ := hE
  have M9 := (mo_cb oaf_X3_digit fun _ _ => (mo_v fun _ => (mo_x oaf_X3_need fun _ _ => ((oaf_X3_numeral_S15 ))))) _ hE
  refine a_callV (n := 0) (C := "BasicMachine$Parser") (σ1 := st_1) (σf := q.1) [] X Y (maf_X3_here hl0 n g) ⟨oaf_X3_here _ g, M9, h1, h2, (by show _ ≤ 7; decide), (by show _ ≤ 111; decide)⟩ q469 q471 qs4 q129 q472 (by decide +kernel) g7 rfl hl.1 (Nat.le_of_ble_eq_true rfl) dX3_numeral_6 (fun v hv H locs kc ks Y => ?_) (fun k hk => by cases hk)
  cases hv
  replace hE := e_cb hE
  obtain ⟨st_4, v_5, g, hE⟩ := hE
  have M9 := (mo_v fun _ => (mo_x oaf_X3_need fun _ _ => ((oaf_X3_numeral_S15 )))) _ hE
  refine a_callS (n := 1) (σ1 := st_4) (σf := q.1) [.int v_2] X Y (maf_X3_digit hl0 n g) ⟨oaf_X3_digit _ g, M9, h1, h2, (by show _ ≤ 7; decide), (by show _ ≤ 111; decide)⟩ q473 q474 q129 q475 (by decide +kernel) rfl hl.1 (Nat.le_of_ble_eq_true rfl) dX3_numeral_9 (fun v hv H locs kc ks Y => ?_) (fun k hk => by cases hk)
  cases hv
  replace hE := e_bind hE
  obtain ⟨u_8, g, hE⟩ := hE
  obtain ⟨fs9, g9⟩ := i_gC g
  have g7 := a_recv X Y k_X3.1 g9
  replace hE := e_xb hE
  rcases hE with ⟨st_6, u_7, g, hE⟩ | ⟨st_6, k9, g, hE⟩
  rotate_left
  · subst hE
    refine a_callV (n := 1) (C := "BasicMachine$Parser") (σ1 := st_6) (σf := st_6) [.int v_5] X Y (maf_X3_need hl0 n g) ⟨oaf_X3_need _ g, aLe.rf _, h1, h2, (by show _ ≤ 7; decide), (by show _ ≤ 111; decide)⟩ q476 q478 qs5 q129 q479 (by decide +kernel) g7 rfl hl.1 (Nat.le_of_ble_eq_true rfl) dX3_numeral_12 (fun v hv => by cases hv) (fun k hk H locs kc ks q9 ce Y e1 e2 e3 => ?_)
    cases hk
    exact a_out X Y h1 h2 (fun z hz => (hex z hz).elim) e1 e2 e3
  have M9 := ((oaf_X3_numeral_S15 )) _ hE
  refine a_callV (n := 1) (C := "BasicMachine$Parser") (σ1 := st_6) (σf := q.1) [.int v_5] X Y (maf_X3_need hl0 n g) ⟨oaf_X3_need _ g, M9, h1, h2, (by show _ ≤ 7; decide), (by show _ ≤ 111; decide)⟩ q476 q478 qs5 q129 q479 (by decide +kernel) g7 rfl hl.1 (Nat.le_of_ble_eq_true rfl) dX3_numeral_12 (fun v hv H locs kc ks Y => ?_) (fun k hk => by cases hk)
  cases hv
  exact (waf_X3_numeral_S15 X hex hr hnm) hE h1 h2 Y (lv_sub hl [2, 1, 0] rfl)
/-! java/lang/Record.<init>()V -/
set_option maxHeartbeats 4000000 in
set_option maxRecDepth 100000 in
theorem maf_J15_init {l : Launch} (hl0 : l.stackTraces = false) (n : Nat) {x : aP} {st : aS} {a0 : Nat} {q : aS × Unit} (hE : af_J15_init n x.sK st a0 = some q) : aMet l yJ15_init (ws_ yJ15_init cJ15_init 1 none) 1 20 x [.ref a0] st (.inl none) q.1 := by
  refine a_ofW (own := "java/lang/Record") hl0 (by decide) rfl (Nat.le_of_ble_eq_true rfl) (fun mc ms p e s m below meth c ls H locs kc ks h1 h2 X hex Y hr hnm hl => ?_)
  have hnm : "<init>" = meth.name := hnm
  have hl : lv_has ls 1 [(0, .ref a0)] := hl
  have hx := X.1
  have hb := X.2.1
  have hown := X.2.2.2.1
  have hts := X.2.2.2.2.1
  have hK := X.2.2.2.2.2.1
  have hl0 := X.2.2.2.2.2.2.2.2
  unfold af_J15_init at hE
  refine lv_aload_n hx hb dJ15_init_0 rfl (lv_at hl 0 rfl) ?_
  refine W.objInit hx hb hown (hts _ q914) (hts _ q_oi) (hts _ q_oc) rfl (by rw [X.2.2.1]; exact hl.1) rfl dJ15_init_1 (by show _ ≤ 1; decide) (Nat.le_trans (Nat.add_le_add_right (show _ ≤ 8 from (Nat.le_of_ble_eq_true rfl)) 12) (by show _ ≤ 20; decide)) ?_
  refine W.eq (g2 := F0 m 4 ls []) rfl ?_
  cases hE
  exact a_vret X Y h1 h2 hr dJ15_init_4
/-! BasicMachine$Numeral.<init>(D)V -/
set_option maxHeartbeats 4000000 in
set_option maxRecDepth 100000 in
theorem maf_X6_init {l : Launch} (hl0 : l.stackTraces = false) (n : Nat) {x : aP} {st : aS} {a0 : Nat} {p1 : UInt64} {q : aS × Unit} (hE : af_X6_init n x.sK st a0 p1 = some q) : aMet l yX6_init (ws_ yX6_init cX6_init 3 none) 2 40 x [.ref a0, .double p1] st (.inl none) q.1 := by
  refine a_ofW (own := "BasicMachine$Numeral") hl0 (by decide) rfl (Nat.le_of_ble_eq_true rfl) (fun mc ms p e s m below meth c ls H locs kc ks h1 h2 X hex Y hr hnm hl => ?_)
  have hnm : "<init>" = meth.name := hnm
  have hl : lv_has ls 3 [(0, .ref a0), (1, .double p1)] := hl
  have hx := X.1
  have hb := X.2.1
  have hown := X.2.2.2.1
  have hts := X.2.2.2.2.1
  have hK := X.2.2.2.2.2.1
  have hl0 := X.2.2.2.2.2.2.2.2
  unfold af_X6_init at hE
  refine lv_aload_n hx hb dX6_init_0 rfl (lv_at hl 0 rfl) ?_
  replace hE := e_cb hE
  obtain ⟨st_1, u_2, g, hE⟩ := hE
  have M9 := (mo_s (fun _ => le_pF) fun _ => mo_ret) _ hE
  refine a_callI (n := 0) (σ1 := st_1) (σf := q.1) [] X Y (maf_J15_init hl0 n g) ⟨oaf_J15_init _ g, M9, h1, h2, (by show _ ≤ 2; decide), (by show _ ≤ 40; decide)⟩ q911 q912 q143 q913 rfl (by decide +kernel) rfl hl.1 (Nat.le_of_ble_eq_true rfl) dX6_init_1 (fun v hv H locs kc ks Y => ?_) (fun k hk => by cases hk)
  cases hv
  refine lv_aload_n hx hb dX6_init_4 rfl (lv_at hl 0 rfl) ?_
  refine lv_dload_n hx hb dX6_init_5 rfl (lv_at hl 1 rfl) ?_
  replace hE := e_bind hE
  obtain ⟨st_3, g, hE⟩ := hE
  refine a_putFV X Y k_X6 0 g (by decide) rfl hnm rfl rfl rfl q915 dX6_init_6 (fun H locs Y => ?_)
  cases hE
  exact a_vret X Y h1 h2 hr dX6_init_9
/-! BasicMachine$Parser.matrix()I -/
set_option maxHeartbeats 4000000 in
set_option maxRecDepth 100000 in
theorem maf_X3_matrix {l : Launch} (hl0 : l.stackTraces = false) (n : Nat) {x : aP} {st : aS} {a0 : Nat} {q : aS × ((Int32) ⊕ Nat)} (hE : af_X3_matrix n x.sK st a0 = some q) : aMet l yX3_matrix (ws_ yX3_matrix cX3_matrix 1 (some .int)) 7 111 x [.ref a0] st (oI q.2) q.1 := by
  refine a_ofW (own := "BasicMachine$Parser") hl0 (by decide) rfl (Nat.le_of_ble_eq_true rfl) (fun mc ms p e s m below meth c ls H locs kc ks h1 h2 X hex Y hr hnm hl => ?_)
  have hnm : "matrix" = meth.name := hnm
  have hl : lv_has ls 1 [(0, .ref a0)] := hl
  have hx := X.1
  have hb := X.2.1
  have hown := X.2.2.2.1
  have hts := X.2.2.2.2.1
  have hK := X.2.2.2.2.2.1
  have hl0 := X.2.2.2.2.2.2.2.2
  unfold af_X3_matrix at hE
  refine lv_aload_n hx hb dX3_matrix_0 rfl (lv_at hl 0 rfl) ?_
  refine lv_aload_n hx hb dX3_matrix_1 rfl (lv_at hl 0 rfl) ?_
  replace hE := e_bind hE
  obtain ⟨u_3, g, hE⟩ := hE
  obtain ⟨fs9, g9⟩ := i_gC g
  have g7 := a_recv X Y k_X3.1 g9
  replace hE := e_cb hE
  obtain ⟨st_1, v_2, g, hE⟩ := hE
  have M9 := (mo_cb oaf_X3_isMatrix fun _ _ => (mo_v fun _ => (mo_x oaf_X3_need fun _ _ => (mo_v fun _ => (mo_s (fun _ => le_pF) fun _ => (mo_v fun _ => (mo_v fun _ => (mo_v fun _ => (mo_v fun _ => mo_ret))))))))) _ hE
  refine a_callV (n := 0) (C := "BasicMachine$Parser") (σ1 := st_1) (σf := q.1) [] X Y (maf_X3_here hl0 n g) ⟨oaf_X3_here _ g, M9, h1, h2, (by show _ ≤ 7; decide), (by show _ ≤ 111; decide)⟩ q469 q471 qs4 q129 q472 (by decide +kernel) g7 rfl hl.1 (Nat.le_of_ble_eq_true rfl) dX3_matrix_2 (fun v hv H locs kc ks Y => ?_) (fun k hk => by cases hk)
  cases hv
  replace hE := e_cb hE
  obtain ⟨st_4, v_5, g, hE⟩ := hE
  have M9 := (mo_v fun _ => (mo_x oaf_X3_need fun _ _ => (mo_v fun _ => (mo_s (fun _ => le_pF) fun _ => (mo_v fun _ => (mo_v fun _ => (mo_v fun _ => (mo_v fun _ => mo_ret)))))))) _ hE
  refine a_callS (n := 1) (σ1 := st_4) (σf := q.1) [.int v_2] X Y (maf_X3_isMatrix hl0 n g) ⟨oaf_X3_isMatrix _ g, M9, h1, h2, (by show _ ≤ 7; decide), (by show _ ≤ 111; decide)⟩ q858 q859 q129 q860 (by decide +kernel) rfl hl.1 (Nat.le_of_ble_eq_true rfl) dX3_matrix_5 (fun v hv H locs kc ks Y => ?_) (fun k hk => by cases hk)
  cases hv
  replace hE := e_bind hE
  obtain ⟨u_8, g, hE⟩ := hE
  obtain ⟨fs9, g9⟩ := i_gC g
  have g7 := a_recv X Y k_X3.1 g9
  replace hE := e_xb hE
  rcases hE with ⟨st_6, u_7, g, hE⟩ | ⟨st_6, k9, g, hE⟩
  rotate_left
  · subst hE
    refine a_callV (n := 1) (C := "BasicMachine$Parser") (σ1 := st_6) (σf := st_6) [.int v_5] X Y (maf_X3_need hl0 n g) ⟨oaf_X3_need _ g, aLe.rf _, h1, h2, (by show _ ≤ 7; decide), (by show _ ≤ 111; decide)⟩ q476 q478 qs5 q129 q479 (by decide +kernel) g7 rfl hl.1 (Nat.le_of_ble_eq_true rfl) dX3_matrix_8 (fun v hv => by cases hv) (fun k hk H locs kc ks q9 ce Y e1 e2 e3 => ?_)
    cases hk
    exact a_out X Y h1 h2 (fun z hz => (hex z hz).elim) e1 e2 e3
  have M9 := (mo_v fun _ => (mo_s (fun _ => le_pF) fun _ => (mo_v fun _ => (mo_v fun _ => (mo_v fun _ => (mo_v fun _ => mo_ret)))))) _ hE
  refine a_callV (n := 1) (C := "BasicMachine$Parser") (σ1 := st_6) (σf := q.1) [.int v_5] X Y (maf_X3_need hl0 n g) ⟨oaf_X3_need _ g, M9, h1, h2, (by show _ ≤ 7; decide), (by show _ ≤ 111; decide)⟩ q476 q478 qs5 q129 q479 (by decide +kernel) g7 rfl hl.1 (Nat.le_of_ble_eq_true rfl) dX3_matrix_8 (fun v hv H locs kc ks Y => ?_) (fun k hk => by cases hk)
  cases hv
  refine lv_aload_n hx hb dX3_matrix_11 rfl (lv_at hl 0 rfl) ?_
  refine lv_dup hx hb dX3_matrix_12 rfl ?_
  replace hE := e_bind hE
  obtain ⟨v_9, g, hE⟩ := hE
  refine n_gI X Y k_X3 2 g (by decide) q442 dX3_matrix_13 ?_
  refine lv_iconst (v := 1) hx hb dX3_matrix_16 (by decide) ?_
  refine lv_iadd hx hb dX3_matrix_17 ?_
  replace hE := e_bind hE
  obtain ⟨st_10, g, hE⟩ := hE
  refine a_putV X Y k_X3 2 g (by decide) rfl rfl rfl q442 dX3_matrix_18 (fun H locs Y => ?_)
  refine lv_aload_n hx hb dX3_matrix_21 rfl (lv_at hl 0 rfl) ?_
  replace hE := e_bind hE
  obtain ⟨r_11, g, hE⟩ := hE
  refine n_gR X Y k_X3 0 g (by decide) q440 dX3_matrix_22 ?_
  refine lv_aload_n hx hb dX3_matrix_25 rfl (lv_at hl 0 rfl) ?_
  replace hE := e_bind hE
  obtain ⟨v_12, g, hE⟩ := hE
  refine n_gI X Y k_X3 2 g (by decide) q442 dX3_matrix_26 ?_
  refine lv_iconst (v := 1) hx hb dX3_matrix_29 (by decide) ?_
  refine lv_isub hx hb dX3_matrix_30 ?_
  replace hE := e_bind hE
  obtain ⟨a_13, g, hE⟩ := hE
  subst g
  replace hE := e_bind hE
  obtain ⟨v_14, g, hE⟩ := hE
  refine a_cald X Y g dX3_matrix_31 ?_
  refine lv_bipush (v := 80) hx hb dX3_matrix_32 (by decide) ?_
  refine lv_isub hx hb dX3_matrix_34 ?_
  cases hE
  exact a_iret X Y h1 h2 hr dX3_matrix_35
/-! BasicMachine$Parser.take(C)V -/
set_option maxHeartbeats 4000000 in
set_option maxRecDepth 100000 in
theorem waf_X3_take_L14 {l : Launch} {x : aP} {As : List Value} {σ0 : aS} {p : Program} {e : Env} {s : State} {m : MethodId} {below : List Frame} {meth : Method} {c : Code} {mc ms : Nat} (X : aX "BasicMachine$Parser" p l s m As.toArray meth c cX3_take 2 x σ0) (hex : ∀ z ∈ c.exceptionTable.toList, False) (hr : meth.sig.returnType = none) (hnm : "take" = meth.name) {n : Nat} {st : aS} {a0 : Nat} {z14_1 : Int32} {q : aS × (Unit ⊕ Nat)} (hE : af_X3_take_L14 n x.sK st a0 z14_1 = some q) (h1 : mc + σ0.1 = q.1.1) (h2 : ms + σ0.2.1 = q.1.2.1) {H : Heap} {locs : List Loc} {ls : Array Slot} {kc ks : Nat} (Y : aY x σ0 s st H locs kc ks) (hl : lv_has ls 2 [(0, .ref a0)]) : aG l 7 111 mc ms x As σ0 (oV q.2) q.1 p e s m below meth c H locs kc ks (F0 m 14 ls [.int z14_1, .ref a0]) := by
  have hx := X.1
  have hb := X.2.1
  have hown := X.2.2.2.1
  have hts := X.2.2.2.2.1
  have hK := X.2.2.2.2.2.1
  have hl0 := X.2.2.2.2.2.2.2.2
  unfold af_X3_take_L14 at hE
  replace hE := e_bind hE
  obtain ⟨u_3, g, hE⟩ := hE
  obtain ⟨fs9, g9⟩ := i_gC g
  have g7 := a_recv X Y k_X3.1 g9
  replace hE := e_xb hE
  rcases hE with ⟨st_1, u_2, g, hE⟩ | ⟨st_1, k9, g, hE⟩
  rotate_left
  · subst hE
    refine a_callV (n := 1) (C := "BasicMachine$Parser") (σ1 := st_1) (σf := st_1) [.int z14_1] X Y (maf_X3_need hl0 n g) ⟨oaf_X3_need _ g, aLe.rf _, h1, h2, (by show _ ≤ 7; decide), (by show _ ≤ 111; decide)⟩ q476 q478 qs5 q129 q479 (by decide +kernel) g7 rfl hl.1 (Nat.le_of_ble_eq_true rfl) dX3_take_14 (fun v hv => by cases hv) (fun k hk H locs kc ks q9 ce Y e1 e2 e3 => ?_)
    cases hk
    exact a_out X Y h1 h2 (fun z hz => (hex z hz).elim) e1 e2 e3
  have M9 := (mo_v fun _ => (mo_s (fun _ => le_pF) fun _ => mo_ret)) _ hE
  refine a_callV (n := 1) (C := "BasicMachine$Parser") (σ1 := st_1) (σf := q.1) [.int z14_1] X Y (maf_X3_need hl0 n g) ⟨oaf_X3_need _ g, M9, h1, h2, (by show _ ≤ 7; decide), (by show _ ≤ 111; decide)⟩ q476 q478 qs5 q129 q479 (by decide +kernel) g7 rfl hl.1 (Nat.le_of_ble_eq_true rfl) dX3_take_14 (fun v hv H locs kc ks Y => ?_) (fun k hk => by cases hk)
  cases hv
  refine lv_aload_n hx hb dX3_take_17 rfl (lv_at hl 0 rfl) ?_
  refine lv_dup hx hb dX3_take_18 rfl ?_
  replace hE := e_bind hE
  obtain ⟨v_4, g, hE⟩ := hE
  refine n_gI X Y k_X3 2 g (by decide) q442 dX3_take_19 ?_
  refine lv_iconst (v := 1) hx hb dX3_take_22 (by decide) ?_
  refine lv_iadd hx hb dX3_take_23 ?_
  replace hE := e_bind hE
  obtain ⟨st_5, g, hE⟩ := hE
  refine a_putV X Y k_X3 2 g (by decide) rfl rfl rfl q442 dX3_take_24 (fun H locs Y => ?_)
  cases hE
  exact a_vret X Y h1 h2 hr dX3_take_27
set_option maxHeartbeats 4000000 in
set_option maxRecDepth 100000 in
theorem maf_X3_take {l : Launch} (hl0 : l.stackTraces = false) (n : Nat) {x : aP} {st : aS} {a0 : Nat} {p1 : Int32} {q : aS × (Unit ⊕ Nat)} (hE : af_X3_take n x.sK st a0 p1 = some q) : aMet l yX3_take (ws_ yX3_take cX3_take 2 none) 7 111 x [.ref a0, .int p1] st (oV q.2) q.1 := by
  refine a_ofW (own := "BasicMachine$Parser") hl0 (by decide) rfl (Nat.le_of_ble_eq_true rfl) (fun mc ms p e s m below meth c ls H locs kc ks h1 h2 X hex Y hr hnm hl => ?_)
  have hnm : "take" = meth.name := hnm
  have hl : lv_has ls 2 [(0, .ref a0), (1, .int p1)] := hl
  have hx := X.1
  have hb := X.2.1
  have hown := X.2.2.2.1
  have hts := X.2.2.2.2.1
  have hK := X.2.2.2.2.2.1
  have hl0 := X.2.2.2.2.2.2.2.2
  unfold af_X3_take at hE
  refine lv_aload_n hx hb dX3_take_0 rfl (lv_at hl 0 rfl) ?_
  refine lv_aload_n hx hb dX3_take_1 rfl (lv_at hl 0 rfl) ?_
  replace hE := e_bind hE
  obtain ⟨u_3, g, hE⟩ := hE
  obtain ⟨fs9, g9⟩ := i_gC g
  have g7 := a_recv X Y k_X3.1 g9
  replace hE := e_cb hE
  obtain ⟨st_1, v_2, g, hE⟩ := hE
  have M9 := (mo_if (oaf_X3_take_L14 ) (oaf_X3_take_L14 )) _ hE
  refine a_callV (n := 0) (C := "BasicMachine$Parser") (σ1 := st_1) (σf := q.1) [] X Y (maf_X3_here hl0 n g) ⟨oaf_X3_here _ g, M9, h1, h2, (by show _ ≤ 7; decide), (by show _ ≤ 111; decide)⟩ q469 q471 qs4 q129 q472 (by decide +kernel) g7 rfl hl.1 (Nat.le_of_ble_eq_true rfl) dX3_take_2 (fun v hv H locs kc ks Y => ?_) (fun k hk => by cases hk)
  cases hv
  refine lv_iload_n hx hb dX3_take_5 rfl (lv_at hl 1 rfl) ?_
  refine lv_icmp_ne (tgt := 13) hx hb dX3_take_6 (by decide) (fun c_4 => ?_) (fun c_4 => ?_)
  · replace hE := e_f c_4 hE
    refine lv_iconst (v := 0) hx hb dX3_take_13 (by decide) ?_
    exact waf_X3_take_L14 X hex hr hnm hE h1 h2 Y (lv_sub hl [0] rfl)
  · replace hE := e_t c_4 hE
    refine lv_iconst (v := 1) hx hb dX3_take_9 (by decide) ?_
    refine lv_goto (tgt := 14) hx hb dX3_take_10 (by decide) ?_
    exact waf_X3_take_L14 X hex hr hnm hE h1 h2 Y (lv_sub hl [0] rfl)
/-! BasicMachine$Parser.openBracket()V -/
set_option maxHeartbeats 4000000 in
set_option maxRecDepth 100000 in
theorem maf_X3_openBracket {l : Launch} (hl0 : l.stackTraces = false) (n : Nat) {x : aP} {st : aS} {a0 : Nat} {q : aS × (Unit ⊕ Nat)} (hE : af_X3_openBracket n x.sK st a0 = some q) : aMet l yX3_openBracket (ws_ yX3_openBracket cX3_openBracket 1 none) 8 132 x [.ref a0] st (oV q.2) q.1 := by
  refine a_ofW (own := "BasicMachine$Parser") hl0 (by decide) rfl (Nat.le_of_ble_eq_true rfl) (fun mc ms p e s m below meth c ls H locs kc ks h1 h2 X hex Y hr hnm hl => ?_)
  have hnm : "openBracket" = meth.name := hnm
  have hl : lv_has ls 1 [(0, .ref a0)] := hl
  have hx := X.1
  have hb := X.2.1
  have hown := X.2.2.2.1
  have hts := X.2.2.2.2.1
  have hK := X.2.2.2.2.2.1
  have hl0 := X.2.2.2.2.2.2.2.2
  unfold af_X3_openBracket at hE
  refine lv_aload_n hx hb dX3_openBracket_0 rfl (lv_at hl 0 rfl) ?_
  refine lv_bipush (v := 40) hx hb dX3_openBracket_1 (by decide) ?_
  replace hE := e_bind hE
  obtain ⟨u_3, g, hE⟩ := hE
  obtain ⟨fs9, g9⟩ := i_gC g
  have g7 := a_recv X Y k_X3.1 g9
  replace hE := e_xb hE
  rcases hE with ⟨st_1, u_2, g, hE⟩ | ⟨st_1, k9, g, hE⟩
  rotate_left
  · subst hE
    refine a_callV (n := 1) (C := "BasicMachine$Parser") (σ1 := st_1) (σf := st_1) [.int (40 : Int32)] X Y (maf_X3_take hl0 n g) ⟨oaf_X3_take _ g, aLe.rf _, h1, h2, (by show _ ≤ 8; decide), (by show _ ≤ 132; decide)⟩ q875 q877 qs13 q129 q878 (by decide +kernel) g7 rfl hl.1 (Nat.le_of_ble_eq_true rfl) dX3_openBracket_3 (fun v hv => by cases hv) (fun k hk H locs kc ks q9 ce Y e1 e2 e3 => ?_)
    cases hk
    exact a_out X Y h1 h2 (fun z hz => (hex z hz).elim) e1 e2 e3
  have M9 := (mo_v fun _ => (mo_s (fun _ => le_pF) fun _ => mo_ret)) _ hE
  refine a_callV (n := 1) (C := "BasicMachine$Parser") (σ1 := st_1) (σf := q.1) [.int (40 : Int32)] X Y (maf_X3_take hl0 n g) ⟨oaf_X3_take _ g, M9, h1, h2, (by show _ ≤ 8; decide), (by show _ ≤ 132; decide)⟩ q875 q877 qs13 q129 q878 (by decide +kernel) g7 rfl hl.1 (Nat.le_of_ble_eq_true rfl) dX3_openBracket_3 (fun v hv H locs kc ks Y => ?_) (fun k hk => by cases hk)
  cases hv
  refine lv_aload_n hx hb dX3_openBracket_6 rfl (lv_at hl 0 rfl) ?_
  refine lv_dup hx hb dX3_openBracket_7 rfl ?_
  replace hE := e_bind hE
  obtain ⟨v_4, g, hE⟩ := hE
  refine n_gI X Y k_X3 3 g (by decide) q444 dX3_openBracket_8 ?_
  refine lv_iconst (v := 1) hx hb dX3_openBracket_11 (by decide) ?_
  refine lv_iadd hx hb dX3_openBracket_12 ?_
  replace hE := e_bind hE
  obtain ⟨st_5, g, hE⟩ := hE
  refine a_putV X Y k_X3 3 g (by decide) rfl rfl rfl q444 dX3_openBracket_13 (fun H locs Y => ?_)
  cases hE
  exact a_vret X Y h1 h2 hr dX3_openBracket_16
/-! BasicMachine$Parser.closeBracket()V -/
set_option maxHeartbeats 4000000 in
set_option maxRecDepth 100000 in
theorem maf_X3_closeBracket {l : Launch} (hl0 : l.stackTraces = false) (n : Nat) {x : aP} {st : aS} {a0 : Nat} {q : aS × (Unit ⊕ Nat)} (hE : af_X3_closeBracket n x.sK st a0 = some q) : aMet l yX3_closeBracket (ws_ yX3_closeBracket cX3_closeBracket 1 none) 8 132 x [.ref a0] st (oV q.2) q.1 := by
  refine a_ofW (own := "BasicMachine$Parser") hl0 (by decide) rfl (Nat.le_of_ble_eq_true rfl) (fun mc ms p e s m below meth c ls H locs kc ks h1 h2 X hex Y hr hnm hl => ?_)
  have hnm : "closeBracket" = meth.name := hnm
  have hl : lv_has ls 1 [(0, .ref a0)] := hl
  have hx := X.1
  have hb := X.2.1
  have hown := X.2.2.2.1
  have hts := X.2.2.2.2.1
  have hK := X.2.2.2.2.2.1
  have hl0 := X.2.2.2.2.2.2.2.2
  unfold af_X3_closeBracket at hE
  refine lv_aload_n hx hb dX3_closeBracket_0 rfl (lv_at hl 0 rfl) ?_
  refine lv_bipush (v := 41) hx hb dX3_closeBracket_1 (by decide) ?_
  replace hE := e_bind hE
  obtain ⟨u_3, g, hE⟩ := hE
  obtain ⟨fs9, g9⟩ := i_gC g
  have g7 := a_recv X Y k_X3.1 g9
  replace hE := e_xb hE
  rcases hE with ⟨st_1, u_2, g, hE⟩ | ⟨st_1, k9, g, hE⟩
  rotate_left
  · subst hE
    refine a_callV (n := 1) (C := "BasicMachine$Parser") (σ1 := st_1) (σf := st_1) [.int (41 : Int32)] X Y (maf_X3_take hl0 n g) ⟨oaf_X3_take _ g, aLe.rf _, h1, h2, (by show _ ≤ 8; decide), (by show _ ≤ 132; decide)⟩ q875 q877 qs13 q129 q878 (by decide +kernel) g7 rfl hl.1 (Nat.le_of_ble_eq_true rfl) dX3_closeBracket_3 (fun v hv => by cases hv) (fun k hk H locs kc ks q9 ce Y e1 e2 e3 => ?_)
    cases hk
    exact a_out X Y h1 h2 (fun z hz => (hex z hz).elim) e1 e2 e3
  have M9 := (mo_v fun _ => (mo_s (fun _ => le_pF) fun _ => mo_ret)) _ hE
  refine a_callV (n := 1) (C := "BasicMachine$Parser") (σ1 := st_1) (σf := q.1) [.int (41 : Int32)] X Y (maf_X3_take hl0 n g) ⟨oaf_X3_take _ g, M9, h1, h2, (by show _ ≤ 8; decide), (by show _ ≤ 132; decide)⟩ q875 q877 qs13 q129 q878 (by decide +kernel) g7 rfl hl.1 (Nat.le_of_ble_eq_true rfl) dX3_closeBracket_3 (fun v hv H locs kc ks Y => ?_) (fun k hk => by cases hk)
  cases hv
  refine lv_aload_n hx hb dX3_closeBracket_6 rfl (lv_at hl 0 rfl) ?_
  refine lv_dup hx hb dX3_closeBracket_7 rfl ?_
  replace hE := e_bind hE
  obtain ⟨v_4, g, hE⟩ := hE
  refine n_gI X Y k_X3 3 g (by decide) q444 dX3_closeBracket_8 ?_
  refine lv_iconst (v := 1) hx hb dX3_closeBracket_11 (by decide) ?_
  refine lv_isub hx hb dX3_closeBracket_12 ?_
  replace hE := e_bind hE
  obtain ⟨st_5, g, hE⟩ := hE
  refine a_putV X Y k_X3 3 g (by decide) rfl rfl rfl q444 dX3_closeBracket_13 (fun H locs Y => ?_)
  cases hE
  exact a_vret X Y h1 h2 hr dX3_closeBracket_16
/-! BasicMachine$Element.<init>(ILBasicMachine$Expression;LBasicMachine$Expression;)V -/
set_option maxHeartbeats 4000000 in
set_option maxRecDepth 100000 in
theorem maf_X11_init {l : Launch} (hl0 : l.stackTraces = false) (n : Nat) {x : aP} {st : aS} {a0 : Nat} {p1 : Int32} {p2 : Option Nat} {p3 : Option Nat} {q : aS × Unit} (hE : af_X11_init n x.sK st a0 p1 p2 p3 = some q) : aMet l yX11_init (ws_ yX11_init cX11_init 4 none) 2 40 x [.ref a0, .int p1, va_rf p2, va_rf p3] st (.inl none) q.1 := by
  refine a_ofW (own := "BasicMachine$Element") hl0 (by decide) rfl (by simp only [lg_sl, List.flatMap_cons, List.flatMap_nil, va_rf_cat]; exact Nat.le_of_ble_eq_true rfl) (fun mc ms p e s m below meth c ls H locs kc ks h1 h2 X hex Y hr hnm hl => ?_)
  have hnm : "<init>" = meth.name := hnm
  have hl : lv_has ls 4 [(0, .ref a0), (1, .int p1), (2, va_rf p2), (3, va_rf p3)] := by simp only [lv_args, va_rf_cat] at hl; exact hl
  have hx := X.1
  have hb := X.2.1
  have hown := X.2.2.2.1
  have hts := X.2.2.2.2.1
  have hK := X.2.2.2.2.2.1
  have hl0 := X.2.2.2.2.2.2.2.2
  unfold af_X11_init at hE
  refine lv_aload_n hx hb dX11_init_0 rfl (lv_at hl 0 rfl) ?_
  replace hE := e_cb hE
  obtain ⟨st_1, u_2, g, hE⟩ := hE
  have M9 := (mo_s (fun _ => le_pF) fun _ => (mo_s (fun _ => le_pF) fun _ => (mo_s (fun _ => le_pF) fun _ => mo_ret))) _ hE
  refine a_callI (n := 0) (σ1 := st_1) (σf := q.1) [] X Y (maf_J15_init hl0 n g) ⟨oaf_J15_init _ g, M9, h1, h2, (by show _ ≤ 2; decide), (by show _ ≤ 40; decide)⟩ q1011 q912 q143 q913 rfl (by decide +kernel) rfl hl.1 (Nat.le_of_ble_eq_true rfl) dX11_init_1 (fun v hv H locs kc ks Y => ?_) (fun k hk => by cases hk)
  cases hv
  refine lv_aload_n hx hb dX11_init_4 rfl (lv_at hl 0 rfl) ?_
  refine lv_iload_n hx hb dX11_init_5 rfl (lv_at hl 1 rfl) ?_
  replace hE := e_bind hE
  obtain ⟨st_3, g, hE⟩ := hE
  refine a_putFV X Y k_X11 0 g (by decide) rfl hnm rfl rfl rfl q1012 dX11_init_6 (fun H locs Y => ?_)
  refine lv_aload_n hx hb dX11_init_9 rfl (lv_at hl 0 rfl) ?_
  refine r_aload_n hx hb dX11_init_10 rfl (lv_at hl 2 rfl) ?_
  replace hE := e_bind hE
  obtain ⟨st_4, g, hE⟩ := hE
  refine a_putFV X Y k_X11 1 g (by decide) rfl hnm rfl (nr_o p2) (fr_o p2) q1013 dX11_init_11 (fun H locs Y => ?_)
  refine lv_aload_n hx hb dX11_init_14 rfl (lv_at hl 0 rfl) ?_
  refine r_aload_n hx hb dX11_init_15 rfl (lv_at hl 3 rfl) ?_
  replace hE := e_bind hE
  obtain ⟨st_5, g, hE⟩ := hE
  refine a_putFV X Y k_X11 2 g (by decide) rfl hnm rfl (nr_o p3) (fr_o p3) q1014 dX11_init_16 (fun H locs Y => ?_)
  cases hE
  exact a_vret X Y h1 h2 hr dX11_init_19
/-! BasicMachine$Parser.element()LBasicMachine$Element; -/
set_option maxHeartbeats 4000000 in
set_option maxRecDepth 100000 in
theorem waf_X3_element_L15 {l : Launch} {x : aP} {As : List Value} {σ0 : aS} {p : Program} {e : Env} {s : State} {m : MethodId} {below : List Frame} {meth : Method} {c : Code} {mc ms : Nat} (X : aX "BasicMachine$Parser" p l s m As.toArray meth c cX3_element 4 x σ0) (hex : ∀ z ∈ c.exceptionTable.toList, False) (hr : meth.sig.returnType = (some (.object "BasicMachine$Element"))) (hnm : "element" = meth.name) {rx : aS → Nat → Option (aS × (Option Nat ⊕ Nat))} {fx lx : Nat} (hrv : hRX l x rx fx lx) {n : Nat} {st : aS} {a0 : Nat} {z15_1 : Int32} {q : aS × ((Option Nat) ⊕ Nat)} (hE : af_X3_element_L15 n x.sK rx st a0 z15_1 = some q) (h1 : mc + σ0.1 = q.1.1) (h2 : ms + σ0.2.1 = q.1.2.1) {H : Heap} {locs : List Loc} {ls : Array Slot} {kc ks : Nat} (Y : aY x σ0 s st H locs kc ks) (hl : lv_has ls 4 [(0, .ref a0)]) : aG l (fx + 1) (lx + 23) mc ms x As σ0 (oR q.2) q.1 p e s m below meth c H locs kc ks (F0 m 15 ls [.int z15_1, .ref a0]) := by
  have hx := X.1
  have hb := X.2.1
  have hown := X.2.2.2.1
  have hts := X.2.2.2.2.1
  have hK := X.2.2.2.2.2.1
  have hl0 := X.2.2.2.2.2.2.2.2
  obtain ⟨hfx, hlx, mrv, -⟩ := id hrv
  unfold af_X3_element_L15 at hE
  replace hE := e_bind hE
  obtain ⟨u_3, g, hE⟩ := hE
  obtain ⟨fs9, g9⟩ := i_gC g
  have g7 := a_recv X Y k_X3.1 g9
  replace hE := e_xb hE
  rcases hE with ⟨st_1, u_2, g, hE⟩ | ⟨st_1, k9, g, hE⟩
  rotate_left
  · subst hE
    refine a_callV (n := 1) (C := "BasicMachine$Parser") (σ1 := st_1) (σf := st_1) [.int z15_1] X Y (maf_X3_need hl0 n g) ⟨oaf_X3_need _ g, aLe.rf _, h1, h2, (by show _ ≤ fx + 1; omega), (by show _ ≤ lx + 23; omega)⟩ q476 q478 qs5 q129 q479 (by decide +kernel) g7 rfl hl.1 (Nat.le_of_ble_eq_true rfl) dX3_element_15 (fun v hv => by cases hv) (fun k hk H locs kc ks q9 ce Y e1 e2 e3 => ?_)
    cases hk
    exact a_out X Y h1 h2 (fun z hz => (hex z hz).elim) e1 e2 e3
  have M9 := (mo_v fun _ => (mo_x oaf_X3_matrix fun _ _ => (mo_v fun _ => (mo_x oaf_X3_openBracket fun _ _ => (mo_v fun _ => (mo_x mrv fun _ _ => (mo_v fun _ => (mo_x oaf_X3_take fun _ _ => (mo_v fun _ => (mo_x mrv fun _ _ => (mo_v fun _ => (mo_x oaf_X3_closeBracket fun _ _ => (mo_s (fun _ => le_nO) fun _ => (mo_cb oaf_X11_init fun _ _ => mo_ret)))))))))))))) _ hE
  refine a_callV (n := 1) (C := "BasicMachine$Parser") (σ1 := st_1) (σf := q.1) [.int z15_1] X Y (maf_X3_need hl0 n g) ⟨oaf_X3_need _ g, M9, h1, h2, (by show _ ≤ fx + 1; omega), (by show _ ≤ lx + 23; omega)⟩ q476 q478 qs5 q129 q479 (by decide +kernel) g7 rfl hl.1 (Nat.le_of_ble_eq_true rfl) dX3_element_15 (fun v hv H locs kc ks Y => ?_) (fun k hk => by cases hk)
  cases hv
  refine lv_aload_n hx hb dX3_element_18 rfl (lv_at hl 0 rfl) ?_
  replace hE := e_bind hE
  obtain ⟨u_6, g, hE⟩ := hE
  obtain ⟨fs9, g9⟩ := i_gC g
  have g7 := a_recv X Y k_X3.1 g9
  replace hE := e_xb hE
  rcases hE with ⟨st_4, v_5, g, hE⟩ | ⟨st_4, k9, g, hE⟩
  rotate_left
  · subst hE
    refine a_callV (n := 0) (C := "BasicMachine$Parser") (σ1 := st_4) (σf := st_4) [] X Y (maf_X3_matrix hl0 n g) ⟨oaf_X3_matrix _ g, aLe.rf _, h1, h2, (by show _ ≤ fx + 1; omega), (by show _ ≤ lx + 23; omega)⟩ q867 q869 qs11 q129 q870 (by decide +kernel) g7 rfl hl.1 (Nat.le_of_ble_eq_true rfl) dX3_element_19 (fun v hv => by cases hv) (fun k hk H locs kc ks q9 ce Y e1 e2 e3 => ?_)
    cases hk
    exact a_out X Y h1 h2 (fun z hz => (hex z hz).elim) e1 e2 e3
  have M9 := (mo_v fun _ => (mo_x oaf_X3_openBracket fun _ _ => (mo_v fun _ => (mo_x mrv fun _ _ => (mo_v fun _ => (mo_x oaf_X3_take fun _ _ => (mo_v fun _ => (mo_x mrv fun _ _ => (mo_v fun _ => (mo_x oaf_X3_closeBracket fun _ _ => (mo_s (fun _ => le_nO) fun _ => (mo_cb oaf_X11_init fun _ _ => mo_ret)))))))))))) _ hE
  refine a_callV (n := 0) (C := "BasicMachine$Parser") (σ1 := st_4) (σf := q.1) [] X Y (maf_X3_matrix hl0 n g) ⟨oaf_X3_matrix _ g, M9, h1, h2, (by show _ ≤ fx + 1; omega), (by show _ ≤ lx + 23; omega)⟩ q867 q869 qs11 q129 q870 (by decide +kernel) g7 rfl hl.1 (Nat.le_of_ble_eq_true rfl) dX3_element_19 (fun v hv H locs kc ks Y => ?_) (fun k hk => by cases hk)
  cases hv
  refine lv_istore_n (i := 1) (lv' := [(1, .int v_5), (0, .ref a0)]) hx hb dX3_element_22 rfl hl (by decide) rfl (fun ls hl => ?_)
  refine lv_aload_n hx hb dX3_element_23 rfl (lv_at hl 1 rfl) ?_
  replace hE := e_bind hE
  obtain ⟨u_9, g, hE⟩ := hE
  obtain ⟨fs9, g9⟩ := i_gC g
  have g7 := a_recv X Y k_X3.1 g9
  replace hE := e_xb hE
  rcases hE with ⟨st_7, u_8, g, hE⟩ | ⟨st_7, k9, g, hE⟩
  rotate_left
  · subst hE
    refine a_callV (n := 0) (C := "BasicMachine$Parser") (σ1 := st_7) (σf := st_7) [] X Y (maf_X3_openBracket hl0 n g) ⟨oaf_X3_openBracket _ g, aLe.rf _, h1, h2, (by show _ ≤ fx + 1; omega), (by show _ ≤ lx + 23; omega)⟩ q871 q873 qs12 q129 q874 (by decide +kernel) g7 rfl hl.1 (Nat.le_of_ble_eq_true rfl) dX3_element_24 (fun v hv => by cases hv) (fun k hk H locs kc ks q9 ce Y e1 e2 e3 => ?_)
    cases hk
    exact a_out X Y h1 h2 (fun z hz => (hex z hz).elim) e1 e2 e3
  have M9 := (mo_v fun _ => (mo_x mrv fun _ _ => (mo_v fun _ => (mo_x oaf_X3_take fun _ _ => (mo_v fun _ => (mo_x mrv fun _ _ => (mo_v fun _ => (mo_x oaf_X3_closeBracket fun _ _ => (mo_s (fun _ => le_nO) fun _ => (mo_cb oaf_X11_init fun _ _ => mo_ret)))))))))) _ hE
  refine a_callV (n := 0) (C := "BasicMachine$Parser") (σ1 := st_7) (σf := q.1) [] X Y (maf_X3_openBracket hl0 n g) ⟨oaf_X3_openBracket _ g, M9, h1, h2, (by show _ ≤ fx + 1; omega), (by show _ ≤ lx + 23; omega)⟩ q871 q873 qs12 q129 q874 (by decide +kernel) g7 rfl hl.1 (Nat.le_of_ble_eq_true rfl) dX3_element_24 (fun v hv H locs kc ks Y => ?_) (fun k hk => by cases hk)
  cases hv
  refine lv_aload_n hx hb dX3_element_27 rfl (lv_at hl 1 rfl) ?_
  replace hE := e_bind hE
  obtain ⟨u_12, g, hE⟩ := hE
  obtain ⟨fs9, g9⟩ := i_gC g
  have g7 := a_recv X Y k_X3.1 g9
  replace hE := e_xb hE
  rcases hE with ⟨st_10, r_11, g, hE⟩ | ⟨st_10, k9, g, hE⟩
  rotate_left
  · subst hE
    refine a_callV (n := 0) (C := "BasicMachine$Parser") (σ1 := st_10) (σf := st_10) [] X Y (hrv.2.2.2 g) ⟨mrv _ g, aLe.rf _, h1, h2, (by show _ ≤ fx + 1; omega), (by show _ ≤ lx + 23; omega)⟩ q879 q880 q881 q129 q882 (by decide +kernel) g7 rfl hl.1 (Nat.le_of_ble_eq_true rfl) dX3_element_28 (fun v hv => by cases hv) (fun k hk H locs kc ks q9 ce Y e1 e2 e3 => ?_)
    cases hk
    exact a_out X Y h1 h2 (fun z hz => (hex z hz).elim) e1 e2 e3
  have M9 := (mo_v fun _ => (mo_x oaf_X3_take fun _ _ => (mo_v fun _ => (mo_x mrv fun _ _ => (mo_v fun _ => (mo_x oaf_X3_closeBracket fun _ _ => (mo_s (fun _ => le_nO) fun _ => (mo_cb oaf_X11_init fun _ _ => mo_ret)))))))) _ hE
  refine a_callV (n := 0) (C := "BasicMachine$Parser") (σ1 := st_10) (σf := q.1) [] X Y (hrv.2.2.2 g) ⟨mrv _ g, M9, h1, h2, (by show _ ≤ fx + 1; omega), (by show _ ≤ lx + 23; omega)⟩ q879 q880 q881 q129 q882 (by decide +kernel) g7 rfl hl.1 (Nat.le_of_ble_eq_true rfl) dX3_element_28 (fun v hv H locs kc ks Y => ?_) (fun k hk => by cases hk)
  cases hv
  refine r_astore_n (i := 2) (lv' := [(2, va_rf r_11), (1, .int v_5), (0, .ref a0)]) hx hb dX3_element_31 rfl hl (by decide) rfl (fun ls hl => ?_)
  refine lv_aload_n hx hb dX3_element_32 rfl (lv_at hl 2 rfl) ?_
  refine lv_bipush (v := 44) hx hb dX3_element_33 (by decide) ?_
  replace hE := e_bind hE
  obtain ⟨u_15, g, hE⟩ := hE
  obtain ⟨fs9, g9⟩ := i_gC g
  have g7 := a_recv X Y k_X3.1 g9
  replace hE := e_xb hE
  rcases hE with ⟨st_13, u_14, g, hE⟩ | ⟨st_13, k9, g, hE⟩
  rotate_left
  · subst hE
    refine a_callV (n := 1) (C := "BasicMachine$Parser") (σ1 := st_13) (σf := st_13) [.int (44 : Int32)] X Y (maf_X3_take hl0 n g) ⟨oaf_X3_take _ g, aLe.rf _, h1, h2, (by show _ ≤ fx + 1; omega), (by show _ ≤ lx + 23; omega)⟩ q875 q877 qs13 q129 q878 (by decide +kernel) g7 rfl hl.1 (Nat.le_of_ble_eq_true rfl) dX3_element_35 (fun v hv => by cases hv) (fun k hk H locs kc ks q9 ce Y e1 e2 e3 => ?_)
    cases hk
    exact a_out X Y h1 h2 (fun z hz => (hex z hz).elim) e1 e2 e3
  have M9 := (mo_v fun _ => (mo_x mrv fun _ _ => (mo_v fun _ => (mo_x oaf_X3_closeBracket fun _ _ => (mo_s (fun _ => le_nO) fun _ => (mo_cb oaf_X11_init fun _ _ => mo_ret)))))) _ hE
  refine a_callV (n := 1) (C := "BasicMachine$Parser") (σ1 := st_13) (σf := q.1) [.int (44 : Int32)] X Y (maf_X3_take hl0 n g) ⟨oaf_X3_take _ g, M9, h1, h2, (by show _ ≤ fx + 1; omega), (by show _ ≤ lx + 23; omega)⟩ q875 q877 qs13 q129 q878 (by decide +kernel) g7 rfl hl.1 (Nat.le_of_ble_eq_true rfl) dX3_element_35 (fun v hv H locs kc ks Y => ?_) (fun k hk => by cases hk)
  cases hv
  refine lv_aload_n hx hb dX3_element_38 rfl (lv_at hl 2 rfl) ?_
  replace hE := e_bind hE
  obtain ⟨u_18, g, hE⟩ := hE
  obtain ⟨fs9, g9⟩ := i_gC g
  have g7 := a_recv X Y k_X3.1 g9
  replace hE := e_xb hE
  rcases hE with ⟨st_16, r_17, g, hE⟩ | ⟨st_16, k9, g, hE⟩
  rotate_left
  · subst hE
    refine a_callV (n := 0) (C := "BasicMachine$Parser") (σ1 := st_16) (σf := st_16) [] X Y (hrv.2.2.2 g) ⟨mrv _ g, aLe.rf _, h1, h2, (by show _ ≤ fx + 1; omega), (by show _ ≤ lx + 23; omega)⟩ q879 q880 q881 q129 q882 (by decide +kernel) g7 rfl hl.1 (Nat.le_of_ble_eq_true rfl) dX3_element_39 (fun v hv => by cases hv) (fun k hk H locs kc ks q9 ce Y e1 e2 e3 => ?_)
    cases hk
    exact a_out X Y h1 h2 (fun z hz => (hex z hz).elim) e1 e2 e3
  have M9 := (mo_v fun _ => (mo_x oaf_X3_closeBracket fun _ _ => (mo_s (fun _ => le_nO) fun _ => (mo_cb oaf_X11_init fun _ _ => mo_ret)))) _ hE
  refine a_callV (n := 0) (C := "BasicMachine$Parser") (σ1 := st_16) (σf := q.1) [] X Y (hrv.2.2.2 g) ⟨mrv _ g, M9, h1, h2, (by show _ ≤ fx + 1; omega), (by show _ ≤ lx + 23; omega)⟩ q879 q880 q881 q129 q882 (by decide +kernel) g7 rfl hl.1 (Nat.le_of_ble_eq_true rfl) dX3_element_39 (fun v hv H locs kc ks Y => ?_) (fun k hk => by cases hk)
  cases hv
  refine r_astore_n (i := 3) (lv' := [(3, va_rf r_17), (2, va_rf r_11), (1, .int v_5), (0, .ref a0)]) hx hb dX3_element_42 rfl hl (by decide) (by cases r_11 <;> rfl) (fun ls hl => ?_)
  refine lv_aload_n hx hb dX3_element_43 rfl (lv_at hl 3 rfl) ?_
  replace hE := e_bind hE
  obtain ⟨u_21, g, hE⟩ := hE
  obtain ⟨fs9, g9⟩ := i_gC g
  have g7 := a_recv X Y k_X3.1 g9
  replace hE := e_xb hE
  rcases hE with ⟨st_19, u_20, g, hE⟩ | ⟨st_19, k9, g, hE⟩
  rotate_left
  · subst hE
    refine a_callV (n := 0) (C := "BasicMachine$Parser") (σ1 := st_19) (σf := st_19) [] X Y (maf_X3_closeBracket hl0 n g) ⟨oaf_X3_closeBracket _ g, aLe.rf _, h1, h2, (by show _ ≤ fx + 1; omega), (by show _ ≤ lx + 23; omega)⟩ q923 q925 qs20 q129 q926 (by decide +kernel) g7 rfl hl.1 (Nat.le_of_ble_eq_true rfl) dX3_element_44 (fun v hv => by cases hv) (fun k hk H locs kc ks q9 ce Y e1 e2 e3 => ?_)
    cases hk
    exact a_out X Y h1 h2 (fun z hz => (hex z hz).elim) e1 e2 e3
  have M9 := (mo_s (fun _ => le_nO) fun _ => (mo_cb oaf_X11_init fun _ _ => mo_ret)) _ hE
  refine a_callV (n := 0) (C := "BasicMachine$Parser") (σ1 := st_19) (σf := q.1) [] X Y (maf_X3_closeBracket hl0 n g) ⟨oaf_X3_closeBracket _ g, M9, h1, h2, (by show _ ≤ fx + 1; omega), (by show _ ≤ lx + 23; omega)⟩ q923 q925 qs20 q129 q926 (by decide +kernel) g7 rfl hl.1 (Nat.le_of_ble_eq_true rfl) dX3_element_44 (fun v hv H locs kc ks Y => ?_) (fun k hk => by cases hk)
  cases hv
  replace hE := e_bind hE
  obtain ⟨st_22, g, hE⟩ := hE
  have M9 := (mo_cb oaf_X11_init fun _ _ => mo_ret) _ hE
  refine a_new X Y k_X11 g b_X11 q1006 q1007 q150 (aRoom1 Y h1 (le_nO1 g) M9) (aRoom2 Y h2 (le_nO2 g) M9) dX3_element_47 (fun H Y => ?_)
  generalize kc + 1 = kc at Y ⊢
  generalize ks + 3 = ks at Y ⊢
  refine lv_dup hx hb dX3_element_50 rfl ?_
  refine lv_iload_n hx hb dX3_element_51 rfl (lv_at hl 2 rfl) ?_
  refine r_aload_n hx hb dX3_element_52 rfl (lv_at hl 1 rfl) ?_
  refine r_aload_n hx hb dX3_element_53 rfl (lv_at hl 0 rfl) ?_
  replace hE := e_cb hE
  obtain ⟨st_23, u_24, g, hE⟩ := hE
  have M9 := mo_ret _ hE
  refine a_callIN (host := "BasicMachine") (n := 3) (σ1 := st_23) (σf := q.1) [.int v_5, va_rf r_11, va_rf r_17] X Y (maf_X11_init hl0 n g) ⟨oaf_X11_init _ g, M9, h1, h2, (by show _ ≤ fx + 1; omega), (by show _ ≤ lx + 23; omega)⟩ (by decide) q1009 q150 q1010 rfl (by decide +kernel) rfl hl.1 (Nat.le_of_ble_eq_true rfl) dX3_element_54 (fun v hv H locs kc ks Y => ?_) (fun k hk => by cases hk)
  cases hv
  cases hE
  exact a_aret (r := (some st_19.1)) X Y h1 h2 hr (Or.inl ⟨_, rfl⟩) dX3_element_57
set_option maxHeartbeats 4000000 in
set_option maxRecDepth 100000 in
theorem maf_X3_element {l : Launch} (hl0 : l.stackTraces = false) (n : Nat) {x : aP} {rx : aS → Nat → Option (aS × (Option Nat ⊕ Nat))} {fx lx : Nat} (hrv : hRX l x rx fx lx) {st : aS} {a0 : Nat} {q : aS × ((Option Nat) ⊕ Nat)} (hE : af_X3_element n x.sK rx st a0 = some q) : aMet l yX3_element (ws_ yX3_element cX3_element 4 (some (.object "BasicMachine$Element"))) (fx + 1) (lx + 23) x [.ref a0] st (oR q.2) q.1 := by
  refine a_ofW (own := "BasicMachine$Parser") hl0 (by decide) rfl (Nat.le_of_ble_eq_true rfl) (fun mc ms p e s m below meth c ls H locs kc ks h1 h2 X hex Y hr hnm hl => ?_)
  have hnm : "element" = meth.name := hnm
  have hl : lv_has ls 4 [(0, .ref a0)] := hl
  have hx := X.1
  have hb := X.2.1
  have hown := X.2.2.2.1
  have hts := X.2.2.2.2.1
  have hK := X.2.2.2.2.2.1
  have hl0 := X.2.2.2.2.2.2.2.2
  obtain ⟨hfx, hlx, mrv, -⟩ := id hrv
  unfold af_X3_element at hE
  refine lv_aload_n hx hb dX3_element_0 rfl (lv_at hl 0 rfl) ?_
  refine lv_aload_n hx hb dX3_element_1 rfl (lv_at hl 0 rfl) ?_
  replace hE := e_bind hE
  obtain ⟨v_1, g, hE⟩ := hE
  refine n_gI X Y k_X3 3 g (by decide) q444 dX3_element_2 ?_
  refine lv_bipush (v := 6) hx hb dX3_element_5 (by decide) ?_
  refine lv_icmp_ge (tgt := 14) hx hb dX3_element_7 (by decide) (fun c_2 => ?_) (fun c_2 => ?_)
  · replace hE := e_t c_2 hE
    refine lv_iconst (v := 0) hx hb dX3_element_14 (by decide) ?_
    exact waf_X3_element_L15 X hex hr hnm hrv hE h1 h2 Y (lv_sub hl [0] rfl)
  · replace hE := e_f c_2 hE
    refine lv_iconst (v := 1) hx hb dX3_element_10 (by decide) ?_
    refine lv_goto (tgt := 15) hx hb dX3_element_11 (by decide) ?_
    exact waf_X3_element_L15 X hex hr hnm hrv hE h1 h2 Y (lv_sub hl [0] rfl)
/-! BasicMachine$Parser.inside()LBasicMachine$Expression; -/
set_option maxHeartbeats 4000000 in
set_option maxRecDepth 100000 in
theorem maf_X3_inside {l : Launch} (hl0 : l.stackTraces = false) (n : Nat) {x : aP} {rx : aS → Nat → Option (aS × (Option Nat ⊕ Nat))} {fx lx : Nat} (hrv : hRX l x rx fx lx) {st : aS} {a0 : Nat} {q : aS × ((Option Nat) ⊕ Nat)} (hE : af_X3_inside n x.sK rx st a0 = some q) : aMet l yX3_inside (ws_ yX3_inside cX3_inside 2 (some (.object "BasicMachine$Expression"))) (fx + 1) (lx + 23) x [.ref a0] st (oR q.2) q.1 := by
  refine a_ofW (own := "BasicMachine$Parser") hl0 (by decide) rfl (Nat.le_of_ble_eq_true rfl) (fun mc ms p e s m below meth c ls H locs kc ks h1 h2 X hex Y hr hnm hl => ?_)
  have hnm : "inside" = meth.name := hnm
  have hl : lv_has ls 2 [(0, .ref a0)] := hl
  have hx := X.1
  have hb := X.2.1
  have hown := X.2.2.2.1
  have hts := X.2.2.2.2.1
  have hK := X.2.2.2.2.2.1
  have hl0 := X.2.2.2.2.2.2.2.2
  obtain ⟨hfx, hlx, mrv, -⟩ := id hrv
  unfold af_X3_inside at hE
  refine lv_aload_n hx hb dX3_inside_0 rfl (lv_at hl 0 rfl) ?_
  replace hE := e_bind hE
  obtain ⟨u_3, g, hE⟩ := hE
  obtain ⟨fs9, g9⟩ := i_gC g
  have g7 := a_recv X Y k_X3.1 g9
  replace hE := e_xb hE
  rcases hE with ⟨st_1, u_2, g, hE⟩ | ⟨st_1, k9, g, hE⟩
  rotate_left
  · subst hE
    refine a_callV (n := 0) (C := "BasicMachine$Parser") (σ1 := st_1) (σf := st_1) [] X Y (maf_X3_openBracket hl0 n g) ⟨oaf_X3_openBracket _ g, aLe.rf _, h1, h2, (by show _ ≤ fx + 1; omega), (by show _ ≤ lx + 23; omega)⟩ q871 q873 qs12 q129 q874 (by decide +kernel) g7 rfl hl.1 (Nat.le_of_ble_eq_true rfl) dX3_inside_1 (fun v hv => by cases hv) (fun k hk H locs kc ks q9 ce Y e1 e2 e3 => ?_)
    cases hk
    exact a_out X Y h1 h2 (fun z hz => (hex z hz).elim) e1 e2 e3
  have M9 := (mo_v fun _ => (mo_x mrv fun _ _ => (mo_v fun _ => (mo_x oaf_X3_closeBracket fun _ _ => mo_ret)))) _ hE
  refine a_callV (n := 0) (C := "BasicMachine$Parser") (σ1 := st_1) (σf := q.1) [] X Y (maf_X3_openBracket hl0 n g) ⟨oaf_X3_openBracket _ g, M9, h1, h2, (by show _ ≤ fx + 1; omega), (by show _ ≤ lx + 23; omega)⟩ q871 q873 qs12 q129 q874 (by decide +kernel) g7 rfl hl.1 (Nat.le_of_ble_eq_true rfl) dX3_inside_1 (fun v hv H locs kc ks Y => ?_) (fun k hk => by cases hk)
  cases hv
  refine lv_aload_n hx hb dX3_inside_4 rfl (lv_at hl 0 rfl) ?_
  replace hE := e_bind hE
  obtain ⟨u_6, g, hE⟩ := hE
  obtain ⟨fs9, g9⟩ := i_gC g
  have g7 := a_recv X Y k_X3.1 g9
  replace hE := e_xb hE
  rcases hE with ⟨st_4, r_5, g, hE⟩ | ⟨st_4, k9, g, hE⟩
  rotate_left
  · subst hE
    refine a_callV (n := 0) (C := "BasicMachine$Parser") (σ1 := st_4) (σf := st_4) [] X Y (hrv.2.2.2 g) ⟨mrv _ g, aLe.rf _, h1, h2, (by show _ ≤ fx + 1; omega), (by show _ ≤ lx + 23; omega)⟩ q879 q880 q881 q129 q882 (by decide +kernel) g7 rfl hl.1 (Nat.le_of_ble_eq_true rfl) dX3_inside_5 (fun v hv => by cases hv) (fun k hk H locs kc ks q9 ce Y e1 e2 e3 => ?_)
    cases hk
    exact a_out X Y h1 h2 (fun z hz => (hex z hz).elim) e1 e2 e3
  have M9 := (mo_v fun _ => (mo_x oaf_X3_closeBracket fun _ _ => mo_ret)) _ hE
  refine a_callV (n := 0) (C := "BasicMachine$Parser") (σ1 := st_4) (σf := q.1) [] X Y (hrv.2.2.2 g) ⟨mrv _ g, M9, h1, h2, (by show _ ≤ fx + 1; omega), (by show _ ≤ lx + 23; omega)⟩ q879 q880 q881 q129 q882 (by decide +kernel) g7 rfl hl.1 (Nat.le_of_ble_eq_true rfl) dX3_inside_5 (fun v hv H locs kc ks Y => ?_) (fun k hk => by cases hk)
  cases hv
  refine r_astore_n (i := 1) (lv' := [(1, va_rf r_5), (0, .ref a0)]) hx hb dX3_inside_8 rfl hl (by decide) rfl (fun ls hl => ?_)
  refine lv_aload_n hx hb dX3_inside_9 rfl (lv_at hl 1 rfl) ?_
  replace hE := e_bind hE
  obtain ⟨u_9, g, hE⟩ := hE
  obtain ⟨fs9, g9⟩ := i_gC g
  have g7 := a_recv X Y k_X3.1 g9
  replace hE := e_xb hE
  rcases hE with ⟨st_7, u_8, g, hE⟩ | ⟨st_7, k9, g, hE⟩
  rotate_left
  · subst hE
    refine a_callV (n := 0) (C := "BasicMachine$Parser") (σ1 := st_7) (σf := st_7) [] X Y (maf_X3_closeBracket hl0 n g) ⟨oaf_X3_closeBracket _ g, aLe.rf _, h1, h2, (by show _ ≤ fx + 1; omega), (by show _ ≤ lx + 23; omega)⟩ q923 q925 qs20 q129 q926 (by decide +kernel) g7 rfl hl.1 (Nat.le_of_ble_eq_true rfl) dX3_inside_10 (fun v hv => by cases hv) (fun k hk H locs kc ks q9 ce Y e1 e2 e3 => ?_)
    cases hk
    exact a_out X Y h1 h2 (fun z hz => (hex z hz).elim) e1 e2 e3
  have M9 := mo_ret _ hE
  refine a_callV (n := 0) (C := "BasicMachine$Parser") (σ1 := st_7) (σf := q.1) [] X Y (maf_X3_closeBracket hl0 n g) ⟨oaf_X3_closeBracket _ g, M9, h1, h2, (by show _ ≤ fx + 1; omega), (by show _ ≤ lx + 23; omega)⟩ q923 q925 qs20 q129 q926 (by decide +kernel) g7 rfl hl.1 (Nat.le_of_ble_eq_true rfl) dX3_inside_10 (fun v hv H locs kc ks Y => ?_) (fun k hk => by cases hk)
  cases hv
  refine r_aload_n hx hb dX3_inside_13 rfl (lv_at hl 0 rfl) ?_
  cases hE
  exact a_aret (r := r_5) X Y h1 h2 hr (Or.inl ⟨_, rfl⟩) dX3_inside_14
/-! BasicMachine$Parser.behind()C -/
set_option maxHeartbeats 4000000 in
set_option maxRecDepth 100000 in
theorem maf_X3_behind {l : Launch} (hl0 : l.stackTraces = false) (n : Nat) {x : aP} {st : aS} {a0 : Nat} {q : aS × (Int32)} (hE : af_X3_behind n x.sK st a0 = some q) : aMet l yX3_behind (ws_ yX3_behind cX3_behind 1 (some .char)) 0 0 x [.ref a0] st (.inl (some (.int q.2))) q.1 := by
  refine a_ofW (own := "BasicMachine$Parser") hl0 (by decide) rfl (Nat.le_of_ble_eq_true rfl) (fun mc ms p e s m below meth c ls H locs kc ks h1 h2 X hex Y hr hnm hl => ?_)
  have hnm : "behind" = meth.name := hnm
  have hl : lv_has ls 1 [(0, .ref a0)] := hl
  have hx := X.1
  have hb := X.2.1
  have hown := X.2.2.2.1
  have hts := X.2.2.2.2.1
  have hK := X.2.2.2.2.2.1
  have hl0 := X.2.2.2.2.2.2.2.2
  unfold af_X3_behind at hE
  refine lv_aload_n hx hb dX3_behind_0 rfl (lv_at hl 0 rfl) ?_
  replace hE := e_bind hE
  obtain ⟨v_1, g, hE⟩ := hE
  refine n_gI X Y k_X3 2 g (by decide) q442 dX3_behind_1 ?_
  refine lv_iconst (v := 1) hx hb dX3_behind_4 (by decide) ?_
  refine lv_iadd hx hb dX3_behind_5 ?_
  refine lv_aload_n hx hb dX3_behind_6 rfl (lv_at hl 0 rfl) ?_
  replace hE := e_bind hE
  obtain ⟨v_2, g, hE⟩ := hE
  refine n_gI X Y k_X3 1 g (by decide) q441 dX3_behind_7 ?_
  refine lv_icmp_ge (tgt := 27) hx hb dX3_behind_10 (by decide) (fun c_3 => ?_) (fun c_3 => ?_)
  · replace hE := e_t c_3 hE
    refine lv_iconst (v := 0) hx hb dX3_behind_27 (by decide) ?_
    replace hE := e_bind hE
    obtain ⟨v_4, g, hE⟩ := hE
    obtain ⟨g1, g2, g3⟩ := i_cz g
    refine n_eqi g1 ?_
    cases hE
    exact a_zret (v := v_4) X Y h1 h2 hr g2 dX3_behind_28
  · replace hE := e_f c_3 hE
    refine lv_aload_n hx hb dX3_behind_13 rfl (lv_at hl 0 rfl) ?_
    replace hE := e_bind hE
    obtain ⟨r_5, g, hE⟩ := hE
    refine n_gR X Y k_X3 0 g (by decide) q440 dX3_behind_14 ?_
    refine lv_aload_n hx hb dX3_behind_17 rfl (lv_at hl 0 rfl) ?_
    replace hE := e_bind hE
    obtain ⟨v_6, g, hE⟩ := hE
    refine n_gI X Y k_X3 2 g (by decide) q442 dX3_behind_18 ?_
    refine lv_iconst (v := 1) hx hb dX3_behind_21 (by decide) ?_
    refine lv_iadd hx hb dX3_behind_22 ?_
    replace hE := e_bind hE
    obtain ⟨a_7, g, hE⟩ := hE
    subst g
    replace hE := e_bind hE
    obtain ⟨v_8, g, hE⟩ := hE
    refine a_cald X Y g dX3_behind_23 ?_
    refine lv_goto (tgt := 28) hx hb dX3_behind_24 (by decide) ?_
    replace hE := e_bind hE
    obtain ⟨v_9, g, hE⟩ := hE
    obtain ⟨g1, g2, g3⟩ := i_cz g
    refine n_eqi g1 ?_
    cases hE
    exact a_zret (v := v_9) X Y h1 h2 hr g2 dX3_behind_28
/-! BasicMachine$Parser.take(Ljava/lang/String;)V -/
set_option maxHeartbeats 4000000 in
set_option maxRecDepth 100000 in
theorem waf_X3_take_2_S2_ {l : Launch} {x : aP} {As : List Value} {σ0 : aS} {p : Program} {e : Env} {s : State} {m : MethodId} {below : List Frame} {meth : Method} {c : Code} {mc ms : Nat} (X : aX "BasicMachine$Parser" p l s m As.toArray meth c cX3_take_2 3 x σ0) (hex : ∀ z ∈ c.exceptionTable.toList, False) (hr : meth.sig.returnType = none) (hnm : "take" = meth.name) {n : Nat} {q : aS × (Unit ⊕ Nat)} : ∀ k : Nat, (∀ {st : aS} {a0 : Nat} {x1 : Option Nat} {x2 : Int32}, af_X3_take_2_S2 n x.sK k st a0 x1 x2 = some q → (mc + σ0.1 = q.1.1) → (ms + σ0.2.1 = q.1.2.1) → ∀ {H : Heap} {locs : List Loc} {ls : Array Slot} {kc ks : Nat}, aY x σ0 s st H locs kc ks → lv_has ls 3 [(0, .ref a0), (1, va_rf x1), (2, .int x2)] → aG l 8 200 mc ms x As σ0 (oV q.2) q.1 p e s m below meth c H locs kc ks (F0 m 2 ls [])) := by
  have hx := X.1
  have hb := X.2.1
  have hown := X.2.2.2.1
  have hts := X.2.2.2.2.1
  have hK := X.2.2.2.2.2.1
  have hl0 := X.2.2.2.2.2.2.2.2
  intro k
  induction k with
  | zero => exact fun h => nomatch (show none = some q from h)
  | succ k ih =>
    have mrec := @oaf_X3_take_2_S2_ n x.sK k
    intro st a0 x1 x2 hE h1 h2 H locs ls kc ks Y hl
    replace hE : af_X3_take_2_B2 n x.sK (af_X3_take_2_S2 n x.sK k) st a0 x1 x2 = some q := hE
    unfold af_X3_take_2_B2 at hE
    refine lv_iload_n hx hb dX3_take_2_2 rfl (lv_at hl 2 rfl) ?_
    refine r_aload_n hx hb dX3_take_2_3 rfl (lv_at hl 1 rfl) ?_
    replace hE := e_bind hE
    obtain ⟨a_1, g, hE⟩ := hE
    subst g
    replace hE := e_bind hE
    obtain ⟨v_2, g, hE⟩ := hE
    refine sLen_row (σf := q.1) X Y h1 h2 ((mo_if mo_ret (mo_v fun _ => (mo_v fun _ => (mo_x oaf_X3_take fun _ _ => (mrec))))) _ hE) g q512 (by show _ ≤ 8; decide) (by show _ ≤ 200; decide) hl.1 (Nat.le_of_ble_eq_true rfl) dX3_take_2_4 (fun H locs kc ks Y => ?_)
    refine lv_icmp_ge (tgt := 25) hx hb dX3_take_2_7 (by decide) (fun c_3 => ?_) (fun c_3 => ?_)
    · replace hE := e_t c_3 hE
      cases hE
      exact a_vret X Y h1 h2 hr dX3_take_2_25
    · replace hE := e_f c_3 hE
      refine lv_aload_n hx hb dX3_take_2_10 rfl (lv_at hl 0 rfl) ?_
      refine lv_aload_n hx hb dX3_take_2_11 rfl (lv_at hl 1 rfl) ?_
      refine lv_iload_n hx hb dX3_take_2_12 rfl (lv_at hl 2 rfl) ?_
      replace hE := e_bind hE
      obtain ⟨v_4, g, hE⟩ := hE
      refine sAt_row (σf := q.1) X Y h1 h2 ((mo_v fun _ => (mo_x oaf_X3_take fun _ _ => (mrec))) _ hE) g q522 (by show _ ≤ 8; decide) (by show _ ≤ 200; decide) hl.1 (Nat.le_of_ble_eq_true rfl) dX3_take_2_13 (fun H locs kc ks Y => ?_)
      replace hE := e_bind hE
      obtain ⟨u_7, g, hE⟩ := hE
      obtain ⟨fs9, g9⟩ := i_gC g
      have g7 := a_recv X Y k_X3.1 g9
      replace hE := e_xb hE
      rcases hE with ⟨st_5, u_6, g, hE⟩ | ⟨st_5, k9, g, hE⟩
      rotate_left
      · subst hE
        refine a_callV (n := 1) (C := "BasicMachine$Parser") (σ1 := st_5) (σf := st_5) [.int v_4] X Y (maf_X3_take hl0 n g) ⟨oaf_X3_take _ g, aLe.rf _, h1, h2, (by show _ ≤ 8; decide), (by show _ ≤ 200; decide)⟩ q875 q877 qs13 q129 q878 (by decide +kernel) g7 rfl hl.1 (Nat.le_of_ble_eq_true rfl) dX3_take_2_16 (fun v hv => by cases hv) (fun k hk H locs kc ks q9 ce Y e1 e2 e3 => ?_)
        cases hk
        exact a_out X Y h1 h2 (fun z hz => (hex z hz).elim) e1 e2 e3
      have M9 := (mrec) _ hE
      refine a_callV (n := 1) (C := "BasicMachine$Parser") (σ1 := st_5) (σf := q.1) [.int v_4] X Y (maf_X3_take hl0 n g) ⟨oaf_X3_take _ g, M9, h1, h2, (by show _ ≤ 8; decide), (by show _ ≤ 200; decide)⟩ q875 q877 qs13 q129 q878 (by decide +kernel) g7 rfl hl.1 (Nat.le_of_ble_eq_true rfl) dX3_take_2_16 (fun v hv H locs kc ks Y => ?_) (fun k hk => by cases hk)
      cases hv
      refine lv_iinc (v := (x2 + (1 : Int32))) (lv' := [(2, .int (x2 + (1 : Int32))), (0, .ref a0), (1, .ref a_1)]) hx hb dX3_take_2_19 hl (k := 2) rfl rfl (by decide) rfl (fun ls hl => ?_)
      refine lv_goto (tgt := 2) hx hb dX3_take_2_22 (by decide) ?_
      exact ih hE h1 h2 Y (lv_sub hl [1, 2, 0] rfl)
set_option maxHeartbeats 4000000 in
set_option maxRecDepth 100000 in
theorem waf_X3_take_2_S2 {l : Launch} {x : aP} {As : List Value} {σ0 : aS} {p : Program} {e : Env} {s : State} {m : MethodId} {below : List Frame} {meth : Method} {c : Code} {mc ms : Nat} (X : aX "BasicMachine$Parser" p l s m As.toArray meth c cX3_take_2 3 x σ0) (hex : ∀ z ∈ c.exceptionTable.toList, False) (hr : meth.sig.returnType = none) (hnm : "take" = meth.name) {n : Nat} {q : aS × (Unit ⊕ Nat)} : (∀ {st : aS} {a0 : Nat} {x1 : Option Nat} {x2 : Int32}, af_X3_take_2_S2 n x.sK n st a0 x1 x2 = some q → (mc + σ0.1 = q.1.1) → (ms + σ0.2.1 = q.1.2.1) → ∀ {H : Heap} {locs : List Loc} {ls : Array Slot} {kc ks : Nat}, aY x σ0 s st H locs kc ks → lv_has ls 3 [(0, .ref a0), (1, va_rf x1), (2, .int x2)] → aG l 8 200 mc ms x As σ0 (oV q.2) q.1 p e s m below meth c H locs kc ks (F0 m 2 ls [])) := waf_X3_take_2_S2_ X hex hr hnm n
set_option maxHeartbeats 4000000 in
set_option maxRecDepth 100000 in
theorem maf_X3_take_2 {l : Launch} (hl0 : l.stackTraces = false) (n : Nat) {x : aP} {st : aS} {a0 : Nat} {p1 : Option Nat} {q : aS × (Unit ⊕ Nat)} (hE : af_X3_take_2 n x.sK st a0 p1 = some q) : aMet l yX3_take_2 (ws_ yX3_take_2 cX3_take_2 3 none) 8 200 x [.ref a0, va_rf p1] st (oV q.2) q.1 := by
  refine a_ofW (own := "BasicMachine$Parser") hl0 (by decide) rfl (by simp only [lg_sl, List.flatMap_cons, List.flatMap_nil, va_rf_cat]; exact Nat.le_of_ble_eq_true rfl) (fun mc ms p e s m below meth c ls H locs kc ks h1 h2 X hex Y hr hnm hl => ?_)
  have hnm : "take" = meth.name := hnm
  have hl : lv_has ls 3 [(0, .ref a0), (1, va_rf p1)] := by simp only [lv_args, va_rf_cat] at hl; exact hl
  have hx := X.1
  have hb := X.2.1
  have hown := X.2.2.2.1
  have hts := X.2.2.2.2.1
  have hK := X.2.2.2.2.2.1
  have hl0 := X.2.2.2.2.2.2.2.2
  unfold af_X3_take_2 at hE
  refine lv_iconst (v := 0) hx hb dX3_take_2_0 (by decide) ?_
  refine lv_istore_n (i := 2) (lv' := [(2, .int (0 : Int32)), (0, .ref a0), (1, va_rf p1)]) hx hb dX3_take_2_1 rfl hl (by decide) (by cases p1 <;> rfl) (fun ls hl => ?_)
  exact (waf_X3_take_2_S2 X hex hr hnm) hE h1 h2 Y (lv_sub hl [1, 2, 0] rfl)
/-! BasicMachine$Single.<init>(CLBasicMachine$Expression;)V -/
set_option maxHeartbeats 4000000 in
set_option maxRecDepth 100000 in
theorem maf_X7_init {l : Launch} (hl0 : l.stackTraces = false) (n : Nat) {x : aP} {st : aS} {a0 : Nat} {p1 : Int32} {p2 : Option Nat} {q : aS × Unit} (hE : af_X7_init n x.sK st a0 p1 p2 = some q) : aMet l yX7_init (ws_ yX7_init cX7_init 3 none) 2 40 x [.ref a0, .int p1, va_rf p2] st (.inl none) q.1 := by
  refine a_ofW (own := "BasicMachine$Single") hl0 (by decide) rfl (by simp only [lg_sl, List.flatMap_cons, List.flatMap_nil, va_rf_cat]; exact Nat.le_of_ble_eq_true rfl) (fun mc ms p e s m below meth c ls H locs kc ks h1 h2 X hex Y hr hnm hl => ?_)
  have hnm : "<init>" = meth.name := hnm
  have hl : lv_has ls 3 [(0, .ref a0), (1, .int p1), (2, va_rf p2)] := by simp only [lv_args, va_rf_cat] at hl; exact hl
  have hx := X.1
  have hb := X.2.1
  have hown := X.2.2.2.1
  have hts := X.2.2.2.2.1
  have hK := X.2.2.2.2.2.1
  have hl0 := X.2.2.2.2.2.2.2.2
  unfold af_X7_init at hE
  refine lv_aload_n hx hb dX7_init_0 rfl (lv_at hl 0 rfl) ?_
  replace hE := e_cb hE
  obtain ⟨st_1, u_2, g, hE⟩ := hE
  have M9 := (mo_v fun _ => (mo_s (fun _ => le_pF) fun _ => (mo_s (fun _ => le_pF) fun _ => mo_ret))) _ hE
  refine a_callI (n := 0) (σ1 := st_1) (σf := q.1) [] X Y (maf_J15_init hl0 n g) ⟨oaf_J15_init _ g, M9, h1, h2, (by show _ ≤ 2; decide), (by show _ ≤ 40; decide)⟩ q947 q912 q143 q913 rfl (by decide +kernel) rfl hl.1 (Nat.le_of_ble_eq_true rfl) dX7_init_1 (fun v hv H locs kc ks Y => ?_) (fun k hk => by cases hk)
  cases hv
  refine lv_aload_n hx hb dX7_init_4 rfl (lv_at hl 0 rfl) ?_
  refine lv_iload_n hx hb dX7_init_5 rfl (lv_at hl 1 rfl) ?_
  replace hE := e_bind hE
  obtain ⟨v_3, g, hE⟩ := hE
  obtain ⟨g1, g2, g3⟩ := i_cz g
  refine n_eqi g1 ?_
  replace hE := e_bind hE
  obtain ⟨st_4, g, hE⟩ := hE
  refine a_putFV X Y k_X7 0 g (by decide) rfl hnm rfl g2 g3 q948 dX7_init_6 (fun H locs Y => ?_)
  refine lv_aload_n hx hb dX7_init_9 rfl (lv_at hl 0 rfl) ?_
  refine r_aload_n hx hb dX7_init_10 rfl (lv_at hl 2 rfl) ?_
  replace hE := e_bind hE
  obtain ⟨st_5, g, hE⟩ := hE
  refine a_putFV X Y k_X7 1 g (by decide) rfl hnm rfl (nr_o p2) (fr_o p2) q949 dX7_init_11 (fun H locs Y => ?_)
  cases hE
  exact a_vret X Y h1 h2 hr dX7_init_14
/-! BasicMachine$Parser.functionName()I -/
set_option maxHeartbeats 4000000 in
set_option maxRecDepth 100000 in
theorem waf_X3_functionName_L24 {l : Launch} {x : aP} {As : List Value} {σ0 : aS} {p : Program} {e : Env} {s : State} {m : MethodId} {below : List Frame} {meth : Method} {c : Code} {mc ms : Nat} (X : aX "BasicMachine$Parser" p l s m As.toArray meth c cX3_functionName 1 x σ0) (hex : ∀ z ∈ c.exceptionTable.toList, False) (hr : meth.sig.returnType = (some .int)) (hnm : "functionName" = meth.name) {n : Nat} {st : aS} {a0 : Nat} {z24_1 : Int32} {q : aS × ((Int32) ⊕ Nat)} (hE : af_X3_functionName_L24 n x.sK st a0 z24_1 = some q) (h1 : mc + σ0.1 = q.1.1) (h2 : ms + σ0.2.1 = q.1.2.1) {H : Heap} {locs : List Loc} {ls : Array Slot} {kc ks : Nat} (Y : aY x σ0 s st H locs kc ks) (hl : lv_has ls 1 [(0, .ref a0)]) : aG l 7 111 mc ms x As σ0 (oI q.2) q.1 p e s m below meth c H locs kc ks (F0 m 24 ls [.int z24_1, .ref a0]) := by
  have hx := X.1
  have hb := X.2.1
  have hown := X.2.2.2.1
  have hts := X.2.2.2.2.1
  have hK := X.2.2.2.2.2.1
  have hl0 := X.2.2.2.2.2.2.2.2
  unfold af_X3_functionName_L24 at hE
  replace hE := e_bind hE
  obtain ⟨u_3, g, hE⟩ := hE
  obtain ⟨fs9, g9⟩ := i_gC g
  have g7 := a_recv X Y k_X3.1 g9
  replace hE := e_xb hE
  rcases hE with ⟨st_1, u_2, g, hE⟩ | ⟨st_1, k9, g, hE⟩
  rotate_left
  · subst hE
    refine a_callV (n := 1) (C := "BasicMachine$Parser") (σ1 := st_1) (σf := st_1) [.int z24_1] X Y (maf_X3_need hl0 n g) ⟨oaf_X3_need _ g, aLe.rf _, h1, h2, (by show _ ≤ 7; decide), (by show _ ≤ 111; decide)⟩ q476 q478 qs5 q129 q479 (by decide +kernel) g7 rfl hl.1 (Nat.le_of_ble_eq_true rfl) dX3_functionName_24 (fun v hv => by cases hv) (fun k hk H locs kc ks q9 ce Y e1 e2 e3 => ?_)
    cases hk
    exact a_out X Y h1 h2 (fun z hz => (hex z hz).elim) e1 e2 e3
  have M9 := (mo_v fun _ => (mo_s (fun _ => le_pF) fun _ => (mo_v fun _ => (mo_v fun _ => (mo_v fun _ => (mo_v fun _ => mo_ret)))))) _ hE
  refine a_callV (n := 1) (C := "BasicMachine$Parser") (σ1 := st_1) (σf := q.1) [.int z24_1] X Y (maf_X3_need hl0 n g) ⟨oaf_X3_need _ g, M9, h1, h2, (by show _ ≤ 7; decide), (by show _ ≤ 111; decide)⟩ q476 q478 qs5 q129 q479 (by decide +kernel) g7 rfl hl.1 (Nat.le_of_ble_eq_true rfl) dX3_functionName_24 (fun v hv H locs kc ks Y => ?_) (fun k hk => by cases hk)
  cases hv
  refine lv_aload_n hx hb dX3_functionName_27 rfl (lv_at hl 0 rfl) ?_
  refine lv_dup hx hb dX3_functionName_28 rfl ?_
  replace hE := e_bind hE
  obtain ⟨v_4, g, hE⟩ := hE
  refine n_gI X Y k_X3 2 g (by decide) q442 dX3_functionName_29 ?_
  refine lv_iconst (v := 1) hx hb dX3_functionName_32 (by decide) ?_
  refine lv_iadd hx hb dX3_functionName_33 ?_
  replace hE := e_bind hE
  obtain ⟨st_5, g, hE⟩ := hE
  refine a_putV X Y k_X3 2 g (by decide) rfl rfl rfl q442 dX3_functionName_34 (fun H locs Y => ?_)
  refine lv_aload_n hx hb dX3_functionName_37 rfl (lv_at hl 0 rfl) ?_
  replace hE := e_bind hE
  obtain ⟨r_6, g, hE⟩ := hE
  refine n_gR X Y k_X3 0 g (by decide) q440 dX3_functionName_38 ?_
  refine lv_aload_n hx hb dX3_functionName_41 rfl (lv_at hl 0 rfl) ?_
  replace hE := e_bind hE
  obtain ⟨v_7, g, hE⟩ := hE
  refine n_gI X Y k_X3 2 g (by decide) q442 dX3_functionName_42 ?_
  refine lv_iconst (v := 1) hx hb dX3_functionName_45 (by decide) ?_
  refine lv_isub hx hb dX3_functionName_46 ?_
  replace hE := e_bind hE
  obtain ⟨a_8, g, hE⟩ := hE
  subst g
  replace hE := e_bind hE
  obtain ⟨v_9, g, hE⟩ := hE
  refine a_cald X Y g dX3_functionName_47 ?_
  refine lv_bipush (v := 65) hx hb dX3_functionName_48 (by decide) ?_
  refine lv_isub hx hb dX3_functionName_50 ?_
  cases hE
  exact a_iret X Y h1 h2 hr dX3_functionName_51
set_option maxHeartbeats 4000000 in
set_option maxRecDepth 100000 in
theorem waf_X3_functionName_L23 {l : Launch} {x : aP} {As : List Value} {σ0 : aS} {p : Program} {e : Env} {s : State} {m : MethodId} {below : List Frame} {meth : Method} {c : Code} {mc ms : Nat} (X : aX "BasicMachine$Parser" p l s m As.toArray meth c cX3_functionName 1 x σ0) (hex : ∀ z ∈ c.exceptionTable.toList, False) (hr : meth.sig.returnType = (some .int)) (hnm : "functionName" = meth.name) {n : Nat} {st : aS} {a0 : Nat} {q : aS × ((Int32) ⊕ Nat)} (hE : af_X3_functionName_L23 n x.sK st a0 = some q) (h1 : mc + σ0.1 = q.1.1) (h2 : ms + σ0.2.1 = q.1.2.1) {H : Heap} {locs : List Loc} {ls : Array Slot} {kc ks : Nat} (Y : aY x σ0 s st H locs kc ks) (hl : lv_has ls 1 [(0, .ref a0)]) : aG l 7 111 mc ms x As σ0 (oI q.2) q.1 p e s m below meth c H locs kc ks (F0 m 23 ls [.ref a0]) := by
  have hx := X.1
  have hb := X.2.1
  have hown := X.2.2.2.1
  have hts := X.2.2.2.2.1
  have hK := X.2.2.2.2.2.1
  have hl0 := X.2.2.2.2.2.2.2.2
  unfold af_X3_functionName_L23 at hE
  refine lv_iconst (v := 0) hx hb dX3_functionName_23 (by decide) ?_
  exact waf_X3_functionName_L24 X hex hr hnm hE h1 h2 Y (lv_sub hl [0] rfl)
set_option maxHeartbeats 4000000 in
set_option maxRecDepth 100000 in
theorem maf_X3_functionName {l : Launch} (hl0 : l.stackTraces = false) (n : Nat) {x : aP} {st : aS} {a0 : Nat} {q : aS × ((Int32) ⊕ Nat)} (hE : af_X3_functionName n x.sK st a0 = some q) : aMet l yX3_functionName (ws_ yX3_functionName cX3_functionName 1 (some .int)) 7 111 x [.ref a0] st (oI q.2) q.1 := by
  refine a_ofW (own := "BasicMachine$Parser") hl0 (by decide) rfl (Nat.le_of_ble_eq_true rfl) (fun mc ms p e s m below meth c ls H locs kc ks h1 h2 X hex Y hr hnm hl => ?_)
  have hnm : "functionName" = meth.name := hnm
  have hl : lv_has ls 1 [(0, .ref a0)] := hl
  have hx := X.1
  have hb := X.2.1
  have hown := X.2.2.2.1
  have hts := X.2.2.2.2.1
  have hK := X.2.2.2.2.2.1
  have hl0 := X.2.2.2.2.2.2.2.2
  unfold af_X3_functionName at hE
  refine lv_aload_n hx hb dX3_functionName_0 rfl (lv_at hl 0 rfl) ?_
  refine lv_aload_n hx hb dX3_functionName_1 rfl (lv_at hl 0 rfl) ?_
  replace hE := e_bind hE
  obtain ⟨u_3, g, hE⟩ := hE
  obtain ⟨fs9, g9⟩ := i_gC g
  have g7 := a_recv X Y k_X3.1 g9
  replace hE := e_cb hE
  obtain ⟨st_1, v_2, g, hE⟩ := hE
  have M9 := (mo_if (oaf_X3_functionName_L23 ) (mo_v fun _ => (mo_cb oaf_X3_here fun _ _ => (mo_if (oaf_X3_functionName_L23 ) (oaf_X3_functionName_L24 ))))) _ hE
  refine a_callV (n := 0) (C := "BasicMachine$Parser") (σ1 := st_1) (σf := q.1) [] X Y (maf_X3_here hl0 n g) ⟨oaf_X3_here _ g, M9, h1, h2, (by show _ ≤ 7; decide), (by show _ ≤ 111; decide)⟩ q469 q471 qs4 q129 q472 (by decide +kernel) g7 rfl hl.1 (Nat.le_of_ble_eq_true rfl) dX3_functionName_2 (fun v hv H locs kc ks Y => ?_) (fun k hk => by cases hk)
  cases hv
  refine lv_bipush (v := 65) hx hb dX3_functionName_5 (by decide) ?_
  refine lv_icmp_lt (tgt := 23) hx hb dX3_functionName_7 (by decide) (fun c_4 => ?_) (fun c_4 => ?_)
  · replace hE := e_t c_4 hE
    exact waf_X3_functionName_L23 X hex hr hnm hE h1 h2 Y (lv_sub hl [0] rfl)
  · replace hE := e_f c_4 hE
    refine lv_aload_n hx hb dX3_functionName_10 rfl (lv_at hl 0 rfl) ?_
    replace hE := e_bind hE
    obtain ⟨u_7, g, hE⟩ := hE
    obtain ⟨fs9, g9⟩ := i_gC g
    have g7 := a_recv X Y k_X3.1 g9
    replace hE := e_cb hE
    obtain ⟨st_5, v_6, g, hE⟩ := hE
    have M9 := (mo_if (oaf_X3_functionName_L23 ) (oaf_X3_functionName_L24 )) _ hE
    refine a_callV (n := 0) (C := "BasicMachine$Parser") (σ1 := st_5) (σf := q.1) [] X Y (maf_X3_here hl0 n g) ⟨oaf_X3_here _ g, M9, h1, h2, (by show _ ≤ 7; decide), (by show _ ≤ 111; decide)⟩ q469 q471 qs4 q129 q472 (by decide +kernel) g7 rfl hl.1 (Nat.le_of_ble_eq_true rfl) dX3_functionName_11 (fun v hv H locs kc ks Y => ?_) (fun k hk => by cases hk)
    cases hv
    refine lv_bipush (v := 67) hx hb dX3_functionName_14 (by decide) ?_
    refine lv_icmp_gt (tgt := 23) hx hb dX3_functionName_16 (by decide) (fun c_8 => ?_) (fun c_8 => ?_)
    · replace hE := e_t c_8 hE
      exact waf_X3_functionName_L23 X hex hr hnm hE h1 h2 Y (lv_sub hl [0] rfl)
    · replace hE := e_f c_8 hE
      refine lv_iconst (v := 1) hx hb dX3_functionName_19 (by decide) ?_
      refine lv_goto (tgt := 24) hx hb dX3_functionName_20 (by decide) ?_
      exact waf_X3_functionName_L24 X hex hr hnm hE h1 h2 Y (lv_sub hl [0] rfl)
/-! BasicMachine$Call.<init>(ILBasicMachine$Expression;)V -/
set_option maxHeartbeats 4000000 in
set_option maxRecDepth 100000 in
theorem maf_X8_init {l : Launch} (hl0 : l.stackTraces = false) (n : Nat) {x : aP} {st : aS} {a0 : Nat} {p1 : Int32} {p2 : Option Nat} {q : aS × Unit} (hE : af_X8_init n x.sK st a0 p1 p2 = some q) : aMet l yX8_init (ws_ yX8_init cX8_init 3 none) 2 40 x [.ref a0, .int p1, va_rf p2] st (.inl none) q.1 := by
  refine a_ofW (own := "BasicMachine$Call") hl0 (by decide) rfl (by simp only [lg_sl, List.flatMap_cons, List.flatMap_nil, va_rf_cat]; exact Nat.le_of_ble_eq_true rfl) (fun mc ms p e s m below meth c ls H locs kc ks h1 h2 X hex Y hr hnm hl => ?_)
  have hnm : "<init>" = meth.name := hnm
  have hl : lv_has ls 3 [(0, .ref a0), (1, .int p1), (2, va_rf p2)] := by simp only [lv_args, va_rf_cat] at hl; exact hl
  have hx := X.1
  have hb := X.2.1
  have hown := X.2.2.2.1
  have hts := X.2.2.2.2.1
  have hK := X.2.2.2.2.2.1
  have hl0 := X.2.2.2.2.2.2.2.2
  unfold af_X8_init at hE
  refine lv_aload_n hx hb dX8_init_0 rfl (lv_at hl 0 rfl) ?_
  replace hE := e_cb hE
  obtain ⟨st_1, u_2, g, hE⟩ := hE
  have M9 := (mo_s (fun _ => le_pF) fun _ => (mo_s (fun _ => le_pF) fun _ => mo_ret)) _ hE
  refine a_callI (n := 0) (σ1 := st_1) (σf := q.1) [] X Y (maf_J15_init hl0 n g) ⟨oaf_J15_init _ g, M9, h1, h2, (by show _ ≤ 2; decide), (by show _ ≤ 40; decide)⟩ q965 q912 q143 q913 rfl (by decide +kernel) rfl hl.1 (Nat.le_of_ble_eq_true rfl) dX8_init_1 (fun v hv H locs kc ks Y => ?_) (fun k hk => by cases hk)
  cases hv
  refine lv_aload_n hx hb dX8_init_4 rfl (lv_at hl 0 rfl) ?_
  refine lv_iload_n hx hb dX8_init_5 rfl (lv_at hl 1 rfl) ?_
  replace hE := e_bind hE
  obtain ⟨st_3, g, hE⟩ := hE
  refine a_putFV X Y k_X8 0 g (by decide) rfl hnm rfl rfl rfl q966 dX8_init_6 (fun H locs Y => ?_)
  refine lv_aload_n hx hb dX8_init_9 rfl (lv_at hl 0 rfl) ?_
  refine r_aload_n hx hb dX8_init_10 rfl (lv_at hl 2 rfl) ?_
  replace hE := e_bind hE
  obtain ⟨st_4, g, hE⟩ := hE
  refine a_putFV X Y k_X8 1 g (by decide) rfl hnm rfl (nr_o p2) (fr_o p2) q967 dX8_init_11 (fun H locs Y => ?_)
  cases hE
  exact a_vret X Y h1 h2 hr dX8_init_14
/-! BasicMachine$Parser.function(CC)LBasicMachine$Expression; -/
set_option maxHeartbeats 4000000 in
set_option maxRecDepth 100000 in
theorem waf_X3_function_L120 {l : Launch} {x : aP} {As : List Value} {σ0 : aS} {p : Program} {e : Env} {s : State} {m : MethodId} {below : List Frame} {meth : Method} {c : Code} {mc ms : Nat} (X : aX "BasicMachine$Parser" p l s m As.toArray meth c cX3_function 4 x σ0) (hex : ∀ z ∈ c.exceptionTable.toList, False) (hr : meth.sig.returnType = (some (.object "BasicMachine$Expression"))) (hnm : "function" = meth.name) {rx : aS → Nat → Option (aS × (Option Nat ⊕ Nat))} {fx lx : Nat} (hrv : hRX l x rx fx lx) {n : Nat} {st : aS} {a0 : Nat} {x1 : Int32} {q : aS × ((Option Nat) ⊕ Nat)} (hE : af_X3_function_L120 n x.sK rx st a0 x1 = some q) (h1 : mc + σ0.1 = q.1.1) (h2 : ms + σ0.2.1 = q.1.2.1) {H : Heap} {locs : List Loc} {ls : Array Slot} {kc ks : Nat} (Y : aY x σ0 s st H locs kc ks) (hl : lv_has ls 4 [(0, .ref a0), (1, .int x1)]) : aG l (fx + 2) (lx + 44) mc ms x As σ0 (oR q.2) q.1 p e s m below meth c H locs kc ks (F0 m 120 ls []) := by
  have hx := X.1
  have hb := X.2.1
  have hown := X.2.2.2.1
  have hts := X.2.2.2.2.1
  have hK := X.2.2.2.2.2.1
  have hl0 := X.2.2.2.2.2.2.2.2
  obtain ⟨hfx, hlx, mrv, -⟩ := id hrv
  unfold af_X3_function_L120 at hE
  refine lv_iload_n hx hb dX3_function_120 rfl (lv_at hl 1 rfl) ?_
  refine lv_bipush (v := 70) hx hb dX3_function_121 (by decide) ?_
  refine lv_icmp_eq (tgt := 139) hx hb dX3_function_123 (by decide) (fun c_1 => ?_) (fun c_1 => ?_)
  · replace hE := e_t c_1 hE
    refine lv_aload_n hx hb dX3_function_139 rfl (lv_at hl 0 rfl) ?_
    refine s_ldc (i := 20) X (by decide) dX3_function_140 ?_
    replace hE := e_bind hE
    obtain ⟨u_4, g, hE⟩ := hE
    obtain ⟨fs9, g9⟩ := i_gC g
    have g7 := a_recv X Y k_X3.1 g9
    replace hE := e_xb hE
    rcases hE with ⟨st_2, u_3, g, hE⟩ | ⟨st_2, k9, g, hE⟩
    rotate_left
    · subst hE
      refine a_callV (n := 1) (C := "BasicMachine$Parser") (σ1 := st_2) (σf := st_2) [.ref (x.sK 20)] X Y (maf_X3_take_2 hl0 n g) ⟨oaf_X3_take_2 _ g, aLe.rf _, h1, h2, (by show _ ≤ fx + 2; omega), (by show _ ≤ lx + 44; omega)⟩ q936 q938 qs23 q129 q939 (by decide +kernel) g7 rfl hl.1 (Nat.le_of_ble_eq_true rfl) dX3_function_142 (fun v hv => by cases hv) (fun k hk H locs kc ks q9 ce Y e1 e2 e3 => ?_)
      cases hk
      exact a_out X Y h1 h2 (fun z hz => (hex z hz).elim) e1 e2 e3
    have M9 := (mo_v fun _ => (mo_x oaf_X3_functionName fun _ _ => (mo_s (fun _ => le_nO) fun _ => (mo_v fun _ => (mo_x (oaf_X3_inside mrv) fun _ _ => (mo_cb oaf_X8_init fun _ _ => mo_ret)))))) _ hE
    refine a_callV (n := 1) (C := "BasicMachine$Parser") (σ1 := st_2) (σf := q.1) [.ref (x.sK 20)] X Y (maf_X3_take_2 hl0 n g) ⟨oaf_X3_take_2 _ g, M9, h1, h2, (by show _ ≤ fx + 2; omega), (by show _ ≤ lx + 44; omega)⟩ q936 q938 qs23 q129 q939 (by decide +kernel) g7 rfl hl.1 (Nat.le_of_ble_eq_true rfl) dX3_function_142 (fun v hv H locs kc ks Y => ?_) (fun k hk => by cases hk)
    cases hv
    refine lv_aload_n hx hb dX3_function_145 rfl (lv_at hl 0 rfl) ?_
    replace hE := e_bind hE
    obtain ⟨u_7, g, hE⟩ := hE
    obtain ⟨fs9, g9⟩ := i_gC g
    have g7 := a_recv X Y k_X3.1 g9
    replace hE := e_xb hE
    rcases hE with ⟨st_5, v_6, g, hE⟩ | ⟨st_5, k9, g, hE⟩
    rotate_left
    · subst hE
      refine a_callV (n := 0) (C := "BasicMachine$Parser") (σ1 := st_5) (σf := st_5) [] X Y (maf_X3_functionName hl0 n g) ⟨oaf_X3_functionName _ g, aLe.rf _, h1, h2, (by show _ ≤ fx + 2; omega), (by show _ ≤ lx + 44; omega)⟩ q956 q958 qs24 q129 q959 (by decide +kernel) g7 rfl hl.1 (Nat.le_of_ble_eq_true rfl) dX3_function_146 (fun v hv => by cases hv) (fun k hk H locs kc ks q9 ce Y e1 e2 e3 => ?_)
      cases hk
      exact a_out X Y h1 h2 (fun z hz => (hex z hz).elim) e1 e2 e3
    have M9 := (mo_s (fun _ => le_nO) fun _ => (mo_v fun _ => (mo_x (oaf_X3_inside mrv) fun _ _ => (mo_cb oaf_X8_init fun _ _ => mo_ret)))) _ hE
    refine a_callV (n := 0) (C := "BasicMachine$Parser") (σ1 := st_5) (σf := q.1) [] X Y (maf_X3_functionName hl0 n g) ⟨oaf_X3_functionName _ g, M9, h1, h2, (by show _ ≤ fx + 2; omega), (by show _ ≤ lx + 44; omega)⟩ q956 q958 qs24 q129 q959 (by decide +kernel) g7 rfl hl.1 (Nat.le_of_ble_eq_true rfl) dX3_function_146 (fun v hv H locs kc ks Y => ?_) (fun k hk => by cases hk)
    cases hv
    refine lv_istore_n (i := 3) (lv' := [(3, .int v_6), (0, .ref a0), (1, .int x1)]) hx hb dX3_function_149 rfl hl (by decide) rfl (fun ls hl => ?_)
    replace hE := e_bind hE
    obtain ⟨st_8, g, hE⟩ := hE
    have M9 := (mo_v fun _ => (mo_x (oaf_X3_inside mrv) fun _ _ => (mo_cb oaf_X8_init fun _ _ => mo_ret))) _ hE
    refine a_new X Y k_X8 g b_X8 q960 q961 q147 (aRoom1 Y h1 (le_nO1 g) M9) (aRoom2 Y h2 (le_nO2 g) M9) dX3_function_150 (fun H Y => ?_)
    generalize kc + 1 = kc at Y ⊢
    generalize ks + 2 = ks at Y ⊢
    refine lv_dup hx hb dX3_function_153 rfl ?_
    refine lv_iload_n hx hb dX3_function_154 rfl (lv_at hl 0 rfl) ?_
    refine lv_aload_n hx hb dX3_function_155 rfl (lv_at hl 1 rfl) ?_
    replace hE := e_bind hE
    obtain ⟨u_11, g, hE⟩ := hE
    obtain ⟨fs9, g9⟩ := i_gC g
    have g7 := a_recv X Y k_X3.1 g9
    replace hE := e_xb hE
    rcases hE with ⟨st_9, r_10, g, hE⟩ | ⟨st_9, k9, g, hE⟩
    rotate_left
    · subst hE
      refine a_callV (n := 0) (C := "BasicMachine$Parser") (σ1 := st_9) (σf := st_9) [] X Y (maf_X3_inside hl0 n hrv g) ⟨(oaf_X3_inside mrv) _ g, aLe.rf _, h1, h2, (by show _ ≤ fx + 2; omega), (by show _ ≤ lx + 44; omega)⟩ q919 q921 qs19 q129 q922 (by decide +kernel) g7 rfl hl.1 (Nat.le_of_ble_eq_true rfl) dX3_function_156 (fun v hv => by cases hv) (fun k hk H locs kc ks q9 ce Y e1 e2 e3 => ?_)
      cases hk
      exact a_out X Y h1 h2 (fun z hz => (hex z hz).elim) e1 e2 e3
    have M9 := (mo_cb oaf_X8_init fun _ _ => mo_ret) _ hE
    refine a_callV (n := 0) (C := "BasicMachine$Parser") (σ1 := st_9) (σf := q.1) [] X Y (maf_X3_inside hl0 n hrv g) ⟨(oaf_X3_inside mrv) _ g, M9, h1, h2, (by show _ ≤ fx + 2; omega), (by show _ ≤ lx + 44; omega)⟩ q919 q921 qs19 q129 q922 (by decide +kernel) g7 rfl hl.1 (Nat.le_of_ble_eq_true rfl) dX3_function_156 (fun v hv H locs kc ks Y => ?_) (fun k hk => by cases hk)
    cases hv
    replace hE := e_cb hE
    obtain ⟨st_12, u_13, g, hE⟩ := hE
    have M9 := mo_ret _ hE
    refine a_callIN (host := "BasicMachine") (n := 2) (σ1 := st_12) (σf := q.1) [.int v_6, va_rf r_10] X Y (maf_X8_init hl0 n g) ⟨oaf_X8_init _ g, M9, h1, h2, (by show _ ≤ fx + 2; omega), (by show _ ≤ lx + 44; omega)⟩ (by decide) q963 q147 q964 rfl (by decide +kernel) rfl hl.1 (Nat.le_of_ble_eq_true rfl) dX3_function_159 (fun v hv H locs kc ks Y => ?_) (fun k hk => by cases hk)
    cases hv
    cases hE
    exact a_aret (r := (some st_5.1)) X Y h1 h2 hr (Or.inl ⟨_, rfl⟩) dX3_function_162
  · replace hE := e_f c_1 hE
    replace hE := e_bind hE
    obtain ⟨st_14, g, hE⟩ := hE
    have M9 := (mo_v fun _ => (mo_x (oaf_X3_inside mrv) fun _ _ => (mo_cb oaf_X7_init fun _ _ => mo_ret))) _ hE
    refine a_new X Y k_X7 g b_X7 q942 q943 q146 (aRoom1 Y h1 (le_nO1 g) M9) (aRoom2 Y h2 (le_nO2 g) M9) dX3_function_126 (fun H Y => ?_)
    generalize kc + 1 = kc at Y ⊢
    generalize ks + 2 = ks at Y ⊢
    refine lv_dup hx hb dX3_function_129 rfl ?_
    refine lv_iload_n hx hb dX3_function_130 rfl (lv_at hl 1 rfl) ?_
    refine lv_aload_n hx hb dX3_function_131 rfl (lv_at hl 0 rfl) ?_
    replace hE := e_bind hE
    obtain ⟨u_17, g, hE⟩ := hE
    obtain ⟨fs9, g9⟩ := i_gC g
    have g7 := a_recv X Y k_X3.1 g9
    replace hE := e_xb hE
    rcases hE with ⟨st_15, r_16, g, hE⟩ | ⟨st_15, k9, g, hE⟩
    rotate_left
    · subst hE
      refine a_callV (n := 0) (C := "BasicMachine$Parser") (σ1 := st_15) (σf := st_15) [] X Y (maf_X3_inside hl0 n hrv g) ⟨(oaf_X3_inside mrv) _ g, aLe.rf _, h1, h2, (by show _ ≤ fx + 2; omega), (by show _ ≤ lx + 44; omega)⟩ q919 q921 qs19 q129 q922 (by decide +kernel) g7 rfl hl.1 (Nat.le_of_ble_eq_true rfl) dX3_function_132 (fun v hv => by cases hv) (fun k hk H locs kc ks q9 ce Y e1 e2 e3 => ?_)
      cases hk
      exact a_out X Y h1 h2 (fun z hz => (hex z hz).elim) e1 e2 e3
    have M9 := (mo_cb oaf_X7_init fun _ _ => mo_ret) _ hE
    refine a_callV (n := 0) (C := "BasicMachine$Parser") (σ1 := st_15) (σf := q.1) [] X Y (maf_X3_inside hl0 n hrv g) ⟨(oaf_X3_inside mrv) _ g, M9, h1, h2, (by show _ ≤ fx + 2; omega), (by show _ ≤ lx + 44; omega)⟩ q919 q921 qs19 q129 q922 (by decide +kernel) g7 rfl hl.1 (Nat.le_of_ble_eq_true rfl) dX3_function_132 (fun v hv H locs kc ks Y => ?_) (fun k hk => by cases hk)
    cases hv
    replace hE := e_cb hE
    obtain ⟨st_18, u_19, g, hE⟩ := hE
    have M9 := mo_ret _ hE
    refine a_callIN (host := "BasicMachine") (n := 2) (σ1 := st_18) (σf := q.1) [.int x1, va_rf r_16] X Y (maf_X7_init hl0 n g) ⟨oaf_X7_init _ g, M9, h1, h2, (by show _ ≤ fx + 2; omega), (by show _ ≤ lx + 44; omega)⟩ (by decide) q945 q146 q946 rfl (by decide +kernel) rfl hl.1 (Nat.le_of_ble_eq_true rfl) dX3_function_135 (fun v hv H locs kc ks Y => ?_) (fun k hk => by cases hk)
    cases hv
    cases hE
    exact a_aret (r := (some st.1)) X Y h1 h2 hr (Or.inl ⟨_, rfl⟩) dX3_function_138
set_option maxHeartbeats 4000000 in
set_option maxRecDepth 100000 in
theorem waf_X3_function_L97 {l : Launch} {x : aP} {As : List Value} {σ0 : aS} {p : Program} {e : Env} {s : State} {m : MethodId} {below : List Frame} {meth : Method} {c : Code} {mc ms : Nat} (X : aX "BasicMachine$Parser" p l s m As.toArray meth c cX3_function 4 x σ0) (hex : ∀ z ∈ c.exceptionTable.toList, False) (hr : meth.sig.returnType = (some (.object "BasicMachine$Expression"))) (hnm : "function" = meth.name) {rx : aS → Nat → Option (aS × (Option Nat ⊕ Nat))} {fx lx : Nat} (hrv : hRX l x rx fx lx) {n : Nat} {st : aS} {a0 : Nat} {x1 : Int32} {q : aS × ((Option Nat) ⊕ Nat)} (hE : af_X3_function_L97 n x.sK rx st a0 x1 = some q) (h1 : mc + σ0.1 = q.1.1) (h2 : ms + σ0.2.1 = q.1.2.1) {H : Heap} {locs : List Loc} {ls : Array Slot} {kc ks : Nat} (Y : aY x σ0 s st H locs kc ks) (hl : lv_has ls 4 [(0, .ref a0), (1, .int x1)]) : aG l (fx + 2) (lx + 44) mc ms x As σ0 (oR q.2) q.1 p e s m below meth c H locs kc ks (F0 m 97 ls []) := by
  have hx := X.1
  have hb := X.2.1
  have hown := X.2.2.2.1
  have hts := X.2.2.2.2.1
  have hK := X.2.2.2.2.2.1
  have hl0 := X.2.2.2.2.2.2.2.2
  obtain ⟨hfx, hlx, mrv, -⟩ := id hrv
  unfold af_X3_function_L97 at hE
  refine lv_aload_n hx hb dX3_function_97 rfl (lv_at hl 0 rfl) ?_
  refine s_ldc (i := 19) X (by decide) dX3_function_98 ?_
  replace hE := e_bind hE
  obtain ⟨u_3, g, hE⟩ := hE
  obtain ⟨fs9, g9⟩ := i_gC g
  have g7 := a_recv X Y k_X3.1 g9
  replace hE := e_xb hE
  rcases hE with ⟨st_1, u_2, g, hE⟩ | ⟨st_1, k9, g, hE⟩
  rotate_left
  · subst hE
    refine a_callV (n := 1) (C := "BasicMachine$Parser") (σ1 := st_1) (σf := st_1) [.ref (x.sK 19)] X Y (maf_X3_take_2 hl0 n g) ⟨oaf_X3_take_2 _ g, aLe.rf _, h1, h2, (by show _ ≤ fx + 2; omega), (by show _ ≤ lx + 44; omega)⟩ q936 q938 qs23 q129 q939 (by decide +kernel) g7 rfl hl.1 (Nat.le_of_ble_eq_true rfl) dX3_function_100 (fun v hv => by cases hv) (fun k hk H locs kc ks q9 ce Y e1 e2 e3 => ?_)
    cases hk
    exact a_out X Y h1 h2 (fun z hz => (hex z hz).elim) e1 e2 e3
  have M9 := (oaf_X3_function_L120 mrv) _ hE
  refine a_callV (n := 1) (C := "BasicMachine$Parser") (σ1 := st_1) (σf := q.1) [.ref (x.sK 19)] X Y (maf_X3_take_2 hl0 n g) ⟨oaf_X3_take_2 _ g, M9, h1, h2, (by show _ ≤ fx + 2; omega), (by show _ ≤ lx + 44; omega)⟩ q936 q938 qs23 q129 q939 (by decide +kernel) g7 rfl hl.1 (Nat.le_of_ble_eq_true rfl) dX3_function_100 (fun v hv H locs kc ks Y => ?_) (fun k hk => by cases hk)
  cases hv
  refine lv_goto (tgt := 120) hx hb dX3_function_103 (by decide) ?_
  exact waf_X3_function_L120 X hex hr hnm hrv hE h1 h2 Y (lv_sub hl [0, 1] rfl)
set_option maxHeartbeats 4000000 in
set_option maxRecDepth 100000 in
theorem waf_X3_function_L106 {l : Launch} {x : aP} {As : List Value} {σ0 : aS} {p : Program} {e : Env} {s : State} {m : MethodId} {below : List Frame} {meth : Method} {c : Code} {mc ms : Nat} (X : aX "BasicMachine$Parser" p l s m As.toArray meth c cX3_function 4 x σ0) (hex : ∀ z ∈ c.exceptionTable.toList, False) (hr : meth.sig.returnType = (some (.object "BasicMachine$Expression"))) (hnm : "function" = meth.name) {rx : aS → Nat → Option (aS × (Option Nat ⊕ Nat))} {fx lx : Nat} (hrv : hRX l x rx fx lx) {n : Nat} {st : aS} {a0 : Nat} {x1 : Int32} {x2 : Int32} {q : aS × ((Option Nat) ⊕ Nat)} (hE : af_X3_function_L106 n x.sK rx st a0 x1 x2 = some q) (h1 : mc + σ0.1 = q.1.1) (h2 : ms + σ0.2.1 = q.1.2.1) {H : Heap} {locs : List Loc} {ls : Array Slot} {kc ks : Nat} (Y : aY x σ0 s st H locs kc ks) (hl : lv_has ls 4 [(0, .ref a0), (1, .int x1), (2, .int x2)]) : aG l (fx + 2) (lx + 44) mc ms x As σ0 (oR q.2) q.1 p e s m below meth c H locs kc ks (F0 m 106 ls []) := by
  have hx := X.1
  have hb := X.2.1
  have hown := X.2.2.2.1
  have hts := X.2.2.2.2.1
  have hK := X.2.2.2.2.2.1
  have hl0 := X.2.2.2.2.2.2.2.2
  obtain ⟨hfx, hlx, mrv, -⟩ := id hrv
  unfold af_X3_function_L106 at hE
  refine lv_iload_n hx hb dX3_function_106 rfl (lv_at hl 1 rfl) ?_
  refine lv_bipush (v := 70) hx hb dX3_function_107 (by decide) ?_
  refine lv_icmp_ne (tgt := 118) hx hb dX3_function_109 (by decide) (fun c_1 => ?_) (fun c_1 => ?_)
  · replace hE := e_f c_1 hE
    refine lv_null hx hb dX3_function_118 ?_
    cases hE
    exact a_aret (r := (none : Option Nat)) X Y h1 h2 hr (Or.inl ⟨_, rfl⟩) dX3_function_119
  · replace hE := e_t c_1 hE
    refine lv_iload_n hx hb dX3_function_112 rfl (lv_at hl 2 rfl) ?_
    refine lv_bipush (v := 78) hx hb dX3_function_113 (by decide) ?_
    refine lv_icmp_eq (tgt := 120) hx hb dX3_function_115 (by decide) (fun c_2 => ?_) (fun c_2 => ?_)
    · replace hE := e_t c_2 hE
      exact waf_X3_function_L120 X hex hr hnm hrv hE h1 h2 Y (lv_sub hl [0, 1] rfl)
    · replace hE := e_f c_2 hE
      refine lv_null hx hb dX3_function_118 ?_
      cases hE
      exact a_aret (r := (none : Option Nat)) X Y h1 h2 hr (Or.inl ⟨_, rfl⟩) dX3_function_119
set_option maxHeartbeats 4000000 in
set_option maxRecDepth 100000 in
theorem waf_X3_function_L42 {l : Launch} {x : aP} {As : List Value} {σ0 : aS} {p : Program} {e : Env} {s : State} {m : MethodId} {below : List Frame} {meth : Method} {c : Code} {mc ms : Nat} (X : aX "BasicMachine$Parser" p l s m As.toArray meth c cX3_function 4 x σ0) (hex : ∀ z ∈ c.exceptionTable.toList, False) (hr : meth.sig.returnType = (some (.object "BasicMachine$Expression"))) (hnm : "function" = meth.name) {rx : aS → Nat → Option (aS × (Option Nat ⊕ Nat))} {fx lx : Nat} (hrv : hRX l x rx fx lx) {n : Nat} {st : aS} {a0 : Nat} {x1 : Int32} {x2 : Int32} {q : aS × ((Option Nat) ⊕ Nat)} (hE : af_X3_function_L42 n x.sK rx st a0 x1 x2 = some q) (h1 : mc + σ0.1 = q.1.1) (h2 : ms + σ0.2.1 = q.1.2.1) {H : Heap} {locs : List Loc} {ls : Array Slot} {kc ks : Nat} (Y : aY x σ0 s st H locs kc ks) (hl : lv_has ls 4 [(0, .ref a0), (1, .int x1), (2, .int x2)]) : aG l (fx + 2) (lx + 44) mc ms x As σ0 (oR q.2) q.1 p e s m below meth c H locs kc ks (F0 m 42 ls []) := by
  have hx := X.1
  have hb := X.2.1
  have hown := X.2.2.2.1
  have hts := X.2.2.2.2.1
  have hK := X.2.2.2.2.2.1
  have hl0 := X.2.2.2.2.2.2.2.2
  obtain ⟨hfx, hlx, mrv, -⟩ := id hrv
  unfold af_X3_function_L42 at hE
  refine lv_iload_n hx hb dX3_function_42 rfl (lv_at hl 1 rfl) ?_
  refine lv_bipush (v := 83) hx hb dX3_function_43 (by decide) ?_
  refine lv_icmp_ne (tgt := 106) hx hb dX3_function_45 (by decide) (fun c_1 => ?_) (fun c_1 => ?_)
  · replace hE := e_f c_1 hE
    exact waf_X3_function_L106 X hex hr hnm hrv hE h1 h2 Y (lv_sub hl [0, 1, 2] rfl)
  · replace hE := e_t c_1 hE
    refine lv_iload_n hx hb dX3_function_48 rfl (lv_at hl 2 rfl) ?_
    refine lv_bipush (v := 71) hx hb dX3_function_49 (by decide) ?_
    refine lv_icmp_ne (tgt := 106) hx hb dX3_function_51 (by decide) (fun c_2 => ?_) (fun c_2 => ?_)
    · replace hE := e_f c_2 hE
      exact waf_X3_function_L106 X hex hr hnm hrv hE h1 h2 Y (lv_sub hl [0, 1, 2] rfl)
    · replace hE := e_t c_2 hE
      refine lv_aload_n hx hb dX3_function_54 rfl (lv_at hl 0 rfl) ?_
      replace hE := e_bind hE
      obtain ⟨v_3, g, hE⟩ := hE
      refine n_gI X Y k_X3 4 g (by decide) q445 dX3_function_55 ?_
      refine lv_if_eq (tgt := 97) hx hb dX3_function_58 (by decide) (fun c_4 => ?_) (fun c_4 => ?_)
      · replace hE := e_t c_4 hE
        exact waf_X3_function_L97 X hex hr hnm hrv hE h1 h2 Y (lv_sub hl [0, 1] rfl)
      · replace hE := e_f c_4 hE
        refine lv_aload_n hx hb dX3_function_61 rfl (lv_at hl 0 rfl) ?_
        replace hE := e_bind hE
        obtain ⟨v_5, g, hE⟩ := hE
        refine n_gI X Y k_X3 3 g (by decide) q444 dX3_function_62 ?_
        refine lv_if_ne (tgt := 97) hx hb dX3_function_65 (by decide) (fun c_6 => ?_) (fun c_6 => ?_)
        · replace hE := e_f c_6 hE
          exact waf_X3_function_L97 X hex hr hnm hrv hE h1 h2 Y (lv_sub hl [0, 1] rfl)
        · replace hE := e_t c_6 hE
          refine lv_aload_n hx hb dX3_function_68 rfl (lv_at hl 0 rfl) ?_
          replace hE := e_bind hE
          obtain ⟨v_7, g, hE⟩ := hE
          refine n_gI X Y k_X3 2 g (by decide) q442 dX3_function_69 ?_
          refine lv_iconst (v := 2) hx hb dX3_function_72 (by decide) ?_
          refine lv_iadd hx hb dX3_function_73 ?_
          refine lv_aload_n hx hb dX3_function_74 rfl (lv_at hl 0 rfl) ?_
          replace hE := e_bind hE
          obtain ⟨v_8, g, hE⟩ := hE
          refine n_gI X Y k_X3 1 g (by decide) q441 dX3_function_75 ?_
          refine lv_icmp_ge (tgt := 97) hx hb dX3_function_78 (by decide) (fun c_9 => ?_) (fun c_9 => ?_)
          · replace hE := e_t c_9 hE
            exact waf_X3_function_L97 X hex hr hnm hrv hE h1 h2 Y (lv_sub hl [0, 1] rfl)
          · replace hE := e_f c_9 hE
            refine lv_aload_n hx hb dX3_function_81 rfl (lv_at hl 0 rfl) ?_
            replace hE := e_bind hE
            obtain ⟨r_10, g, hE⟩ := hE
            refine n_gR X Y k_X3 0 g (by decide) q440 dX3_function_82 ?_
            refine lv_aload_n hx hb dX3_function_85 rfl (lv_at hl 0 rfl) ?_
            replace hE := e_bind hE
            obtain ⟨v_11, g, hE⟩ := hE
            refine n_gI X Y k_X3 2 g (by decide) q442 dX3_function_86 ?_
            refine lv_iconst (v := 2) hx hb dX3_function_89 (by decide) ?_
            refine lv_iadd hx hb dX3_function_90 ?_
            replace hE := e_bind hE
            obtain ⟨a_12, g, hE⟩ := hE
            subst g
            replace hE := e_bind hE
            obtain ⟨v_13, g, hE⟩ := hE
            refine a_cald X Y g dX3_function_91 ?_
            refine lv_bipush (v := 79) hx hb dX3_function_92 (by decide) ?_
            refine lv_icmp_eq (tgt := 106) hx hb dX3_function_94 (by decide) (fun c_14 => ?_) (fun c_14 => ?_)
            · replace hE := e_t c_14 hE
              exact waf_X3_function_L106 X hex hr hnm hrv hE h1 h2 Y (lv_sub hl [0, 1, 2] rfl)
            · replace hE := e_f c_14 hE
              exact waf_X3_function_L97 X hex hr hnm hrv hE h1 h2 Y (lv_sub hl [0, 1] rfl)
set_option maxHeartbeats 4000000 in
set_option maxRecDepth 100000 in
theorem waf_X3_function_L21 {l : Launch} {x : aP} {As : List Value} {σ0 : aS} {p : Program} {e : Env} {s : State} {m : MethodId} {below : List Frame} {meth : Method} {c : Code} {mc ms : Nat} (X : aX "BasicMachine$Parser" p l s m As.toArray meth c cX3_function 4 x σ0) (hex : ∀ z ∈ c.exceptionTable.toList, False) (hr : meth.sig.returnType = (some (.object "BasicMachine$Expression"))) (hnm : "function" = meth.name) {rx : aS → Nat → Option (aS × (Option Nat ⊕ Nat))} {fx lx : Nat} (hrv : hRX l x rx fx lx) {n : Nat} {st : aS} {a0 : Nat} {x1 : Int32} {x2 : Int32} {q : aS × ((Option Nat) ⊕ Nat)} (hE : af_X3_function_L21 n x.sK rx st a0 x1 x2 = some q) (h1 : mc + σ0.1 = q.1.1) (h2 : ms + σ0.2.1 = q.1.2.1) {H : Heap} {locs : List Loc} {ls : Array Slot} {kc ks : Nat} (Y : aY x σ0 s st H locs kc ks) (hl : lv_has ls 4 [(0, .ref a0), (1, .int x1), (2, .int x2)]) : aG l (fx + 2) (lx + 44) mc ms x As σ0 (oR q.2) q.1 p e s m below meth c H locs kc ks (F0 m 21 ls []) := by
  have hx := X.1
  have hb := X.2.1
  have hown := X.2.2.2.1
  have hts := X.2.2.2.2.1
  have hK := X.2.2.2.2.2.1
  have hl0 := X.2.2.2.2.2.2.2.2
  obtain ⟨hfx, hlx, mrv, -⟩ := id hrv
  unfold af_X3_function_L21 at hE
  refine lv_iload_n hx hb dX3_function_21 rfl (lv_at hl 1 rfl) ?_
  refine lv_bipush (v := 73) hx hb dX3_function_22 (by decide) ?_
  refine lv_icmp_ne (tgt := 42) hx hb dX3_function_24 (by decide) (fun c_1 => ?_) (fun c_1 => ?_)
  · replace hE := e_f c_1 hE
    exact waf_X3_function_L42 X hex hr hnm hrv hE h1 h2 Y (lv_sub hl [0, 1, 2] rfl)
  · replace hE := e_t c_1 hE
    refine lv_iload_n hx hb dX3_function_27 rfl (lv_at hl 2 rfl) ?_
    refine lv_bipush (v := 78) hx hb dX3_function_28 (by decide) ?_
    refine lv_icmp_ne (tgt := 42) hx hb dX3_function_30 (by decide) (fun c_2 => ?_) (fun c_2 => ?_)
    · replace hE := e_f c_2 hE
      exact waf_X3_function_L42 X hex hr hnm hrv hE h1 h2 Y (lv_sub hl [0, 1, 2] rfl)
    · replace hE := e_t c_2 hE
      refine lv_aload_n hx hb dX3_function_33 rfl (lv_at hl 0 rfl) ?_
      refine s_ldc (i := 18) X (by decide) dX3_function_34 ?_
      replace hE := e_bind hE
      obtain ⟨u_5, g, hE⟩ := hE
      obtain ⟨fs9, g9⟩ := i_gC g
      have g7 := a_recv X Y k_X3.1 g9
      replace hE := e_xb hE
      rcases hE with ⟨st_3, u_4, g, hE⟩ | ⟨st_3, k9, g, hE⟩
      rotate_left
      · subst hE
        refine a_callV (n := 1) (C := "BasicMachine$Parser") (σ1 := st_3) (σf := st_3) [.ref (x.sK 18)] X Y (maf_X3_take_2 hl0 n g) ⟨oaf_X3_take_2 _ g, aLe.rf _, h1, h2, (by show _ ≤ fx + 2; omega), (by show _ ≤ lx + 44; omega)⟩ q936 q938 qs23 q129 q939 (by decide +kernel) g7 rfl hl.1 (Nat.le_of_ble_eq_true rfl) dX3_function_36 (fun v hv => by cases hv) (fun k hk H locs kc ks q9 ce Y e1 e2 e3 => ?_)
        cases hk
        exact a_out X Y h1 h2 (fun z hz => (hex z hz).elim) e1 e2 e3
      have M9 := (oaf_X3_function_L120 mrv) _ hE
      refine a_callV (n := 1) (C := "BasicMachine$Parser") (σ1 := st_3) (σf := q.1) [.ref (x.sK 18)] X Y (maf_X3_take_2 hl0 n g) ⟨oaf_X3_take_2 _ g, M9, h1, h2, (by show _ ≤ fx + 2; omega), (by show _ ≤ lx + 44; omega)⟩ q936 q938 qs23 q129 q939 (by decide +kernel) g7 rfl hl.1 (Nat.le_of_ble_eq_true rfl) dX3_function_36 (fun v hv H locs kc ks Y => ?_) (fun k hk => by cases hk)
      cases hv
      refine lv_goto (tgt := 120) hx hb dX3_function_39 (by decide) ?_
      exact waf_X3_function_L120 X hex hr hnm hrv hE h1 h2 Y (lv_sub hl [0, 1] rfl)
set_option maxHeartbeats 4000000 in
set_option maxRecDepth 100000 in
theorem maf_X3_function {l : Launch} (hl0 : l.stackTraces = false) (n : Nat) {x : aP} {rx : aS → Nat → Option (aS × (Option Nat ⊕ Nat))} {fx lx : Nat} (hrv : hRX l x rx fx lx) {st : aS} {a0 : Nat} {p1 : Int32} {p2 : Int32} {q : aS × ((Option Nat) ⊕ Nat)} (hE : af_X3_function n x.sK rx st a0 p1 p2 = some q) : aMet l yX3_function (ws_ yX3_function cX3_function 4 (some (.object "BasicMachine$Expression"))) (fx + 2) (lx + 44) x [.ref a0, .int p1, .int p2] st (oR q.2) q.1 := by
  refine a_ofW (own := "BasicMachine$Parser") hl0 (by decide) rfl (Nat.le_of_ble_eq_true rfl) (fun mc ms p e s m below meth c ls H locs kc ks h1 h2 X hex Y hr hnm hl => ?_)
  have hnm : "function" = meth.name := hnm
  have hl : lv_has ls 4 [(0, .ref a0), (1, .int p1), (2, .int p2)] := hl
  have hx := X.1
  have hb := X.2.1
  have hown := X.2.2.2.1
  have hts := X.2.2.2.2.1
  have hK := X.2.2.2.2.2.1
  have hl0 := X.2.2.2.2.2.2.2.2
  obtain ⟨hfx, hlx, mrv, -⟩ := id hrv
  unfold af_X3_function at hE
  refine lv_iload_n hx hb dX3_function_0 rfl (lv_at hl 1 rfl) ?_
  refine lv_bipush (v := 65) hx hb dX3_function_1 (by decide) ?_
  refine lv_icmp_ne (tgt := 21) hx hb dX3_function_3 (by decide) (fun c_1 => ?_) (fun c_1 => ?_)
  · replace hE := e_f c_1 hE
    exact waf_X3_function_L21 X hex hr hnm hrv hE h1 h2 Y (lv_sub hl [0, 1, 2] rfl)
  · replace hE := e_t c_1 hE
    refine lv_iload_n hx hb dX3_function_6 rfl (lv_at hl 2 rfl) ?_
    refine lv_bipush (v := 66) hx hb dX3_function_7 (by decide) ?_
    refine lv_icmp_ne (tgt := 21) hx hb dX3_function_9 (by decide) (fun c_2 => ?_) (fun c_2 => ?_)
    · replace hE := e_f c_2 hE
      exact waf_X3_function_L21 X hex hr hnm hrv hE h1 h2 Y (lv_sub hl [0, 1, 2] rfl)
    · replace hE := e_t c_2 hE
      refine lv_aload_n hx hb dX3_function_12 rfl (lv_at hl 0 rfl) ?_
      refine s_ldc (i := 17) X (by decide) dX3_function_13 ?_
      replace hE := e_bind hE
      obtain ⟨u_5, g, hE⟩ := hE
      obtain ⟨fs9, g9⟩ := i_gC g
      have g7 := a_recv X Y k_X3.1 g9
      replace hE := e_xb hE
      rcases hE with ⟨st_3, u_4, g, hE⟩ | ⟨st_3, k9, g, hE⟩
      rotate_left
      · subst hE
        refine a_callV (n := 1) (C := "BasicMachine$Parser") (σ1 := st_3) (σf := st_3) [.ref (x.sK 17)] X Y (maf_X3_take_2 hl0 n g) ⟨oaf_X3_take_2 _ g, aLe.rf _, h1, h2, (by show _ ≤ fx + 2; omega), (by show _ ≤ lx + 44; omega)⟩ q936 q938 qs23 q129 q939 (by decide +kernel) g7 rfl hl.1 (Nat.le_of_ble_eq_true rfl) dX3_function_15 (fun v hv => by cases hv) (fun k hk H locs kc ks q9 ce Y e1 e2 e3 => ?_)
        cases hk
        exact a_out X Y h1 h2 (fun z hz => (hex z hz).elim) e1 e2 e3
      have M9 := (oaf_X3_function_L120 mrv) _ hE
      refine a_callV (n := 1) (C := "BasicMachine$Parser") (σ1 := st_3) (σf := q.1) [.ref (x.sK 17)] X Y (maf_X3_take_2 hl0 n g) ⟨oaf_X3_take_2 _ g, M9, h1, h2, (by show _ ≤ fx + 2; omega), (by show _ ≤ lx + 44; omega)⟩ q936 q938 qs23 q129 q939 (by decide +kernel) g7 rfl hl.1 (Nat.le_of_ble_eq_true rfl) dX3_function_15 (fun v hv H locs kc ks Y => ?_) (fun k hk => by cases hk)
      cases hv
      refine lv_goto (tgt := 120) hx hb dX3_function_18 (by decide) ?_
      exact waf_X3_function_L120 X hex hr hnm hrv hE h1 h2 Y (lv_sub hl [0, 1] rfl)
/-! BasicMachine$Parser.isVariable(C)Z -/
set_option maxHeartbeats 4000000 in
set_option maxRecDepth 100000 in
theorem maf_X3_isVariable {l : Launch} (hl0 : l.stackTraces = false) (n : Nat) {x : aP} {st : aS} {p0 : Int32} {q : aS × (Int32)} (hE : af_X3_isVariable n x.sK st p0 = some q) : aMet l yX3_isVariable (ws_ yX3_isVariable cX3_isVariable 1 (some .boolean)) 1 20 x [.int p0] st (.inl (some (.int q.2))) q.1 := by
  refine a_ofW (own := "BasicMachine$Parser") hl0 (by decide) rfl (Nat.le_of_ble_eq_true rfl) (fun mc ms p e s m below meth c ls H locs kc ks h1 h2 X hex Y hr hnm hl => ?_)
  have hnm : "isVariable" = meth.name := hnm
  have hl : lv_has ls 1 [(0, .int p0)] := hl
  have hx := X.1
  have hb := X.2.1
  have hown := X.2.2.2.1
  have hts := X.2.2.2.2.1
  have hK := X.2.2.2.2.2.1
  have hl0 := X.2.2.2.2.2.2.2.2
  unfold af_X3_isVariable at hE
  refine lv_iload_n hx hb dX3_isVariable_0 rfl (lv_at hl 0 rfl) ?_
  refine lv_bipush (v := 65) hx hb dX3_isVariable_1 (by decide) ?_
  refine lv_icmp_lt (tgt := 23) hx hb dX3_isVariable_3 (by decide) (fun c_1 => ?_) (fun c_1 => ?_)
  · replace hE := e_t c_1 hE
    refine lv_iconst (v := 0) hx hb dX3_isVariable_23 (by decide) ?_
    cases hE
    exact a_zret (v := 0) X Y h1 h2 hr nz0 dX3_isVariable_24
  · replace hE := e_f c_1 hE
    refine lv_iload_n hx hb dX3_isVariable_6 rfl (lv_at hl 0 rfl) ?_
    refine lv_bipush (v := 90) hx hb dX3_isVariable_7 (by decide) ?_
    refine lv_icmp_gt (tgt := 23) hx hb dX3_isVariable_9 (by decide) (fun c_2 => ?_) (fun c_2 => ?_)
    · replace hE := e_t c_2 hE
      refine lv_iconst (v := 0) hx hb dX3_isVariable_23 (by decide) ?_
      cases hE
      exact a_zret (v := 0) X Y h1 h2 hr nz0 dX3_isVariable_24
    · replace hE := e_f c_2 hE
      refine lv_iload_n hx hb dX3_isVariable_12 rfl (lv_at hl 0 rfl) ?_
      replace hE := e_cb hE
      obtain ⟨st_3, v_4, g, hE⟩ := hE
      have M9 := (mo_if mo_ret mo_ret) _ hE
      refine a_callS (n := 1) (σ1 := st_3) (σf := q.1) [.int p0] X Y (maf_X3_isMatrix hl0 n g) ⟨oaf_X3_isMatrix _ g, M9, h1, h2, (by show _ ≤ 1; decide), (by show _ ≤ 20; decide)⟩ q858 q859 q129 q860 (by decide +kernel) rfl hl.1 (Nat.le_of_ble_eq_true rfl) dX3_isVariable_13 (fun v hv H locs kc ks Y => ?_) (fun k hk => by cases hk)
      cases hv
      refine lv_if_ne (tgt := 23) hx hb dX3_isVariable_16 (by decide) (fun c_5 => ?_) (fun c_5 => ?_)
      · replace hE := e_f c_5 hE
        refine lv_iconst (v := 0) hx hb dX3_isVariable_23 (by decide) ?_
        cases hE
        exact a_zret (v := 0) X Y h1 h2 hr nz0 dX3_isVariable_24
      · replace hE := e_t c_5 hE
        refine lv_iconst (v := 1) hx hb dX3_isVariable_19 (by decide) ?_
        refine lv_goto (tgt := 24) hx hb dX3_isVariable_20 (by decide) ?_
        cases hE
        exact a_zret (v := 1) X Y h1 h2 hr nz1 dX3_isVariable_24
/-! BasicMachine$Parser.variable()I -/
set_option maxHeartbeats 4000000 in
set_option maxRecDepth 100000 in
theorem maf_X3_variable {l : Launch} (hl0 : l.stackTraces = false) (n : Nat) {x : aP} {st : aS} {a0 : Nat} {q : aS × ((Int32) ⊕ Nat)} (hE : af_X3_variable n x.sK st a0 = some q) : aMet l yX3_variable (ws_ yX3_variable cX3_variable 1 (some .int)) 7 111 x [.ref a0] st (oI q.2) q.1 := by
  refine a_ofW (own := "BasicMachine$Parser") hl0 (by decide) rfl (Nat.le_of_ble_eq_true rfl) (fun mc ms p e s m below meth c ls H locs kc ks h1 h2 X hex Y hr hnm hl => ?_)
  have hnm : "variable" = meth.name := hnm
  have hl : lv_has ls 1 [(0, .ref a0)] := hl
  have hx := X.1
  have hb := X.2.1
  have hown := X.2.2.2.1
  have hts := X.2.2.2.2.1
  have hK := X.2.2.2.2.2.1
  have hl0 := X.2.2.2.2.2.2.2.2
  unfold af_X3_variable at hE
  refine lv_aload_n hx hb dX3_variable_0 rfl (lv_at hl 0 rfl) ?_
  refine lv_aload_n hx hb dX3_variable_1 rfl (lv_at hl 0 rfl) ?_
  replace hE := e_bind hE
  obtain ⟨u_3, g, hE⟩ := hE
  obtain ⟨fs9, g9⟩ := i_gC g
  have g7 := a_recv X Y k_X3.1 g9
  replace hE := e_cb hE
  obtain ⟨st_1, v_2, g, hE⟩ := hE
  have M9 := (mo_cb oaf_X3_isVariable fun _ _ => (mo_v fun _ => (mo_x oaf_X3_need fun _ _ => (mo_v fun _ => (mo_s (fun _ => le_pF) fun _ => (mo_v fun _ => (mo_v fun _ => (mo_v fun _ => (mo_v fun _ => mo_ret))))))))) _ hE
  refine a_callV (n := 0) (C := "BasicMachine$Parser") (σ1 := st_1) (σf := q.1) [] X Y (maf_X3_here hl0 n g) ⟨oaf_X3_here _ g, M9, h1, h2, (by show _ ≤ 7; decide), (by show _ ≤ 111; decide)⟩ q469 q471 qs4 q129 q472 (by decide +kernel) g7 rfl hl.1 (Nat.le_of_ble_eq_true rfl) dX3_variable_2 (fun v hv H locs kc ks Y => ?_) (fun k hk => by cases hk)
  cases hv
  replace hE := e_cb hE
  obtain ⟨st_4, v_5, g, hE⟩ := hE
  have M9 := (mo_v fun _ => (mo_x oaf_X3_need fun _ _ => (mo_v fun _ => (mo_s (fun _ => le_pF) fun _ => (mo_v fun _ => (mo_v fun _ => (mo_v fun _ => (mo_v fun _ => mo_ret)))))))) _ hE
  refine a_callS (n := 1) (σ1 := st_4) (σf := q.1) [.int v_2] X Y (maf_X3_isVariable hl0 n g) ⟨oaf_X3_isVariable _ g, M9, h1, h2, (by show _ ≤ 7; decide), (by show _ ≤ 111; decide)⟩ q979 q980 q129 q981 (by decide +kernel) rfl hl.1 (Nat.le_of_ble_eq_true rfl) dX3_variable_5 (fun v hv H locs kc ks Y => ?_) (fun k hk => by cases hk)
  cases hv
  replace hE := e_bind hE
  obtain ⟨u_8, g, hE⟩ := hE
  obtain ⟨fs9, g9⟩ := i_gC g
  have g7 := a_recv X Y k_X3.1 g9
  replace hE := e_xb hE
  rcases hE with ⟨st_6, u_7, g, hE⟩ | ⟨st_6, k9, g, hE⟩
  rotate_left
  · subst hE
    refine a_callV (n := 1) (C := "BasicMachine$Parser") (σ1 := st_6) (σf := st_6) [.int v_5] X Y (maf_X3_need hl0 n g) ⟨oaf_X3_need _ g, aLe.rf _, h1, h2, (by show _ ≤ 7; decide), (by show _ ≤ 111; decide)⟩ q476 q478 qs5 q129 q479 (by decide +kernel) g7 rfl hl.1 (Nat.le_of_ble_eq_true rfl) dX3_variable_8 (fun v hv => by cases hv) (fun k hk H locs kc ks q9 ce Y e1 e2 e3 => ?_)
    cases hk
    exact a_out X Y h1 h2 (fun z hz => (hex z hz).elim) e1 e2 e3
  have M9 := (mo_v fun _ => (mo_s (fun _ => le_pF) fun _ => (mo_v fun _ => (mo_v fun _ => (mo_v fun _ => (mo_v fun _ => mo_ret)))))) _ hE
  refine a_callV (n := 1) (C := "BasicMachine$Parser") (σ1 := st_6) (σf := q.1) [.int v_5] X Y (maf_X3_need hl0 n g) ⟨oaf_X3_need _ g, M9, h1, h2, (by show _ ≤ 7; decide), (by show _ ≤ 111; decide)⟩ q476 q478 qs5 q129 q479 (by decide +kernel) g7 rfl hl.1 (Nat.le_of_ble_eq_true rfl) dX3_variable_8 (fun v hv H locs kc ks Y => ?_) (fun k hk => by cases hk)
  cases hv
  refine lv_aload_n hx hb dX3_variable_11 rfl (lv_at hl 0 rfl) ?_
  refine lv_dup hx hb dX3_variable_12 rfl ?_
  replace hE := e_bind hE
  obtain ⟨v_9, g, hE⟩ := hE
  refine n_gI X Y k_X3 2 g (by decide) q442 dX3_variable_13 ?_
  refine lv_iconst (v := 1) hx hb dX3_variable_16 (by decide) ?_
  refine lv_iadd hx hb dX3_variable_17 ?_
  replace hE := e_bind hE
  obtain ⟨st_10, g, hE⟩ := hE
  refine a_putV X Y k_X3 2 g (by decide) rfl rfl rfl q442 dX3_variable_18 (fun H locs Y => ?_)
  refine lv_aload_n hx hb dX3_variable_21 rfl (lv_at hl 0 rfl) ?_
  replace hE := e_bind hE
  obtain ⟨r_11, g, hE⟩ := hE
  refine n_gR X Y k_X3 0 g (by decide) q440 dX3_variable_22 ?_
  refine lv_aload_n hx hb dX3_variable_25 rfl (lv_at hl 0 rfl) ?_
  replace hE := e_bind hE
  obtain ⟨v_12, g, hE⟩ := hE
  refine n_gI X Y k_X3 2 g (by decide) q442 dX3_variable_26 ?_
  refine lv_iconst (v := 1) hx hb dX3_variable_29 (by decide) ?_
  refine lv_isub hx hb dX3_variable_30 ?_
  replace hE := e_bind hE
  obtain ⟨a_13, g, hE⟩ := hE
  subst g
  replace hE := e_bind hE
  obtain ⟨v_14, g, hE⟩ := hE
  refine a_cald X Y g dX3_variable_31 ?_
  refine lv_bipush (v := 65) hx hb dX3_variable_32 (by decide) ?_
  refine lv_isub hx hb dX3_variable_34 ?_
  cases hE
  exact a_iret X Y h1 h2 hr dX3_variable_35
/-! BasicMachine$Variable.<init>(I)V -/
set_option maxHeartbeats 4000000 in
set_option maxRecDepth 100000 in
theorem maf_X9_init {l : Launch} (hl0 : l.stackTraces = false) (n : Nat) {x : aP} {st : aS} {a0 : Nat} {p1 : Int32} {q : aS × Unit} (hE : af_X9_init n x.sK st a0 p1 = some q) : aMet l yX9_init (ws_ yX9_init cX9_init 2 none) 2 40 x [.ref a0, .int p1] st (.inl none) q.1 := by
  refine a_ofW (own := "BasicMachine$Variable") hl0 (by decide) rfl (Nat.le_of_ble_eq_true rfl) (fun mc ms p e s m below meth c ls H locs kc ks h1 h2 X hex Y hr hnm hl => ?_)
  have hnm : "<init>" = meth.name := hnm
  have hl : lv_has ls 2 [(0, .ref a0), (1, .int p1)] := hl
  have hx := X.1
  have hb := X.2.1
  have hown := X.2.2.2.1
  have hts := X.2.2.2.2.1
  have hK := X.2.2.2.2.2.1
  have hl0 := X.2.2.2.2.2.2.2.2
  unfold af_X9_init at hE
  refine lv_aload_n hx hb dX9_init_0 rfl (lv_at hl 0 rfl) ?_
  replace hE := e_cb hE
  obtain ⟨st_1, u_2, g, hE⟩ := hE
  have M9 := (mo_s (fun _ => le_pF) fun _ => mo_ret) _ hE
  refine a_callI (n := 0) (σ1 := st_1) (σf := q.1) [] X Y (maf_J15_init hl0 n g) ⟨oaf_J15_init _ g, M9, h1, h2, (by show _ ≤ 2; decide), (by show _ ≤ 40; decide)⟩ q985 q912 q143 q913 rfl (by decide +kernel) rfl hl.1 (Nat.le_of_ble_eq_true rfl) dX9_init_1 (fun v hv H locs kc ks Y => ?_) (fun k hk => by cases hk)
  cases hv
  refine lv_aload_n hx hb dX9_init_4 rfl (lv_at hl 0 rfl) ?_
  refine lv_iload_n hx hb dX9_init_5 rfl (lv_at hl 1 rfl) ?_
  replace hE := e_bind hE
  obtain ⟨st_3, g, hE⟩ := hE
  refine a_putFV X Y k_X9 0 g (by decide) rfl hnm rfl rfl rfl q986 dX9_init_6 (fun H locs Y => ?_)
  cases hE
  exact a_vret X Y h1 h2 hr dX9_init_9

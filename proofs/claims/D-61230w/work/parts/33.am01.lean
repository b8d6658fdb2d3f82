/-! contracts of the machine (printed by gena.py) -/
/-! BasicMachine$Parser.part()LBasicMachine$Expression; -/
set_option maxHeartbeats 4000000 in
set_option maxRecDepth 100000 in
theorem waf_X3_part_L72 {l : Launch} {x : aP} {As : List Value} {σ0 : aS} {p : Program} {e : Env} {s : State} {m : MethodId} {below : List Frame} {meth : Method} {c : Code} {mc ms : Nat} (X : aX "BasicMachine$Parser" p l s m As.toArray meth c cX3_part 3 x σ0) (hex : ∀ z ∈ c.exceptionTable.toList, False) (hr : meth.sig.returnType = (some (.object "BasicMachine$Expression"))) (hnm : "part" = meth.name) {rx : aS → Nat → Option (aS × (Option Nat ⊕ Nat))} {fx lx : Nat} (hrv : hRX l x rx fx lx) {n : Nat} {st : aS} {a0 : Nat} {q : aS × ((Option Nat) ⊕ Nat)} (hE : af_X3_part_L72 n x.sK rx st a0 = some q) (h1 : mc + σ0.1 = q.1.1) (h2 : ms + σ0.2.1 = q.1.2.1) {H : Heap} {locs : List Loc} {ls : Array Slot} {kc ks : Nat} (Y : aY x σ0 s st H locs kc ks) (hl : lv_has ls 3 [(0, .ref a0)]) : aG l (fx + 3) (lx + 67) mc ms x As σ0 (oR q.2) q.1 p e s m below meth c H locs kc ks (F0 m 72 ls []) := by
  have hx := X.1
  have hb := X.2.1
  have hown := X.2.2.2.1
  have hts := X.2.2.2.2.1
  have hK := X.2.2.2.2.2.1
  have hl0 := X.2.2.2.2.2.2.2.2
  obtain ⟨hfx, hlx, mrv, -⟩ := id hrv
  unfold af_X3_part_L72 at hE
  replace hE := e_bind hE
  obtain ⟨st_1, g, hE⟩ := hE
  have M9 := (mo_v fun _ => (mo_x oaf_X3_variable fun _ _ => (mo_cb oaf_X9_init fun _ _ => mo_ret))) _ hE
  refine a_new X Y k_X9 g b_X9 q973 q974 q148 (aRoom1 Y h1 (le_nO1 g) M9) (aRoom2 Y h2 (le_nO2 g) M9) dX3_part_72 (fun H Y => ?_)
  generalize kc + 1 = kc at Y ⊢
  generalize ks + 1 = ks at Y ⊢
  refine lv_dup hx hb dX3_part_75 rfl ?_
  refine lv_aload_n hx hb dX3_part_76 rfl (lv_at hl 0 rfl) ?_
  replace hE := e_bind hE
  obtain ⟨u_4, g, hE⟩ := hE
  obtain ⟨fs9, g9⟩ := i_gC g
  have g7 := a_recv X Y k_X3.1 g9
  replace hE := e_xb hE
  rcases hE with ⟨st_2, v_3, g, hE⟩ | ⟨st_2, k9, g, hE⟩
  rotate_left
  · subst hE
    refine a_callV (n := 0) (C := "BasicMachine$Parser") (σ1 := st_2) (σf := st_2) [] X Y (maf_X3_variable hl0 n g) ⟨oaf_X3_variable _ g, aLe.rf _, h1, h2, (by show _ ≤ fx + 3; omega), (by show _ ≤ lx + 67; omega)⟩ q975 q977 qs25 q129 q978 (by decide +kernel) g7 rfl hl.1 (Nat.le_of_ble_eq_true rfl) dX3_part_77 (fun v hv => by cases hv) (fun k hk H locs kc ks q9 ce Y e1 e2 e3 => ?_)
    cases hk
    exact a_out X Y h1 h2 (fun z hz => (hex z hz).elim) e1 e2 e3
  have M9 := (mo_cb oaf_X9_init fun _ _ => mo_ret) _ hE
  refine a_callV (n := 0) (C := "BasicMachine$Parser") (σ1 := st_2) (σf := q.1) [] X Y (maf_X3_variable hl0 n g) ⟨oaf_X3_variable _ g, M9, h1, h2, (by show _ ≤ fx + 3; omega), (by show _ ≤ lx + 67; omega)⟩ q975 q977 qs25 q129 q978 (by decide +kernel) g7 rfl hl.1 (Nat.le_of_ble_eq_true rfl) dX3_part_77 (fun v hv H locs kc ks Y => ?_) (fun k hk => by cases hk)
  cases hv
  replace hE := e_cb hE
  obtain ⟨st_5, u_6, g, hE⟩ := hE
  have M9 := mo_ret _ hE
  refine a_callIN (host := "BasicMachine") (n := 1) (σ1 := st_5) (σf := q.1) [.int v_3] X Y (maf_X9_init hl0 n g) ⟨oaf_X9_init _ g, M9, h1, h2, (by show _ ≤ fx + 3; omega), (by show _ ≤ lx + 67; omega)⟩ (by decide) q983 q148 q984 rfl (by decide +kernel) rfl hl.1 (Nat.le_of_ble_eq_true rfl) dX3_part_80 (fun v hv H locs kc ks Y => ?_) (fun k hk => by cases hk)
  cases hv
  cases hE
  exact a_aret (r := (some st.1)) X Y h1 h2 hr (Or.inl ⟨_, rfl⟩) dX3_part_83
set_option maxHeartbeats 4000000 in
set_option maxRecDepth 100000 in
theorem maf_X3_part {l : Launch} (hl0 : l.stackTraces = false) (n : Nat) {x : aP} {rx : aS → Nat → Option (aS × (Option Nat ⊕ Nat))} {fx lx : Nat} (hrv : hRX l x rx fx lx) {st : aS} {a0 : Nat} {q : aS × ((Option Nat) ⊕ Nat)} (hE : af_X3_part n x.sK rx st a0 = some q) : aMet l yX3_part (ws_ yX3_part cX3_part 3 (some (.object "BasicMachine$Expression"))) (fx + 3) (lx + 67) x [.ref a0] st (oR q.2) q.1 := by
  refine a_ofW (own := "BasicMachine$Parser") hl0 (by decide) rfl (Nat.le_of_ble_eq_true rfl) (fun mc ms p e s m below meth c ls H locs kc ks h1 h2 X hex Y hr hnm hl => ?_)
  have hnm : "part" = meth.name := hnm
  have hl : lv_has ls 3 [(0, .ref a0)] := hl
  have hx := X.1
  have hb := X.2.1
  have hown := X.2.2.2.1
  have hts := X.2.2.2.2.1
  have hK := X.2.2.2.2.2.1
  have hl0 := X.2.2.2.2.2.2.2.2
  obtain ⟨hfx, hlx, mrv, -⟩ := id hrv
  unfold af_X3_part at hE
  refine lv_aload_n hx hb dX3_part_0 rfl (lv_at hl 0 rfl) ?_
  replace hE := e_bind hE
  obtain ⟨u_3, g, hE⟩ := hE
  obtain ⟨fs9, g9⟩ := i_gC g
  have g7 := a_recv X Y k_X3.1 g9
  replace hE := e_cb hE
  obtain ⟨st_1, v_2, g, hE⟩ := hE
  have M9 := (mo_cb oaf_X3_digit fun _ _ => (mo_if (mo_cb oaf_X3_isMatrix fun _ _ => (mo_if (mo_v fun _ => (mo_if (oaf_X3_part_L72 mrv) (mo_if (mo_v fun _ => (mo_x (oaf_X3_inside mrv) fun _ _ => mo_ret)) (mo_v fun _ => (mo_cb oaf_X3_behind fun _ _ => (mo_v fun _ => (mo_x (oaf_X3_function mrv) fun _ _ => (mo_if (oaf_X3_part_L72 mrv) mo_ret)))))))) (mo_v fun _ => (mo_x (oaf_X3_element mrv) fun _ _ => mo_ret)))) (mo_s (fun _ => le_nO) fun _ => (mo_v fun _ => (mo_x oaf_X3_numeral fun _ _ => (mo_cb oaf_X6_init fun _ _ => mo_ret)))))) _ hE
  refine a_callV (n := 0) (C := "BasicMachine$Parser") (σ1 := st_1) (σf := q.1) [] X Y (maf_X3_here hl0 n g) ⟨oaf_X3_here _ g, M9, h1, h2, (by show _ ≤ fx + 3; omega), (by show _ ≤ lx + 67; omega)⟩ q469 q471 qs4 q129 q472 (by decide +kernel) g7 rfl hl.1 (Nat.le_of_ble_eq_true rfl) dX3_part_1 (fun v hv H locs kc ks Y => ?_) (fun k hk => by cases hk)
  cases hv
  refine lv_istore_n (i := 1) (lv' := [(1, .int v_2), (0, .ref a0)]) hx hb dX3_part_4 rfl hl (by decide) rfl (fun ls hl => ?_)
  refine lv_iload_n hx hb dX3_part_5 rfl (lv_at hl 0 rfl) ?_
  replace hE := e_cb hE
  obtain ⟨st_4, v_5, g, hE⟩ := hE
  have M9 := (mo_if (mo_cb oaf_X3_isMatrix fun _ _ => (mo_if (mo_v fun _ => (mo_if (oaf_X3_part_L72 mrv) (mo_if (mo_v fun _ => (mo_x (oaf_X3_inside mrv) fun _ _ => mo_ret)) (mo_v fun _ => (mo_cb oaf_X3_behind fun _ _ => (mo_v fun _ => (mo_x (oaf_X3_function mrv) fun _ _ => (mo_if (oaf_X3_part_L72 mrv) mo_ret)))))))) (mo_v fun _ => (mo_x (oaf_X3_element mrv) fun _ _ => mo_ret)))) (mo_s (fun _ => le_nO) fun _ => (mo_v fun _ => (mo_x oaf_X3_numeral fun _ _ => (mo_cb oaf_X6_init fun _ _ => mo_ret))))) _ hE
  refine a_callS (n := 1) (σ1 := st_4) (σf := q.1) [.int v_2] X Y (maf_X3_digit hl0 n g) ⟨oaf_X3_digit _ g, M9, h1, h2, (by show _ ≤ fx + 3; omega), (by show _ ≤ lx + 67; omega)⟩ q473 q474 q129 q475 (by decide +kernel) rfl hl.1 (Nat.le_of_ble_eq_true rfl) dX3_part_6 (fun v hv H locs kc ks Y => ?_) (fun k hk => by cases hk)
  cases hv
  refine lv_if_eq (tgt := 24) hx hb dX3_part_9 (by decide) (fun c_6 => ?_) (fun c_6 => ?_)
  · replace hE := e_t c_6 hE
    refine lv_iload_n hx hb dX3_part_24 rfl (lv_at hl 0 rfl) ?_
    replace hE := e_cb hE
    obtain ⟨st_7, v_8, g, hE⟩ := hE
    have M9 := (mo_if (mo_v fun _ => (mo_if (oaf_X3_part_L72 mrv) (mo_if (mo_v fun _ => (mo_x (oaf_X3_inside mrv) fun _ _ => mo_ret)) (mo_v fun _ => (mo_cb oaf_X3_behind fun _ _ => (mo_v fun _ => (mo_x (oaf_X3_function mrv) fun _ _ => (mo_if (oaf_X3_part_L72 mrv) mo_ret)))))))) (mo_v fun _ => (mo_x (oaf_X3_element mrv) fun _ _ => mo_ret))) _ hE
    refine a_callS (n := 1) (σ1 := st_7) (σf := q.1) [.int v_2] X Y (maf_X3_isMatrix hl0 n g) ⟨oaf_X3_isMatrix _ g, M9, h1, h2, (by show _ ≤ fx + 3; omega), (by show _ ≤ lx + 67; omega)⟩ q858 q859 q129 q860 (by decide +kernel) rfl hl.1 (Nat.le_of_ble_eq_true rfl) dX3_part_25 (fun v hv H locs kc ks Y => ?_) (fun k hk => by cases hk)
    cases hv
    refine lv_if_eq (tgt := 36) hx hb dX3_part_28 (by decide) (fun c_9 => ?_) (fun c_9 => ?_)
    · replace hE := e_t c_9 hE
      refine lv_aload_n hx hb dX3_part_36 rfl (lv_at hl 1 rfl) ?_
      replace hE := e_bind hE
      obtain ⟨v_10, g, hE⟩ := hE
      refine n_gI X Y k_X3 3 g (by decide) q444 dX3_part_37 ?_
      refine lv_bipush (v := 6) hx hb dX3_part_40 (by decide) ?_
      refine lv_icmp_ge (tgt := 72) hx hb dX3_part_42 (by decide) (fun c_11 => ?_) (fun c_11 => ?_)
      · replace hE := e_t c_11 hE
        exact waf_X3_part_L72 X hex hr hnm hrv hE h1 h2 Y (lv_sub hl [1] rfl)
      · replace hE := e_f c_11 hE
        refine lv_iload_n hx hb dX3_part_45 rfl (lv_at hl 0 rfl) ?_
        refine lv_bipush (v := 40) hx hb dX3_part_46 (by decide) ?_
        refine lv_icmp_ne (tgt := 56) hx hb dX3_part_48 (by decide) (fun c_12 => ?_) (fun c_12 => ?_)
        · replace hE := e_f c_12 hE
          refine lv_aload_n hx hb dX3_part_56 rfl (lv_at hl 1 rfl) ?_
          refine lv_iload_n hx hb dX3_part_57 rfl (lv_at hl 0 rfl) ?_
          refine lv_aload_n hx hb dX3_part_58 rfl (lv_at hl 1 rfl) ?_
          replace hE := e_bind hE
          obtain ⟨u_15, g, hE⟩ := hE
          obtain ⟨fs9, g9⟩ := i_gC g
          have g7 := a_recv X Y k_X3.1 g9
          replace hE := e_cb hE
          obtain ⟨st_13, v_14, g, hE⟩ := hE
          have M9 := (mo_v fun _ => (mo_x (oaf_X3_function mrv) fun _ _ => (mo_if (oaf_X3_part_L72 mrv) mo_ret))) _ hE
          refine a_callV (n := 0) (C := "BasicMachine$Parser") (σ1 := st_13) (σf := q.1) [] X Y (maf_X3_behind hl0 n g) ⟨oaf_X3_behind _ g, M9, h1, h2, (by show _ ≤ fx + 3; omega), (by show _ ≤ lx + 67; omega)⟩ q927 q929 qs21 q129 q930 (by decide +kernel) g7 rfl hl.1 (Nat.le_of_ble_eq_true rfl) dX3_part_59 (fun v hv H locs kc ks Y => ?_) (fun k hk => by cases hk)
          cases hv
          replace hE := e_bind hE
          obtain ⟨u_18, g, hE⟩ := hE
          obtain ⟨fs9, g9⟩ := i_gC g
          have g7 := a_recv X Y k_X3.1 g9
          replace hE := e_xb hE
          rcases hE with ⟨st_16, r_17, g, hE⟩ | ⟨st_16, k9, g, hE⟩
          rotate_left
          · subst hE
            refine a_callV (n := 2) (C := "BasicMachine$Parser") (σ1 := st_16) (σf := st_16) [.int v_2, .int v_14] X Y (maf_X3_function hl0 n hrv g) ⟨(oaf_X3_function mrv) _ g, aLe.rf _, h1, h2, (by show _ ≤ fx + 3; omega), (by show _ ≤ lx + 67; omega)⟩ q931 q933 qs22 q129 q934 (by decide +kernel) g7 rfl hl.1 (Nat.le_of_ble_eq_true rfl) dX3_part_62 (fun v hv => by cases hv) (fun k hk H locs kc ks q9 ce Y e1 e2 e3 => ?_)
            cases hk
            exact a_out X Y h1 h2 (fun z hz => (hex z hz).elim) e1 e2 e3
          have M9 := (mo_if (oaf_X3_part_L72 mrv) mo_ret) _ hE
          refine a_callV (n := 2) (C := "BasicMachine$Parser") (σ1 := st_16) (σf := q.1) [.int v_2, .int v_14] X Y (maf_X3_function hl0 n hrv g) ⟨(oaf_X3_function mrv) _ g, M9, h1, h2, (by show _ ≤ fx + 3; omega), (by show _ ≤ lx + 67; omega)⟩ q931 q933 qs22 q129 q934 (by decide +kernel) g7 rfl hl.1 (Nat.le_of_ble_eq_true rfl) dX3_part_62 (fun v hv H locs kc ks Y => ?_) (fun k hk => by cases hk)
          cases hv
          refine r_astore_n (i := 2) (lv' := [(2, va_rf r_17), (1, .int v_2), (0, .ref a0)]) hx hb dX3_part_65 rfl hl (by decide) rfl (fun ls hl => ?_)
          refine r_aload_n hx hb dX3_part_66 rfl (lv_at hl 0 rfl) ?_
          refine r_ifnull (tgt := 72) hx hb dX3_part_67 (by decide) (fun c_19 => ?_) (fun c_19 => ?_)
          · replace hE := e_t c_19 hE
            exact waf_X3_part_L72 X hex hr hnm hrv hE h1 h2 Y (lv_sub hl [2] rfl)
          · replace hE := e_f c_19 hE
            refine r_aload_n hx hb dX3_part_70 rfl (lv_at hl 0 rfl) ?_
            cases hE
            exact a_aret (r := r_17) X Y h1 h2 hr (Or.inl ⟨_, rfl⟩) dX3_part_71
        · replace hE := e_t c_12 hE
          refine lv_aload_n hx hb dX3_part_51 rfl (lv_at hl 1 rfl) ?_
          replace hE := e_bind hE
          obtain ⟨u_22, g, hE⟩ := hE
          obtain ⟨fs9, g9⟩ := i_gC g
          have g7 := a_recv X Y k_X3.1 g9
          replace hE := e_xb hE
          rcases hE with ⟨st_20, r_21, g, hE⟩ | ⟨st_20, k9, g, hE⟩
          rotate_left
          · subst hE
            refine a_callV (n := 0) (C := "BasicMachine$Parser") (σ1 := st_20) (σf := st_20) [] X Y (maf_X3_inside hl0 n hrv g) ⟨(oaf_X3_inside mrv) _ g, aLe.rf _, h1, h2, (by show _ ≤ fx + 3; omega), (by show _ ≤ lx + 67; omega)⟩ q919 q921 qs19 q129 q922 (by decide +kernel) g7 rfl hl.1 (Nat.le_of_ble_eq_true rfl) dX3_part_52 (fun v hv => by cases hv) (fun k hk H locs kc ks q9 ce Y e1 e2 e3 => ?_)
            cases hk
            exact a_out X Y h1 h2 (fun z hz => (hex z hz).elim) e1 e2 e3
          have M9 := mo_ret _ hE
          refine a_callV (n := 0) (C := "BasicMachine$Parser") (σ1 := st_20) (σf := q.1) [] X Y (maf_X3_inside hl0 n hrv g) ⟨(oaf_X3_inside mrv) _ g, M9, h1, h2, (by show _ ≤ fx + 3; omega), (by show _ ≤ lx + 67; omega)⟩ q919 q921 qs19 q129 q922 (by decide +kernel) g7 rfl hl.1 (Nat.le_of_ble_eq_true rfl) dX3_part_52 (fun v hv H locs kc ks Y => ?_) (fun k hk => by cases hk)
          cases hv
          cases hE
          exact a_aret (r := r_21) X Y h1 h2 hr (Or.inl ⟨_, rfl⟩) dX3_part_55
    · replace hE := e_f c_9 hE
      refine lv_aload_n hx hb dX3_part_31 rfl (lv_at hl 1 rfl) ?_
      replace hE := e_bind hE
      obtain ⟨u_25, g, hE⟩ := hE
      obtain ⟨fs9, g9⟩ := i_gC g
      have g7 := a_recv X Y k_X3.1 g9
      replace hE := e_xb hE
      rcases hE with ⟨st_23, r_24, g, hE⟩ | ⟨st_23, k9, g, hE⟩
      rotate_left
      · subst hE
        refine a_callV (n := 0) (C := "BasicMachine$Parser") (σ1 := st_23) (σf := st_23) [] X Y (maf_X3_element hl0 n hrv g) ⟨(oaf_X3_element mrv) _ g, aLe.rf _, h1, h2, (by show _ ≤ fx + 3; omega), (by show _ ≤ lx + 67; omega)⟩ q863 q865 qs10 q129 q866 (by decide +kernel) g7 rfl hl.1 (Nat.le_of_ble_eq_true rfl) dX3_part_32 (fun v hv => by cases hv) (fun k hk H locs kc ks q9 ce Y e1 e2 e3 => ?_)
        cases hk
        exact a_out X Y h1 h2 (fun z hz => (hex z hz).elim) e1 e2 e3
      have M9 := mo_ret _ hE
      refine a_callV (n := 0) (C := "BasicMachine$Parser") (σ1 := st_23) (σf := q.1) [] X Y (maf_X3_element hl0 n hrv g) ⟨(oaf_X3_element mrv) _ g, M9, h1, h2, (by show _ ≤ fx + 3; omega), (by show _ ≤ lx + 67; omega)⟩ q863 q865 qs10 q129 q866 (by decide +kernel) g7 rfl hl.1 (Nat.le_of_ble_eq_true rfl) dX3_part_32 (fun v hv H locs kc ks Y => ?_) (fun k hk => by cases hk)
      cases hv
      cases hE
      exact a_aret (r := r_24) X Y h1 h2 hr (Or.inl ⟨_, rfl⟩) dX3_part_35
  · replace hE := e_f c_6 hE
    replace hE := e_bind hE
    obtain ⟨st_26, g, hE⟩ := hE
    have M9 := (mo_v fun _ => (mo_x oaf_X3_numeral fun _ _ => (mo_cb oaf_X6_init fun _ _ => mo_ret))) _ hE
    refine a_new X Y k_X6 g b_X6 q899 q900 q145 (aRoom1 Y h1 (le_nO1 g) M9) (aRoom2 Y h2 (le_nO2 g) M9) dX3_part_12 (fun H Y => ?_)
    generalize kc + 1 = kc at Y ⊢
    generalize ks + 1 = ks at Y ⊢
    refine lv_dup hx hb dX3_part_15 rfl ?_
    refine lv_aload_n hx hb dX3_part_16 rfl (lv_at hl 1 rfl) ?_
    replace hE := e_bind hE
    obtain ⟨u_29, g, hE⟩ := hE
    obtain ⟨fs9, g9⟩ := i_gC g
    have g7 := a_recv X Y k_X3.1 g9
    replace hE := e_xb hE
    rcases hE with ⟨st_27, v_28, g, hE⟩ | ⟨st_27, k9, g, hE⟩
    rotate_left
    · subst hE
      refine a_callV (n := 0) (C := "BasicMachine$Parser") (σ1 := st_27) (σf := st_27) [] X Y (maf_X3_numeral hl0 n g) ⟨oaf_X3_numeral _ g, aLe.rf _, h1, h2, (by show _ ≤ fx + 3; omega), (by show _ ≤ lx + 67; omega)⟩ q901 q903 qs18 q129 q904 (by decide +kernel) g7 rfl hl.1 (Nat.le_of_ble_eq_true rfl) dX3_part_17 (fun v hv => by cases hv) (fun k hk H locs kc ks q9 ce Y e1 e2 e3 => ?_)
      cases hk
      exact a_out X Y h1 h2 (fun z hz => (hex z hz).elim) e1 e2 e3
    have M9 := (mo_cb oaf_X6_init fun _ _ => mo_ret) _ hE
    refine a_callV (n := 0) (C := "BasicMachine$Parser") (σ1 := st_27) (σf := q.1) [] X Y (maf_X3_numeral hl0 n g) ⟨oaf_X3_numeral _ g, M9, h1, h2, (by show _ ≤ fx + 3; omega), (by show _ ≤ lx + 67; omega)⟩ q901 q903 qs18 q129 q904 (by decide +kernel) g7 rfl hl.1 (Nat.le_of_ble_eq_true rfl) dX3_part_17 (fun v hv H locs kc ks Y => ?_) (fun k hk => by cases hk)
    cases hv
    replace hE := e_cb hE
    obtain ⟨st_30, u_31, g, hE⟩ := hE
    have M9 := mo_ret _ hE
    refine a_callIN (host := "BasicMachine") (n := 1) (σ1 := st_30) (σf := q.1) [.double v_28] X Y (maf_X6_init hl0 n g) ⟨oaf_X6_init _ g, M9, h1, h2, (by show _ ≤ fx + 3; omega), (by show _ ≤ lx + 67; omega)⟩ (by decide) q909 q145 q910 rfl (by decide +kernel) rfl hl.1 (Nat.le_of_ble_eq_true rfl) dX3_part_20 (fun v hv H locs kc ks Y => ?_) (fun k hk => by cases hk)
    cases hv
    cases hE
    exact a_aret (r := (some st_4.1)) X Y h1 h2 hr (Or.inl ⟨_, rfl⟩) dX3_part_23
/-! BasicMachine$Pair.<init>(CLBasicMachine$Expression;LBasicMachine$Expression;)V -/
set_option maxHeartbeats 4000000 in
set_option maxRecDepth 100000 in
theorem maf_X10_init {l : Launch} (hl0 : l.stackTraces = false) (n : Nat) {x : aP} {st : aS} {a0 : Nat} {p1 : Int32} {p2 : Option Nat} {p3 : Option Nat} {q : aS × Unit} (hE : af_X10_init n x.sK st a0 p1 p2 p3 = some q) : aMet l yX10_init (ws_ yX10_init cX10_init 4 none) 2 40 x [.ref a0, .int p1, va_rf p2, va_rf p3] st (.inl none) q.1 := by
  refine a_ofW (own := "BasicMachine$Pair") hl0 (by decide) rfl (by simp only [lg_sl, List.flatMap_cons, List.flatMap_nil, va_rf_cat]; exact Nat.le_of_ble_eq_true rfl) (fun mc ms p e s m below meth c ls H locs kc ks h1 h2 X hex Y hr hnm hl => ?_)
  have hnm : "<init>" = meth.name := hnm
  have hl : lv_has ls 4 [(0, .ref a0), (1, .int p1), (2, va_rf p2), (3, va_rf p3)] := by simp only [lv_args, va_rf_cat] at hl; exact hl
  have hx := X.1
  have hb := X.2.1
  have hown := X.2.2.2.1
  have hts := X.2.2.2.2.1
  have hK := X.2.2.2.2.2.1
  have hl0 := X.2.2.2.2.2.2.2.2
  unfold af_X10_init at hE
  refine lv_aload_n hx hb dX10_init_0 rfl (lv_at hl 0 rfl) ?_
  replace hE := e_cb hE
  obtain ⟨st_1, u_2, g, hE⟩ := hE
  have M9 := (mo_v fun _ => (mo_s (fun _ => le_pF) fun _ => (mo_s (fun _ => le_pF) fun _ => (mo_s (fun _ => le_pF) fun _ => mo_ret)))) _ hE
  refine a_callI (n := 0) (σ1 := st_1) (σf := q.1) [] X Y (maf_J15_init hl0 n g) ⟨oaf_J15_init _ g, M9, h1, h2, (by show _ ≤ 2; decide), (by show _ ≤ 40; decide)⟩ q995 q912 q143 q913 rfl (by decide +kernel) rfl hl.1 (Nat.le_of_ble_eq_true rfl) dX10_init_1 (fun v hv H locs kc ks Y => ?_) (fun k hk => by cases hk)
  cases hv
  refine lv_aload_n hx hb dX10_init_4 rfl (lv_at hl 0 rfl) ?_
  refine lv_iload_n hx hb dX10_init_5 rfl (lv_at hl 1 rfl) ?_
  replace hE := e_bind hE
  obtain ⟨v_3, g, hE⟩ := hE
  obtain ⟨g1, g2, g3⟩ := i_cz g
  refine n_eqi g1 ?_
  replace hE := e_bind hE
  obtain ⟨st_4, g, hE⟩ := hE
  refine a_putFV X Y k_X10 0 g (by decide) rfl hnm rfl g2 g3 q996 dX10_init_6 (fun H locs Y => ?_)
  refine lv_aload_n hx hb dX10_init_9 rfl (lv_at hl 0 rfl) ?_
  refine r_aload_n hx hb dX10_init_10 rfl (lv_at hl 2 rfl) ?_
  replace hE := e_bind hE
  obtain ⟨st_5, g, hE⟩ := hE
  refine a_putFV X Y k_X10 1 g (by decide) rfl hnm rfl (nr_o p2) (fr_o p2) q997 dX10_init_11 (fun H locs Y => ?_)
  refine lv_aload_n hx hb dX10_init_14 rfl (lv_at hl 0 rfl) ?_
  refine r_aload_n hx hb dX10_init_15 rfl (lv_at hl 3 rfl) ?_
  replace hE := e_bind hE
  obtain ⟨st_6, g, hE⟩ := hE
  refine a_putFV X Y k_X10 2 g (by decide) rfl hnm rfl (nr_o p3) (fr_o p3) q998 dX10_init_16 (fun H locs Y => ?_)
  cases hE
  exact a_vret X Y h1 h2 hr dX10_init_19
/-! BasicMachine$Parser.power()LBasicMachine$Expression; -/
set_option maxHeartbeats 4000000 in
set_option maxRecDepth 100000 in
theorem waf_X3_power_S5_ {l : Launch} {x : aP} {As : List Value} {σ0 : aS} {p : Program} {e : Env} {s : State} {m : MethodId} {below : List Frame} {meth : Method} {c : Code} {mc ms : Nat} (X : aX "BasicMachine$Parser" p l s m As.toArray meth c cX3_power 2 x σ0) (hex : ∀ z ∈ c.exceptionTable.toList, False) (hr : meth.sig.returnType = (some (.object "BasicMachine$Expression"))) (hnm : "power" = meth.name) {rx : aS → Nat → Option (aS × (Option Nat ⊕ Nat))} {fx lx : Nat} (hrv : hRX l x rx fx lx) {n : Nat} {q : aS × ((Option Nat) ⊕ Nat)} : ∀ k : Nat, (∀ {st : aS} {a0 : Nat} {x1 : Option Nat}, af_X3_power_S5 n x.sK rx k st a0 x1 = some q → (mc + σ0.1 = q.1.1) → (ms + σ0.2.1 = q.1.2.1) → ∀ {H : Heap} {locs : List Loc} {ls : Array Slot} {kc ks : Nat}, aY x σ0 s st H locs kc ks → lv_has ls 2 [(0, .ref a0), (1, va_rf x1)] → aG l (fx + 4) (lx + 89) mc ms x As σ0 (oR q.2) q.1 p e s m below meth c H locs kc ks (F0 m 5 ls [])) := by
  have hx := X.1
  have hb := X.2.1
  have hown := X.2.2.2.1
  have hts := X.2.2.2.2.1
  have hK := X.2.2.2.2.2.1
  have hl0 := X.2.2.2.2.2.2.2.2
  obtain ⟨hfx, hlx, mrv, -⟩ := id hrv
  intro k
  induction k with
  | zero => exact fun h => nomatch (show none = some q from h)
  | succ k ih =>
    have mrec := @oaf_X3_power_S5_ rx (@mrv) n x.sK k
    intro st a0 x1 hE h1 h2 H locs ls kc ks Y hl
    replace hE : af_X3_power_B5 n x.sK rx (af_X3_power_S5 n x.sK rx k) st a0 x1 = some q := hE
    unfold af_X3_power_B5 at hE
    refine lv_aload_n hx hb dX3_power_5 rfl (lv_at hl 0 rfl) ?_
    refine lv_bipush (v := 94) hx hb dX3_power_6 (by decide) ?_
    replace hE := e_bind hE
    obtain ⟨u_3, g, hE⟩ := hE
    obtain ⟨fs9, g9⟩ := i_gC g
    have g7 := a_recv X Y k_X3.1 g9
    replace hE := e_cb hE
    obtain ⟨st_1, v_2, g, hE⟩ := hE
    have M9 := (mo_if mo_ret (mo_s (fun _ => le_nO) fun _ => (mo_v fun _ => (mo_x (oaf_X3_part mrv) fun _ _ => (mo_cb oaf_X10_init fun _ _ => (mrec)))))) _ hE
    refine a_callV (n := 1) (C := "BasicMachine$Parser") (σ1 := st_1) (σf := q.1) [.int (94 : Int32)] X Y (maf_X3_takes hl0 n g) ⟨oaf_X3_takes _ g, M9, h1, h2, (by show _ ≤ fx + 4; omega), (by show _ ≤ lx + 89; omega)⟩ q883 q885 qs14 q129 q886 (by decide +kernel) g7 rfl hl.1 (Nat.le_of_ble_eq_true rfl) dX3_power_8 (fun v hv H locs kc ks Y => ?_) (fun k hk => by cases hk)
    cases hv
    refine lv_if_eq (tgt := 32) hx hb dX3_power_11 (by decide) (fun c_4 => ?_) (fun c_4 => ?_)
    · replace hE := e_t c_4 hE
      refine r_aload_n hx hb dX3_power_32 rfl (lv_at hl 1 rfl) ?_
      cases hE
      exact a_aret (r := x1) X Y h1 h2 hr (Or.inl ⟨_, rfl⟩) dX3_power_33
    · replace hE := e_f c_4 hE
      replace hE := e_bind hE
      obtain ⟨st_5, g, hE⟩ := hE
      have M9 := (mo_v fun _ => (mo_x (oaf_X3_part mrv) fun _ _ => (mo_cb oaf_X10_init fun _ _ => (mrec)))) _ hE
      refine a_new X Y k_X10 g b_X10 q990 q991 q149 (aRoom1 Y h1 (le_nO1 g) M9) (aRoom2 Y h2 (le_nO2 g) M9) dX3_power_14 (fun H Y => ?_)
      generalize kc + 1 = kc at Y ⊢
      generalize ks + 3 = ks at Y ⊢
      refine lv_dup hx hb dX3_power_17 rfl ?_
      refine lv_bipush (v := 94) hx hb dX3_power_18 (by decide) ?_
      refine r_aload_n hx hb dX3_power_20 rfl (lv_at hl 1 rfl) ?_
      refine lv_aload_n hx hb dX3_power_21 rfl (lv_at hl 0 rfl) ?_
      replace hE := e_bind hE
      obtain ⟨u_8, g, hE⟩ := hE
      obtain ⟨fs9, g9⟩ := i_gC g
      have g7 := a_recv X Y k_X3.1 g9
      replace hE := e_xb hE
      rcases hE with ⟨st_6, r_7, g, hE⟩ | ⟨st_6, k9, g, hE⟩
      rotate_left
      · subst hE
        refine a_callV (n := 0) (C := "BasicMachine$Parser") (σ1 := st_6) (σf := st_6) [] X Y (maf_X3_part hl0 n hrv g) ⟨(oaf_X3_part mrv) _ g, aLe.rf _, h1, h2, (by show _ ≤ fx + 4; omega), (by show _ ≤ lx + 89; omega)⟩ q895 q897 qs17 q129 q898 (by decide +kernel) g7 rfl hl.1 (by simp only [List.map_cons, List.map_nil, va_rf_cat]; exact Nat.le_of_ble_eq_true rfl) dX3_power_22 (fun v hv => by cases hv) (fun k hk H locs kc ks q9 ce Y e1 e2 e3 => ?_)
        cases hk
        exact a_out X Y h1 h2 (fun z hz => (hex z hz).elim) e1 e2 e3
      have M9 := (mo_cb oaf_X10_init fun _ _ => (mrec)) _ hE
      refine a_callV (n := 0) (C := "BasicMachine$Parser") (σ1 := st_6) (σf := q.1) [] X Y (maf_X3_part hl0 n hrv g) ⟨(oaf_X3_part mrv) _ g, M9, h1, h2, (by show _ ≤ fx + 4; omega), (by show _ ≤ lx + 89; omega)⟩ q895 q897 qs17 q129 q898 (by decide +kernel) g7 rfl hl.1 (by simp only [List.map_cons, List.map_nil, va_rf_cat]; exact Nat.le_of_ble_eq_true rfl) dX3_power_22 (fun v hv H locs kc ks Y => ?_) (fun k hk => by cases hk)
      cases hv
      replace hE := e_cb hE
      obtain ⟨st_9, u_10, g, hE⟩ := hE
      have M9 := (mrec) _ hE
      refine a_callIN (host := "BasicMachine") (n := 3) (σ1 := st_9) (σf := q.1) [.int (94 : Int32), va_rf x1, va_rf r_7] X Y (maf_X10_init hl0 n g) ⟨oaf_X10_init _ g, M9, h1, h2, (by show _ ≤ fx + 4; omega), (by show _ ≤ lx + 89; omega)⟩ (by decide) q993 q149 q994 rfl (by decide +kernel) rfl hl.1 (Nat.le_of_ble_eq_true rfl) dX3_power_25 (fun v hv H locs kc ks Y => ?_) (fun k hk => by cases hk)
      cases hv
      refine lv_astore_n (i := 1) (lv' := [(1, .ref st_1.1), (0, .ref a0)]) hx hb dX3_power_28 rfl hl (by decide) rfl (fun ls hl => ?_)
      refine lv_goto (tgt := 5) hx hb dX3_power_29 (by decide) ?_
      exact ih hE h1 h2 Y (lv_sub hl [1, 0] rfl)
set_option maxHeartbeats 4000000 in
set_option maxRecDepth 100000 in
theorem waf_X3_power_S5 {l : Launch} {x : aP} {As : List Value} {σ0 : aS} {p : Program} {e : Env} {s : State} {m : MethodId} {below : List Frame} {meth : Method} {c : Code} {mc ms : Nat} (X : aX "BasicMachine$Parser" p l s m As.toArray meth c cX3_power 2 x σ0) (hex : ∀ z ∈ c.exceptionTable.toList, False) (hr : meth.sig.returnType = (some (.object "BasicMachine$Expression"))) (hnm : "power" = meth.name) {rx : aS → Nat → Option (aS × (Option Nat ⊕ Nat))} {fx lx : Nat} (hrv : hRX l x rx fx lx) {n : Nat} {q : aS × ((Option Nat) ⊕ Nat)} : (∀ {st : aS} {a0 : Nat} {x1 : Option Nat}, af_X3_power_S5 n x.sK rx n st a0 x1 = some q → (mc + σ0.1 = q.1.1) → (ms + σ0.2.1 = q.1.2.1) → ∀ {H : Heap} {locs : List Loc} {ls : Array Slot} {kc ks : Nat}, aY x σ0 s st H locs kc ks → lv_has ls 2 [(0, .ref a0), (1, va_rf x1)] → aG l (fx + 4) (lx + 89) mc ms x As σ0 (oR q.2) q.1 p e s m below meth c H locs kc ks (F0 m 5 ls [])) := waf_X3_power_S5_ X hex hr hnm hrv n
set_option maxHeartbeats 4000000 in
set_option maxRecDepth 100000 in
theorem maf_X3_power {l : Launch} (hl0 : l.stackTraces = false) (n : Nat) {x : aP} {rx : aS → Nat → Option (aS × (Option Nat ⊕ Nat))} {fx lx : Nat} (hrv : hRX l x rx fx lx) {st : aS} {a0 : Nat} {q : aS × ((Option Nat) ⊕ Nat)} (hE : af_X3_power n x.sK rx st a0 = some q) : aMet l yX3_power (ws_ yX3_power cX3_power 2 (some (.object "BasicMachine$Expression"))) (fx + 4) (lx + 89) x [.ref a0] st (oR q.2) q.1 := by
  refine a_ofW (own := "BasicMachine$Parser") hl0 (by decide) rfl (Nat.le_of_ble_eq_true rfl) (fun mc ms p e s m below meth c ls H locs kc ks h1 h2 X hex Y hr hnm hl => ?_)
  have hnm : "power" = meth.name := hnm
  have hl : lv_has ls 2 [(0, .ref a0)] := hl
  have hx := X.1
  have hb := X.2.1
  have hown := X.2.2.2.1
  have hts := X.2.2.2.2.1
  have hK := X.2.2.2.2.2.1
  have hl0 := X.2.2.2.2.2.2.2.2
  obtain ⟨hfx, hlx, mrv, -⟩ := id hrv
  unfold af_X3_power at hE
  refine lv_aload_n hx hb dX3_power_0 rfl (lv_at hl 0 rfl) ?_
  replace hE := e_bind hE
  obtain ⟨u_3, g, hE⟩ := hE
  obtain ⟨fs9, g9⟩ := i_gC g
  have g7 := a_recv X Y k_X3.1 g9
  replace hE := e_xb hE
  rcases hE with ⟨st_1, r_2, g, hE⟩ | ⟨st_1, k9, g, hE⟩
  rotate_left
  · subst hE
    refine a_callV (n := 0) (C := "BasicMachine$Parser") (σ1 := st_1) (σf := st_1) [] X Y (maf_X3_part hl0 n hrv g) ⟨(oaf_X3_part mrv) _ g, aLe.rf _, h1, h2, (by show _ ≤ fx + 4; omega), (by show _ ≤ lx + 89; omega)⟩ q895 q897 qs17 q129 q898 (by decide +kernel) g7 rfl hl.1 (Nat.le_of_ble_eq_true rfl) dX3_power_1 (fun v hv => by cases hv) (fun k hk H locs kc ks q9 ce Y e1 e2 e3 => ?_)
    cases hk
    exact a_out X Y h1 h2 (fun z hz => (hex z hz).elim) e1 e2 e3
  have M9 := ((oaf_X3_power_S5 mrv)) _ hE
  refine a_callV (n := 0) (C := "BasicMachine$Parser") (σ1 := st_1) (σf := q.1) [] X Y (maf_X3_part hl0 n hrv g) ⟨(oaf_X3_part mrv) _ g, M9, h1, h2, (by show _ ≤ fx + 4; omega), (by show _ ≤ lx + 89; omega)⟩ q895 q897 qs17 q129 q898 (by decide +kernel) g7 rfl hl.1 (Nat.le_of_ble_eq_true rfl) dX3_power_1 (fun v hv H locs kc ks Y => ?_) (fun k hk => by cases hk)
  cases hv
  refine r_astore_n (i := 1) (lv' := [(1, va_rf r_2), (0, .ref a0)]) hx hb dX3_power_4 rfl hl (by decide) rfl (fun ls hl => ?_)
  exact (waf_X3_power_S5 X hex hr hnm hrv) hE h1 h2 Y (lv_sub hl [1, 0] rfl)
/-! BasicMachine$Parser.term()LBasicMachine$Expression; -/
set_option maxHeartbeats 4000000 in
set_option maxRecDepth 100000 in
theorem waf_X3_term_S5_ {l : Launch} {x : aP} {As : List Value} {σ0 : aS} {p : Program} {e : Env} {s : State} {m : MethodId} {below : List Frame} {meth : Method} {c : Code} {mc ms : Nat} (X : aX "BasicMachine$Parser" p l s m As.toArray meth c cX3_term 3 x σ0) (hex : ∀ z ∈ c.exceptionTable.toList, False) (hr : meth.sig.returnType = (some (.object "BasicMachine$Expression"))) (hnm : "term" = meth.name) {rx : aS → Nat → Option (aS × (Option Nat ⊕ Nat))} {fx lx : Nat} (hrv : hRX l x rx fx lx) {n : Nat} {q : aS × ((Option Nat) ⊕ Nat)} : ∀ k : Nat, (∀ {st : aS} {a0 : Nat} {x1 : Option Nat}, af_X3_term_S5 n x.sK rx k 0 st a0 x1 = some q → (mc + σ0.1 = q.1.1) → (ms + σ0.2.1 = q.1.2.1) → ∀ {H : Heap} {locs : List Loc} {ls : Array Slot} {kc ks : Nat}, aY x σ0 s st H locs kc ks → lv_has ls 3 [(0, .ref a0), (1, va_rf x1)] → aG l (fx + 5) (lx + 110) mc ms x As σ0 (oR q.2) q.1 p e s m below meth c H locs kc ks (F0 m 5 ls [])) ∧ (∀ {st : aS} {a0 : Nat} {x1 : Option Nat}, af_X3_term_S5 n x.sK rx k 1 st a0 x1 = some q → (mc + σ0.1 = q.1.1) → (ms + σ0.2.1 = q.1.2.1) → ∀ {H : Heap} {locs : List Loc} {ls : Array Slot} {kc ks : Nat}, aY x σ0 s st H locs kc ks → lv_has ls 3 [(0, .ref a0), (1, va_rf x1)] → aG l (fx + 5) (lx + 110) mc ms x As σ0 (oR q.2) q.1 p e s m below meth c H locs kc ks (F0 m 23 ls [])) := by
  have hx := X.1
  have hb := X.2.1
  have hown := X.2.2.2.1
  have hts := X.2.2.2.2.1
  have hK := X.2.2.2.2.2.1
  have hl0 := X.2.2.2.2.2.2.2.2
  obtain ⟨hfx, hlx, mrv, -⟩ := id hrv
  intro k
  induction k with
  | zero => exact ⟨(fun h => nomatch (show none = some q from h)), (fun h => nomatch (show none = some q from h))⟩
  | succ k ih =>
    obtain ⟨ih0, ih1⟩ := ih
    have mrec := @oaf_X3_term_S5_ rx (@mrv) n x.sK k
    obtain ⟨mrec0, mrec1⟩ := mrec
    refine ⟨?_, ?_⟩
    · intro st a0 x1 hE h1 h2 H locs ls kc ks Y hl
      replace hE : af_X3_term_B5 n x.sK rx (af_X3_term_S5 n x.sK rx k) st a0 x1 = some q := hE
      unfold af_X3_term_B5 at hE
      refine lv_aload_n hx hb dX3_term_5 rfl (lv_at hl 0 rfl) ?_
      replace hE := e_bind hE
      obtain ⟨u_3, g, hE⟩ := hE
      obtain ⟨fs9, g9⟩ := i_gC g
      have g7 := a_recv X Y k_X3.1 g9
      replace hE := e_cb hE
      obtain ⟨st_1, v_2, g, hE⟩ := hE
      have M9 := (mo_if (mrec1) (mo_v fun _ => (mo_cb oaf_X3_here fun _ _ => (mo_if (mrec1) mo_ret)))) _ hE
      refine a_callV (n := 0) (C := "BasicMachine$Parser") (σ1 := st_1) (σf := q.1) [] X Y (maf_X3_here hl0 n g) ⟨oaf_X3_here _ g, M9, h1, h2, (by show _ ≤ fx + 5; omega), (by show _ ≤ lx + 110; omega)⟩ q469 q471 qs4 q129 q472 (by decide +kernel) g7 rfl hl.1 (Nat.le_of_ble_eq_true rfl) dX3_term_6 (fun v hv H locs kc ks Y => ?_) (fun k hk => by cases hk)
      cases hv
      refine lv_bipush (v := 42) hx hb dX3_term_9 (by decide) ?_
      refine lv_icmp_eq (tgt := 23) hx hb dX3_term_11 (by decide) (fun c_4 => ?_) (fun c_4 => ?_)
      · replace hE := e_t c_4 hE
        exact ih1 hE h1 h2 Y (lv_sub hl [0, 1] rfl)
      · replace hE := e_f c_4 hE
        refine lv_aload_n hx hb dX3_term_14 rfl (lv_at hl 0 rfl) ?_
        replace hE := e_bind hE
        obtain ⟨u_7, g, hE⟩ := hE
        obtain ⟨fs9, g9⟩ := i_gC g
        have g7 := a_recv X Y k_X3.1 g9
        replace hE := e_cb hE
        obtain ⟨st_5, v_6, g, hE⟩ := hE
        have M9 := (mo_if (mrec1) mo_ret) _ hE
        refine a_callV (n := 0) (C := "BasicMachine$Parser") (σ1 := st_5) (σf := q.1) [] X Y (maf_X3_here hl0 n g) ⟨oaf_X3_here _ g, M9, h1, h2, (by show _ ≤ fx + 5; omega), (by show _ ≤ lx + 110; omega)⟩ q469 q471 qs4 q129 q472 (by decide +kernel) g7 rfl hl.1 (Nat.le_of_ble_eq_true rfl) dX3_term_15 (fun v hv H locs kc ks Y => ?_) (fun k hk => by cases hk)
        cases hv
        refine lv_bipush (v := 47) hx hb dX3_term_18 (by decide) ?_
        refine lv_icmp_ne (tgt := 55) hx hb dX3_term_20 (by decide) (fun c_8 => ?_) (fun c_8 => ?_)
        · replace hE := e_f c_8 hE
          refine r_aload_n hx hb dX3_term_55 rfl (lv_at hl 1 rfl) ?_
          cases hE
          exact a_aret (r := x1) X Y h1 h2 hr (Or.inl ⟨_, rfl⟩) dX3_term_56
        · replace hE := e_t c_8 hE
          exact ih1 hE h1 h2 Y (lv_sub hl [0, 1] rfl)
    · intro st a0 x1 hE h1 h2 H locs ls kc ks Y hl
      replace hE : af_X3_term_B23 n x.sK rx (af_X3_term_S5 n x.sK rx k) st a0 x1 = some q := hE
      unfold af_X3_term_B23 at hE
      refine lv_aload_n hx hb dX3_term_23 rfl (lv_at hl 0 rfl) ?_
      replace hE := e_bind hE
      obtain ⟨u_3, g, hE⟩ := hE
      obtain ⟨fs9, g9⟩ := i_gC g
      have g7 := a_recv X Y k_X3.1 g9
      replace hE := e_cb hE
      obtain ⟨st_1, v_2, g, hE⟩ := hE
      have M9 := (mo_v fun _ => (mo_s (fun _ => le_pF) fun _ => (mo_s (fun _ => le_nO) fun _ => (mo_v fun _ => (mo_x (oaf_X3_power mrv) fun _ _ => (mo_cb oaf_X10_init fun _ _ => (mrec0))))))) _ hE
      refine a_callV (n := 0) (C := "BasicMachine$Parser") (σ1 := st_1) (σf := q.1) [] X Y (maf_X3_here hl0 n g) ⟨oaf_X3_here _ g, M9, h1, h2, (by show _ ≤ fx + 5; omega), (by show _ ≤ lx + 110; omega)⟩ q469 q471 qs4 q129 q472 (by decide +kernel) g7 rfl hl.1 (Nat.le_of_ble_eq_true rfl) dX3_term_24 (fun v hv H locs kc ks Y => ?_) (fun k hk => by cases hk)
      cases hv
      refine lv_istore_n (i := 2) (lv' := [(2, .int v_2), (0, .ref a0), (1, va_rf x1)]) hx hb dX3_term_27 rfl hl (by decide) (by cases x1 <;> rfl) (fun ls hl => ?_)
      refine lv_aload_n hx hb dX3_term_28 rfl (lv_at hl 1 rfl) ?_
      refine lv_dup hx hb dX3_term_29 rfl ?_
      replace hE := e_bind hE
      obtain ⟨v_4, g, hE⟩ := hE
      refine n_gI X Y k_X3 2 g (by decide) q442 dX3_term_30 ?_
      refine lv_iconst (v := 1) hx hb dX3_term_33 (by decide) ?_
      refine lv_iadd hx hb dX3_term_34 ?_
      replace hE := e_bind hE
      obtain ⟨st_5, g, hE⟩ := hE
      refine a_putV X Y k_X3 2 g (by decide) rfl rfl rfl q442 dX3_term_35 (fun H locs Y => ?_)
      replace hE := e_bind hE
      obtain ⟨st_6, g, hE⟩ := hE
      have M9 := (mo_v fun _ => (mo_x (oaf_X3_power mrv) fun _ _ => (mo_cb oaf_X10_init fun _ _ => (mrec0)))) _ hE
      refine a_new X Y k_X10 g b_X10 q990 q991 q149 (aRoom1 Y h1 (le_nO1 g) M9) (aRoom2 Y h2 (le_nO2 g) M9) dX3_term_38 (fun H Y => ?_)
      generalize kc + 1 = kc at Y ⊢
      generalize ks + 3 = ks at Y ⊢
      refine lv_dup hx hb dX3_term_41 rfl ?_
      refine lv_iload_n hx hb dX3_term_42 rfl (lv_at hl 0 rfl) ?_
      refine r_aload_n hx hb dX3_term_43 rfl (lv_at hl 2 rfl) ?_
      refine lv_aload_n hx hb dX3_term_44 rfl (lv_at hl 1 rfl) ?_
      replace hE := e_bind hE
      obtain ⟨u_9, g, hE⟩ := hE
      obtain ⟨fs9, g9⟩ := i_gC g
      have g7 := a_recv X Y k_X3.1 g9
      replace hE := e_xb hE
      rcases hE with ⟨st_7, r_8, g, hE⟩ | ⟨st_7, k9, g, hE⟩
      rotate_left
      · subst hE
        refine a_callV (n := 0) (C := "BasicMachine$Parser") (σ1 := st_7) (σf := st_7) [] X Y (maf_X3_power hl0 n hrv g) ⟨(oaf_X3_power mrv) _ g, aLe.rf _, h1, h2, (by show _ ≤ fx + 5; omega), (by show _ ≤ lx + 110; omega)⟩ q891 q893 qs16 q129 q894 (by decide +kernel) g7 rfl hl.1 (by simp only [List.map_cons, List.map_nil, va_rf_cat]; exact Nat.le_of_ble_eq_true rfl) dX3_term_45 (fun v hv => by cases hv) (fun k hk H locs kc ks q9 ce Y e1 e2 e3 => ?_)
        cases hk
        exact a_out X Y h1 h2 (fun z hz => (hex z hz).elim) e1 e2 e3
      have M9 := (mo_cb oaf_X10_init fun _ _ => (mrec0)) _ hE
      refine a_callV (n := 0) (C := "BasicMachine$Parser") (σ1 := st_7) (σf := q.1) [] X Y (maf_X3_power hl0 n hrv g) ⟨(oaf_X3_power mrv) _ g, M9, h1, h2, (by show _ ≤ fx + 5; omega), (by show _ ≤ lx + 110; omega)⟩ q891 q893 qs16 q129 q894 (by decide +kernel) g7 rfl hl.1 (by simp only [List.map_cons, List.map_nil, va_rf_cat]; exact Nat.le_of_ble_eq_true rfl) dX3_term_45 (fun v hv H locs kc ks Y => ?_) (fun k hk => by cases hk)
      cases hv
      replace hE := e_cb hE
      obtain ⟨st_10, u_11, g, hE⟩ := hE
      have M9 := (mrec0) _ hE
      refine a_callIN (host := "BasicMachine") (n := 3) (σ1 := st_10) (σf := q.1) [.int v_2, va_rf x1, va_rf r_8] X Y (maf_X10_init hl0 n g) ⟨oaf_X10_init _ g, M9, h1, h2, (by show _ ≤ fx + 5; omega), (by show _ ≤ lx + 110; omega)⟩ (by decide) q993 q149 q994 rfl (by decide +kernel) rfl hl.1 (Nat.le_of_ble_eq_true rfl) dX3_term_48 (fun v hv H locs kc ks Y => ?_) (fun k hk => by cases hk)
      cases hv
      refine lv_astore_n (i := 1) (lv' := [(1, .ref st_5.1), (2, .int v_2), (0, .ref a0)]) hx hb dX3_term_51 rfl hl (by decide) rfl (fun ls hl => ?_)
      refine lv_goto (tgt := 5) hx hb dX3_term_52 (by decide) ?_
      exact ih0 hE h1 h2 Y (lv_sub hl [2, 0] rfl)
set_option maxHeartbeats 4000000 in
set_option maxRecDepth 100000 in
theorem waf_X3_term_S5 {l : Launch} {x : aP} {As : List Value} {σ0 : aS} {p : Program} {e : Env} {s : State} {m : MethodId} {below : List Frame} {meth : Method} {c : Code} {mc ms : Nat} (X : aX "BasicMachine$Parser" p l s m As.toArray meth c cX3_term 3 x σ0) (hex : ∀ z ∈ c.exceptionTable.toList, False) (hr : meth.sig.returnType = (some (.object "BasicMachine$Expression"))) (hnm : "term" = meth.name) {rx : aS → Nat → Option (aS × (Option Nat ⊕ Nat))} {fx lx : Nat} (hrv : hRX l x rx fx lx) {n : Nat} {q : aS × ((Option Nat) ⊕ Nat)} : (∀ {st : aS} {a0 : Nat} {x1 : Option Nat}, af_X3_term_S5 n x.sK rx n 0 st a0 x1 = some q → (mc + σ0.1 = q.1.1) → (ms + σ0.2.1 = q.1.2.1) → ∀ {H : Heap} {locs : List Loc} {ls : Array Slot} {kc ks : Nat}, aY x σ0 s st H locs kc ks → lv_has ls 3 [(0, .ref a0), (1, va_rf x1)] → aG l (fx + 5) (lx + 110) mc ms x As σ0 (oR q.2) q.1 p e s m below meth c H locs kc ks (F0 m 5 ls [])) ∧ (∀ {st : aS} {a0 : Nat} {x1 : Option Nat}, af_X3_term_S5 n x.sK rx n 1 st a0 x1 = some q → (mc + σ0.1 = q.1.1) → (ms + σ0.2.1 = q.1.2.1) → ∀ {H : Heap} {locs : List Loc} {ls : Array Slot} {kc ks : Nat}, aY x σ0 s st H locs kc ks → lv_has ls 3 [(0, .ref a0), (1, va_rf x1)] → aG l (fx + 5) (lx + 110) mc ms x As σ0 (oR q.2) q.1 p e s m below meth c H locs kc ks (F0 m 23 ls [])) := waf_X3_term_S5_ X hex hr hnm hrv n
set_option maxHeartbeats 4000000 in
set_option maxRecDepth 100000 in
theorem maf_X3_term {l : Launch} (hl0 : l.stackTraces = false) (n : Nat) {x : aP} {rx : aS → Nat → Option (aS × (Option Nat ⊕ Nat))} {fx lx : Nat} (hrv : hRX l x rx fx lx) {st : aS} {a0 : Nat} {q : aS × ((Option Nat) ⊕ Nat)} (hE : af_X3_term n x.sK rx st a0 = some q) : aMet l yX3_term (ws_ yX3_term cX3_term 3 (some (.object "BasicMachine$Expression"))) (fx + 5) (lx + 110) x [.ref a0] st (oR q.2) q.1 := by
  refine a_ofW (own := "BasicMachine$Parser") hl0 (by decide) rfl (Nat.le_of_ble_eq_true rfl) (fun mc ms p e s m below meth c ls H locs kc ks h1 h2 X hex Y hr hnm hl => ?_)
  have hnm : "term" = meth.name := hnm
  have hl : lv_has ls 3 [(0, .ref a0)] := hl
  have hx := X.1
  have hb := X.2.1
  have hown := X.2.2.2.1
  have hts := X.2.2.2.2.1
  have hK := X.2.2.2.2.2.1
  have hl0 := X.2.2.2.2.2.2.2.2
  obtain ⟨hfx, hlx, mrv, -⟩ := id hrv
  unfold af_X3_term at hE
  refine lv_aload_n hx hb dX3_term_0 rfl (lv_at hl 0 rfl) ?_
  replace hE := e_bind hE
  obtain ⟨u_3, g, hE⟩ := hE
  obtain ⟨fs9, g9⟩ := i_gC g
  have g7 := a_recv X Y k_X3.1 g9
  replace hE := e_xb hE
  rcases hE with ⟨st_1, r_2, g, hE⟩ | ⟨st_1, k9, g, hE⟩
  rotate_left
  · subst hE
    refine a_callV (n := 0) (C := "BasicMachine$Parser") (σ1 := st_1) (σf := st_1) [] X Y (maf_X3_power hl0 n hrv g) ⟨(oaf_X3_power mrv) _ g, aLe.rf _, h1, h2, (by show _ ≤ fx + 5; omega), (by show _ ≤ lx + 110; omega)⟩ q891 q893 qs16 q129 q894 (by decide +kernel) g7 rfl hl.1 (Nat.le_of_ble_eq_true rfl) dX3_term_1 (fun v hv => by cases hv) (fun k hk H locs kc ks q9 ce Y e1 e2 e3 => ?_)
    cases hk
    exact a_out X Y h1 h2 (fun z hz => (hex z hz).elim) e1 e2 e3
  have M9 := ((oaf_X3_term_S5 mrv).1) _ hE
  refine a_callV (n := 0) (C := "BasicMachine$Parser") (σ1 := st_1) (σf := q.1) [] X Y (maf_X3_power hl0 n hrv g) ⟨(oaf_X3_power mrv) _ g, M9, h1, h2, (by show _ ≤ fx + 5; omega), (by show _ ≤ lx + 110; omega)⟩ q891 q893 qs16 q129 q894 (by decide +kernel) g7 rfl hl.1 (Nat.le_of_ble_eq_true rfl) dX3_term_1 (fun v hv H locs kc ks Y => ?_) (fun k hk => by cases hk)
  cases hv
  refine r_astore_n (i := 1) (lv' := [(1, va_rf r_2), (0, .ref a0)]) hx hb dX3_term_4 rfl hl (by decide) rfl (fun ls hl => ?_)
  exact (waf_X3_term_S5 X hex hr hnm hrv).1 hE h1 h2 Y (lv_sub hl [1, 0] rfl)
/-! BasicMachine$Parser.expression()LBasicMachine$Expression; -/
set_option maxHeartbeats 4000000 in
set_option maxRecDepth 100000 in
theorem waf_X3_expression_S27_ {l : Launch} {x : aP} {As : List Value} {σ0 : aS} {p : Program} {e : Env} {s : State} {m : MethodId} {below : List Frame} {meth : Method} {c : Code} {mc ms : Nat} (X : aX "BasicMachine$Parser" p l s m As.toArray meth c cX3_expression 4 x σ0) (hex : ∀ z ∈ c.exceptionTable.toList, False) (hr : meth.sig.returnType = (some (.object "BasicMachine$Expression"))) (hnm : "expression" = meth.name) {rx : aS → Nat → Option (aS × (Option Nat ⊕ Nat))} {fx lx : Nat} (hrv : hRX l x rx fx lx) {n : Nat} {q : aS × ((Option Nat) ⊕ Nat)} : ∀ k : Nat, (∀ {st : aS} {a0 : Nat} {x2 : Option Nat}, af_X3_expression_S27 n x.sK rx k 0 st a0 x2 = some q → (mc + σ0.1 = q.1.1) → (ms + σ0.2.1 = q.1.2.1) → ∀ {H : Heap} {locs : List Loc} {ls : Array Slot} {kc ks : Nat}, aY x σ0 s st H locs kc ks → lv_has ls 4 [(0, .ref a0), (2, va_rf x2)] → aG l (fx + 6) (lx + 132) mc ms x As σ0 (oR q.2) q.1 p e s m below meth c H locs kc ks (F0 m 27 ls [])) ∧ (∀ {st : aS} {a0 : Nat} {x2 : Option Nat}, af_X3_expression_S27 n x.sK rx k 1 st a0 x2 = some q → (mc + σ0.1 = q.1.1) → (ms + σ0.2.1 = q.1.2.1) → ∀ {H : Heap} {locs : List Loc} {ls : Array Slot} {kc ks : Nat}, aY x σ0 s st H locs kc ks → lv_has ls 4 [(0, .ref a0), (2, va_rf x2)] → aG l (fx + 6) (lx + 132) mc ms x As σ0 (oR q.2) q.1 p e s m below meth c H locs kc ks (F0 m 45 ls [])) := by
  have hx := X.1
  have hb := X.2.1
  have hown := X.2.2.2.1
  have hts := X.2.2.2.2.1
  have hK := X.2.2.2.2.2.1
  have hl0 := X.2.2.2.2.2.2.2.2
  obtain ⟨hfx, hlx, mrv, -⟩ := id hrv
  intro k
  induction k with
  | zero => exact ⟨(fun h => nomatch (show none = some q from h)), (fun h => nomatch (show none = some q from h))⟩
  | succ k ih =>
    obtain ⟨ih0, ih1⟩ := ih
    have mrec := @oaf_X3_expression_S27_ rx (@mrv) n x.sK k
    obtain ⟨mrec0, mrec1⟩ := mrec
    refine ⟨?_, ?_⟩
    · intro st a0 x2 hE h1 h2 H locs ls kc ks Y hl
      replace hE : af_X3_expression_B27 n x.sK rx (af_X3_expression_S27 n x.sK rx k) st a0 x2 = some q := hE
      unfold af_X3_expression_B27 at hE
      refine lv_aload_n hx hb dX3_expression_27 rfl (lv_at hl 0 rfl) ?_
      replace hE := e_bind hE
      obtain ⟨u_3, g, hE⟩ := hE
      obtain ⟨fs9, g9⟩ := i_gC g
      have g7 := a_recv X Y k_X3.1 g9
      replace hE := e_cb hE
      obtain ⟨st_1, v_2, g, hE⟩ := hE
      have M9 := (mo_if (mrec1) (mo_v fun _ => (mo_cb oaf_X3_here fun _ _ => (mo_if (mrec1) mo_ret)))) _ hE
      refine a_callV (n := 0) (C := "BasicMachine$Parser") (σ1 := st_1) (σf := q.1) [] X Y (maf_X3_here hl0 n g) ⟨oaf_X3_here _ g, M9, h1, h2, (by show _ ≤ fx + 6; omega), (by show _ ≤ lx + 132; omega)⟩ q469 q471 qs4 q129 q472 (by decide +kernel) g7 rfl hl.1 (Nat.le_of_ble_eq_true rfl) dX3_expression_28 (fun v hv H locs kc ks Y => ?_) (fun k hk => by cases hk)
      cases hv
      refine lv_bipush (v := 43) hx hb dX3_expression_31 (by decide) ?_
      refine lv_icmp_eq (tgt := 45) hx hb dX3_expression_33 (by decide) (fun c_4 => ?_) (fun c_4 => ?_)
      · replace hE := e_t c_4 hE
        exact ih1 hE h1 h2 Y (lv_sub hl [0, 1] rfl)
      · replace hE := e_f c_4 hE
        refine lv_aload_n hx hb dX3_expression_36 rfl (lv_at hl 0 rfl) ?_
        replace hE := e_bind hE
        obtain ⟨u_7, g, hE⟩ := hE
        obtain ⟨fs9, g9⟩ := i_gC g
        have g7 := a_recv X Y k_X3.1 g9
        replace hE := e_cb hE
        obtain ⟨st_5, v_6, g, hE⟩ := hE
        have M9 := (mo_if (mrec1) mo_ret) _ hE
        refine a_callV (n := 0) (C := "BasicMachine$Parser") (σ1 := st_5) (σf := q.1) [] X Y (maf_X3_here hl0 n g) ⟨oaf_X3_here _ g, M9, h1, h2, (by show _ ≤ fx + 6; omega), (by show _ ≤ lx + 132; omega)⟩ q469 q471 qs4 q129 q472 (by decide +kernel) g7 rfl hl.1 (Nat.le_of_ble_eq_true rfl) dX3_expression_37 (fun v hv H locs kc ks Y => ?_) (fun k hk => by cases hk)
        cases hv
        refine lv_bipush (v := 45) hx hb dX3_expression_40 (by decide) ?_
        refine lv_icmp_ne (tgt := 77) hx hb dX3_expression_42 (by decide) (fun c_8 => ?_) (fun c_8 => ?_)
        · replace hE := e_f c_8 hE
          refine r_aload_n hx hb dX3_expression_77 rfl (lv_at hl 1 rfl) ?_
          cases hE
          exact a_aret (r := x2) X Y h1 h2 hr (Or.inl ⟨_, rfl⟩) dX3_expression_78
        · replace hE := e_t c_8 hE
          exact ih1 hE h1 h2 Y (lv_sub hl [0, 1] rfl)
    · intro st a0 x2 hE h1 h2 H locs ls kc ks Y hl
      replace hE : af_X3_expression_B45 n x.sK rx (af_X3_expression_S27 n x.sK rx k) st a0 x2 = some q := hE
      unfold af_X3_expression_B45 at hE
      refine lv_aload_n hx hb dX3_expression_45 rfl (lv_at hl 0 rfl) ?_
      replace hE := e_bind hE
      obtain ⟨u_3, g, hE⟩ := hE
      obtain ⟨fs9, g9⟩ := i_gC g
      have g7 := a_recv X Y k_X3.1 g9
      replace hE := e_cb hE
      obtain ⟨st_1, v_2, g, hE⟩ := hE
      have M9 := (mo_v fun _ => (mo_s (fun _ => le_pF) fun _ => (mo_s (fun _ => le_nO) fun _ => (mo_v fun _ => (mo_x (oaf_X3_term mrv) fun _ _ => (mo_cb oaf_X10_init fun _ _ => (mrec0))))))) _ hE
      refine a_callV (n := 0) (C := "BasicMachine$Parser") (σ1 := st_1) (σf := q.1) [] X Y (maf_X3_here hl0 n g) ⟨oaf_X3_here _ g, M9, h1, h2, (by show _ ≤ fx + 6; omega), (by show _ ≤ lx + 132; omega)⟩ q469 q471 qs4 q129 q472 (by decide +kernel) g7 rfl hl.1 (Nat.le_of_ble_eq_true rfl) dX3_expression_46 (fun v hv H locs kc ks Y => ?_) (fun k hk => by cases hk)
      cases hv
      refine lv_istore_n (i := 3) (lv' := [(3, .int v_2), (0, .ref a0), (2, va_rf x2)]) hx hb dX3_expression_49 rfl hl (by decide) (by cases x2 <;> rfl) (fun ls hl => ?_)
      refine lv_aload_n hx hb dX3_expression_50 rfl (lv_at hl 1 rfl) ?_
      refine lv_dup hx hb dX3_expression_51 rfl ?_
      replace hE := e_bind hE
      obtain ⟨v_4, g, hE⟩ := hE
      refine n_gI X Y k_X3 2 g (by decide) q442 dX3_expression_52 ?_
      refine lv_iconst (v := 1) hx hb dX3_expression_55 (by decide) ?_
      refine lv_iadd hx hb dX3_expression_56 ?_
      replace hE := e_bind hE
      obtain ⟨st_5, g, hE⟩ := hE
      refine a_putV X Y k_X3 2 g (by decide) rfl rfl rfl q442 dX3_expression_57 (fun H locs Y => ?_)
      replace hE := e_bind hE
      obtain ⟨st_6, g, hE⟩ := hE
      have M9 := (mo_v fun _ => (mo_x (oaf_X3_term mrv) fun _ _ => (mo_cb oaf_X10_init fun _ _ => (mrec0)))) _ hE
      refine a_new X Y k_X10 g b_X10 q990 q991 q149 (aRoom1 Y h1 (le_nO1 g) M9) (aRoom2 Y h2 (le_nO2 g) M9) dX3_expression_60 (fun H Y => ?_)
      generalize kc + 1 = kc at Y ⊢
      generalize ks + 3 = ks at Y ⊢
      refine lv_dup hx hb dX3_expression_63 rfl ?_
      refine lv_iload_n hx hb dX3_expression_64 rfl (lv_at hl 0 rfl) ?_
      refine r_aload_n hx hb dX3_expression_65 rfl (lv_at hl 2 rfl) ?_
      refine lv_aload_n hx hb dX3_expression_66 rfl (lv_at hl 1 rfl) ?_
      replace hE := e_bind hE
      obtain ⟨u_9, g, hE⟩ := hE
      obtain ⟨fs9, g9⟩ := i_gC g
      have g7 := a_recv X Y k_X3.1 g9
      replace hE := e_xb hE
      rcases hE with ⟨st_7, r_8, g, hE⟩ | ⟨st_7, k9, g, hE⟩
      rotate_left
      · subst hE
        refine a_callV (n := 0) (C := "BasicMachine$Parser") (σ1 := st_7) (σf := st_7) [] X Y (maf_X3_term hl0 n hrv g) ⟨(oaf_X3_term mrv) _ g, aLe.rf _, h1, h2, (by show _ ≤ fx + 6; omega), (by show _ ≤ lx + 132; omega)⟩ q887 q889 qs15 q129 q890 (by decide +kernel) g7 rfl hl.1 (by simp only [List.map_cons, List.map_nil, va_rf_cat]; exact Nat.le_of_ble_eq_true rfl) dX3_expression_67 (fun v hv => by cases hv) (fun k hk H locs kc ks q9 ce Y e1 e2 e3 => ?_)
        cases hk
        exact a_out X Y h1 h2 (fun z hz => (hex z hz).elim) e1 e2 e3
      have M9 := (mo_cb oaf_X10_init fun _ _ => (mrec0)) _ hE
      refine a_callV (n := 0) (C := "BasicMachine$Parser") (σ1 := st_7) (σf := q.1) [] X Y (maf_X3_term hl0 n hrv g) ⟨(oaf_X3_term mrv) _ g, M9, h1, h2, (by show _ ≤ fx + 6; omega), (by show _ ≤ lx + 132; omega)⟩ q887 q889 qs15 q129 q890 (by decide +kernel) g7 rfl hl.1 (by simp only [List.map_cons, List.map_nil, va_rf_cat]; exact Nat.le_of_ble_eq_true rfl) dX3_expression_67 (fun v hv H locs kc ks Y => ?_) (fun k hk => by cases hk)
      cases hv
      replace hE := e_cb hE
      obtain ⟨st_10, u_11, g, hE⟩ := hE
      have M9 := (mrec0) _ hE
      refine a_callIN (host := "BasicMachine") (n := 3) (σ1 := st_10) (σf := q.1) [.int v_2, va_rf x2, va_rf r_8] X Y (maf_X10_init hl0 n g) ⟨oaf_X10_init _ g, M9, h1, h2, (by show _ ≤ fx + 6; omega), (by show _ ≤ lx + 132; omega)⟩ (by decide) q993 q149 q994 rfl (by decide +kernel) rfl hl.1 (Nat.le_of_ble_eq_true rfl) dX3_expression_70 (fun v hv H locs kc ks Y => ?_) (fun k hk => by cases hk)
      cases hv
      refine lv_astore_n (i := 2) (lv' := [(2, .ref st_5.1), (3, .int v_2), (0, .ref a0)]) hx hb dX3_expression_73 rfl hl (by decide) rfl (fun ls hl => ?_)
      refine lv_goto (tgt := 27) hx hb dX3_expression_74 (by decide) ?_
      exact ih0 hE h1 h2 Y (lv_sub hl [2, 0] rfl)
set_option maxHeartbeats 4000000 in
set_option maxRecDepth 100000 in
theorem waf_X3_expression_S27 {l : Launch} {x : aP} {As : List Value} {σ0 : aS} {p : Program} {e : Env} {s : State} {m : MethodId} {below : List Frame} {meth : Method} {c : Code} {mc ms : Nat} (X : aX "BasicMachine$Parser" p l s m As.toArray meth c cX3_expression 4 x σ0) (hex : ∀ z ∈ c.exceptionTable.toList, False) (hr : meth.sig.returnType = (some (.object "BasicMachine$Expression"))) (hnm : "expression" = meth.name) {rx : aS → Nat → Option (aS × (Option Nat ⊕ Nat))} {fx lx : Nat} (hrv : hRX l x rx fx lx) {n : Nat} {q : aS × ((Option Nat) ⊕ Nat)} : (∀ {st : aS} {a0 : Nat} {x2 : Option Nat}, af_X3_expression_S27 n x.sK rx n 0 st a0 x2 = some q → (mc + σ0.1 = q.1.1) → (ms + σ0.2.1 = q.1.2.1) → ∀ {H : Heap} {locs : List Loc} {ls : Array Slot} {kc ks : Nat}, aY x σ0 s st H locs kc ks → lv_has ls 4 [(0, .ref a0), (2, va_rf x2)] → aG l (fx + 6) (lx + 132) mc ms x As σ0 (oR q.2) q.1 p e s m below meth c H locs kc ks (F0 m 27 ls [])) ∧ (∀ {st : aS} {a0 : Nat} {x2 : Option Nat}, af_X3_expression_S27 n x.sK rx n 1 st a0 x2 = some q → (mc + σ0.1 = q.1.1) → (ms + σ0.2.1 = q.1.2.1) → ∀ {H : Heap} {locs : List Loc} {ls : Array Slot} {kc ks : Nat}, aY x σ0 s st H locs kc ks → lv_has ls 4 [(0, .ref a0), (2, va_rf x2)] → aG l (fx + 6) (lx + 132) mc ms x As σ0 (oR q.2) q.1 p e s m below meth c H locs kc ks (F0 m 45 ls [])) := waf_X3_expression_S27_ X hex hr hnm hrv n
set_option maxHeartbeats 4000000 in
set_option maxRecDepth 100000 in
theorem maf_X3_expression {l : Launch} (hl0 : l.stackTraces = false) (n : Nat) {x : aP} {rx : aS → Nat → Option (aS × (Option Nat ⊕ Nat))} {fx lx : Nat} (hrv : hRX l x rx fx lx) {st : aS} {a0 : Nat} {q : aS × ((Option Nat) ⊕ Nat)} (hE : af_X3_expression n x.sK rx st a0 = some q) : aMet l yX3_expression (ws_ yX3_expression cX3_expression 4 (some (.object "BasicMachine$Expression"))) (fx + 6) (lx + 132) x [.ref a0] st (oR q.2) q.1 := by
  refine a_ofW (own := "BasicMachine$Parser") hl0 (by decide) rfl (Nat.le_of_ble_eq_true rfl) (fun mc ms p e s m below meth c ls H locs kc ks h1 h2 X hex Y hr hnm hl => ?_)
  have hnm : "expression" = meth.name := hnm
  have hl : lv_has ls 4 [(0, .ref a0)] := hl
  have hx := X.1
  have hb := X.2.1
  have hown := X.2.2.2.1
  have hts := X.2.2.2.2.1
  have hK := X.2.2.2.2.2.1
  have hl0 := X.2.2.2.2.2.2.2.2
  obtain ⟨hfx, hlx, mrv, -⟩ := id hrv
  unfold af_X3_expression at hE
  refine lv_aload_n hx hb dX3_expression_0 rfl (lv_at hl 0 rfl) ?_
  refine lv_bipush (v := 45) hx hb dX3_expression_1 (by decide) ?_
  replace hE := e_bind hE
  obtain ⟨u_3, g, hE⟩ := hE
  obtain ⟨fs9, g9⟩ := i_gC g
  have g7 := a_recv X Y k_X3.1 g9
  replace hE := e_cb hE
  obtain ⟨st_1, v_2, g, hE⟩ := hE
  have M9 := (mo_v fun _ => (mo_x (oaf_X3_term mrv) fun _ _ => (mo_if ((oaf_X3_expression_S27 mrv).1) (mo_s (fun _ => le_nO) fun _ => (mo_cb oaf_X7_init fun _ _ => ((oaf_X3_expression_S27 mrv).1)))))) _ hE
  refine a_callV (n := 1) (C := "BasicMachine$Parser") (σ1 := st_1) (σf := q.1) [.int (45 : Int32)] X Y (maf_X3_takes hl0 n g) ⟨oaf_X3_takes _ g, M9, h1, h2, (by show _ ≤ fx + 6; omega), (by show _ ≤ lx + 132; omega)⟩ q883 q885 qs14 q129 q886 (by decide +kernel) g7 rfl hl.1 (Nat.le_of_ble_eq_true rfl) dX3_expression_3 (fun v hv H locs kc ks Y => ?_) (fun k hk => by cases hk)
  cases hv
  refine lv_istore_n (i := 1) (lv' := [(1, .int v_2), (0, .ref a0)]) hx hb dX3_expression_6 rfl hl (by decide) rfl (fun ls hl => ?_)
  refine lv_aload_n hx hb dX3_expression_7 rfl (lv_at hl 1 rfl) ?_
  replace hE := e_bind hE
  obtain ⟨u_6, g, hE⟩ := hE
  obtain ⟨fs9, g9⟩ := i_gC g
  have g7 := a_recv X Y k_X3.1 g9
  replace hE := e_xb hE
  rcases hE with ⟨st_4, r_5, g, hE⟩ | ⟨st_4, k9, g, hE⟩
  rotate_left
  · subst hE
    refine a_callV (n := 0) (C := "BasicMachine$Parser") (σ1 := st_4) (σf := st_4) [] X Y (maf_X3_term hl0 n hrv g) ⟨(oaf_X3_term mrv) _ g, aLe.rf _, h1, h2, (by show _ ≤ fx + 6; omega), (by show _ ≤ lx + 132; omega)⟩ q887 q889 qs15 q129 q890 (by decide +kernel) g7 rfl hl.1 (Nat.le_of_ble_eq_true rfl) dX3_expression_8 (fun v hv => by cases hv) (fun k hk H locs kc ks q9 ce Y e1 e2 e3 => ?_)
    cases hk
    exact a_out X Y h1 h2 (fun z hz => (hex z hz).elim) e1 e2 e3
  have M9 := (mo_if ((oaf_X3_expression_S27 mrv).1) (mo_s (fun _ => le_nO) fun _ => (mo_cb oaf_X7_init fun _ _ => ((oaf_X3_expression_S27 mrv).1)))) _ hE
  refine a_callV (n := 0) (C := "BasicMachine$Parser") (σ1 := st_4) (σf := q.1) [] X Y (maf_X3_term hl0 n hrv g) ⟨(oaf_X3_term mrv) _ g, M9, h1, h2, (by show _ ≤ fx + 6; omega), (by show _ ≤ lx + 132; omega)⟩ q887 q889 qs15 q129 q890 (by decide +kernel) g7 rfl hl.1 (Nat.le_of_ble_eq_true rfl) dX3_expression_8 (fun v hv H locs kc ks Y => ?_) (fun k hk => by cases hk)
  cases hv
  refine r_astore_n (i := 2) (lv' := [(2, va_rf r_5), (1, .int v_2), (0, .ref a0)]) hx hb dX3_expression_11 rfl hl (by decide) rfl (fun ls hl => ?_)
  refine lv_iload_n hx hb dX3_expression_12 rfl (lv_at hl 1 rfl) ?_
  refine lv_if_eq (tgt := 27) hx hb dX3_expression_13 (by decide) (fun c_7 => ?_) (fun c_7 => ?_)
  · replace hE := e_t c_7 hE
    exact (waf_X3_expression_S27 X hex hr hnm hrv).1 hE h1 h2 Y (lv_sub hl [2, 0] rfl)
  · replace hE := e_f c_7 hE
    replace hE := e_bind hE
    obtain ⟨st_8, g, hE⟩ := hE
    have M9 := (mo_cb oaf_X7_init fun _ _ => ((oaf_X3_expression_S27 mrv).1)) _ hE
    refine a_new X Y k_X7 g b_X7 q942 q943 q146 (aRoom1 Y h1 (le_nO1 g) M9) (aRoom2 Y h2 (le_nO2 g) M9) dX3_expression_16 (fun H Y => ?_)
    generalize kc + 1 = kc at Y ⊢
    generalize ks + 2 = ks at Y ⊢
    refine lv_dup hx hb dX3_expression_19 rfl ?_
    refine lv_bipush (v := 45) hx hb dX3_expression_20 (by decide) ?_
    refine r_aload_n hx hb dX3_expression_22 rfl (lv_at hl 0 rfl) ?_
    replace hE := e_cb hE
    obtain ⟨st_9, u_10, g, hE⟩ := hE
    have M9 := ((oaf_X3_expression_S27 mrv).1) _ hE
    refine a_callIN (host := "BasicMachine") (n := 2) (σ1 := st_9) (σf := q.1) [.int (45 : Int32), va_rf r_5] X Y (maf_X7_init hl0 n g) ⟨oaf_X7_init _ g, M9, h1, h2, (by show _ ≤ fx + 6; omega), (by show _ ≤ lx + 132; omega)⟩ (by decide) q945 q146 q946 rfl (by decide +kernel) rfl hl.1 (Nat.le_of_ble_eq_true rfl) dX3_expression_23 (fun v hv H locs kc ks Y => ?_) (fun k hk => by cases hk)
    cases hv
    refine lv_astore_n (i := 2) (lv' := [(2, .ref st_4.1), (1, .int v_2), (0, .ref a0)]) hx hb dX3_expression_26 rfl hl (by decide) rfl (fun ls hl => ?_)
    exact (waf_X3_expression_S27 X hex hr hnm hrv).1 hE h1 h2 Y (lv_sub hl [2, 0] rfl)
/-! dispatch.expression -/
set_option maxHeartbeats 4000000 in
set_option maxRecDepth 100000 in
theorem mf_expr_ {l : Launch} (hl0 : l.stackTraces = false) (n : Nat) {x : aP} : ∀ d : Nat, hRX l x (af_expr n x.sK d) (6 * d + 12) (132 * d + 400) := by
  intro d
  induction d with
  | zero => exact ⟨by omega, by omega, (fun q h => nomatch (show none = some q from h)), (fun h => nomatch (show none = some _ from h))⟩
  | succ d ih =>
    refine ⟨by omega, by omega, of_expr n x.sK (d + 1), ?_⟩
    intro st a q h
    replace h : af_X3_expression n x.sK (af_expr n x.sK d) st a = some q := h
    have e1 : 6 * (d + 1) + 12 = 6 * d + 12 + 6 := by omega
    have e2 : 132 * (d + 1) + 400 = 132 * d + 400 + 132 := by omega
    rw [e1, e2]
    exact maf_X3_expression hl0 n ih h
set_option maxHeartbeats 4000000 in
set_option maxRecDepth 100000 in
theorem hrx_top {l : Launch} (hl0 : l.stackTraces = false) (n : Nat) {x : aP} : hRX l x (af_expr n x.sK dX) 84 1984 := mf_expr_ hl0 n dX
set_option maxHeartbeats 4000000 in
set_option maxRecDepth 100000 in
theorem mf_expr {l : Launch} (hl0 : l.stackTraces = false) (n : Nat) {x : aP} {st : aS} {a : Nat} {q : aS × (Option Nat ⊕ Nat)} (h : af_expr n x.sK dX st a = some q) : aMet l yX3_expression (ws_ yX3_expression cX3_expression 4 (some (.object "BasicMachine$Expression"))) 84 1984 x [.ref a] st (oR q.2) q.1 := (hrx_top hl0 n).2.2.2 h
/-! BasicMachine$Place.<init>(LBasicMachine$Variable;LBasicMachine$Element;)V -/
set_option maxHeartbeats 4000000 in
set_option maxRecDepth 100000 in
theorem maf_X5_init {l : Launch} (hl0 : l.stackTraces = false) (n : Nat) {x : aP} {st : aS} {a0 : Nat} {p1 : Option Nat} {p2 : Option Nat} {q : aS × Unit} (hE : af_X5_init n x.sK st a0 p1 p2 = some q) : aMet l yX5_init (ws_ yX5_init cX5_init 3 none) 2 40 x [.ref a0, va_rf p1, va_rf p2] st (.inl none) q.1 := by
  refine a_ofW (own := "BasicMachine$Place") hl0 (by decide) rfl (by simp only [lg_sl, List.flatMap_cons, List.flatMap_nil, va_rf_cat]; exact Nat.le_of_ble_eq_true rfl) (fun mc ms p e s m below meth c ls H locs kc ks h1 h2 X hex Y hr hnm hl => ?_)
  have hnm : "<init>" = meth.name := hnm
  have hl : lv_has ls 3 [(0, .ref a0), (1, va_rf p1), (2, va_rf p2)] := by simp only [lv_args, va_rf_cat] at hl; exact hl
  have hx := X.1
  have hb := X.2.1
  have hown := X.2.2.2.1
  have hts := X.2.2.2.2.1
  have hK := X.2.2.2.2.2.1
  have hl0 := X.2.2.2.2.2.2.2.2
  unfold af_X5_init at hE
  refine lv_aload_n hx hb dX5_init_0 rfl (lv_at hl 0 rfl) ?_
  replace hE := e_cb hE
  obtain ⟨st_1, u_2, g, hE⟩ := hE
  have M9 := (mo_s (fun _ => le_pF) fun _ => (mo_s (fun _ => le_pF) fun _ => mo_ret)) _ hE
  refine a_callI (n := 0) (σ1 := st_1) (σf := q.1) [] X Y (maf_J15_init hl0 n g) ⟨oaf_J15_init _ g, M9, h1, h2, (by show _ ≤ 2; decide), (by show _ ≤ 40; decide)⟩ q1025 q912 q143 q913 rfl (by decide +kernel) rfl hl.1 (Nat.le_of_ble_eq_true rfl) dX5_init_1 (fun v hv H locs kc ks Y => ?_) (fun k hk => by cases hk)
  cases hv
  refine lv_aload_n hx hb dX5_init_4 rfl (lv_at hl 0 rfl) ?_
  refine r_aload_n hx hb dX5_init_5 rfl (lv_at hl 1 rfl) ?_
  replace hE := e_bind hE
  obtain ⟨st_3, g, hE⟩ := hE
  refine a_putFV X Y k_X5 0 g (by decide) rfl hnm rfl (nr_o p1) (fr_o p1) q1026 dX5_init_6 (fun H locs Y => ?_)
  refine lv_aload_n hx hb dX5_init_9 rfl (lv_at hl 0 rfl) ?_
  refine r_aload_n hx hb dX5_init_10 rfl (lv_at hl 2 rfl) ?_
  replace hE := e_bind hE
  obtain ⟨st_4, g, hE⟩ := hE
  refine a_putFV X Y k_X5 1 g (by decide) rfl hnm rfl (nr_o p2) (fr_o p2) q1027 dX5_init_11 (fun H locs Y => ?_)
  cases hE
  exact a_vret X Y h1 h2 hr dX5_init_14
/-! BasicMachine$Parser.place()LBasicMachine$Place; -/
set_option maxHeartbeats 4000000 in
set_option maxRecDepth 100000 in
theorem maf_X3_place {l : Launch} (hl0 : l.stackTraces = false) (n : Nat) {x : aP} {st : aS} {a0 : Nat} {q : aS × ((Option Nat) ⊕ Nat)} (hE : af_X3_place n x.sK st a0 = some q) : aMet l yX3_place (ws_ yX3_place cX3_place 1 (some (.object "BasicMachine$Place"))) 86 2030 x [.ref a0] st (oR q.2) q.1 := by
  refine a_ofW (own := "BasicMachine$Parser") hl0 (by decide) rfl (Nat.le_of_ble_eq_true rfl) (fun mc ms p e s m below meth c ls H locs kc ks h1 h2 X hex Y hr hnm hl => ?_)
  have hnm : "place" = meth.name := hnm
  have hl : lv_has ls 1 [(0, .ref a0)] := hl
  have hx := X.1
  have hb := X.2.1
  have hown := X.2.2.2.1
  have hts := X.2.2.2.2.1
  have hK := X.2.2.2.2.2.1
  have hl0 := X.2.2.2.2.2.2.2.2
  unfold af_X3_place at hE
  refine lv_aload_n hx hb dX3_place_0 rfl (lv_at hl 0 rfl) ?_
  replace hE := e_bind hE
  obtain ⟨u_3, g, hE⟩ := hE
  obtain ⟨fs9, g9⟩ := i_gC g
  have g7 := a_recv X Y k_X3.1 g9
  replace hE := e_cb hE
  obtain ⟨st_1, v_2, g, hE⟩ := hE
  have M9 := (mo_cb oaf_X3_isMatrix fun _ _ => (mo_if (mo_s (fun _ => le_nO) fun _ => (mo_s (fun _ => le_nO) fun _ => (mo_v fun _ => (mo_x oaf_X3_variable fun _ _ => (mo_cb oaf_X9_init fun _ _ => (mo_cb oaf_X5_init fun _ _ => mo_ret)))))) (mo_s (fun _ => le_nO) fun _ => (mo_v fun _ => (mo_x (oaf_X3_element (of_expr _ _ _)) fun _ _ => (mo_cb oaf_X5_init fun _ _ => mo_ret)))))) _ hE
  refine a_callV (n := 0) (C := "BasicMachine$Parser") (σ1 := st_1) (σf := q.1) [] X Y (maf_X3_here hl0 n g) ⟨oaf_X3_here _ g, M9, h1, h2, (by show _ ≤ 86; decide), (by show _ ≤ 2030; decide)⟩ q469 q471 qs4 q129 q472 (by decide +kernel) g7 rfl hl.1 (Nat.le_of_ble_eq_true rfl) dX3_place_1 (fun v hv H locs kc ks Y => ?_) (fun k hk => by cases hk)
  cases hv
  replace hE := e_cb hE
  obtain ⟨st_4, v_5, g, hE⟩ := hE
  have M9 := (mo_if (mo_s (fun _ => le_nO) fun _ => (mo_s (fun _ => le_nO) fun _ => (mo_v fun _ => (mo_x oaf_X3_variable fun _ _ => (mo_cb oaf_X9_init fun _ _ => (mo_cb oaf_X5_init fun _ _ => mo_ret)))))) (mo_s (fun _ => le_nO) fun _ => (mo_v fun _ => (mo_x (oaf_X3_element (of_expr _ _ _)) fun _ _ => (mo_cb oaf_X5_init fun _ _ => mo_ret))))) _ hE
  refine a_callS (n := 1) (σ1 := st_4) (σf := q.1) [.int v_2] X Y (maf_X3_isMatrix hl0 n g) ⟨oaf_X3_isMatrix _ g, M9, h1, h2, (by show _ ≤ 86; decide), (by show _ ≤ 2030; decide)⟩ q858 q859 q129 q860 (by decide +kernel) rfl hl.1 (Nat.le_of_ble_eq_true rfl) dX3_place_4 (fun v hv H locs kc ks Y => ?_) (fun k hk => by cases hk)
  cases hv
  refine lv_if_eq (tgt := 23) hx hb dX3_place_7 (by decide) (fun c_6 => ?_) (fun c_6 => ?_)
  · replace hE := e_t c_6 hE
    replace hE := e_bind hE
    obtain ⟨st_7, g, hE⟩ := hE
    have M9 := (mo_s (fun _ => le_nO) fun _ => (mo_v fun _ => (mo_x oaf_X3_variable fun _ _ => (mo_cb oaf_X9_init fun _ _ => (mo_cb oaf_X5_init fun _ _ => mo_ret))))) _ hE
    refine a_new X Y k_X5 g b_X5 q861 q862 q144 (aRoom1 Y h1 (le_nO1 g) M9) (aRoom2 Y h2 (le_nO2 g) M9) dX3_place_23 (fun H Y => ?_)
    generalize kc + 1 = kc at Y ⊢
    generalize ks + 2 = ks at Y ⊢
    refine lv_dup hx hb dX3_place_26 rfl ?_
    replace hE := e_bind hE
    obtain ⟨st_8, g, hE⟩ := hE
    have M9 := (mo_v fun _ => (mo_x oaf_X3_variable fun _ _ => (mo_cb oaf_X9_init fun _ _ => (mo_cb oaf_X5_init fun _ _ => mo_ret)))) _ hE
    refine a_new X Y k_X9 g b_X9 q973 q974 q148 (aRoom1 Y h1 (le_nO1 g) M9) (aRoom2 Y h2 (le_nO2 g) M9) dX3_place_27 (fun H Y => ?_)
    generalize kc + 1 = kc at Y ⊢
    generalize ks + 1 = ks at Y ⊢
    refine lv_dup hx hb dX3_place_30 rfl ?_
    refine lv_aload_n hx hb dX3_place_31 rfl (lv_at hl 0 rfl) ?_
    replace hE := e_bind hE
    obtain ⟨u_11, g, hE⟩ := hE
    obtain ⟨fs9, g9⟩ := i_gC g
    have g7 := a_recv X Y k_X3.1 g9
    replace hE := e_xb hE
    rcases hE with ⟨st_9, v_10, g, hE⟩ | ⟨st_9, k9, g, hE⟩
    rotate_left
    · subst hE
      refine a_callV (n := 0) (C := "BasicMachine$Parser") (σ1 := st_9) (σf := st_9) [] X Y (maf_X3_variable hl0 n g) ⟨oaf_X3_variable _ g, aLe.rf _, h1, h2, (by show _ ≤ 86; decide), (by show _ ≤ 2030; decide)⟩ q975 q977 qs25 q129 q978 (by decide +kernel) g7 rfl hl.1 (Nat.le_of_ble_eq_true rfl) dX3_place_32 (fun v hv => by cases hv) (fun k hk H locs kc ks q9 ce Y e1 e2 e3 => ?_)
      cases hk
      exact a_out X Y h1 h2 (fun z hz => (hex z hz).elim) e1 e2 e3
    have M9 := (mo_cb oaf_X9_init fun _ _ => (mo_cb oaf_X5_init fun _ _ => mo_ret)) _ hE
    refine a_callV (n := 0) (C := "BasicMachine$Parser") (σ1 := st_9) (σf := q.1) [] X Y (maf_X3_variable hl0 n g) ⟨oaf_X3_variable _ g, M9, h1, h2, (by show _ ≤ 86; decide), (by show _ ≤ 2030; decide)⟩ q975 q977 qs25 q129 q978 (by decide +kernel) g7 rfl hl.1 (Nat.le_of_ble_eq_true rfl) dX3_place_32 (fun v hv H locs kc ks Y => ?_) (fun k hk => by cases hk)
    cases hv
    replace hE := e_cb hE
    obtain ⟨st_12, u_13, g, hE⟩ := hE
    have M9 := (mo_cb oaf_X5_init fun _ _ => mo_ret) _ hE
    refine a_callIN (host := "BasicMachine") (n := 1) (σ1 := st_12) (σf := q.1) [.int v_10] X Y (maf_X9_init hl0 n g) ⟨oaf_X9_init _ g, M9, h1, h2, (by show _ ≤ 86; decide), (by show _ ≤ 2030; decide)⟩ (by decide) q983 q148 q984 rfl (by decide +kernel) rfl hl.1 (Nat.le_of_ble_eq_true rfl) dX3_place_35 (fun v hv H locs kc ks Y => ?_) (fun k hk => by cases hk)
    cases hv
    refine lv_null hx hb dX3_place_38 ?_
    replace hE := e_cb hE
    obtain ⟨st_14, u_15, g, hE⟩ := hE
    have M9 := mo_ret _ hE
    refine a_callIN (host := "BasicMachine") (n := 2) (σ1 := st_14) (σf := q.1) [.ref st_7.1, va_rf (none : Option Nat)] X Y (maf_X5_init hl0 n g) ⟨oaf_X5_init _ g, M9, h1, h2, (by show _ ≤ 86; decide), (by show _ ≤ 2030; decide)⟩ (by decide) q1023 q144 q1024 rfl (by decide +kernel) rfl hl.1 (Nat.le_of_ble_eq_true rfl) dX3_place_39 (fun v hv H locs kc ks Y => ?_) (fun k hk => by cases hk)
    cases hv
    cases hE
    exact a_aret (r := (some st_4.1)) X Y h1 h2 hr (Or.inl ⟨_, rfl⟩) dX3_place_42
  · replace hE := e_f c_6 hE
    replace hE := e_bind hE
    obtain ⟨st_16, g, hE⟩ := hE
    have M9 := (mo_v fun _ => (mo_x (oaf_X3_element (of_expr _ _ _)) fun _ _ => (mo_cb oaf_X5_init fun _ _ => mo_ret))) _ hE
    refine a_new X Y k_X5 g b_X5 q861 q862 q144 (aRoom1 Y h1 (le_nO1 g) M9) (aRoom2 Y h2 (le_nO2 g) M9) dX3_place_10 (fun H Y => ?_)
    generalize kc + 1 = kc at Y ⊢
    generalize ks + 2 = ks at Y ⊢
    refine lv_dup hx hb dX3_place_13 rfl ?_
    refine lv_null hx hb dX3_place_14 ?_
    refine lv_aload_n hx hb dX3_place_15 rfl (lv_at hl 0 rfl) ?_
    replace hE := e_bind hE
    obtain ⟨u_19, g, hE⟩ := hE
    obtain ⟨fs9, g9⟩ := i_gC g
    have g7 := a_recv X Y k_X3.1 g9
    replace hE := e_xb hE
    rcases hE with ⟨st_17, r_18, g, hE⟩ | ⟨st_17, k9, g, hE⟩
    rotate_left
    · subst hE
      refine a_callV (n := 0) (C := "BasicMachine$Parser") (σ1 := st_17) (σf := st_17) [] X Y (maf_X3_element hl0 n (hrx_top hl0 n) g) ⟨(oaf_X3_element (of_expr _ _ _)) _ g, aLe.rf _, h1, h2, (by show _ ≤ 86; decide), (by show _ ≤ 2030; decide)⟩ q863 q865 qs10 q129 q866 (by decide +kernel) g7 rfl hl.1 (by simp only [List.map_cons, List.map_nil, va_rf_cat]; exact Nat.le_of_ble_eq_true rfl) dX3_place_16 (fun v hv => by cases hv) (fun k hk H locs kc ks q9 ce Y e1 e2 e3 => ?_)
      cases hk
      exact a_out X Y h1 h2 (fun z hz => (hex z hz).elim) e1 e2 e3
    have M9 := (mo_cb oaf_X5_init fun _ _ => mo_ret) _ hE
    refine a_callV (n := 0) (C := "BasicMachine$Parser") (σ1 := st_17) (σf := q.1) [] X Y (maf_X3_element hl0 n (hrx_top hl0 n) g) ⟨(oaf_X3_element (of_expr _ _ _)) _ g, M9, h1, h2, (by show _ ≤ 86; decide), (by show _ ≤ 2030; decide)⟩ q863 q865 qs10 q129 q866 (by decide +kernel) g7 rfl hl.1 (by simp only [List.map_cons, List.map_nil, va_rf_cat]; exact Nat.le_of_ble_eq_true rfl) dX3_place_16 (fun v hv H locs kc ks Y => ?_) (fun k hk => by cases hk)
    cases hv
    replace hE := e_cb hE
    obtain ⟨st_20, u_21, g, hE⟩ := hE
    have M9 := mo_ret _ hE
    refine a_callIN (host := "BasicMachine") (n := 2) (σ1 := st_20) (σf := q.1) [va_rf (none : Option Nat), va_rf r_18] X Y (maf_X5_init hl0 n g) ⟨oaf_X5_init _ g, M9, h1, h2, (by show _ ≤ 86; decide), (by show _ ≤ 2030; decide)⟩ (by decide) q1023 q144 q1024 rfl (by decide +kernel) rfl hl.1 (Nat.le_of_ble_eq_true rfl) dX3_place_19 (fun v hv H locs kc ks Y => ?_) (fun k hk => by cases hk)
    cases hv
    cases hE
    exact a_aret (r := (some st_4.1)) X Y h1 h2 hr (Or.inl ⟨_, rfl⟩) dX3_place_22
/-! BasicMachine$Let.<init>(LBasicMachine$Place;LBasicMachine$Expression;)V -/
set_option maxHeartbeats 4000000 in
set_option maxRecDepth 100000 in
theorem maf_X12_init {l : Launch} (hl0 : l.stackTraces = false) (n : Nat) {x : aP} {st : aS} {a0 : Nat} {p1 : Option Nat} {p2 : Option Nat} {q : aS × Unit} (hE : af_X12_init n x.sK st a0 p1 p2 = some q) : aMet l yX12_init (ws_ yX12_init cX12_init 3 none) 2 40 x [.ref a0, va_rf p1, va_rf p2] st (.inl none) q.1 := by
  refine a_ofW (own := "BasicMachine$Let") hl0 (by decide) rfl (by simp only [lg_sl, List.flatMap_cons, List.flatMap_nil, va_rf_cat]; exact Nat.le_of_ble_eq_true rfl) (fun mc ms p e s m below meth c ls H locs kc ks h1 h2 X hex Y hr hnm hl => ?_)
  have hnm : "<init>" = meth.name := hnm
  have hl : lv_has ls 3 [(0, .ref a0), (1, va_rf p1), (2, va_rf p2)] := by simp only [lv_args, va_rf_cat] at hl; exact hl
  have hx := X.1
  have hb := X.2.1
  have hown := X.2.2.2.1
  have hts := X.2.2.2.2.1
  have hK := X.2.2.2.2.2.1
  have hl0 := X.2.2.2.2.2.2.2.2
  unfold af_X12_init at hE
  refine lv_aload_n hx hb dX12_init_0 rfl (lv_at hl 0 rfl) ?_
  replace hE := e_cb hE
  obtain ⟨st_1, u_2, g, hE⟩ := hE
  have M9 := (mo_s (fun _ => le_pF) fun _ => (mo_s (fun _ => le_pF) fun _ => mo_ret)) _ hE
  refine a_callI (n := 0) (σ1 := st_1) (σf := q.1) [] X Y (maf_J15_init hl0 n g) ⟨oaf_J15_init _ g, M9, h1, h2, (by show _ ≤ 2; decide), (by show _ ≤ 40; decide)⟩ q1038 q912 q143 q913 rfl (by decide +kernel) rfl hl.1 (Nat.le_of_ble_eq_true rfl) dX12_init_1 (fun v hv H locs kc ks Y => ?_) (fun k hk => by cases hk)
  cases hv
  refine lv_aload_n hx hb dX12_init_4 rfl (lv_at hl 0 rfl) ?_
  refine r_aload_n hx hb dX12_init_5 rfl (lv_at hl 1 rfl) ?_
  replace hE := e_bind hE
  obtain ⟨st_3, g, hE⟩ := hE
  refine a_putFV X Y k_X12 0 g (by decide) rfl hnm rfl (nr_o p1) (fr_o p1) q1039 dX12_init_6 (fun H locs Y => ?_)
  refine lv_aload_n hx hb dX12_init_9 rfl (lv_at hl 0 rfl) ?_
  refine r_aload_n hx hb dX12_init_10 rfl (lv_at hl 2 rfl) ?_
  replace hE := e_bind hE
  obtain ⟨st_4, g, hE⟩ := hE
  refine a_putFV X Y k_X12 1 g (by decide) rfl hnm rfl (nr_o p2) (fr_o p2) q1040 dX12_init_11 (fun H locs Y => ?_)
  cases hE
  exact a_vret X Y h1 h2 hr dX12_init_14
/-! BasicMachine$Print.<init>(LBasicMachine$Expression;)V -/
set_option maxHeartbeats 4000000 in
set_option maxRecDepth 100000 in
theorem maf_X13_init {l : Launch} (hl0 : l.stackTraces = false) (n : Nat) {x : aP} {st : aS} {a0 : Nat} {p1 : Option Nat} {q : aS × Unit} (hE : af_X13_init n x.sK st a0 p1 = some q) : aMet l yX13_init (ws_ yX13_init cX13_init 2 none) 2 40 x [.ref a0, va_rf p1] st (.inl none) q.1 := by
  refine a_ofW (own := "BasicMachine$Print") hl0 (by decide) rfl (by simp only [lg_sl, List.flatMap_cons, List.flatMap_nil, va_rf_cat]; exact Nat.le_of_ble_eq_true rfl) (fun mc ms p e s m below meth c ls H locs kc ks h1 h2 X hex Y hr hnm hl => ?_)
  have hnm : "<init>" = meth.name := hnm
  have hl : lv_has ls 2 [(0, .ref a0), (1, va_rf p1)] := by simp only [lv_args, va_rf_cat] at hl; exact hl
  have hx := X.1
  have hb := X.2.1
  have hown := X.2.2.2.1
  have hts := X.2.2.2.2.1
  have hK := X.2.2.2.2.2.1
  have hl0 := X.2.2.2.2.2.2.2.2
  unfold af_X13_init at hE
  refine lv_aload_n hx hb dX13_init_0 rfl (lv_at hl 0 rfl) ?_
  replace hE := e_cb hE
  obtain ⟨st_1, u_2, g, hE⟩ := hE
  have M9 := (mo_s (fun _ => le_pF) fun _ => mo_ret) _ hE
  refine a_callI (n := 0) (σ1 := st_1) (σf := q.1) [] X Y (maf_J15_init hl0 n g) ⟨oaf_J15_init _ g, M9, h1, h2, (by show _ ≤ 2; decide), (by show _ ≤ 40; decide)⟩ q1051 q912 q143 q913 rfl (by decide +kernel) rfl hl.1 (Nat.le_of_ble_eq_true rfl) dX13_init_1 (fun v hv H locs kc ks Y => ?_) (fun k hk => by cases hk)
  cases hv
  refine lv_aload_n hx hb dX13_init_4 rfl (lv_at hl 0 rfl) ?_
  refine r_aload_n hx hb dX13_init_5 rfl (lv_at hl 1 rfl) ?_
  replace hE := e_bind hE
  obtain ⟨st_3, g, hE⟩ := hE
  refine a_putFV X Y k_X13 0 g (by decide) rfl hnm rfl (nr_o p1) (fr_o p1) q1052 dX13_init_6 (fun H locs Y => ?_)
  cases hE
  exact a_vret X Y h1 h2 hr dX13_init_9
/-! BasicMachine$If.<init>(LBasicMachine$Expression;ILBasicMachine$Expression;I)V -/
set_option maxHeartbeats 4000000 in
set_option maxRecDepth 100000 in
theorem maf_X14_init {l : Launch} (hl0 : l.stackTraces = false) (n : Nat) {x : aP} {st : aS} {a0 : Nat} {p1 : Option Nat} {p2 : Int32} {p3 : Option Nat} {p4 : Int32} {q : aS × Unit} (hE : af_X14_init n x.sK st a0 p1 p2 p3 p4 = some q) : aMet l yX14_init (ws_ yX14_init cX14_init 5 none) 2 40 x [.ref a0, va_rf p1, .int p2, va_rf p3, .int p4] st (.inl none) q.1 := by
  refine a_ofW (own := "BasicMachine$If") hl0 (by decide) rfl (by simp only [lg_sl, List.flatMap_cons, List.flatMap_nil, va_rf_cat]; exact Nat.le_of_ble_eq_true rfl) (fun mc ms p e s m below meth c ls H locs kc ks h1 h2 X hex Y hr hnm hl => ?_)
  have hnm : "<init>" = meth.name := hnm
  have hl : lv_has ls 5 [(0, .ref a0), (1, va_rf p1), (2, .int p2), (3, va_rf p3), (4, .int p4)] := by simp only [lv_args, va_rf_cat] at hl; exact hl
  have hx := X.1
  have hb := X.2.1
  have hown := X.2.2.2.1
  have hts := X.2.2.2.2.1
  have hK := X.2.2.2.2.2.1
  have hl0 := X.2.2.2.2.2.2.2.2
  unfold af_X14_init at hE
  refine lv_aload_n hx hb dX14_init_0 rfl (lv_at hl 0 rfl) ?_
  replace hE := e_cb hE
  obtain ⟨st_1, u_2, g, hE⟩ := hE
  have M9 := (mo_s (fun _ => le_pF) fun _ => (mo_s (fun _ => le_pF) fun _ => (mo_s (fun _ => le_pF) fun _ => (mo_s (fun _ => le_pF) fun _ => mo_ret)))) _ hE
  refine a_callI (n := 0) (σ1 := st_1) (σf := q.1) [] X Y (maf_J15_init hl0 n g) ⟨oaf_J15_init _ g, M9, h1, h2, (by show _ ≤ 2; decide), (by show _ ≤ 40; decide)⟩ q1066 q912 q143 q913 rfl (by decide +kernel) rfl hl.1 (Nat.le_of_ble_eq_true rfl) dX14_init_1 (fun v hv H locs kc ks Y => ?_) (fun k hk => by cases hk)
  cases hv
  refine lv_aload_n hx hb dX14_init_4 rfl (lv_at hl 0 rfl) ?_
  refine r_aload_n hx hb dX14_init_5 rfl (lv_at hl 1 rfl) ?_
  replace hE := e_bind hE
  obtain ⟨st_3, g, hE⟩ := hE
  refine a_putFV X Y k_X14 0 g (by decide) rfl hnm rfl (nr_o p1) (fr_o p1) q1067 dX14_init_6 (fun H locs Y => ?_)
  refine lv_aload_n hx hb dX14_init_9 rfl (lv_at hl 0 rfl) ?_
  refine lv_iload_n hx hb dX14_init_10 rfl (lv_at hl 2 rfl) ?_
  replace hE := e_bind hE
  obtain ⟨st_4, g, hE⟩ := hE
  refine a_putFV X Y k_X14 1 g (by decide) rfl hnm rfl rfl rfl q1068 dX14_init_11 (fun H locs Y => ?_)
  refine lv_aload_n hx hb dX14_init_14 rfl (lv_at hl 0 rfl) ?_
  refine r_aload_n hx hb dX14_init_15 rfl (lv_at hl 3 rfl) ?_
  replace hE := e_bind hE
  obtain ⟨st_5, g, hE⟩ := hE
  refine a_putFV X Y k_X14 2 g (by decide) rfl hnm rfl (nr_o p3) (fr_o p3) q1069 dX14_init_16 (fun H locs Y => ?_)
  refine lv_aload_n hx hb dX14_init_19 rfl (lv_at hl 0 rfl) ?_
  refine lv_iload hx hb dX14_init_20 (lv_at hl 4 rfl) ?_
  replace hE := e_bind hE
  obtain ⟨st_6, g, hE⟩ := hE
  refine a_putFV X Y k_X14 3 g (by decide) rfl hnm rfl rfl rfl q1070 dX14_init_22 (fun H locs Y => ?_)
  cases hE
  exact a_vret X Y h1 h2 hr dX14_init_25
/-! BasicMachine$Parser.ifThen()LBasicMachine$Statement; -/
set_option maxHeartbeats 4000000 in
set_option maxRecDepth 100000 in
theorem waf_X3_ifThen_L96 {l : Launch} {x : aP} {As : List Value} {σ0 : aS} {p : Program} {e : Env} {s : State} {m : MethodId} {below : List Frame} {meth : Method} {c : Code} {mc ms : Nat} (X : aX "BasicMachine$Parser" p l s m As.toArray meth c cX3_ifThen 4 x σ0) (hex : ∀ z ∈ c.exceptionTable.toList, False) (hr : meth.sig.returnType = (some (.object "BasicMachine$Statement"))) (hnm : "ifThen" = meth.name) {n : Nat} {st : aS} {a0 : Nat} {x1 : Option Nat} {x2 : Int32} {z96_1 : Int32} {q : aS × ((Option Nat) ⊕ Nat)} (hE : af_X3_ifThen_L96 n x.sK st a0 x1 x2 z96_1 = some q) (h1 : mc + σ0.1 = q.1.1) (h2 : ms + σ0.2.1 = q.1.2.1) {H : Heap} {locs : List Loc} {ls : Array Slot} {kc ks : Nat} (Y : aY x σ0 s st H locs kc ks) (hl : lv_has ls 4 [(0, .ref a0), (1, va_rf x1), (2, .int x2)]) : aG l 85 2007 mc ms x As σ0 (oR q.2) q.1 p e s m below meth c H locs kc ks (F0 m 96 ls [.int z96_1, .ref a0]) := by
  have hx := X.1
  have hb := X.2.1
  have hown := X.2.2.2.1
  have hts := X.2.2.2.2.1
  have hK := X.2.2.2.2.2.1
  have hl0 := X.2.2.2.2.2.2.2.2
  unfold af_X3_ifThen_L96 at hE
  replace hE := e_bind hE
  obtain ⟨u_3, g, hE⟩ := hE
  obtain ⟨fs9, g9⟩ := i_gC g
  have g7 := a_recv X Y k_X3.1 g9
  replace hE := e_xb hE
  rcases hE with ⟨st_1, u_2, g, hE⟩ | ⟨st_1, k9, g, hE⟩
  rotate_left
  · subst hE
    refine a_callV (n := 1) (C := "BasicMachine$Parser") (σ1 := st_1) (σf := st_1) [.int z96_1] X Y (maf_X3_need hl0 n g) ⟨oaf_X3_need _ g, aLe.rf _, h1, h2, (by show _ ≤ 85; decide), (by show _ ≤ 2007; decide)⟩ q476 q478 qs5 q129 q479 (by decide +kernel) g7 rfl hl.1 (Nat.le_of_ble_eq_true rfl) dX3_ifThen_96 (fun v hv => by cases hv) (fun k hk H locs kc ks q9 ce Y e1 e2 e3 => ?_)
    cases hk
    exact a_out X Y h1 h2 (fun z hz => (hex z hz).elim) e1 e2 e3
  have M9 := (mo_v fun _ => (mo_x (of_expr _ _ _) fun _ _ => (mo_v fun _ => (mo_x oaf_X3_take_2 fun _ _ => (mo_s (fun _ => le_nO) fun _ => (mo_v fun _ => (mo_x oaf_X3_number fun _ _ => (mo_cb oaf_X14_init fun _ _ => mo_ret)))))))) _ hE
  refine a_callV (n := 1) (C := "BasicMachine$Parser") (σ1 := st_1) (σf := q.1) [.int z96_1] X Y (maf_X3_need hl0 n g) ⟨oaf_X3_need _ g, M9, h1, h2, (by show _ ≤ 85; decide), (by show _ ≤ 2007; decide)⟩ q476 q478 qs5 q129 q479 (by decide +kernel) g7 rfl hl.1 (Nat.le_of_ble_eq_true rfl) dX3_ifThen_96 (fun v hv H locs kc ks Y => ?_) (fun k hk => by cases hk)
  cases hv
  refine lv_aload_n hx hb dX3_ifThen_99 rfl (lv_at hl 0 rfl) ?_
  replace hE := e_bind hE
  obtain ⟨u_6, g, hE⟩ := hE
  obtain ⟨fs9, g9⟩ := i_gC g
  have g7 := a_recv X Y k_X3.1 g9
  replace hE := e_xb hE
  rcases hE with ⟨st_4, r_5, g, hE⟩ | ⟨st_4, k9, g, hE⟩
  rotate_left
  · subst hE
    refine a_callV (n := 0) (C := "BasicMachine$Parser") (σ1 := st_4) (σf := st_4) [] X Y (mf_expr hl0 n g) ⟨(of_expr _ _ _) _ g, aLe.rf _, h1, h2, (by show _ ≤ 85; decide), (by show _ ≤ 2007; decide)⟩ q879 q880 q881 q129 q882 (by decide +kernel) g7 rfl hl.1 (Nat.le_of_ble_eq_true rfl) dX3_ifThen_100 (fun v hv => by cases hv) (fun k hk H locs kc ks q9 ce Y e1 e2 e3 => ?_)
    cases hk
    exact a_out X Y h1 h2 (fun z hz => (hex z hz).elim) e1 e2 e3
  have M9 := (mo_v fun _ => (mo_x oaf_X3_take_2 fun _ _ => (mo_s (fun _ => le_nO) fun _ => (mo_v fun _ => (mo_x oaf_X3_number fun _ _ => (mo_cb oaf_X14_init fun _ _ => mo_ret)))))) _ hE
  refine a_callV (n := 0) (C := "BasicMachine$Parser") (σ1 := st_4) (σf := q.1) [] X Y (mf_expr hl0 n g) ⟨(of_expr _ _ _) _ g, M9, h1, h2, (by show _ ≤ 85; decide), (by show _ ≤ 2007; decide)⟩ q879 q880 q881 q129 q882 (by decide +kernel) g7 rfl hl.1 (Nat.le_of_ble_eq_true rfl) dX3_ifThen_100 (fun v hv H locs kc ks Y => ?_) (fun k hk => by cases hk)
  cases hv
  refine r_astore_n (i := 3) (lv' := [(3, va_rf r_5), (0, .ref a0), (1, va_rf x1), (2, .int x2)]) hx hb dX3_ifThen_103 rfl hl (by decide) rfl (fun ls hl => ?_)
  refine lv_aload_n hx hb dX3_ifThen_104 rfl (lv_at hl 1 rfl) ?_
  refine s_ldcw (i := 21) X (by decide) dX3_ifThen_105 ?_
  replace hE := e_bind hE
  obtain ⟨u_9, g, hE⟩ := hE
  obtain ⟨fs9, g9⟩ := i_gC g
  have g7 := a_recv X Y k_X3.1 g9
  replace hE := e_xb hE
  rcases hE with ⟨st_7, u_8, g, hE⟩ | ⟨st_7, k9, g, hE⟩
  rotate_left
  · subst hE
    refine a_callV (n := 1) (C := "BasicMachine$Parser") (σ1 := st_7) (σf := st_7) [.ref (x.sK 21)] X Y (maf_X3_take_2 hl0 n g) ⟨oaf_X3_take_2 _ g, aLe.rf _, h1, h2, (by show _ ≤ 85; decide), (by show _ ≤ 2007; decide)⟩ q936 q938 qs23 q129 q939 (by decide +kernel) g7 rfl hl.1 (Nat.le_of_ble_eq_true rfl) dX3_ifThen_108 (fun v hv => by cases hv) (fun k hk H locs kc ks q9 ce Y e1 e2 e3 => ?_)
    cases hk
    exact a_out X Y h1 h2 (fun z hz => (hex z hz).elim) e1 e2 e3
  have M9 := (mo_s (fun _ => le_nO) fun _ => (mo_v fun _ => (mo_x oaf_X3_number fun _ _ => (mo_cb oaf_X14_init fun _ _ => mo_ret)))) _ hE
  refine a_callV (n := 1) (C := "BasicMachine$Parser") (σ1 := st_7) (σf := q.1) [.ref (x.sK 21)] X Y (maf_X3_take_2 hl0 n g) ⟨oaf_X3_take_2 _ g, M9, h1, h2, (by show _ ≤ 85; decide), (by show _ ≤ 2007; decide)⟩ q936 q938 qs23 q129 q939 (by decide +kernel) g7 rfl hl.1 (Nat.le_of_ble_eq_true rfl) dX3_ifThen_108 (fun v hv H locs kc ks Y => ?_) (fun k hk => by cases hk)
  cases hv
  replace hE := e_bind hE
  obtain ⟨st_10, g, hE⟩ := hE
  have M9 := (mo_v fun _ => (mo_x oaf_X3_number fun _ _ => (mo_cb oaf_X14_init fun _ _ => mo_ret))) _ hE
  refine a_new X Y k_X14 g b_X14 q1061 q1062 q153 (aRoom1 Y h1 (le_nO1 g) M9) (aRoom2 Y h2 (le_nO2 g) M9) dX3_ifThen_111 (fun H Y => ?_)
  generalize kc + 1 = kc at Y ⊢
  generalize ks + 4 = ks at Y ⊢
  refine lv_dup hx hb dX3_ifThen_114 rfl ?_
  refine r_aload_n hx hb dX3_ifThen_115 rfl (lv_at hl 2 rfl) ?_
  refine lv_iload_n hx hb dX3_ifThen_116 rfl (lv_at hl 3 rfl) ?_
  refine r_aload_n hx hb dX3_ifThen_117 rfl (lv_at hl 0 rfl) ?_
  refine lv_aload_n hx hb dX3_ifThen_118 rfl (lv_at hl 1 rfl) ?_
  replace hE := e_bind hE
  obtain ⟨u_13, g, hE⟩ := hE
  obtain ⟨fs9, g9⟩ := i_gC g
  have g7 := a_recv X Y k_X3.1 g9
  replace hE := e_xb hE
  rcases hE with ⟨st_11, v_12, g, hE⟩ | ⟨st_11, k9, g, hE⟩
  rotate_left
  · subst hE
    refine a_callV (n := 0) (C := "BasicMachine$Parser") (σ1 := st_11) (σf := st_11) [] X Y (maf_X3_number hl0 n g) ⟨oaf_X3_number _ g, aLe.rf _, h1, h2, (by show _ ≤ 85; decide), (by show _ ≤ 2007; decide)⟩ q465 q467 qs3 q129 q468 (by decide +kernel) g7 rfl hl.1 (by simp only [List.map_cons, List.map_nil, va_rf_cat]; exact Nat.le_of_ble_eq_true rfl) dX3_ifThen_119 (fun v hv => by cases hv) (fun k hk H locs kc ks q9 ce Y e1 e2 e3 => ?_)
    cases hk
    exact a_out X Y h1 h2 (fun z hz => (hex z hz).elim) e1 e2 e3
  have M9 := (mo_cb oaf_X14_init fun _ _ => mo_ret) _ hE
  refine a_callV (n := 0) (C := "BasicMachine$Parser") (σ1 := st_11) (σf := q.1) [] X Y (maf_X3_number hl0 n g) ⟨oaf_X3_number _ g, M9, h1, h2, (by show _ ≤ 85; decide), (by show _ ≤ 2007; decide)⟩ q465 q467 qs3 q129 q468 (by decide +kernel) g7 rfl hl.1 (by simp only [List.map_cons, List.map_nil, va_rf_cat]; exact Nat.le_of_ble_eq_true rfl) dX3_ifThen_119 (fun v hv H locs kc ks Y => ?_) (fun k hk => by cases hk)
  cases hv
  replace hE := e_cb hE
  obtain ⟨st_14, u_15, g, hE⟩ := hE
  have M9 := mo_ret _ hE
  refine a_callIN (host := "BasicMachine") (n := 4) (σ1 := st_14) (σf := q.1) [va_rf x1, .int x2, va_rf r_5, .int v_12] X Y (maf_X14_init hl0 n g) ⟨oaf_X14_init _ g, M9, h1, h2, (by show _ ≤ 85; decide), (by show _ ≤ 2007; decide)⟩ (by decide) q1064 q153 q1065 rfl (by decide +kernel) rfl hl.1 (Nat.le_of_ble_eq_true rfl) dX3_ifThen_122 (fun v hv H locs kc ks Y => ?_) (fun k hk => by cases hk)
  cases hv
  cases hE
  exact a_aret (r := (some st_7.1)) X Y h1 h2 hr (Or.inl ⟨_, rfl⟩) dX3_ifThen_125
set_option maxHeartbeats 4000000 in
set_option maxRecDepth 100000 in
theorem waf_X3_ifThen_L85 {l : Launch} {x : aP} {As : List Value} {σ0 : aS} {p : Program} {e : Env} {s : State} {m : MethodId} {below : List Frame} {meth : Method} {c : Code} {mc ms : Nat} (X : aX "BasicMachine$Parser" p l s m As.toArray meth c cX3_ifThen 4 x σ0) (hex : ∀ z ∈ c.exceptionTable.toList, False) (hr : meth.sig.returnType = (some (.object "BasicMachine$Statement"))) (hnm : "ifThen" = meth.name) {n : Nat} {st : aS} {a0 : Nat} {x1 : Option Nat} {z85_0 : Int32} {q : aS × ((Option Nat) ⊕ Nat)} (hE : af_X3_ifThen_L85 n x.sK st a0 x1 z85_0 = some q) (h1 : mc + σ0.1 = q.1.1) (h2 : ms + σ0.2.1 = q.1.2.1) {H : Heap} {locs : List Loc} {ls : Array Slot} {kc ks : Nat} (Y : aY x σ0 s st H locs kc ks) (hl : lv_has ls 4 [(0, .ref a0), (1, va_rf x1)]) : aG l 85 2007 mc ms x As σ0 (oR q.2) q.1 p e s m below meth c H locs kc ks (F0 m 85 ls [.int z85_0]) := by
  have hx := X.1
  have hb := X.2.1
  have hown := X.2.2.2.1
  have hts := X.2.2.2.2.1
  have hK := X.2.2.2.2.2.1
  have hl0 := X.2.2.2.2.2.2.2.2
  unfold af_X3_ifThen_L85 at hE
  refine lv_istore_n (i := 2) (lv' := [(2, .int z85_0), (0, .ref a0), (1, va_rf x1)]) hx hb dX3_ifThen_85 rfl hl (by decide) (by cases x1 <;> rfl) (fun ls hl => ?_)
  refine lv_aload_n hx hb dX3_ifThen_86 rfl (lv_at hl 1 rfl) ?_
  refine lv_iload_n hx hb dX3_ifThen_87 rfl (lv_at hl 0 rfl) ?_
  refine lv_if_le (tgt := 95) hx hb dX3_ifThen_88 (by decide) (fun c_1 => ?_) (fun c_1 => ?_)
  · replace hE := e_t c_1 hE
    refine lv_iconst (v := 0) hx hb dX3_ifThen_95 (by decide) ?_
    exact waf_X3_ifThen_L96 X hex hr hnm hE h1 h2 Y (lv_sub hl [1, 2, 0] rfl)
  · replace hE := e_f c_1 hE
    refine lv_iconst (v := 1) hx hb dX3_ifThen_91 (by decide) ?_
    refine lv_goto (tgt := 96) hx hb dX3_ifThen_92 (by decide) ?_
    exact waf_X3_ifThen_L96 X hex hr hnm hE h1 h2 Y (lv_sub hl [1, 2, 0] rfl)
set_option maxHeartbeats 4000000 in
set_option maxRecDepth 100000 in
theorem maf_X3_ifThen {l : Launch} (hl0 : l.stackTraces = false) (n : Nat) {x : aP} {st : aS} {a0 : Nat} {q : aS × ((Option Nat) ⊕ Nat)} (hE : af_X3_ifThen n x.sK st a0 = some q) : aMet l yX3_ifThen (ws_ yX3_ifThen cX3_ifThen 4 (some (.object "BasicMachine$Statement"))) 85 2007 x [.ref a0] st (oR q.2) q.1 := by
  refine a_ofW (own := "BasicMachine$Parser") hl0 (by decide) rfl (Nat.le_of_ble_eq_true rfl) (fun mc ms p e s m below meth c ls H locs kc ks h1 h2 X hex Y hr hnm hl => ?_)
  have hnm : "ifThen" = meth.name := hnm
  have hl : lv_has ls 4 [(0, .ref a0)] := hl
  have hx := X.1
  have hb := X.2.1
  have hown := X.2.2.2.1
  have hts := X.2.2.2.2.1
  have hK := X.2.2.2.2.2.1
  have hl0 := X.2.2.2.2.2.2.2.2
  unfold af_X3_ifThen at hE
  refine lv_aload_n hx hb dX3_ifThen_0 rfl (lv_at hl 0 rfl) ?_
  replace hE := e_bind hE
  obtain ⟨u_3, g, hE⟩ := hE
  obtain ⟨fs9, g9⟩ := i_gC g
  have g7 := a_recv X Y k_X3.1 g9
  replace hE := e_xb hE
  rcases hE with ⟨st_1, r_2, g, hE⟩ | ⟨st_1, k9, g, hE⟩
  rotate_left
  · subst hE
    refine a_callV (n := 0) (C := "BasicMachine$Parser") (σ1 := st_1) (σf := st_1) [] X Y (mf_expr hl0 n g) ⟨(of_expr _ _ _) _ g, aLe.rf _, h1, h2, (by show _ ≤ 85; decide), (by show _ ≤ 2007; decide)⟩ q879 q880 q881 q129 q882 (by decide +kernel) g7 rfl hl.1 (Nat.le_of_ble_eq_true rfl) dX3_ifThen_1 (fun v hv => by cases hv) (fun k hk H locs kc ks q9 ce Y e1 e2 e3 => ?_)
    cases hk
    exact a_out X Y h1 h2 (fun z hz => (hex z hz).elim) e1 e2 e3
  have M9 := (mo_v fun _ => (mo_cb oaf_X3_takes fun _ _ => (mo_if (mo_v fun _ => (mo_cb oaf_X3_takes fun _ _ => (mo_if (mo_v fun _ => (mo_cb oaf_X3_takes fun _ _ => (mo_if (oaf_X3_ifThen_L85 ) (mo_v fun _ => (mo_cb oaf_X3_takes fun _ _ => (mo_if (oaf_X3_ifThen_L85 ) (oaf_X3_ifThen_L85 ))))))) (mo_v fun _ => (mo_cb oaf_X3_takes fun _ _ => (mo_if (mo_v fun _ => (mo_cb oaf_X3_takes fun _ _ => (mo_if (oaf_X3_ifThen_L85 ) (oaf_X3_ifThen_L85 )))) (oaf_X3_ifThen_L85 ))))))) (oaf_X3_ifThen_L85 )))) _ hE
  refine a_callV (n := 0) (C := "BasicMachine$Parser") (σ1 := st_1) (σf := q.1) [] X Y (mf_expr hl0 n g) ⟨(of_expr _ _ _) _ g, M9, h1, h2, (by show _ ≤ 85; decide), (by show _ ≤ 2007; decide)⟩ q879 q880 q881 q129 q882 (by decide +kernel) g7 rfl hl.1 (Nat.le_of_ble_eq_true rfl) dX3_ifThen_1 (fun v hv H locs kc ks Y => ?_) (fun k hk => by cases hk)
  cases hv
  refine r_astore_n (i := 1) (lv' := [(1, va_rf r_2), (0, .ref a0)]) hx hb dX3_ifThen_4 rfl hl (by decide) rfl (fun ls hl => ?_)
  refine lv_aload_n hx hb dX3_ifThen_5 rfl (lv_at hl 1 rfl) ?_
  refine lv_bipush (v := 61) hx hb dX3_ifThen_6 (by decide) ?_
  replace hE := e_bind hE
  obtain ⟨u_6, g, hE⟩ := hE
  obtain ⟨fs9, g9⟩ := i_gC g
  have g7 := a_recv X Y k_X3.1 g9
  replace hE := e_cb hE
  obtain ⟨st_4, v_5, g, hE⟩ := hE
  have M9 := (mo_if (mo_v fun _ => (mo_cb oaf_X3_takes fun _ _ => (mo_if (mo_v fun _ => (mo_cb oaf_X3_takes fun _ _ => (mo_if (oaf_X3_ifThen_L85 ) (mo_v fun _ => (mo_cb oaf_X3_takes fun _ _ => (mo_if (oaf_X3_ifThen_L85 ) (oaf_X3_ifThen_L85 ))))))) (mo_v fun _ => (mo_cb oaf_X3_takes fun _ _ => (mo_if (mo_v fun _ => (mo_cb oaf_X3_takes fun _ _ => (mo_if (oaf_X3_ifThen_L85 ) (oaf_X3_ifThen_L85 )))) (oaf_X3_ifThen_L85 ))))))) (oaf_X3_ifThen_L85 )) _ hE
  refine a_callV (n := 1) (C := "BasicMachine$Parser") (σ1 := st_4) (σf := q.1) [.int (61 : Int32)] X Y (maf_X3_takes hl0 n g) ⟨oaf_X3_takes _ g, M9, h1, h2, (by show _ ≤ 85; decide), (by show _ ≤ 2007; decide)⟩ q883 q885 qs14 q129 q886 (by decide +kernel) g7 rfl hl.1 (Nat.le_of_ble_eq_true rfl) dX3_ifThen_8 (fun v hv H locs kc ks Y => ?_) (fun k hk => by cases hk)
  cases hv
  refine lv_if_eq (tgt := 18) hx hb dX3_ifThen_11 (by decide) (fun c_7 => ?_) (fun c_7 => ?_)
  · replace hE := e_t c_7 hE
    refine lv_aload_n hx hb dX3_ifThen_18 rfl (lv_at hl 1 rfl) ?_
    refine lv_bipush (v := 60) hx hb dX3_ifThen_19 (by decide) ?_
    replace hE := e_bind hE
    obtain ⟨u_10, g, hE⟩ := hE
    obtain ⟨fs9, g9⟩ := i_gC g
    have g7 := a_recv X Y k_X3.1 g9
    replace hE := e_cb hE
    obtain ⟨st_8, v_9, g, hE⟩ := hE
    have M9 := (mo_if (mo_v fun _ => (mo_cb oaf_X3_takes fun _ _ => (mo_if (oaf_X3_ifThen_L85 ) (mo_v fun _ => (mo_cb oaf_X3_takes fun _ _ => (mo_if (oaf_X3_ifThen_L85 ) (oaf_X3_ifThen_L85 ))))))) (mo_v fun _ => (mo_cb oaf_X3_takes fun _ _ => (mo_if (mo_v fun _ => (mo_cb oaf_X3_takes fun _ _ => (mo_if (oaf_X3_ifThen_L85 ) (oaf_X3_ifThen_L85 )))) (oaf_X3_ifThen_L85 ))))) _ hE
    refine a_callV (n := 1) (C := "BasicMachine$Parser") (σ1 := st_8) (σf := q.1) [.int (60 : Int32)] X Y (maf_X3_takes hl0 n g) ⟨oaf_X3_takes _ g, M9, h1, h2, (by show _ ≤ 85; decide), (by show _ ≤ 2007; decide)⟩ q883 q885 qs14 q129 q886 (by decide +kernel) g7 rfl hl.1 (Nat.le_of_ble_eq_true rfl) dX3_ifThen_21 (fun v hv H locs kc ks Y => ?_) (fun k hk => by cases hk)
    cases hv
    refine lv_if_eq (tgt := 57) hx hb dX3_ifThen_24 (by decide) (fun c_11 => ?_) (fun c_11 => ?_)
    · replace hE := e_t c_11 hE
      refine lv_aload_n hx hb dX3_ifThen_57 rfl (lv_at hl 1 rfl) ?_
      refine lv_bipush (v := 62) hx hb dX3_ifThen_58 (by decide) ?_
      replace hE := e_bind hE
      obtain ⟨u_14, g, hE⟩ := hE
      obtain ⟨fs9, g9⟩ := i_gC g
      have g7 := a_recv X Y k_X3.1 g9
      replace hE := e_cb hE
      obtain ⟨st_12, v_13, g, hE⟩ := hE
      have M9 := (mo_if (oaf_X3_ifThen_L85 ) (mo_v fun _ => (mo_cb oaf_X3_takes fun _ _ => (mo_if (oaf_X3_ifThen_L85 ) (oaf_X3_ifThen_L85 ))))) _ hE
      refine a_callV (n := 1) (C := "BasicMachine$Parser") (σ1 := st_12) (σf := q.1) [.int (62 : Int32)] X Y (maf_X3_takes hl0 n g) ⟨oaf_X3_takes _ g, M9, h1, h2, (by show _ ≤ 85; decide), (by show _ ≤ 2007; decide)⟩ q883 q885 qs14 q129 q886 (by decide +kernel) g7 rfl hl.1 (Nat.le_of_ble_eq_true rfl) dX3_ifThen_60 (fun v hv H locs kc ks Y => ?_) (fun k hk => by cases hk)
      cases hv
      refine lv_if_eq (tgt := 84) hx hb dX3_ifThen_63 (by decide) (fun c_15 => ?_) (fun c_15 => ?_)
      · replace hE := e_t c_15 hE
        refine lv_iconst (v := 0) hx hb dX3_ifThen_84 (by decide) ?_
        exact waf_X3_ifThen_L85 X hex hr hnm hE h1 h2 Y (lv_sub hl [1, 0] rfl)
      · replace hE := e_f c_15 hE
        refine lv_aload_n hx hb dX3_ifThen_66 rfl (lv_at hl 1 rfl) ?_
        refine lv_bipush (v := 61) hx hb dX3_ifThen_67 (by decide) ?_
        replace hE := e_bind hE
        obtain ⟨u_18, g, hE⟩ := hE
        obtain ⟨fs9, g9⟩ := i_gC g
        have g7 := a_recv X Y k_X3.1 g9
        replace hE := e_cb hE
        obtain ⟨st_16, v_17, g, hE⟩ := hE
        have M9 := (mo_if (oaf_X3_ifThen_L85 ) (oaf_X3_ifThen_L85 )) _ hE
        refine a_callV (n := 1) (C := "BasicMachine$Parser") (σ1 := st_16) (σf := q.1) [.int (61 : Int32)] X Y (maf_X3_takes hl0 n g) ⟨oaf_X3_takes _ g, M9, h1, h2, (by show _ ≤ 85; decide), (by show _ ≤ 2007; decide)⟩ q883 q885 qs14 q129 q886 (by decide +kernel) g7 rfl hl.1 (Nat.le_of_ble_eq_true rfl) dX3_ifThen_69 (fun v hv H locs kc ks Y => ?_) (fun k hk => by cases hk)
        cases hv
        refine lv_if_eq (tgt := 80) hx hb dX3_ifThen_72 (by decide) (fun c_19 => ?_) (fun c_19 => ?_)
        · replace hE := e_t c_19 hE
          refine lv_iconst (v := 4) hx hb dX3_ifThen_80 (by decide) ?_
          refine lv_goto (tgt := 85) hx hb dX3_ifThen_81 (by decide) ?_
          exact waf_X3_ifThen_L85 X hex hr hnm hE h1 h2 Y (lv_sub hl [1, 0] rfl)
        · replace hE := e_f c_19 hE
          refine lv_bipush (v := 6) hx hb dX3_ifThen_75 (by decide) ?_
          refine lv_goto (tgt := 85) hx hb dX3_ifThen_77 (by decide) ?_
          exact waf_X3_ifThen_L85 X hex hr hnm hE h1 h2 Y (lv_sub hl [1, 0] rfl)
    · replace hE := e_f c_11 hE
      refine lv_aload_n hx hb dX3_ifThen_27 rfl (lv_at hl 1 rfl) ?_
      refine lv_bipush (v := 61) hx hb dX3_ifThen_28 (by decide) ?_
      replace hE := e_bind hE
      obtain ⟨u_22, g, hE⟩ := hE
      obtain ⟨fs9, g9⟩ := i_gC g
      have g7 := a_recv X Y k_X3.1 g9
      replace hE := e_cb hE
      obtain ⟨st_20, v_21, g, hE⟩ := hE
      have M9 := (mo_if (mo_v fun _ => (mo_cb oaf_X3_takes fun _ _ => (mo_if (oaf_X3_ifThen_L85 ) (oaf_X3_ifThen_L85 )))) (oaf_X3_ifThen_L85 )) _ hE
      refine a_callV (n := 1) (C := "BasicMachine$Parser") (σ1 := st_20) (σf := q.1) [.int (61 : Int32)] X Y (maf_X3_takes hl0 n g) ⟨oaf_X3_takes _ g, M9, h1, h2, (by show _ ≤ 85; decide), (by show _ ≤ 2007; decide)⟩ q883 q885 qs14 q129 q886 (by decide +kernel) g7 rfl hl.1 (Nat.le_of_ble_eq_true rfl) dX3_ifThen_30 (fun v hv H locs kc ks Y => ?_) (fun k hk => by cases hk)
      cases hv
      refine lv_if_eq (tgt := 40) hx hb dX3_ifThen_33 (by decide) (fun c_23 => ?_) (fun c_23 => ?_)
      · replace hE := e_t c_23 hE
        refine lv_aload_n hx hb dX3_ifThen_40 rfl (lv_at hl 1 rfl) ?_
        refine lv_bipush (v := 62) hx hb dX3_ifThen_41 (by decide) ?_
        replace hE := e_bind hE
        obtain ⟨u_26, g, hE⟩ := hE
        obtain ⟨fs9, g9⟩ := i_gC g
        have g7 := a_recv X Y k_X3.1 g9
        replace hE := e_cb hE
        obtain ⟨st_24, v_25, g, hE⟩ := hE
        have M9 := (mo_if (oaf_X3_ifThen_L85 ) (oaf_X3_ifThen_L85 )) _ hE
        refine a_callV (n := 1) (C := "BasicMachine$Parser") (σ1 := st_24) (σf := q.1) [.int (62 : Int32)] X Y (maf_X3_takes hl0 n g) ⟨oaf_X3_takes _ g, M9, h1, h2, (by show _ ≤ 85; decide), (by show _ ≤ 2007; decide)⟩ q883 q885 qs14 q129 q886 (by decide +kernel) g7 rfl hl.1 (Nat.le_of_ble_eq_true rfl) dX3_ifThen_43 (fun v hv H locs kc ks Y => ?_) (fun k hk => by cases hk)
        cases hv
        refine lv_if_eq (tgt := 53) hx hb dX3_ifThen_46 (by decide) (fun c_27 => ?_) (fun c_27 => ?_)
        · replace hE := e_t c_27 hE
          refine lv_iconst (v := 1) hx hb dX3_ifThen_53 (by decide) ?_
          refine lv_goto (tgt := 85) hx hb dX3_ifThen_54 (by decide) ?_
          exact waf_X3_ifThen_L85 X hex hr hnm hE h1 h2 Y (lv_sub hl [1, 0] rfl)
        · replace hE := e_f c_27 hE
          refine lv_iconst (v := 5) hx hb dX3_ifThen_49 (by decide) ?_
          refine lv_goto (tgt := 85) hx hb dX3_ifThen_50 (by decide) ?_
          exact waf_X3_ifThen_L85 X hex hr hnm hE h1 h2 Y (lv_sub hl [1, 0] rfl)
      · replace hE := e_f c_23 hE
        refine lv_iconst (v := 3) hx hb dX3_ifThen_36 (by decide) ?_
        refine lv_goto (tgt := 85) hx hb dX3_ifThen_37 (by decide) ?_
        exact waf_X3_ifThen_L85 X hex hr hnm hE h1 h2 Y (lv_sub hl [1, 0] rfl)
  · replace hE := e_f c_7 hE
    refine lv_iconst (v := 2) hx hb dX3_ifThen_14 (by decide) ?_
    refine lv_goto (tgt := 85) hx hb dX3_ifThen_15 (by decide) ?_
    exact waf_X3_ifThen_L85 X hex hr hnm hE h1 h2 Y (lv_sub hl [1, 0] rfl)
/-! BasicMachine$Goto.<init>(I)V -/
set_option maxHeartbeats 4000000 in
set_option maxRecDepth 100000 in
theorem maf_X15_init {l : Launch} (hl0 : l.stackTraces = false) (n : Nat) {x : aP} {st : aS} {a0 : Nat} {p1 : Int32} {q : aS × Unit} (hE : af_X15_init n x.sK st a0 p1 = some q) : aMet l yX15_init (ws_ yX15_init cX15_init 2 none) 2 40 x [.ref a0, .int p1] st (.inl none) q.1 := by
  refine a_ofW (own := "BasicMachine$Goto") hl0 (by decide) rfl (Nat.le_of_ble_eq_true rfl) (fun mc ms p e s m below meth c ls H locs kc ks h1 h2 X hex Y hr hnm hl => ?_)
  have hnm : "<init>" = meth.name := hnm
  have hl : lv_has ls 2 [(0, .ref a0), (1, .int p1)] := hl
  have hx := X.1
  have hb := X.2.1
  have hown := X.2.2.2.1
  have hts := X.2.2.2.2.1
  have hK := X.2.2.2.2.2.1
  have hl0 := X.2.2.2.2.2.2.2.2
  unfold af_X15_init at hE
  refine lv_aload_n hx hb dX15_init_0 rfl (lv_at hl 0 rfl) ?_
  replace hE := e_cb hE
  obtain ⟨st_1, u_2, g, hE⟩ := hE
  have M9 := (mo_s (fun _ => le_pF) fun _ => mo_ret) _ hE
  refine a_callI (n := 0) (σ1 := st_1) (σf := q.1) [] X Y (maf_J15_init hl0 n g) ⟨oaf_J15_init _ g, M9, h1, h2, (by show _ ≤ 2; decide), (by show _ ≤ 40; decide)⟩ q1085 q912 q143 q913 rfl (by decide +kernel) rfl hl.1 (Nat.le_of_ble_eq_true rfl) dX15_init_1 (fun v hv H locs kc ks Y => ?_) (fun k hk => by cases hk)
  cases hv
  refine lv_aload_n hx hb dX15_init_4 rfl (lv_at hl 0 rfl) ?_
  refine lv_iload_n hx hb dX15_init_5 rfl (lv_at hl 1 rfl) ?_
  replace hE := e_bind hE
  obtain ⟨st_3, g, hE⟩ := hE
  refine a_putFV X Y k_X15 0 g (by decide) rfl hnm rfl rfl rfl q1086 dX15_init_6 (fun H locs Y => ?_)
  cases hE
  exact a_vret X Y h1 h2 hr dX15_init_9
/-! BasicMachine$On.<init>(LBasicMachine$Expression;[I)V -/
set_option maxHeartbeats 4000000 in
set_option maxRecDepth 100000 in
theorem maf_X16_init {l : Launch} (hl0 : l.stackTraces = false) (n : Nat) {x : aP} {st : aS} {a0 : Nat} {p1 : Option Nat} {p2 : Option Nat} {q : aS × Unit} (hE : af_X16_init n x.sK st a0 p1 p2 = some q) : aMet l yX16_init (ws_ yX16_init cX16_init 3 none) 2 40 x [.ref a0, va_rf p1, va_rf p2] st (.inl none) q.1 := by
  refine a_ofW (own := "BasicMachine$On") hl0 (by decide) rfl (by simp only [lg_sl, List.flatMap_cons, List.flatMap_nil, va_rf_cat]; exact Nat.le_of_ble_eq_true rfl) (fun mc ms p e s m below meth c ls H locs kc ks h1 h2 X hex Y hr hnm hl => ?_)
  have hnm : "<init>" = meth.name := hnm
  have hl : lv_has ls 3 [(0, .ref a0), (1, va_rf p1), (2, va_rf p2)] := by simp only [lv_args, va_rf_cat] at hl; exact hl
  have hx := X.1
  have hb := X.2.1
  have hown := X.2.2.2.1
  have hts := X.2.2.2.2.1
  have hK := X.2.2.2.2.2.1
  have hl0 := X.2.2.2.2.2.2.2.2
  unfold af_X16_init at hE
  refine lv_aload_n hx hb dX16_init_0 rfl (lv_at hl 0 rfl) ?_
  replace hE := e_cb hE
  obtain ⟨st_1, u_2, g, hE⟩ := hE
  have M9 := (mo_s (fun _ => le_pF) fun _ => (mo_s (fun _ => le_pF) fun _ => mo_ret)) _ hE
  refine a_callI (n := 0) (σ1 := st_1) (σf := q.1) [] X Y (maf_J15_init hl0 n g) ⟨oaf_J15_init _ g, M9, h1, h2, (by show _ ≤ 2; decide), (by show _ ≤ 40; decide)⟩ q1099 q912 q143 q913 rfl (by decide +kernel) rfl hl.1 (Nat.le_of_ble_eq_true rfl) dX16_init_1 (fun v hv H locs kc ks Y => ?_) (fun k hk => by cases hk)
  cases hv
  refine lv_aload_n hx hb dX16_init_4 rfl (lv_at hl 0 rfl) ?_
  refine r_aload_n hx hb dX16_init_5 rfl (lv_at hl 1 rfl) ?_
  replace hE := e_bind hE
  obtain ⟨st_3, g, hE⟩ := hE
  refine a_putFV X Y k_X16 0 g (by decide) rfl hnm rfl (nr_o p1) (fr_o p1) q1100 dX16_init_6 (fun H locs Y => ?_)
  refine lv_aload_n hx hb dX16_init_9 rfl (lv_at hl 0 rfl) ?_
  refine r_aload_n hx hb dX16_init_10 rfl (lv_at hl 2 rfl) ?_
  replace hE := e_bind hE
  obtain ⟨st_4, g, hE⟩ := hE
  refine a_putFV X Y k_X16 1 g (by decide) rfl hnm rfl (nr_a p2) (fr_a p2) q1101 dX16_init_11 (fun H locs Y => ?_)
  cases hE
  exact a_vret X Y h1 h2 hr dX16_init_14
/-! BasicMachine$Parser.on()LBasicMachine$Statement; -/
set_option maxHeartbeats 4000000 in
set_option maxRecDepth 100000 in
theorem waf_X3_on_S54_ {l : Launch} {x : aP} {As : List Value} {σ0 : aS} {p : Program} {e : Env} {s : State} {m : MethodId} {below : List Frame} {meth : Method} {c : Code} {mc ms : Nat} (X : aX "BasicMachine$Parser" p l s m As.toArray meth c cX3_on 6 x σ0) (hex : ∀ z ∈ c.exceptionTable.toList, False) (hr : meth.sig.returnType = (some (.object "BasicMachine$Statement"))) (hnm : "on" = meth.name) {n : Nat} {q : aS × ((Option Nat) ⊕ Nat)} : ∀ k : Nat, (∀ {st : aS} {a0 : Nat} {x1 : Option Nat} {x2 : Option Nat} {x3 : Int32} {x4 : Option Nat} {x5 : Int32}, af_X3_on_S54 n x.sK k st a0 x1 x2 x3 x4 x5 = some q → (mc + σ0.1 = q.1.1) → (ms + σ0.2.1 = q.1.2.1) → ∀ {H : Heap} {locs : List Loc} {ls : Array Slot} {kc ks : Nat}, aY x σ0 s st H locs kc ks → lv_has ls 6 [(0, .ref a0), (1, va_rf x1), (2, va_rf x2), (3, .int x3), (4, va_rf x4), (5, .int x5)] → aG l 85 2007 mc ms x As σ0 (oR q.2) q.1 p e s m below meth c H locs kc ks (F0 m 54 ls [])) := by
  have hx := X.1
  have hb := X.2.1
  have hown := X.2.2.2.1
  have hts := X.2.2.2.2.1
  have hK := X.2.2.2.2.2.1
  have hl0 := X.2.2.2.2.2.2.2.2
  intro k
  induction k with
  | zero => exact fun h => nomatch (show none = some q from h)
  | succ k ih =>
    have mrec := @oaf_X3_on_S54_ n x.sK k
    intro st a0 x1 x2 x3 x4 x5 hE h1 h2 H locs ls kc ks Y hl
    replace hE : af_X3_on_B54 n x.sK (af_X3_on_S54 n x.sK k) st a0 x1 x2 x3 x4 x5 = some q := hE
    unfold af_X3_on_B54 at hE
    refine lv_iload hx hb dX3_on_54 (lv_at hl 5 rfl) ?_
    refine lv_iload_n hx hb dX3_on_56 rfl (lv_at hl 3 rfl) ?_
    refine lv_icmp_ge (tgt := 75) hx hb dX3_on_57 (by decide) (fun c_1 => ?_) (fun c_1 => ?_)
    · replace hE := e_t c_1 hE
      replace hE := e_bind hE
      obtain ⟨st_2, g, hE⟩ := hE
      have M9 := (mo_cb oaf_X16_init fun _ _ => mo_ret) _ hE
      refine a_new X Y k_X16 g b_X16 q1094 q1095 q155 (aRoom1 Y h1 (le_nO1 g) M9) (aRoom2 Y h2 (le_nO2 g) M9) dX3_on_75 (fun H Y => ?_)
      generalize kc + 1 = kc at Y ⊢
      generalize ks + 2 = ks at Y ⊢
      refine lv_dup hx hb dX3_on_78 rfl ?_
      refine r_aload_n hx hb dX3_on_79 rfl (lv_at hl 1 rfl) ?_
      refine r_aload hx hb dX3_on_80 (lv_at hl 4 rfl) ?_
      replace hE := e_cb hE
      obtain ⟨st_3, u_4, g, hE⟩ := hE
      have M9 := mo_ret _ hE
      refine a_callIN (host := "BasicMachine") (n := 2) (σ1 := st_3) (σf := q.1) [va_rf x1, va_rf x4] X Y (maf_X16_init hl0 n g) ⟨oaf_X16_init _ g, M9, h1, h2, (by show _ ≤ 85; decide), (by show _ ≤ 2007; decide)⟩ (by decide) q1097 q155 q1098 rfl (by decide +kernel) rfl hl.1 (Nat.le_of_ble_eq_true rfl) dX3_on_82 (fun v hv H locs kc ks Y => ?_) (fun k hk => by cases hk)
      cases hv
      cases hE
      exact a_aret (r := (some st.1)) X Y h1 h2 hr (Or.inl ⟨_, rfl⟩) dX3_on_85
    · replace hE := e_f c_1 hE
      refine r_aload hx hb dX3_on_60 (lv_at hl 4 rfl) ?_
      refine lv_iload hx hb dX3_on_62 (lv_at hl 5 rfl) ?_
      refine r_aload_n hx hb dX3_on_64 rfl (lv_at hl 2 rfl) ?_
      refine lv_iload hx hb dX3_on_65 (lv_at hl 5 rfl) ?_
      replace hE := e_bind hE
      obtain ⟨a_5, g, hE⟩ := hE
      subst g
      replace hE := e_bind hE
      obtain ⟨v_6, g, hE⟩ := hE
      refine a_iald X Y g dX3_on_67 ?_
      replace hE := e_bind hE
      obtain ⟨a_7, g, hE⟩ := hE
      subst g
      replace hE := e_bind hE
      obtain ⟨st_8, g, hE⟩ := hE
      refine a_iast X Y g dX3_on_68 (fun H locs Y => ?_)
      refine lv_iinc (v := (x5 + (1 : Int32))) (lv' := [(5, .int (x5 + (1 : Int32))), (0, .ref a0), (1, va_rf x1), (2, .ref a_5), (3, .int x3), (4, .ref a_7)]) hx hb dX3_on_69 hl (k := 5) rfl rfl (by decide) rfl (fun ls hl => ?_)
      refine lv_goto (tgt := 54) hx hb dX3_on_72 (by decide) ?_
      exact ih hE h1 h2 Y (lv_sub hl [1, 2, 3, 4, 5, 0] rfl)
set_option maxHeartbeats 4000000 in
set_option maxRecDepth 100000 in
theorem waf_X3_on_S54 {l : Launch} {x : aP} {As : List Value} {σ0 : aS} {p : Program} {e : Env} {s : State} {m : MethodId} {below : List Frame} {meth : Method} {c : Code} {mc ms : Nat} (X : aX "BasicMachine$Parser" p l s m As.toArray meth c cX3_on 6 x σ0) (hex : ∀ z ∈ c.exceptionTable.toList, False) (hr : meth.sig.returnType = (some (.object "BasicMachine$Statement"))) (hnm : "on" = meth.name) {n : Nat} {q : aS × ((Option Nat) ⊕ Nat)} : (∀ {st : aS} {a0 : Nat} {x1 : Option Nat} {x2 : Option Nat} {x3 : Int32} {x4 : Option Nat} {x5 : Int32}, af_X3_on_S54 n x.sK n st a0 x1 x2 x3 x4 x5 = some q → (mc + σ0.1 = q.1.1) → (ms + σ0.2.1 = q.1.2.1) → ∀ {H : Heap} {locs : List Loc} {ls : Array Slot} {kc ks : Nat}, aY x σ0 s st H locs kc ks → lv_has ls 6 [(0, .ref a0), (1, va_rf x1), (2, va_rf x2), (3, .int x3), (4, va_rf x4), (5, .int x5)] → aG l 85 2007 mc ms x As σ0 (oR q.2) q.1 p e s m below meth c H locs kc ks (F0 m 54 ls [])) := waf_X3_on_S54_ X hex hr hnm n
set_option maxHeartbeats 4000000 in
set_option maxRecDepth 100000 in
theorem waf_X3_on_L46 {l : Launch} {x : aP} {As : List Value} {σ0 : aS} {p : Program} {e : Env} {s : State} {m : MethodId} {below : List Frame} {meth : Method} {c : Code} {mc ms : Nat} (X : aX "BasicMachine$Parser" p l s m As.toArray meth c cX3_on 6 x σ0) (hex : ∀ z ∈ c.exceptionTable.toList, False) (hr : meth.sig.returnType = (some (.object "BasicMachine$Statement"))) (hnm : "on" = meth.name) {n : Nat} {st : aS} {a0 : Nat} {x1 : Option Nat} {x2 : Option Nat} {x3 : Int32} {q : aS × ((Option Nat) ⊕ Nat)} (hE : af_X3_on_L46 n x.sK st a0 x1 x2 x3 = some q) (h1 : mc + σ0.1 = q.1.1) (h2 : ms + σ0.2.1 = q.1.2.1) {H : Heap} {locs : List Loc} {ls : Array Slot} {kc ks : Nat} (Y : aY x σ0 s st H locs kc ks) (hl : lv_has ls 6 [(0, .ref a0), (1, va_rf x1), (2, va_rf x2), (3, .int x3)]) : aG l 85 2007 mc ms x As σ0 (oR q.2) q.1 p e s m below meth c H locs kc ks (F0 m 46 ls []) := by
  have hx := X.1
  have hb := X.2.1
  have hown := X.2.2.2.1
  have hts := X.2.2.2.2.1
  have hK := X.2.2.2.2.2.1
  have hl0 := X.2.2.2.2.2.2.2.2
  unfold af_X3_on_L46 at hE
  refine lv_iload_n hx hb dX3_on_46 rfl (lv_at hl 3 rfl) ?_
  replace hE := e_bind hE
  obtain ⟨st_1, g, hE⟩ := hE
  have M9 := ((oaf_X3_on_S54 )) _ hE
  refine a_newa (atype := .int) X Y g (by decide) rfl (fun _ => rfl) (by decide) q290 (aRoom1 Y h1 (le_nA1 g) M9) (aRoom2 Y h2 (le_nA2 g) M9) dX3_on_47 (fun H Y => ?_)
  generalize kc + 1 = kc at Y ⊢
  generalize ks + Int32.toNatClampNeg x3 = ks at Y ⊢
  refine lv_astore (lv' := [(4, .ref st.1), (0, .ref a0), (1, va_rf x1), (2, va_rf x2), (3, .int x3)]) hx hb dX3_on_49 hl (by decide) rfl (fun ls hl => ?_)
  refine lv_iconst (v := 0) hx hb dX3_on_51 (by decide) ?_
  refine lv_istore (lv' := [(5, .int (0 : Int32)), (4, .ref st.1), (0, .ref a0), (1, va_rf x1), (2, va_rf x2), (3, .int x3)]) hx hb dX3_on_52 hl (by decide) rfl (fun ls hl => ?_)
  exact (waf_X3_on_S54 X hex hr hnm) hE h1 h2 Y (lv_sub hl [2, 3, 4, 5, 1, 0] rfl)
set_option maxHeartbeats 4000000 in
set_option maxRecDepth 100000 in
theorem waf_X3_on_S22_ {l : Launch} {x : aP} {As : List Value} {σ0 : aS} {p : Program} {e : Env} {s : State} {m : MethodId} {below : List Frame} {meth : Method} {c : Code} {mc ms : Nat} (X : aX "BasicMachine$Parser" p l s m As.toArray meth c cX3_on 6 x σ0) (hex : ∀ z ∈ c.exceptionTable.toList, False) (hr : meth.sig.returnType = (some (.object "BasicMachine$Statement"))) (hnm : "on" = meth.name) {n : Nat} {q : aS × ((Option Nat) ⊕ Nat)} : ∀ k : Nat, (∀ {st : aS} {a0 : Nat} {x1 : Option Nat} {x2 : Option Nat} {x3 : Int32}, af_X3_on_S22 n x.sK k st a0 x1 x2 x3 = some q → (mc + σ0.1 = q.1.1) → (ms + σ0.2.1 = q.1.2.1) → ∀ {H : Heap} {locs : List Loc} {ls : Array Slot} {kc ks : Nat}, aY x σ0 s st H locs kc ks → lv_has ls 6 [(0, .ref a0), (1, va_rf x1), (2, va_rf x2), (3, .int x3)] → aG l 85 2007 mc ms x As σ0 (oR q.2) q.1 p e s m below meth c H locs kc ks (F0 m 22 ls [])) := by
  have hx := X.1
  have hb := X.2.1
  have hown := X.2.2.2.1
  have hts := X.2.2.2.2.1
  have hK := X.2.2.2.2.2.1
  have hl0 := X.2.2.2.2.2.2.2.2
  intro k
  induction k with
  | zero => exact fun h => nomatch (show none = some q from h)
  | succ k ih =>
    have mrec := @oaf_X3_on_S22_ n x.sK k
    intro st a0 x1 x2 x3 hE h1 h2 H locs ls kc ks Y hl
    replace hE : af_X3_on_B22 n x.sK (af_X3_on_S22 n x.sK k) st a0 x1 x2 x3 = some q := hE
    unfold af_X3_on_B22 at hE
    refine r_aload_n hx hb dX3_on_22 rfl (lv_at hl 2 rfl) ?_
    refine lv_iload_n hx hb dX3_on_23 rfl (lv_at hl 3 rfl) ?_
    refine lv_aload_n hx hb dX3_on_24 rfl (lv_at hl 0 rfl) ?_
    replace hE := e_bind hE
    obtain ⟨u_3, g, hE⟩ := hE
    obtain ⟨fs9, g9⟩ := i_gC g
    have g7 := a_recv X Y k_X3.1 g9
    replace hE := e_xb hE
    rcases hE with ⟨st_1, v_2, g, hE⟩ | ⟨st_1, k9, g, hE⟩
    rotate_left
    · subst hE
      refine a_callV (n := 0) (C := "BasicMachine$Parser") (σ1 := st_1) (σf := st_1) [] X Y (maf_X3_number hl0 n g) ⟨oaf_X3_number _ g, aLe.rf _, h1, h2, (by show _ ≤ 85; decide), (by show _ ≤ 2007; decide)⟩ q465 q467 qs3 q129 q468 (by decide +kernel) g7 rfl hl.1 (by simp only [List.map_cons, List.map_nil, va_rf_cat]; exact Nat.le_of_ble_eq_true rfl) dX3_on_25 (fun v hv => by cases hv) (fun k hk H locs kc ks q9 ce Y e1 e2 e3 => ?_)
      cases hk
      exact a_out X Y h1 h2 (fun z hz => (hex z hz).elim) e1 e2 e3
    have M9 := (mo_v fun _ => (mo_s (fun _ => le_wI) fun _ => (mo_if (oaf_X3_on_L46 ) (mo_v fun _ => (mo_cb oaf_X3_takes fun _ _ => (mo_if (oaf_X3_on_L46 ) (mrec))))))) _ hE
    refine a_callV (n := 0) (C := "BasicMachine$Parser") (σ1 := st_1) (σf := q.1) [] X Y (maf_X3_number hl0 n g) ⟨oaf_X3_number _ g, M9, h1, h2, (by show _ ≤ 85; decide), (by show _ ≤ 2007; decide)⟩ q465 q467 qs3 q129 q468 (by decide +kernel) g7 rfl hl.1 (by simp only [List.map_cons, List.map_nil, va_rf_cat]; exact Nat.le_of_ble_eq_true rfl) dX3_on_25 (fun v hv H locs kc ks Y => ?_) (fun k hk => by cases hk)
    cases hv
    replace hE := e_bind hE
    obtain ⟨a_4, g, hE⟩ := hE
    subst g
    replace hE := e_bind hE
    obtain ⟨st_5, g, hE⟩ := hE
    refine a_iast X Y g dX3_on_28 (fun H locs Y => ?_)
    refine lv_iinc (v := (x3 + (1 : Int32))) (lv' := [(3, .int (x3 + (1 : Int32))), (0, .ref a0), (1, va_rf x1), (2, .ref a_4)]) hx hb dX3_on_29 hl (k := 3) rfl rfl (by decide) rfl (fun ls hl => ?_)
    refine lv_iload_n hx hb dX3_on_32 rfl (lv_at hl 0 rfl) ?_
    refine lv_iconst (v := 4) hx hb dX3_on_33 (by decide) ?_
    refine lv_icmp_ge (tgt := 46) hx hb dX3_on_34 (by decide) (fun c_6 => ?_) (fun c_6 => ?_)
    · replace hE := e_t c_6 hE
      exact waf_X3_on_L46 X hex hr hnm hE h1 h2 Y (lv_sub hl [1, 2, 3, 0] rfl)
    · replace hE := e_f c_6 hE
      refine lv_aload_n hx hb dX3_on_37 rfl (lv_at hl 1 rfl) ?_
      refine lv_bipush (v := 44) hx hb dX3_on_38 (by decide) ?_
      replace hE := e_bind hE
      obtain ⟨u_9, g, hE⟩ := hE
      obtain ⟨fs9, g9⟩ := i_gC g
      have g7 := a_recv X Y k_X3.1 g9
      replace hE := e_cb hE
      obtain ⟨st_7, v_8, g, hE⟩ := hE
      have M9 := (mo_if (oaf_X3_on_L46 ) (mrec)) _ hE
      refine a_callV (n := 1) (C := "BasicMachine$Parser") (σ1 := st_7) (σf := q.1) [.int (44 : Int32)] X Y (maf_X3_takes hl0 n g) ⟨oaf_X3_takes _ g, M9, h1, h2, (by show _ ≤ 85; decide), (by show _ ≤ 2007; decide)⟩ q883 q885 qs14 q129 q886 (by decide +kernel) g7 rfl hl.1 (Nat.le_of_ble_eq_true rfl) dX3_on_40 (fun v hv H locs kc ks Y => ?_) (fun k hk => by cases hk)
      cases hv
      refine lv_if_ne (tgt := 22) hx hb dX3_on_43 (by decide) (fun c_10 => ?_) (fun c_10 => ?_)
      · replace hE := e_f c_10 hE
        exact ih hE h1 h2 Y (lv_sub hl [1, 2, 3, 0] rfl)
      · replace hE := e_t c_10 hE
        exact waf_X3_on_L46 X hex hr hnm hE h1 h2 Y (lv_sub hl [1, 2, 3, 0] rfl)
set_option maxHeartbeats 4000000 in
set_option maxRecDepth 100000 in
theorem waf_X3_on_S22 {l : Launch} {x : aP} {As : List Value} {σ0 : aS} {p : Program} {e : Env} {s : State} {m : MethodId} {below : List Frame} {meth : Method} {c : Code} {mc ms : Nat} (X : aX "BasicMachine$Parser" p l s m As.toArray meth c cX3_on 6 x σ0) (hex : ∀ z ∈ c.exceptionTable.toList, False) (hr : meth.sig.returnType = (some (.object "BasicMachine$Statement"))) (hnm : "on" = meth.name) {n : Nat} {q : aS × ((Option Nat) ⊕ Nat)} : (∀ {st : aS} {a0 : Nat} {x1 : Option Nat} {x2 : Option Nat} {x3 : Int32}, af_X3_on_S22 n x.sK n st a0 x1 x2 x3 = some q → (mc + σ0.1 = q.1.1) → (ms + σ0.2.1 = q.1.2.1) → ∀ {H : Heap} {locs : List Loc} {ls : Array Slot} {kc ks : Nat}, aY x σ0 s st H locs kc ks → lv_has ls 6 [(0, .ref a0), (1, va_rf x1), (2, va_rf x2), (3, .int x3)] → aG l 85 2007 mc ms x As σ0 (oR q.2) q.1 p e s m below meth c H locs kc ks (F0 m 22 ls [])) := waf_X3_on_S22_ X hex hr hnm n
set_option maxHeartbeats 4000000 in
set_option maxRecDepth 100000 in
theorem maf_X3_on {l : Launch} (hl0 : l.stackTraces = false) (n : Nat) {x : aP} {st : aS} {a0 : Nat} {q : aS × ((Option Nat) ⊕ Nat)} (hE : af_X3_on n x.sK st a0 = some q) : aMet l yX3_on (ws_ yX3_on cX3_on 6 (some (.object "BasicMachine$Statement"))) 85 2007 x [.ref a0] st (oR q.2) q.1 := by
  refine a_ofW (own := "BasicMachine$Parser") hl0 (by decide) rfl (Nat.le_of_ble_eq_true rfl) (fun mc ms p e s m below meth c ls H locs kc ks h1 h2 X hex Y hr hnm hl => ?_)
  have hnm : "on" = meth.name := hnm
  have hl : lv_has ls 6 [(0, .ref a0)] := hl
  have hx := X.1
  have hb := X.2.1
  have hown := X.2.2.2.1
  have hts := X.2.2.2.2.1
  have hK := X.2.2.2.2.2.1
  have hl0 := X.2.2.2.2.2.2.2.2
  unfold af_X3_on at hE
  refine lv_aload_n hx hb dX3_on_0 rfl (lv_at hl 0 rfl) ?_
  refine lv_iconst (v := 1) hx hb dX3_on_1 (by decide) ?_
  replace hE := e_bind hE
  obtain ⟨st_1, g, hE⟩ := hE
  refine a_putV X Y k_X3 4 g (by decide) rfl nz1 fz1 q445 dX3_on_2 (fun H locs Y => ?_)
  refine lv_aload_n hx hb dX3_on_5 rfl (lv_at hl 0 rfl) ?_
  replace hE := e_bind hE
  obtain ⟨u_4, g, hE⟩ := hE
  obtain ⟨fs9, g9⟩ := i_gC g
  have g7 := a_recv X Y k_X3.1 g9
  replace hE := e_xb hE
  rcases hE with ⟨st_2, r_3, g, hE⟩ | ⟨st_2, k9, g, hE⟩
  rotate_left
  · subst hE
    refine a_callV (n := 0) (C := "BasicMachine$Parser") (σ1 := st_2) (σf := st_2) [] X Y (mf_expr hl0 n g) ⟨(of_expr _ _ _) _ g, aLe.rf _, h1, h2, (by show _ ≤ 85; decide), (by show _ ≤ 2007; decide)⟩ q879 q880 q881 q129 q882 (by decide +kernel) g7 rfl hl.1 (Nat.le_of_ble_eq_true rfl) dX3_on_6 (fun v hv => by cases hv) (fun k hk H locs kc ks q9 ce Y e1 e2 e3 => ?_)
    cases hk
    exact a_out X Y h1 h2 (fun z hz => (hex z hz).elim) e1 e2 e3
  have M9 := (mo_v fun _ => (mo_x oaf_X3_take_2 fun _ _ => (mo_s (fun _ => le_nA) fun _ => ((oaf_X3_on_S22 ))))) _ hE
  refine a_callV (n := 0) (C := "BasicMachine$Parser") (σ1 := st_2) (σf := q.1) [] X Y (mf_expr hl0 n g) ⟨(of_expr _ _ _) _ g, M9, h1, h2, (by show _ ≤ 85; decide), (by show _ ≤ 2007; decide)⟩ q879 q880 q881 q129 q882 (by decide +kernel) g7 rfl hl.1 (Nat.le_of_ble_eq_true rfl) dX3_on_6 (fun v hv H locs kc ks Y => ?_) (fun k hk => by cases hk)
  cases hv
  refine r_astore_n (i := 1) (lv' := [(1, va_rf r_3), (0, .ref a0)]) hx hb dX3_on_9 rfl hl (by decide) rfl (fun ls hl => ?_)
  refine lv_aload_n hx hb dX3_on_10 rfl (lv_at hl 1 rfl) ?_
  refine s_ldc (i := 3) X (by decide) dX3_on_11 ?_
  replace hE := e_bind hE
  obtain ⟨u_7, g, hE⟩ := hE
  obtain ⟨fs9, g9⟩ := i_gC g
  have g7 := a_recv X Y k_X3.1 g9
  replace hE := e_xb hE
  rcases hE with ⟨st_5, u_6, g, hE⟩ | ⟨st_5, k9, g, hE⟩
  rotate_left
  · subst hE
    refine a_callV (n := 1) (C := "BasicMachine$Parser") (σ1 := st_5) (σf := st_5) [.ref (x.sK 3)] X Y (maf_X3_take_2 hl0 n g) ⟨oaf_X3_take_2 _ g, aLe.rf _, h1, h2, (by show _ ≤ 85; decide), (by show _ ≤ 2007; decide)⟩ q936 q938 qs23 q129 q939 (by decide +kernel) g7 rfl hl.1 (Nat.le_of_ble_eq_true rfl) dX3_on_13 (fun v hv => by cases hv) (fun k hk H locs kc ks q9 ce Y e1 e2 e3 => ?_)
    cases hk
    exact a_out X Y h1 h2 (fun z hz => (hex z hz).elim) e1 e2 e3
  have M9 := (mo_s (fun _ => le_nA) fun _ => ((oaf_X3_on_S22 ))) _ hE
  refine a_callV (n := 1) (C := "BasicMachine$Parser") (σ1 := st_5) (σf := q.1) [.ref (x.sK 3)] X Y (maf_X3_take_2 hl0 n g) ⟨oaf_X3_take_2 _ g, M9, h1, h2, (by show _ ≤ 85; decide), (by show _ ≤ 2007; decide)⟩ q936 q938 qs23 q129 q939 (by decide +kernel) g7 rfl hl.1 (Nat.le_of_ble_eq_true rfl) dX3_on_13 (fun v hv H locs kc ks Y => ?_) (fun k hk => by cases hk)
  cases hv
  refine lv_iconst (v := 4) hx hb dX3_on_16 (by decide) ?_
  replace hE := e_bind hE
  obtain ⟨st_8, g, hE⟩ := hE
  have M9 := ((oaf_X3_on_S22 )) _ hE
  refine a_newa (atype := .int) X Y g (by decide) rfl (fun _ => rfl) (by decide) q290 (aRoom1 Y h1 (le_nA1 g) M9) (aRoom2 Y h2 (le_nA2 g) M9) dX3_on_17 (fun H Y => ?_)
  generalize kc + 1 = kc at Y ⊢
  generalize ks + Int32.toNatClampNeg (4 : Int32) = ks at Y ⊢
  refine lv_astore_n (i := 2) (lv' := [(2, .ref st_5.1), (1, va_rf r_3), (0, .ref a0)]) hx hb dX3_on_19 rfl hl (by decide) (by cases r_3 <;> rfl) (fun ls hl => ?_)
  refine lv_iconst (v := 0) hx hb dX3_on_20 (by decide) ?_
  refine lv_istore_n (i := 3) (lv' := [(3, .int (0 : Int32)), (2, .ref st_5.1), (1, va_rf r_3), (0, .ref a0)]) hx hb dX3_on_21 rfl hl (by decide) rfl (fun ls hl => ?_)
  exact (waf_X3_on_S22 X hex hr hnm) hE h1 h2 Y (lv_sub hl [3, 2, 1, 0] rfl)
/-! BasicMachine$Gosub.<init>(I)V -/
set_option maxHeartbeats 4000000 in
set_option maxRecDepth 100000 in
theorem maf_X17_init {l : Launch} (hl0 : l.stackTraces = false) (n : Nat) {x : aP} {st : aS} {a0 : Nat} {p1 : Int32} {q : aS × Unit} (hE : af_X17_init n x.sK st a0 p1 = some q) : aMet l yX17_init (ws_ yX17_init cX17_init 2 none) 2 40 x [.ref a0, .int p1] st (.inl none) q.1 := by
  refine a_ofW (own := "BasicMachine$Gosub") hl0 (by decide) rfl (Nat.le_of_ble_eq_true rfl) (fun mc ms p e s m below meth c ls H locs kc ks h1 h2 X hex Y hr hnm hl => ?_)
  have hnm : "<init>" = meth.name := hnm
  have hl : lv_has ls 2 [(0, .ref a0), (1, .int p1)] := hl
  have hx := X.1
  have hb := X.2.1
  have hown := X.2.2.2.1
  have hts := X.2.2.2.2.1
  have hK := X.2.2.2.2.2.1
  have hl0 := X.2.2.2.2.2.2.2.2
  unfold af_X17_init at hE
  refine lv_aload_n hx hb dX17_init_0 rfl (lv_at hl 0 rfl) ?_
  replace hE := e_cb hE
  obtain ⟨st_1, u_2, g, hE⟩ := hE
  have M9 := (mo_s (fun _ => le_pF) fun _ => mo_ret) _ hE
  refine a_callI (n := 0) (σ1 := st_1) (σf := q.1) [] X Y (maf_J15_init hl0 n g) ⟨oaf_J15_init _ g, M9, h1, h2, (by show _ ≤ 2; decide), (by show _ ≤ 40; decide)⟩ q1112 q912 q143 q913 rfl (by decide +kernel) rfl hl.1 (Nat.le_of_ble_eq_true rfl) dX17_init_1 (fun v hv H locs kc ks Y => ?_) (fun k hk => by cases hk)
  cases hv
  refine lv_aload_n hx hb dX17_init_4 rfl (lv_at hl 0 rfl) ?_
  refine lv_iload_n hx hb dX17_init_5 rfl (lv_at hl 1 rfl) ?_
  replace hE := e_bind hE
  obtain ⟨st_3, g, hE⟩ := hE
  refine a_putFV X Y k_X17 0 g (by decide) rfl hnm rfl rfl rfl q1113 dX17_init_6 (fun H locs Y => ?_)
  cases hE
  exact a_vret X Y h1 h2 hr dX17_init_9
/-! BasicMachine$Return.<init>()V -/
set_option maxHeartbeats 4000000 in
set_option maxRecDepth 100000 in
theorem maf_X18_init {l : Launch} (hl0 : l.stackTraces = false) (n : Nat) {x : aP} {st : aS} {a0 : Nat} {q : aS × Unit} (hE : af_X18_init n x.sK st a0 = some q) : aMet l yX18_init (ws_ yX18_init cX18_init 1 none) 2 40 x [.ref a0] st (.inl none) q.1 := by
  refine a_ofW (own := "BasicMachine$Return") hl0 (by decide) rfl (Nat.le_of_ble_eq_true rfl) (fun mc ms p e s m below meth c ls H locs kc ks h1 h2 X hex Y hr hnm hl => ?_)
  have hnm : "<init>" = meth.name := hnm
  have hl : lv_has ls 1 [(0, .ref a0)] := hl
  have hx := X.1
  have hb := X.2.1
  have hown := X.2.2.2.1
  have hts := X.2.2.2.2.1
  have hK := X.2.2.2.2.2.1
  have hl0 := X.2.2.2.2.2.2.2.2
  unfold af_X18_init at hE
  refine lv_aload_n hx hb dX18_init_0 rfl (lv_at hl 0 rfl) ?_
  replace hE := e_cb hE
  obtain ⟨st_1, u_2, g, hE⟩ := hE
  have M9 := mo_ret _ hE
  refine a_callI (n := 0) (σ1 := st_1) (σf := q.1) [] X Y (maf_J15_init hl0 n g) ⟨oaf_J15_init _ g, M9, h1, h2, (by show _ ≤ 2; decide), (by show _ ≤ 40; decide)⟩ q1122 q912 q143 q913 rfl (by decide +kernel) rfl hl.1 (Nat.le_of_ble_eq_true rfl) dX18_init_1 (fun v hv H locs kc ks Y => ?_) (fun k hk => by cases hk)
  cases hv
  cases hE
  exact a_vret X Y h1 h2 hr dX18_init_4
/-! BasicMachine$For.<init>(ILBasicMachine$Expression;LBasicMachine$Expression;LBasicMachine$Expression;)V -/
set_option maxHeartbeats 4000000 in
set_option maxRecDepth 100000 in
theorem maf_X19_init {l : Launch} (hl0 : l.stackTraces = false) (n : Nat) {x : aP} {st : aS} {a0 : Nat} {p1 : Int32} {p2 : Option Nat} {p3 : Option Nat} {p4 : Option Nat} {q : aS × Unit} (hE : af_X19_init n x.sK st a0 p1 p2 p3 p4 = some q) : aMet l yX19_init (ws_ yX19_init cX19_init 5 none) 2 40 x [.ref a0, .int p1, va_rf p2, va_rf p3, va_rf p4] st (.inl none) q.1 := by
  refine a_ofW (own := "BasicMachine$For") hl0 (by decide) rfl (by simp only [lg_sl, List.flatMap_cons, List.flatMap_nil, va_rf_cat]; exact Nat.le_of_ble_eq_true rfl) (fun mc ms p e s m below meth c ls H locs kc ks h1 h2 X hex Y hr hnm hl => ?_)
  have hnm : "<init>" = meth.name := hnm
  have hl : lv_has ls 5 [(0, .ref a0), (1, .int p1), (2, va_rf p2), (3, va_rf p3), (4, va_rf p4)] := by simp only [lv_args, va_rf_cat] at hl; exact hl
  have hx := X.1
  have hb := X.2.1
  have hown := X.2.2.2.1
  have hts := X.2.2.2.2.1
  have hK := X.2.2.2.2.2.1
  have hl0 := X.2.2.2.2.2.2.2.2
  unfold af_X19_init at hE
  refine lv_aload_n hx hb dX19_init_0 rfl (lv_at hl 0 rfl) ?_
  replace hE := e_cb hE
  obtain ⟨st_1, u_2, g, hE⟩ := hE
  have M9 := (mo_s (fun _ => le_pF) fun _ => (mo_s (fun _ => le_pF) fun _ => (mo_s (fun _ => le_pF) fun _ => (mo_s (fun _ => le_pF) fun _ => mo_ret)))) _ hE
  refine a_callI (n := 0) (σ1 := st_1) (σf := q.1) [] X Y (maf_J15_init hl0 n g) ⟨oaf_J15_init _ g, M9, h1, h2, (by show _ ≤ 2; decide), (by show _ ≤ 40; decide)⟩ q1134 q912 q143 q913 rfl (by decide +kernel) rfl hl.1 (Nat.le_of_ble_eq_true rfl) dX19_init_1 (fun v hv H locs kc ks Y => ?_) (fun k hk => by cases hk)
  cases hv
  refine lv_aload_n hx hb dX19_init_4 rfl (lv_at hl 0 rfl) ?_
  refine lv_iload_n hx hb dX19_init_5 rfl (lv_at hl 1 rfl) ?_
  replace hE := e_bind hE
  obtain ⟨st_3, g, hE⟩ := hE
  refine a_putFV X Y k_X19 0 g (by decide) rfl hnm rfl rfl rfl q1135 dX19_init_6 (fun H locs Y => ?_)
  refine lv_aload_n hx hb dX19_init_9 rfl (lv_at hl 0 rfl) ?_
  refine r_aload_n hx hb dX19_init_10 rfl (lv_at hl 2 rfl) ?_
  replace hE := e_bind hE
  obtain ⟨st_4, g, hE⟩ := hE
  refine a_putFV X Y k_X19 1 g (by decide) rfl hnm rfl (nr_o p2) (fr_o p2) q1136 dX19_init_11 (fun H locs Y => ?_)
  refine lv_aload_n hx hb dX19_init_14 rfl (lv_at hl 0 rfl) ?_
  refine r_aload_n hx hb dX19_init_15 rfl (lv_at hl 3 rfl) ?_
  replace hE := e_bind hE
  obtain ⟨st_5, g, hE⟩ := hE
  refine a_putFV X Y k_X19 2 g (by decide) rfl hnm rfl (nr_o p3) (fr_o p3) q1137 dX19_init_16 (fun H locs Y => ?_)
  refine lv_aload_n hx hb dX19_init_19 rfl (lv_at hl 0 rfl) ?_
  refine r_aload hx hb dX19_init_20 (lv_at hl 4 rfl) ?_
  replace hE := e_bind hE
  obtain ⟨st_6, g, hE⟩ := hE
  refine a_putFV X Y k_X19 3 g (by decide) rfl hnm rfl (nr_o p4) (fr_o p4) q1138 dX19_init_22 (fun H locs Y => ?_)
  cases hE
  exact a_vret X Y h1 h2 hr dX19_init_25
/-! BasicMachine$Parser.loop()LBasicMachine$Statement; -/
set_option maxHeartbeats 4000000 in
set_option maxRecDepth 100000 in
theorem maf_X3_loop {l : Launch} (hl0 : l.stackTraces = false) (n : Nat) {x : aP} {st : aS} {a0 : Nat} {q : aS × ((Option Nat) ⊕ Nat)} (hE : af_X3_loop n x.sK st a0 = some q) : aMet l yX3_loop (ws_ yX3_loop cX3_loop 4 (some (.object "BasicMachine$Statement"))) 85 2007 x [.ref a0] st (oR q.2) q.1 := by
  refine a_ofW (own := "BasicMachine$Parser") hl0 (by decide) rfl (Nat.le_of_ble_eq_true rfl) (fun mc ms p e s m below meth c ls H locs kc ks h1 h2 X hex Y hr hnm hl => ?_)
  have hnm : "loop" = meth.name := hnm
  have hl : lv_has ls 4 [(0, .ref a0)] := hl
  have hx := X.1
  have hb := X.2.1
  have hown := X.2.2.2.1
  have hts := X.2.2.2.2.1
  have hK := X.2.2.2.2.2.1
  have hl0 := X.2.2.2.2.2.2.2.2
  unfold af_X3_loop at hE
  refine lv_aload_n hx hb dX3_loop_0 rfl (lv_at hl 0 rfl) ?_
  replace hE := e_bind hE
  obtain ⟨u_3, g, hE⟩ := hE
  obtain ⟨fs9, g9⟩ := i_gC g
  have g7 := a_recv X Y k_X3.1 g9
  replace hE := e_xb hE
  rcases hE with ⟨st_1, v_2, g, hE⟩ | ⟨st_1, k9, g, hE⟩
  rotate_left
  · subst hE
    refine a_callV (n := 0) (C := "BasicMachine$Parser") (σ1 := st_1) (σf := st_1) [] X Y (maf_X3_variable hl0 n g) ⟨oaf_X3_variable _ g, aLe.rf _, h1, h2, (by show _ ≤ 85; decide), (by show _ ≤ 2007; decide)⟩ q975 q977 qs25 q129 q978 (by decide +kernel) g7 rfl hl.1 (Nat.le_of_ble_eq_true rfl) dX3_loop_1 (fun v hv => by cases hv) (fun k hk H locs kc ks q9 ce Y e1 e2 e3 => ?_)
    cases hk
    exact a_out X Y h1 h2 (fun z hz => (hex z hz).elim) e1 e2 e3
  have M9 := (mo_v fun _ => (mo_x oaf_X3_take fun _ _ => (mo_v fun _ => (mo_x (of_expr _ _ _) fun _ _ => (mo_v fun _ => (mo_x oaf_X3_take_2 fun _ _ => (mo_v fun _ => (mo_x (of_expr _ _ _) fun _ _ => (mo_v fun _ => (mo_v fun _ => (mo_if (mo_v fun _ => (mo_x oaf_X3_take_2 fun _ _ => (mo_s (fun _ => le_nO) fun _ => (mo_v fun _ => (mo_x (of_expr _ _ _) fun _ _ => (mo_cb oaf_X19_init fun _ _ => mo_ret)))))) (mo_s (fun _ => le_nO) fun _ => (mo_cb oaf_X19_init fun _ _ => mo_ret))))))))))))) _ hE
  refine a_callV (n := 0) (C := "BasicMachine$Parser") (σ1 := st_1) (σf := q.1) [] X Y (maf_X3_variable hl0 n g) ⟨oaf_X3_variable _ g, M9, h1, h2, (by show _ ≤ 85; decide), (by show _ ≤ 2007; decide)⟩ q975 q977 qs25 q129 q978 (by decide +kernel) g7 rfl hl.1 (Nat.le_of_ble_eq_true rfl) dX3_loop_1 (fun v hv H locs kc ks Y => ?_) (fun k hk => by cases hk)
  cases hv
  refine lv_istore_n (i := 1) (lv' := [(1, .int v_2), (0, .ref a0)]) hx hb dX3_loop_4 rfl hl (by decide) rfl (fun ls hl => ?_)
  refine lv_aload_n hx hb dX3_loop_5 rfl (lv_at hl 1 rfl) ?_
  refine lv_bipush (v := 61) hx hb dX3_loop_6 (by decide) ?_
  replace hE := e_bind hE
  obtain ⟨u_6, g, hE⟩ := hE
  obtain ⟨fs9, g9⟩ := i_gC g
  have g7 := a_recv X Y k_X3.1 g9
  replace hE := e_xb hE
  rcases hE with ⟨st_4, u_5, g, hE⟩ | ⟨st_4, k9, g, hE⟩
  rotate_left
  · subst hE
    refine a_callV (n := 1) (C := "BasicMachine$Parser") (σ1 := st_4) (σf := st_4) [.int (61 : Int32)] X Y (maf_X3_take hl0 n g) ⟨oaf_X3_take _ g, aLe.rf _, h1, h2, (by show _ ≤ 85; decide), (by show _ ≤ 2007; decide)⟩ q875 q877 qs13 q129 q878 (by decide +kernel) g7 rfl hl.1 (Nat.le_of_ble_eq_true rfl) dX3_loop_8 (fun v hv => by cases hv) (fun k hk H locs kc ks q9 ce Y e1 e2 e3 => ?_)
    cases hk
    exact a_out X Y h1 h2 (fun z hz => (hex z hz).elim) e1 e2 e3
  have M9 := (mo_v fun _ => (mo_x (of_expr _ _ _) fun _ _ => (mo_v fun _ => (mo_x oaf_X3_take_2 fun _ _ => (mo_v fun _ => (mo_x (of_expr _ _ _) fun _ _ => (mo_v fun _ => (mo_v fun _ => (mo_if (mo_v fun _ => (mo_x oaf_X3_take_2 fun _ _ => (mo_s (fun _ => le_nO) fun _ => (mo_v fun _ => (mo_x (of_expr _ _ _) fun _ _ => (mo_cb oaf_X19_init fun _ _ => mo_ret)))))) (mo_s (fun _ => le_nO) fun _ => (mo_cb oaf_X19_init fun _ _ => mo_ret))))))))))) _ hE
  refine a_callV (n := 1) (C := "BasicMachine$Parser") (σ1 := st_4) (σf := q.1) [.int (61 : Int32)] X Y (maf_X3_take hl0 n g) ⟨oaf_X3_take _ g, M9, h1, h2, (by show _ ≤ 85; decide), (by show _ ≤ 2007; decide)⟩ q875 q877 qs13 q129 q878 (by decide +kernel) g7 rfl hl.1 (Nat.le_of_ble_eq_true rfl) dX3_loop_8 (fun v hv H locs kc ks Y => ?_) (fun k hk => by cases hk)
  cases hv
  refine lv_aload_n hx hb dX3_loop_11 rfl (lv_at hl 1 rfl) ?_
  replace hE := e_bind hE
  obtain ⟨u_9, g, hE⟩ := hE
  obtain ⟨fs9, g9⟩ := i_gC g
  have g7 := a_recv X Y k_X3.1 g9
  replace hE := e_xb hE
  rcases hE with ⟨st_7, r_8, g, hE⟩ | ⟨st_7, k9, g, hE⟩
  rotate_left
  · subst hE
    refine a_callV (n := 0) (C := "BasicMachine$Parser") (σ1 := st_7) (σf := st_7) [] X Y (mf_expr hl0 n g) ⟨(of_expr _ _ _) _ g, aLe.rf _, h1, h2, (by show _ ≤ 85; decide), (by show _ ≤ 2007; decide)⟩ q879 q880 q881 q129 q882 (by decide +kernel) g7 rfl hl.1 (Nat.le_of_ble_eq_true rfl) dX3_loop_12 (fun v hv => by cases hv) (fun k hk H locs kc ks q9 ce Y e1 e2 e3 => ?_)
    cases hk
    exact a_out X Y h1 h2 (fun z hz => (hex z hz).elim) e1 e2 e3
  have M9 := (mo_v fun _ => (mo_x oaf_X3_take_2 fun _ _ => (mo_v fun _ => (mo_x (of_expr _ _ _) fun _ _ => (mo_v fun _ => (mo_v fun _ => (mo_if (mo_v fun _ => (mo_x oaf_X3_take_2 fun _ _ => (mo_s (fun _ => le_nO) fun _ => (mo_v fun _ => (mo_x (of_expr _ _ _) fun _ _ => (mo_cb oaf_X19_init fun _ _ => mo_ret)))))) (mo_s (fun _ => le_nO) fun _ => (mo_cb oaf_X19_init fun _ _ => mo_ret))))))))) _ hE
  refine a_callV (n := 0) (C := "BasicMachine$Parser") (σ1 := st_7) (σf := q.1) [] X Y (mf_expr hl0 n g) ⟨(of_expr _ _ _) _ g, M9, h1, h2, (by show _ ≤ 85; decide), (by show _ ≤ 2007; decide)⟩ q879 q880 q881 q129 q882 (by decide +kernel) g7 rfl hl.1 (Nat.le_of_ble_eq_true rfl) dX3_loop_12 (fun v hv H locs kc ks Y => ?_) (fun k hk => by cases hk)
  cases hv
  refine r_astore_n (i := 2) (lv' := [(2, va_rf r_8), (1, .int v_2), (0, .ref a0)]) hx hb dX3_loop_15 rfl hl (by decide) rfl (fun ls hl => ?_)
  refine lv_aload_n hx hb dX3_loop_16 rfl (lv_at hl 2 rfl) ?_
  refine s_ldcw (i := 22) X (by decide) dX3_loop_17 ?_
  replace hE := e_bind hE
  obtain ⟨u_12, g, hE⟩ := hE
  obtain ⟨fs9, g9⟩ := i_gC g
  have g7 := a_recv X Y k_X3.1 g9
  replace hE := e_xb hE
  rcases hE with ⟨st_10, u_11, g, hE⟩ | ⟨st_10, k9, g, hE⟩
  rotate_left
  · subst hE
    refine a_callV (n := 1) (C := "BasicMachine$Parser") (σ1 := st_10) (σf := st_10) [.ref (x.sK 22)] X Y (maf_X3_take_2 hl0 n g) ⟨oaf_X3_take_2 _ g, aLe.rf _, h1, h2, (by show _ ≤ 85; decide), (by show _ ≤ 2007; decide)⟩ q936 q938 qs23 q129 q939 (by decide +kernel) g7 rfl hl.1 (Nat.le_of_ble_eq_true rfl) dX3_loop_20 (fun v hv => by cases hv) (fun k hk H locs kc ks q9 ce Y e1 e2 e3 => ?_)
    cases hk
    exact a_out X Y h1 h2 (fun z hz => (hex z hz).elim) e1 e2 e3
  have M9 := (mo_v fun _ => (mo_x (of_expr _ _ _) fun _ _ => (mo_v fun _ => (mo_v fun _ => (mo_if (mo_v fun _ => (mo_x oaf_X3_take_2 fun _ _ => (mo_s (fun _ => le_nO) fun _ => (mo_v fun _ => (mo_x (of_expr _ _ _) fun _ _ => (mo_cb oaf_X19_init fun _ _ => mo_ret)))))) (mo_s (fun _ => le_nO) fun _ => (mo_cb oaf_X19_init fun _ _ => mo_ret))))))) _ hE
  refine a_callV (n := 1) (C := "BasicMachine$Parser") (σ1 := st_10) (σf := q.1) [.ref (x.sK 22)] X Y (maf_X3_take_2 hl0 n g) ⟨oaf_X3_take_2 _ g, M9, h1, h2, (by show _ ≤ 85; decide), (by show _ ≤ 2007; decide)⟩ q936 q938 qs23 q129 q939 (by decide +kernel) g7 rfl hl.1 (Nat.le_of_ble_eq_true rfl) dX3_loop_20 (fun v hv H locs kc ks Y => ?_) (fun k hk => by cases hk)
  cases hv
  refine lv_aload_n hx hb dX3_loop_23 rfl (lv_at hl 2 rfl) ?_
  replace hE := e_bind hE
  obtain ⟨u_15, g, hE⟩ := hE
  obtain ⟨fs9, g9⟩ := i_gC g
  have g7 := a_recv X Y k_X3.1 g9
  replace hE := e_xb hE
  rcases hE with ⟨st_13, r_14, g, hE⟩ | ⟨st_13, k9, g, hE⟩
  rotate_left
  · subst hE
    refine a_callV (n := 0) (C := "BasicMachine$Parser") (σ1 := st_13) (σf := st_13) [] X Y (mf_expr hl0 n g) ⟨(of_expr _ _ _) _ g, aLe.rf _, h1, h2, (by show _ ≤ 85; decide), (by show _ ≤ 2007; decide)⟩ q879 q880 q881 q129 q882 (by decide +kernel) g7 rfl hl.1 (Nat.le_of_ble_eq_true rfl) dX3_loop_24 (fun v hv => by cases hv) (fun k hk H locs kc ks q9 ce Y e1 e2 e3 => ?_)
    cases hk
    exact a_out X Y h1 h2 (fun z hz => (hex z hz).elim) e1 e2 e3
  have M9 := (mo_v fun _ => (mo_v fun _ => (mo_if (mo_v fun _ => (mo_x oaf_X3_take_2 fun _ _ => (mo_s (fun _ => le_nO) fun _ => (mo_v fun _ => (mo_x (of_expr _ _ _) fun _ _ => (mo_cb oaf_X19_init fun _ _ => mo_ret)))))) (mo_s (fun _ => le_nO) fun _ => (mo_cb oaf_X19_init fun _ _ => mo_ret))))) _ hE
  refine a_callV (n := 0) (C := "BasicMachine$Parser") (σ1 := st_13) (σf := q.1) [] X Y (mf_expr hl0 n g) ⟨(of_expr _ _ _) _ g, M9, h1, h2, (by show _ ≤ 85; decide), (by show _ ≤ 2007; decide)⟩ q879 q880 q881 q129 q882 (by decide +kernel) g7 rfl hl.1 (Nat.le_of_ble_eq_true rfl) dX3_loop_24 (fun v hv H locs kc ks Y => ?_) (fun k hk => by cases hk)
  cases hv
  refine r_astore_n (i := 3) (lv' := [(3, va_rf r_14), (2, va_rf r_8), (1, .int v_2), (0, .ref a0)]) hx hb dX3_loop_27 rfl hl (by decide) (by cases r_8 <;> rfl) (fun ls hl => ?_)
  refine lv_aload_n hx hb dX3_loop_28 rfl (lv_at hl 3 rfl) ?_
  replace hE := e_bind hE
  obtain ⟨v_16, g, hE⟩ := hE
  refine n_gI X Y k_X3 2 g (by decide) q442 dX3_loop_29 ?_
  refine lv_aload_n hx hb dX3_loop_32 rfl (lv_at hl 3 rfl) ?_
  replace hE := e_bind hE
  obtain ⟨v_17, g, hE⟩ := hE
  refine n_gI X Y k_X3 1 g (by decide) q441 dX3_loop_33 ?_
  refine lv_icmp_lt (tgt := 51) hx hb dX3_loop_36 (by decide) (fun c_18 => ?_) (fun c_18 => ?_)
  · replace hE := e_t c_18 hE
    refine lv_aload_n hx hb dX3_loop_51 rfl (lv_at hl 3 rfl) ?_
    refine s_ldcw (i := 23) X (by decide) dX3_loop_52 ?_
    replace hE := e_bind hE
    obtain ⟨u_21, g, hE⟩ := hE
    obtain ⟨fs9, g9⟩ := i_gC g
    have g7 := a_recv X Y k_X3.1 g9
    replace hE := e_xb hE
    rcases hE with ⟨st_19, u_20, g, hE⟩ | ⟨st_19, k9, g, hE⟩
    rotate_left
    · subst hE
      refine a_callV (n := 1) (C := "BasicMachine$Parser") (σ1 := st_19) (σf := st_19) [.ref (x.sK 23)] X Y (maf_X3_take_2 hl0 n g) ⟨oaf_X3_take_2 _ g, aLe.rf _, h1, h2, (by show _ ≤ 85; decide), (by show _ ≤ 2007; decide)⟩ q936 q938 qs23 q129 q939 (by decide +kernel) g7 rfl hl.1 (Nat.le_of_ble_eq_true rfl) dX3_loop_55 (fun v hv => by cases hv) (fun k hk H locs kc ks q9 ce Y e1 e2 e3 => ?_)
      cases hk
      exact a_out X Y h1 h2 (fun z hz => (hex z hz).elim) e1 e2 e3
    have M9 := (mo_s (fun _ => le_nO) fun _ => (mo_v fun _ => (mo_x (of_expr _ _ _) fun _ _ => (mo_cb oaf_X19_init fun _ _ => mo_ret)))) _ hE
    refine a_callV (n := 1) (C := "BasicMachine$Parser") (σ1 := st_19) (σf := q.1) [.ref (x.sK 23)] X Y (maf_X3_take_2 hl0 n g) ⟨oaf_X3_take_2 _ g, M9, h1, h2, (by show _ ≤ 85; decide), (by show _ ≤ 2007; decide)⟩ q936 q938 qs23 q129 q939 (by decide +kernel) g7 rfl hl.1 (Nat.le_of_ble_eq_true rfl) dX3_loop_55 (fun v hv H locs kc ks Y => ?_) (fun k hk => by cases hk)
    cases hv
    replace hE := e_bind hE
    obtain ⟨st_22, g, hE⟩ := hE
    have M9 := (mo_v fun _ => (mo_x (of_expr _ _ _) fun _ _ => (mo_cb oaf_X19_init fun _ _ => mo_ret))) _ hE
    refine a_new X Y k_X19 g b_X19 q1129 q1130 q158 (aRoom1 Y h1 (le_nO1 g) M9) (aRoom2 Y h2 (le_nO2 g) M9) dX3_loop_58 (fun H Y => ?_)
    generalize kc + 1 = kc at Y ⊢
    generalize ks + 4 = ks at Y ⊢
    refine lv_dup hx hb dX3_loop_61 rfl ?_
    refine lv_iload_n hx hb dX3_loop_62 rfl (lv_at hl 2 rfl) ?_
    refine r_aload_n hx hb dX3_loop_63 rfl (lv_at hl 1 rfl) ?_
    refine r_aload_n hx hb dX3_loop_64 rfl (lv_at hl 0 rfl) ?_
    refine lv_aload_n hx hb dX3_loop_65 rfl (lv_at hl 3 rfl) ?_
    replace hE := e_bind hE
    obtain ⟨u_25, g, hE⟩ := hE
    obtain ⟨fs9, g9⟩ := i_gC g
    have g7 := a_recv X Y k_X3.1 g9
    replace hE := e_xb hE
    rcases hE with ⟨st_23, r_24, g, hE⟩ | ⟨st_23, k9, g, hE⟩
    rotate_left
    · subst hE
      refine a_callV (n := 0) (C := "BasicMachine$Parser") (σ1 := st_23) (σf := st_23) [] X Y (mf_expr hl0 n g) ⟨(of_expr _ _ _) _ g, aLe.rf _, h1, h2, (by show _ ≤ 85; decide), (by show _ ≤ 2007; decide)⟩ q879 q880 q881 q129 q882 (by decide +kernel) g7 rfl hl.1 (by simp only [List.map_cons, List.map_nil, va_rf_cat]; exact Nat.le_of_ble_eq_true rfl) dX3_loop_66 (fun v hv => by cases hv) (fun k hk H locs kc ks q9 ce Y e1 e2 e3 => ?_)
      cases hk
      exact a_out X Y h1 h2 (fun z hz => (hex z hz).elim) e1 e2 e3
    have M9 := (mo_cb oaf_X19_init fun _ _ => mo_ret) _ hE
    refine a_callV (n := 0) (C := "BasicMachine$Parser") (σ1 := st_23) (σf := q.1) [] X Y (mf_expr hl0 n g) ⟨(of_expr _ _ _) _ g, M9, h1, h2, (by show _ ≤ 85; decide), (by show _ ≤ 2007; decide)⟩ q879 q880 q881 q129 q882 (by decide +kernel) g7 rfl hl.1 (by simp only [List.map_cons, List.map_nil, va_rf_cat]; exact Nat.le_of_ble_eq_true rfl) dX3_loop_66 (fun v hv H locs kc ks Y => ?_) (fun k hk => by cases hk)
    cases hv
    replace hE := e_cb hE
    obtain ⟨st_26, u_27, g, hE⟩ := hE
    have M9 := mo_ret _ hE
    refine a_callIN (host := "BasicMachine") (n := 4) (σ1 := st_26) (σf := q.1) [.int v_2, va_rf r_8, va_rf r_14, va_rf r_24] X Y (maf_X19_init hl0 n g) ⟨oaf_X19_init _ g, M9, h1, h2, (by show _ ≤ 85; decide), (by show _ ≤ 2007; decide)⟩ (by decide) q1132 q158 q1133 rfl (by decide +kernel) rfl hl.1 (Nat.le_of_ble_eq_true rfl) dX3_loop_69 (fun v hv H locs kc ks Y => ?_) (fun k hk => by cases hk)
    cases hv
    cases hE
    exact a_aret (r := (some st_19.1)) X Y h1 h2 hr (Or.inl ⟨_, rfl⟩) dX3_loop_72
  · replace hE := e_f c_18 hE
    replace hE := e_bind hE
    obtain ⟨st_28, g, hE⟩ := hE
    have M9 := (mo_cb oaf_X19_init fun _ _ => mo_ret) _ hE
    refine a_new X Y k_X19 g b_X19 q1129 q1130 q158 (aRoom1 Y h1 (le_nO1 g) M9) (aRoom2 Y h2 (le_nO2 g) M9) dX3_loop_39 (fun H Y => ?_)
    generalize kc + 1 = kc at Y ⊢
    generalize ks + 4 = ks at Y ⊢
    refine lv_dup hx hb dX3_loop_42 rfl ?_
    refine lv_iload_n hx hb dX3_loop_43 rfl (lv_at hl 2 rfl) ?_
    refine r_aload_n hx hb dX3_loop_44 rfl (lv_at hl 1 rfl) ?_
    refine r_aload_n hx hb dX3_loop_45 rfl (lv_at hl 0 rfl) ?_
    refine lv_null hx hb dX3_loop_46 ?_
    replace hE := e_cb hE
    obtain ⟨st_29, u_30, g, hE⟩ := hE
    have M9 := mo_ret _ hE
    refine a_callIN (host := "BasicMachine") (n := 4) (σ1 := st_29) (σf := q.1) [.int v_2, va_rf r_8, va_rf r_14, va_rf (none : Option Nat)] X Y (maf_X19_init hl0 n g) ⟨oaf_X19_init _ g, M9, h1, h2, (by show _ ≤ 85; decide), (by show _ ≤ 2007; decide)⟩ (by decide) q1132 q158 q1133 rfl (by decide +kernel) rfl hl.1 (Nat.le_of_ble_eq_true rfl) dX3_loop_47 (fun v hv H locs kc ks Y => ?_) (fun k hk => by cases hk)
    cases hv
    cases hE
    exact a_aret (r := (some st_13.1)) X Y h1 h2 hr (Or.inl ⟨_, rfl⟩) dX3_loop_50
/-! BasicMachine$Next.<init>(I)V -/
set_option maxHeartbeats 4000000 in
set_option maxRecDepth 100000 in
theorem maf_X20_init {l : Launch} (hl0 : l.stackTraces = false) (n : Nat) {x : aP} {st : aS} {a0 : Nat} {p1 : Int32} {q : aS × Unit} (hE : af_X20_init n x.sK st a0 p1 = some q) : aMet l yX20_init (ws_ yX20_init cX20_init 2 none) 2 40 x [.ref a0, .int p1] st (.inl none) q.1 := by
  refine a_ofW (own := "BasicMachine$Next") hl0 (by decide) rfl (Nat.le_of_ble_eq_true rfl) (fun mc ms p e s m below meth c ls H locs kc ks h1 h2 X hex Y hr hnm hl => ?_)
  have hnm : "<init>" = meth.name := hnm
  have hl : lv_has ls 2 [(0, .ref a0), (1, .int p1)] := hl
  have hx := X.1
  have hb := X.2.1
  have hown := X.2.2.2.1
  have hts := X.2.2.2.2.1
  have hK := X.2.2.2.2.2.1
  have hl0 := X.2.2.2.2.2.2.2.2
  unfold af_X20_init at hE
  refine lv_aload_n hx hb dX20_init_0 rfl (lv_at hl 0 rfl) ?_
  replace hE := e_cb hE
  obtain ⟨st_1, u_2, g, hE⟩ := hE
  have M9 := (mo_s (fun _ => le_pF) fun _ => mo_ret) _ hE
  refine a_callI (n := 0) (σ1 := st_1) (σf := q.1) [] X Y (maf_J15_init hl0 n g) ⟨oaf_J15_init _ g, M9, h1, h2, (by show _ ≤ 2; decide), (by show _ ≤ 40; decide)⟩ q1154 q912 q143 q913 rfl (by decide +kernel) rfl hl.1 (Nat.le_of_ble_eq_true rfl) dX20_init_1 (fun v hv H locs kc ks Y => ?_) (fun k hk => by cases hk)
  cases hv
  refine lv_aload_n hx hb dX20_init_4 rfl (lv_at hl 0 rfl) ?_
  refine lv_iload_n hx hb dX20_init_5 rfl (lv_at hl 1 rfl) ?_
  replace hE := e_bind hE
  obtain ⟨st_3, g, hE⟩ := hE
  refine a_putFV X Y k_X20 0 g (by decide) rfl hnm rfl rfl rfl q1155 dX20_init_6 (fun H locs Y => ?_)
  cases hE
  exact a_vret X Y h1 h2 hr dX20_init_9
/-! BasicMachine$Read.<init>(LBasicMachine$Place;)V -/
set_option maxHeartbeats 4000000 in
set_option maxRecDepth 100000 in
theorem maf_X21_init {l : Launch} (hl0 : l.stackTraces = false) (n : Nat) {x : aP} {st : aS} {a0 : Nat} {p1 : Option Nat} {q : aS × Unit} (hE : af_X21_init n x.sK st a0 p1 = some q) : aMet l yX21_init (ws_ yX21_init cX21_init 2 none) 2 40 x [.ref a0, va_rf p1] st (.inl none) q.1 := by
  refine a_ofW (own := "BasicMachine$Read") hl0 (by decide) rfl (by simp only [lg_sl, List.flatMap_cons, List.flatMap_nil, va_rf_cat]; exact Nat.le_of_ble_eq_true rfl) (fun mc ms p e s m below meth c ls H locs kc ks h1 h2 X hex Y hr hnm hl => ?_)
  have hnm : "<init>" = meth.name := hnm
  have hl : lv_has ls 2 [(0, .ref a0), (1, va_rf p1)] := by simp only [lv_args, va_rf_cat] at hl; exact hl
  have hx := X.1
  have hb := X.2.1
  have hown := X.2.2.2.1
  have hts := X.2.2.2.2.1
  have hK := X.2.2.2.2.2.1
  have hl0 := X.2.2.2.2.2.2.2.2
  unfold af_X21_init at hE
  refine lv_aload_n hx hb dX21_init_0 rfl (lv_at hl 0 rfl) ?_
  replace hE := e_cb hE
  obtain ⟨st_1, u_2, g, hE⟩ := hE
  have M9 := (mo_s (fun _ => le_pF) fun _ => mo_ret) _ hE
  refine a_callI (n := 0) (σ1 := st_1) (σf := q.1) [] X Y (maf_J15_init hl0 n g) ⟨oaf_J15_init _ g, M9, h1, h2, (by show _ ≤ 2; decide), (by show _ ≤ 40; decide)⟩ q1164 q912 q143 q913 rfl (by decide +kernel) rfl hl.1 (Nat.le_of_ble_eq_true rfl) dX21_init_1 (fun v hv H locs kc ks Y => ?_) (fun k hk => by cases hk)
  cases hv
  refine lv_aload_n hx hb dX21_init_4 rfl (lv_at hl 0 rfl) ?_
  refine r_aload_n hx hb dX21_init_5 rfl (lv_at hl 1 rfl) ?_
  replace hE := e_bind hE
  obtain ⟨st_3, g, hE⟩ := hE
  refine a_putFV X Y k_X21 0 g (by decide) rfl hnm rfl (nr_o p1) (fr_o p1) q1165 dX21_init_6 (fun H locs Y => ?_)
  cases hE
  exact a_vret X Y h1 h2 hr dX21_init_9
/-! BasicMachine$Data.<init>([D)V -/
set_option maxHeartbeats 4000000 in
set_option maxRecDepth 100000 in
theorem maf_X22_init {l : Launch} (hl0 : l.stackTraces = false) (n : Nat) {x : aP} {st : aS} {a0 : Nat} {p1 : Option Nat} {q : aS × Unit} (hE : af_X22_init n x.sK st a0 p1 = some q) : aMet l yX22_init (ws_ yX22_init cX22_init 2 none) 2 40 x [.ref a0, va_rf p1] st (.inl none) q.1 := by
  refine a_ofW (own := "BasicMachine$Data") hl0 (by decide) rfl (by simp only [lg_sl, List.flatMap_cons, List.flatMap_nil, va_rf_cat]; exact Nat.le_of_ble_eq_true rfl) (fun mc ms p e s m below meth c ls H locs kc ks h1 h2 X hex Y hr hnm hl => ?_)
  have hnm : "<init>" = meth.name := hnm
  have hl : lv_has ls 2 [(0, .ref a0), (1, va_rf p1)] := by simp only [lv_args, va_rf_cat] at hl; exact hl
  have hx := X.1
  have hb := X.2.1
  have hown := X.2.2.2.1
  have hts := X.2.2.2.2.1
  have hK := X.2.2.2.2.2.1
  have hl0 := X.2.2.2.2.2.2.2.2
  unfold af_X22_init at hE
  refine lv_aload_n hx hb dX22_init_0 rfl (lv_at hl 0 rfl) ?_
  replace hE := e_cb hE
  obtain ⟨st_1, u_2, g, hE⟩ := hE
  have M9 := (mo_s (fun _ => le_pF) fun _ => mo_ret) _ hE
  refine a_callI (n := 0) (σ1 := st_1) (σf := q.1) [] X Y (maf_J15_init hl0 n g) ⟨oaf_J15_init _ g, M9, h1, h2, (by show _ ≤ 2; decide), (by show _ ≤ 40; decide)⟩ q1178 q912 q143 q913 rfl (by decide +kernel) rfl hl.1 (Nat.le_of_ble_eq_true rfl) dX22_init_1 (fun v hv H locs kc ks Y => ?_) (fun k hk => by cases hk)
  cases hv
  refine lv_aload_n hx hb dX22_init_4 rfl (lv_at hl 0 rfl) ?_
  refine r_aload_n hx hb dX22_init_5 rfl (lv_at hl 1 rfl) ?_
  replace hE := e_bind hE
  obtain ⟨st_3, g, hE⟩ := hE
  refine a_putFV X Y k_X22 0 g (by decide) rfl hnm rfl (nr_a p1) (fr_a p1) q1179 dX22_init_6 (fun H locs Y => ?_)
  cases hE
  exact a_vret X Y h1 h2 hr dX22_init_9
/-! BasicMachine$Parser.data()LBasicMachine$Statement; -/
set_option maxHeartbeats 4000000 in
set_option maxRecDepth 100000 in
theorem waf_X3_data_S60_ {l : Launch} {x : aP} {As : List Value} {σ0 : aS} {p : Program} {e : Env} {s : State} {m : MethodId} {below : List Frame} {meth : Method} {c : Code} {mc ms : Nat} (X : aX "BasicMachine$Parser" p l s m As.toArray meth c cX3_data 6 x σ0) (hex : ∀ z ∈ c.exceptionTable.toList, False) (hr : meth.sig.returnType = (some (.object "BasicMachine$Statement"))) (hnm : "data" = meth.name) {n : Nat} {q : aS × ((Option Nat) ⊕ Nat)} : ∀ k : Nat, (∀ {st : aS} {a0 : Nat} {x1 : Option Nat} {x2 : Int32} {x3 : Option Nat} {x4 : Int32}, af_X3_data_S60 n x.sK k st a0 x1 x2 x3 x4 = some q → (mc + σ0.1 = q.1.1) → (ms + σ0.2.1 = q.1.2.1) → ∀ {H : Heap} {locs : List Loc} {ls : Array Slot} {kc ks : Nat}, aY x σ0 s st H locs kc ks → lv_has ls 6 [(0, .ref a0), (1, va_rf x1), (2, .int x2), (3, va_rf x3), (4, .int x4)] → aG l 8 136 mc ms x As σ0 (oR q.2) q.1 p e s m below meth c H locs kc ks (F0 m 60 ls [])) := by
  have hx := X.1
  have hb := X.2.1
  have hown := X.2.2.2.1
  have hts := X.2.2.2.2.1
  have hK := X.2.2.2.2.2.1
  have hl0 := X.2.2.2.2.2.2.2.2
  intro k
  induction k with
  | zero => exact fun h => nomatch (show none = some q from h)
  | succ k ih =>
    have mrec := @oaf_X3_data_S60_ n x.sK k
    intro st a0 x1 x2 x3 x4 hE h1 h2 H locs ls kc ks Y hl
    replace hE : af_X3_data_B60 n x.sK (af_X3_data_S60 n x.sK k) st a0 x1 x2 x3 x4 = some q := hE
    unfold af_X3_data_B60 at hE
    refine lv_iload hx hb dX3_data_60 (lv_at hl 4 rfl) ?_
    refine lv_iload_n hx hb dX3_data_62 rfl (lv_at hl 2 rfl) ?_
    refine lv_icmp_ge (tgt := 80) hx hb dX3_data_63 (by decide) (fun c_1 => ?_) (fun c_1 => ?_)
    · replace hE := e_t c_1 hE
      replace hE := e_bind hE
      obtain ⟨st_2, g, hE⟩ := hE
      have M9 := (mo_cb oaf_X22_init fun _ _ => mo_ret) _ hE
      refine a_new X Y k_X22 g b_X22 q1173 q1174 q161 (aRoom1 Y h1 (le_nO1 g) M9) (aRoom2 Y h2 (le_nO2 g) M9) dX3_data_80 (fun H Y => ?_)
      generalize kc + 1 = kc at Y ⊢
      generalize ks + 1 = ks at Y ⊢
      refine lv_dup hx hb dX3_data_83 rfl ?_
      refine r_aload_n hx hb dX3_data_84 rfl (lv_at hl 3 rfl) ?_
      replace hE := e_cb hE
      obtain ⟨st_3, u_4, g, hE⟩ := hE
      have M9 := mo_ret _ hE
      refine a_callIN (host := "BasicMachine") (n := 1) (σ1 := st_3) (σf := q.1) [va_rf x3] X Y (maf_X22_init hl0 n g) ⟨oaf_X22_init _ g, M9, h1, h2, (by show _ ≤ 8; decide), (by show _ ≤ 136; decide)⟩ (by decide) q1176 q161 q1177 rfl (by decide +kernel) rfl hl.1 (Nat.le_of_ble_eq_true rfl) dX3_data_85 (fun v hv H locs kc ks Y => ?_) (fun k hk => by cases hk)
      cases hv
      cases hE
      exact a_aret (r := (some st.1)) X Y h1 h2 hr (Or.inl ⟨_, rfl⟩) dX3_data_88
    · replace hE := e_f c_1 hE
      refine r_aload_n hx hb dX3_data_66 rfl (lv_at hl 3 rfl) ?_
      refine lv_iload hx hb dX3_data_67 (lv_at hl 4 rfl) ?_
      refine r_aload_n hx hb dX3_data_69 rfl (lv_at hl 1 rfl) ?_
      refine lv_iload hx hb dX3_data_70 (lv_at hl 4 rfl) ?_
      replace hE := e_bind hE
      obtain ⟨a_5, g, hE⟩ := hE
      subst g
      replace hE := e_bind hE
      obtain ⟨v_6, g, hE⟩ := hE
      refine a_dald X Y g dX3_data_72 ?_
      replace hE := e_bind hE
      obtain ⟨a_7, g, hE⟩ := hE
      subst g
      replace hE := e_bind hE
      obtain ⟨st_8, g, hE⟩ := hE
      refine a_dast X Y g dX3_data_73 (fun H locs Y => ?_)
      refine lv_iinc (v := (x4 + (1 : Int32))) (lv' := [(4, .int (x4 + (1 : Int32))), (0, .ref a0), (1, .ref a_5), (2, .int x2), (3, .ref a_7)]) hx hb dX3_data_74 hl (k := 4) rfl rfl (by decide) rfl (fun ls hl => ?_)
      refine lv_goto (tgt := 60) hx hb dX3_data_77 (by decide) ?_
      exact ih hE h1 h2 Y (lv_sub hl [1, 2, 3, 4, 0] rfl)
set_option maxHeartbeats 4000000 in
set_option maxRecDepth 100000 in
theorem waf_X3_data_S60 {l : Launch} {x : aP} {As : List Value} {σ0 : aS} {p : Program} {e : Env} {s : State} {m : MethodId} {below : List Frame} {meth : Method} {c : Code} {mc ms : Nat} (X : aX "BasicMachine$Parser" p l s m As.toArray meth c cX3_data 6 x σ0) (hex : ∀ z ∈ c.exceptionTable.toList, False) (hr : meth.sig.returnType = (some (.object "BasicMachine$Statement"))) (hnm : "data" = meth.name) {n : Nat} {q : aS × ((Option Nat) ⊕ Nat)} : (∀ {st : aS} {a0 : Nat} {x1 : Option Nat} {x2 : Int32} {x3 : Option Nat} {x4 : Int32}, af_X3_data_S60 n x.sK n st a0 x1 x2 x3 x4 = some q → (mc + σ0.1 = q.1.1) → (ms + σ0.2.1 = q.1.2.1) → ∀ {H : Heap} {locs : List Loc} {ls : Array Slot} {kc ks : Nat}, aY x σ0 s st H locs kc ks → lv_has ls 6 [(0, .ref a0), (1, va_rf x1), (2, .int x2), (3, va_rf x3), (4, .int x4)] → aG l 8 136 mc ms x As σ0 (oR q.2) q.1 p e s m below meth c H locs kc ks (F0 m 60 ls [])) := waf_X3_data_S60_ X hex hr hnm n
set_option maxHeartbeats 4000000 in
set_option maxRecDepth 100000 in
theorem waf_X3_data_L53 {l : Launch} {x : aP} {As : List Value} {σ0 : aS} {p : Program} {e : Env} {s : State} {m : MethodId} {below : List Frame} {meth : Method} {c : Code} {mc ms : Nat} (X : aX "BasicMachine$Parser" p l s m As.toArray meth c cX3_data 6 x σ0) (hex : ∀ z ∈ c.exceptionTable.toList, False) (hr : meth.sig.returnType = (some (.object "BasicMachine$Statement"))) (hnm : "data" = meth.name) {n : Nat} {st : aS} {a0 : Nat} {x1 : Option Nat} {x2 : Int32} {q : aS × ((Option Nat) ⊕ Nat)} (hE : af_X3_data_L53 n x.sK st a0 x1 x2 = some q) (h1 : mc + σ0.1 = q.1.1) (h2 : ms + σ0.2.1 = q.1.2.1) {H : Heap} {locs : List Loc} {ls : Array Slot} {kc ks : Nat} (Y : aY x σ0 s st H locs kc ks) (hl : lv_has ls 6 [(0, .ref a0), (1, va_rf x1), (2, .int x2)]) : aG l 8 136 mc ms x As σ0 (oR q.2) q.1 p e s m below meth c H locs kc ks (F0 m 53 ls []) := by
  have hx := X.1
  have hb := X.2.1
  have hown := X.2.2.2.1
  have hts := X.2.2.2.2.1
  have hK := X.2.2.2.2.2.1
  have hl0 := X.2.2.2.2.2.2.2.2
  unfold af_X3_data_L53 at hE
  refine lv_iload_n hx hb dX3_data_53 rfl (lv_at hl 2 rfl) ?_
  replace hE := e_bind hE
  obtain ⟨st_1, g, hE⟩ := hE
  have M9 := ((oaf_X3_data_S60 )) _ hE
  refine a_newa (atype := .double) X Y g (by decide) rfl (fun _ => rfl) (by decide) q289 (aRoom1 Y h1 (le_nA1 g) M9) (aRoom2 Y h2 (le_nA2 g) M9) dX3_data_54 (fun H Y => ?_)
  generalize kc + 1 = kc at Y ⊢
  generalize ks + Int32.toNatClampNeg x2 = ks at Y ⊢
  refine lv_astore_n (i := 3) (lv' := [(3, .ref st.1), (0, .ref a0), (1, va_rf x1), (2, .int x2)]) hx hb dX3_data_56 rfl hl (by decide) rfl (fun ls hl => ?_)
  refine lv_iconst (v := 0) hx hb dX3_data_57 (by decide) ?_
  refine lv_istore (lv' := [(4, .int (0 : Int32)), (3, .ref st.1), (0, .ref a0), (1, va_rf x1), (2, .int x2)]) hx hb dX3_data_58 hl (by decide) rfl (fun ls hl => ?_)
  exact (waf_X3_data_S60 X hex hr hnm) hE h1 h2 Y (lv_sub hl [2, 3, 4, 1, 0] rfl)
set_option maxHeartbeats 4000000 in
set_option maxRecDepth 100000 in
theorem waf_X3_data_S7_ {l : Launch} {x : aP} {As : List Value} {σ0 : aS} {p : Program} {e : Env} {s : State} {m : MethodId} {below : List Frame} {meth : Method} {c : Code} {mc ms : Nat} (X : aX "BasicMachine$Parser" p l s m As.toArray meth c cX3_data 6 x σ0) (hex : ∀ z ∈ c.exceptionTable.toList, False) (hr : meth.sig.returnType = (some (.object "BasicMachine$Statement"))) (hnm : "data" = meth.name) {n : Nat} {q : aS × ((Option Nat) ⊕ Nat)} : ∀ k : Nat, (∀ {st : aS} {a0 : Nat} {x1 : Option Nat} {x2 : Int32} {z34_0 : Option Nat} {z34_1 : Int32} {z34_2 : UInt64}, af_X3_data_S7 n x.sK k 0 st a0 x1 x2 z34_0 z34_1 z34_2 = some q → (mc + σ0.1 = q.1.1) → (ms + σ0.2.1 = q.1.2.1) → ∀ {H : Heap} {locs : List Loc} {ls : Array Slot} {kc ks : Nat}, aY x σ0 s st H locs kc ks → lv_has ls 6 [(0, .ref a0), (1, va_rf x1), (2, .int x2)] → aG l 8 136 mc ms x As σ0 (oR q.2) q.1 p e s m below meth c H locs kc ks (F0 m 7 ls [])) ∧ (∀ {st : aS} {a0 : Nat} {x1 : Option Nat} {x2 : Int32} {z34_0 : Option Nat} {z34_1 : Int32} {z34_2 : UInt64}, af_X3_data_S7 n x.sK k 1 st a0 x1 x2 z34_0 z34_1 z34_2 = some q → (mc + σ0.1 = q.1.1) → (ms + σ0.2.1 = q.1.2.1) → ∀ {H : Heap} {locs : List Loc} {ls : Array Slot} {kc ks : Nat}, aY x σ0 s st H locs kc ks → lv_has ls 6 [(0, .ref a0), (1, va_rf x1), (2, .int x2)] → aG l 8 136 mc ms x As σ0 (oR q.2) q.1 p e s m below meth c H locs kc ks (F0 m 34 ls [.double z34_2, .int z34_1, va_rf z34_0])) := by
  have hx := X.1
  have hb := X.2.1
  have hown := X.2.2.2.1
  have hts := X.2.2.2.2.1
  have hK := X.2.2.2.2.2.1
  have hl0 := X.2.2.2.2.2.2.2.2
  intro k
  induction k with
  | zero => exact ⟨(fun h => nomatch (show none = some q from h)), (fun h => nomatch (show none = some q from h))⟩
  | succ k ih =>
    obtain ⟨ih0, ih1⟩ := ih
    have mrec := @oaf_X3_data_S7_ n x.sK k
    obtain ⟨mrec0, mrec1⟩ := mrec
    refine ⟨?_, ?_⟩
    · intro st a0 x1 x2 z34_0 z34_1 z34_2 hE h1 h2 H locs ls kc ks Y hl
      replace hE : af_X3_data_B7 n x.sK (af_X3_data_S7 n x.sK k) st a0 x1 x2 z34_0 z34_1 z34_2 = some q := hE
      unfold af_X3_data_B7 at hE
      refine lv_aload_n hx hb dX3_data_7 rfl (lv_at hl 0 rfl) ?_
      refine lv_bipush (v := 45) hx hb dX3_data_8 (by decide) ?_
      replace hE := e_bind hE
      obtain ⟨u_3, g, hE⟩ := hE
      obtain ⟨fs9, g9⟩ := i_gC g
      have g7 := a_recv X Y k_X3.1 g9
      replace hE := e_cb hE
      obtain ⟨st_1, v_2, g, hE⟩ := hE
      have M9 := (mo_v fun _ => (mo_x oaf_X3_numeral fun _ _ => (mo_if (mrec1) (mrec1)))) _ hE
      refine a_callV (n := 1) (C := "BasicMachine$Parser") (σ1 := st_1) (σf := q.1) [.int (45 : Int32)] X Y (maf_X3_takes hl0 n g) ⟨oaf_X3_takes _ g, M9, h1, h2, (by show _ ≤ 8; decide), (by show _ ≤ 136; decide)⟩ q883 q885 qs14 q129 q886 (by decide +kernel) g7 rfl hl.1 (Nat.le_of_ble_eq_true rfl) dX3_data_10 (fun v hv H locs kc ks Y => ?_) (fun k hk => by cases hk)
      cases hv
      refine lv_istore_n (i := 3) (lv' := [(3, .int v_2), (0, .ref a0), (1, va_rf x1), (2, .int x2)]) hx hb dX3_data_13 rfl hl (by decide) rfl (fun ls hl => ?_)
      refine lv_aload_n hx hb dX3_data_14 rfl (lv_at hl 1 rfl) ?_
      replace hE := e_bind hE
      obtain ⟨u_6, g, hE⟩ := hE
      obtain ⟨fs9, g9⟩ := i_gC g
      have g7 := a_recv X Y k_X3.1 g9
      replace hE := e_xb hE
      rcases hE with ⟨st_4, v_5, g, hE⟩ | ⟨st_4, k9, g, hE⟩
      rotate_left
      · subst hE
        refine a_callV (n := 0) (C := "BasicMachine$Parser") (σ1 := st_4) (σf := st_4) [] X Y (maf_X3_numeral hl0 n g) ⟨oaf_X3_numeral _ g, aLe.rf _, h1, h2, (by show _ ≤ 8; decide), (by show _ ≤ 136; decide)⟩ q901 q903 qs18 q129 q904 (by decide +kernel) g7 rfl hl.1 (Nat.le_of_ble_eq_true rfl) dX3_data_15 (fun v hv => by cases hv) (fun k hk H locs kc ks q9 ce Y e1 e2 e3 => ?_)
        cases hk
        exact a_out X Y h1 h2 (fun z hz => (hex z hz).elim) e1 e2 e3
      have M9 := (mo_if (mrec1) (mrec1)) _ hE
      refine a_callV (n := 0) (C := "BasicMachine$Parser") (σ1 := st_4) (σf := q.1) [] X Y (maf_X3_numeral hl0 n g) ⟨oaf_X3_numeral _ g, M9, h1, h2, (by show _ ≤ 8; decide), (by show _ ≤ 136; decide)⟩ q901 q903 qs18 q129 q904 (by decide +kernel) g7 rfl hl.1 (Nat.le_of_ble_eq_true rfl) dX3_data_15 (fun v hv H locs kc ks Y => ?_) (fun k hk => by cases hk)
      cases hv
      refine lv_dstore (lv' := [(4, .double v_5), (3, .int v_2), (0, .ref a0), (1, va_rf x1), (2, .int x2)]) hx hb dX3_data_18 hl (by decide) rfl (fun ls hl => ?_)
      refine r_aload_n hx hb dX3_data_20 rfl (lv_at hl 3 rfl) ?_
      refine lv_iload_n hx hb dX3_data_21 rfl (lv_at hl 4 rfl) ?_
      refine lv_iload_n hx hb dX3_data_22 rfl (lv_at hl 1 rfl) ?_
      refine lv_if_eq (tgt := 32) hx hb dX3_data_23 (by decide) (fun c_7 => ?_) (fun c_7 => ?_)
      · replace hE := e_t c_7 hE
        refine lv_dload hx hb dX3_data_32 (lv_at hl 0 rfl) ?_
        exact ih1 hE h1 h2 Y (lv_sub hl [2, 3, 4] rfl)
      · replace hE := e_f c_7 hE
        refine lv_dload hx hb dX3_data_26 (lv_at hl 0 rfl) ?_
        refine lv_dneg hx hb dX3_data_28 ?_
        refine lv_goto (tgt := 34) hx hb dX3_data_29 (by decide) ?_
        exact ih1 hE h1 h2 Y (lv_sub hl [2, 3, 4] rfl)
    · intro st a0 x1 x2 z34_0 z34_1 z34_2 hE h1 h2 H locs ls kc ks Y hl
      replace hE : af_X3_data_B34 n x.sK (af_X3_data_S7 n x.sK k) st a0 x1 x2 z34_0 z34_1 z34_2 = some q := hE
      unfold af_X3_data_B34 at hE
      replace hE := e_bind hE
      obtain ⟨a_1, g, hE⟩ := hE
      subst g
      replace hE := e_bind hE
      obtain ⟨st_2, g, hE⟩ := hE
      refine a_dast X Y g dX3_data_34 (fun H locs Y => ?_)
      refine lv_iinc (v := (x2 + (1 : Int32))) (lv' := [(2, .int (x2 + (1 : Int32))), (0, .ref a0), (1, va_rf x1)]) hx hb dX3_data_35 hl (k := 2) rfl rfl (by decide) (by cases x1 <;> rfl) (fun ls hl => ?_)
      refine lv_iload_n hx hb dX3_data_38 rfl (lv_at hl 0 rfl) ?_
      refine lv_bipush (v := 6) hx hb dX3_data_39 (by decide) ?_
      refine lv_icmp_ge (tgt := 53) hx hb dX3_data_41 (by decide) (fun c_3 => ?_) (fun c_3 => ?_)
      · replace hE := e_t c_3 hE
        exact waf_X3_data_L53 X hex hr hnm hE h1 h2 Y (lv_sub hl [1, 2, 0] rfl)
      · replace hE := e_f c_3 hE
        refine lv_aload_n hx hb dX3_data_44 rfl (lv_at hl 1 rfl) ?_
        refine lv_bipush (v := 44) hx hb dX3_data_45 (by decide) ?_
        replace hE := e_bind hE
        obtain ⟨u_6, g, hE⟩ := hE
        obtain ⟨fs9, g9⟩ := i_gC g
        have g7 := a_recv X Y k_X3.1 g9
        replace hE := e_cb hE
        obtain ⟨st_4, v_5, g, hE⟩ := hE
        have M9 := (mo_if (oaf_X3_data_L53 ) (mrec0)) _ hE
        refine a_callV (n := 1) (C := "BasicMachine$Parser") (σ1 := st_4) (σf := q.1) [.int (44 : Int32)] X Y (maf_X3_takes hl0 n g) ⟨oaf_X3_takes _ g, M9, h1, h2, (by show _ ≤ 8; decide), (by show _ ≤ 136; decide)⟩ q883 q885 qs14 q129 q886 (by decide +kernel) g7 rfl hl.1 (Nat.le_of_ble_eq_true rfl) dX3_data_47 (fun v hv H locs kc ks Y => ?_) (fun k hk => by cases hk)
        cases hv
        refine lv_if_ne (tgt := 7) hx hb dX3_data_50 (by decide) (fun c_7 => ?_) (fun c_7 => ?_)
        · replace hE := e_f c_7 hE
          exact ih0 hE h1 h2 Y (lv_sub hl [1, 2, 0] rfl)
        · replace hE := e_t c_7 hE
          exact waf_X3_data_L53 X hex hr hnm hE h1 h2 Y (lv_sub hl [1, 2, 0] rfl)
set_option maxHeartbeats 4000000 in
set_option maxRecDepth 100000 in
theorem waf_X3_data_S7 {l : Launch} {x : aP} {As : List Value} {σ0 : aS} {p : Program} {e : Env} {s : State} {m : MethodId} {below : List Frame} {meth : Method} {c : Code} {mc ms : Nat} (X : aX "BasicMachine$Parser" p l s m As.toArray meth c cX3_data 6 x σ0) (hex : ∀ z ∈ c.exceptionTable.toList, False) (hr : meth.sig.returnType = (some (.object "BasicMachine$Statement"))) (hnm : "data" = meth.name) {n : Nat} {q : aS × ((Option Nat) ⊕ Nat)} : (∀ {st : aS} {a0 : Nat} {x1 : Option Nat} {x2 : Int32} {z34_0 : Option Nat} {z34_1 : Int32} {z34_2 : UInt64}, af_X3_data_S7 n x.sK n 0 st a0 x1 x2 z34_0 z34_1 z34_2 = some q → (mc + σ0.1 = q.1.1) → (ms + σ0.2.1 = q.1.2.1) → ∀ {H : Heap} {locs : List Loc} {ls : Array Slot} {kc ks : Nat}, aY x σ0 s st H locs kc ks → lv_has ls 6 [(0, .ref a0), (1, va_rf x1), (2, .int x2)] → aG l 8 136 mc ms x As σ0 (oR q.2) q.1 p e s m below meth c H locs kc ks (F0 m 7 ls [])) ∧ (∀ {st : aS} {a0 : Nat} {x1 : Option Nat} {x2 : Int32} {z34_0 : Option Nat} {z34_1 : Int32} {z34_2 : UInt64}, af_X3_data_S7 n x.sK n 1 st a0 x1 x2 z34_0 z34_1 z34_2 = some q → (mc + σ0.1 = q.1.1) → (ms + σ0.2.1 = q.1.2.1) → ∀ {H : Heap} {locs : List Loc} {ls : Array Slot} {kc ks : Nat}, aY x σ0 s st H locs kc ks → lv_has ls 6 [(0, .ref a0), (1, va_rf x1), (2, .int x2)] → aG l 8 136 mc ms x As σ0 (oR q.2) q.1 p e s m below meth c H locs kc ks (F0 m 34 ls [.double z34_2, .int z34_1, va_rf z34_0])) := waf_X3_data_S7_ X hex hr hnm n
set_option maxHeartbeats 4000000 in
set_option maxRecDepth 100000 in
theorem maf_X3_data {l : Launch} (hl0 : l.stackTraces = false) (n : Nat) {x : aP} {st : aS} {a0 : Nat} {q : aS × ((Option Nat) ⊕ Nat)} (hE : af_X3_data n x.sK st a0 = some q) : aMet l yX3_data (ws_ yX3_data cX3_data 6 (some (.object "BasicMachine$Statement"))) 8 136 x [.ref a0] st (oR q.2) q.1 := by
  refine a_ofW (own := "BasicMachine$Parser") hl0 (by decide) rfl (Nat.le_of_ble_eq_true rfl) (fun mc ms p e s m below meth c ls H locs kc ks h1 h2 X hex Y hr hnm hl => ?_)
  have hnm : "data" = meth.name := hnm
  have hl : lv_has ls 6 [(0, .ref a0)] := hl
  have hx := X.1
  have hb := X.2.1
  have hown := X.2.2.2.1
  have hts := X.2.2.2.2.1
  have hK := X.2.2.2.2.2.1
  have hl0 := X.2.2.2.2.2.2.2.2
  unfold af_X3_data at hE
  refine lv_bipush (v := 6) hx hb dX3_data_0 (by decide) ?_
  replace hE := e_bind hE
  obtain ⟨st_1, g, hE⟩ := hE
  have M9 := ((oaf_X3_data_S7 ).1) _ hE
  refine a_newa (atype := .double) X Y g (by decide) rfl (fun _ => rfl) (by decide) q289 (aRoom1 Y h1 (le_nA1 g) M9) (aRoom2 Y h2 (le_nA2 g) M9) dX3_data_2 (fun H Y => ?_)
  generalize kc + 1 = kc at Y ⊢
  generalize ks + Int32.toNatClampNeg (6 : Int32) = ks at Y ⊢
  refine lv_astore_n (i := 1) (lv' := [(1, .ref st.1), (0, .ref a0)]) hx hb dX3_data_4 rfl hl (by decide) rfl (fun ls hl => ?_)
  refine lv_iconst (v := 0) hx hb dX3_data_5 (by decide) ?_
  refine lv_istore_n (i := 2) (lv' := [(2, .int (0 : Int32)), (1, .ref st.1), (0, .ref a0)]) hx hb dX3_data_6 rfl hl (by decide) rfl (fun ls hl => ?_)
  exact (waf_X3_data_S7 X hex hr hnm).1 hE h1 h2 Y (lv_sub hl [2, 1, 0] rfl)
/-! BasicMachine$Restore.<init>()V -/
set_option maxHeartbeats 4000000 in
set_option maxRecDepth 100000 in
theorem maf_X23_init {l : Launch} (hl0 : l.stackTraces = false) (n : Nat) {x : aP} {st : aS} {a0 : Nat} {q : aS × Unit} (hE : af_X23_init n x.sK st a0 = some q) : aMet l yX23_init (ws_ yX23_init cX23_init 1 none) 2 40 x [.ref a0] st (.inl none) q.1 := by
  refine a_ofW (own := "BasicMachine$Restore") hl0 (by decide) rfl (Nat.le_of_ble_eq_true rfl) (fun mc ms p e s m below meth c ls H locs kc ks h1 h2 X hex Y hr hnm hl => ?_)
  have hnm : "<init>" = meth.name := hnm
  have hl : lv_has ls 1 [(0, .ref a0)] := hl
  have hx := X.1
  have hb := X.2.1
  have hown := X.2.2.2.1
  have hts := X.2.2.2.2.1
  have hK := X.2.2.2.2.2.1
  have hl0 := X.2.2.2.2.2.2.2.2
  unfold af_X23_init at hE
  refine lv_aload_n hx hb dX23_init_0 rfl (lv_at hl 0 rfl) ?_
  replace hE := e_cb hE
  obtain ⟨st_1, u_2, g, hE⟩ := hE
  have M9 := mo_ret _ hE
  refine a_callI (n := 0) (σ1 := st_1) (σf := q.1) [] X Y (maf_J15_init hl0 n g) ⟨oaf_J15_init _ g, M9, h1, h2, (by show _ ≤ 2; decide), (by show _ ≤ 40; decide)⟩ q1188 q912 q143 q913 rfl (by decide +kernel) rfl hl.1 (Nat.le_of_ble_eq_true rfl) dX23_init_1 (fun v hv H locs kc ks Y => ?_) (fun k hk => by cases hk)
  cases hv
  cases hE
  exact a_vret X Y h1 h2 hr dX23_init_4
/-! BasicMachine$Parser.size()I -/
set_option maxHeartbeats 4000000 in
set_option maxRecDepth 100000 in
theorem waf_X3_size_L24 {l : Launch} {x : aP} {As : List Value} {σ0 : aS} {p : Program} {e : Env} {s : State} {m : MethodId} {below : List Frame} {meth : Method} {c : Code} {mc ms : Nat} (X : aX "BasicMachine$Parser" p l s m As.toArray meth c cX3_size 1 x σ0) (hex : ∀ z ∈ c.exceptionTable.toList, False) (hr : meth.sig.returnType = (some .int)) (hnm : "size" = meth.name) {n : Nat} {st : aS} {a0 : Nat} {z24_1 : Int32} {q : aS × ((Int32) ⊕ Nat)} (hE : af_X3_size_L24 n x.sK st a0 z24_1 = some q) (h1 : mc + σ0.1 = q.1.1) (h2 : ms + σ0.2.1 = q.1.2.1) {H : Heap} {locs : List Loc} {ls : Array Slot} {kc ks : Nat} (Y : aY x σ0 s st H locs kc ks) (hl : lv_has ls 1 [(0, .ref a0)]) : aG l 7 111 mc ms x As σ0 (oI q.2) q.1 p e s m below meth c H locs kc ks (F0 m 24 ls [.int z24_1, .ref a0]) := by
  have hx := X.1
  have hb := X.2.1
  have hown := X.2.2.2.1
  have hts := X.2.2.2.2.1
  have hK := X.2.2.2.2.2.1
  have hl0 := X.2.2.2.2.2.2.2.2
  unfold af_X3_size_L24 at hE
  replace hE := e_bind hE
  obtain ⟨u_3, g, hE⟩ := hE
  obtain ⟨fs9, g9⟩ := i_gC g
  have g7 := a_recv X Y k_X3.1 g9
  replace hE := e_xb hE
  rcases hE with ⟨st_1, u_2, g, hE⟩ | ⟨st_1, k9, g, hE⟩
  rotate_left
  · subst hE
    refine a_callV (n := 1) (C := "BasicMachine$Parser") (σ1 := st_1) (σf := st_1) [.int z24_1] X Y (maf_X3_need hl0 n g) ⟨oaf_X3_need _ g, aLe.rf _, h1, h2, (by show _ ≤ 7; decide), (by show _ ≤ 111; decide)⟩ q476 q478 qs5 q129 q479 (by decide +kernel) g7 rfl hl.1 (Nat.le_of_ble_eq_true rfl) dX3_size_24 (fun v hv => by cases hv) (fun k hk H locs kc ks q9 ce Y e1 e2 e3 => ?_)
    cases hk
    exact a_out X Y h1 h2 (fun z hz => (hex z hz).elim) e1 e2 e3
  have M9 := (mo_v fun _ => (mo_s (fun _ => le_pF) fun _ => (mo_v fun _ => (mo_v fun _ => (mo_v fun _ => (mo_v fun _ => mo_ret)))))) _ hE
  refine a_callV (n := 1) (C := "BasicMachine$Parser") (σ1 := st_1) (σf := q.1) [.int z24_1] X Y (maf_X3_need hl0 n g) ⟨oaf_X3_need _ g, M9, h1, h2, (by show _ ≤ 7; decide), (by show _ ≤ 111; decide)⟩ q476 q478 qs5 q129 q479 (by decide +kernel) g7 rfl hl.1 (Nat.le_of_ble_eq_true rfl) dX3_size_24 (fun v hv H locs kc ks Y => ?_) (fun k hk => by cases hk)
  cases hv
  refine lv_aload_n hx hb dX3_size_27 rfl (lv_at hl 0 rfl) ?_
  refine lv_dup hx hb dX3_size_28 rfl ?_
  replace hE := e_bind hE
  obtain ⟨v_4, g, hE⟩ := hE
  refine n_gI X Y k_X3 2 g (by decide) q442 dX3_size_29 ?_
  refine lv_iconst (v := 1) hx hb dX3_size_32 (by decide) ?_
  refine lv_iadd hx hb dX3_size_33 ?_
  replace hE := e_bind hE
  obtain ⟨st_5, g, hE⟩ := hE
  refine a_putV X Y k_X3 2 g (by decide) rfl rfl rfl q442 dX3_size_34 (fun H locs Y => ?_)
  refine lv_aload_n hx hb dX3_size_37 rfl (lv_at hl 0 rfl) ?_
  replace hE := e_bind hE
  obtain ⟨r_6, g, hE⟩ := hE
  refine n_gR X Y k_X3 0 g (by decide) q440 dX3_size_38 ?_
  refine lv_aload_n hx hb dX3_size_41 rfl (lv_at hl 0 rfl) ?_
  replace hE := e_bind hE
  obtain ⟨v_7, g, hE⟩ := hE
  refine n_gI X Y k_X3 2 g (by decide) q442 dX3_size_42 ?_
  refine lv_iconst (v := 1) hx hb dX3_size_45 (by decide) ?_
  refine lv_isub hx hb dX3_size_46 ?_
  replace hE := e_bind hE
  obtain ⟨a_8, g, hE⟩ := hE
  subst g
  replace hE := e_bind hE
  obtain ⟨v_9, g, hE⟩ := hE
  refine a_cald X Y g dX3_size_47 ?_
  refine lv_bipush (v := 48) hx hb dX3_size_48 (by decide) ?_
  refine lv_isub hx hb dX3_size_50 ?_
  cases hE
  exact a_iret X Y h1 h2 hr dX3_size_51
set_option maxHeartbeats 4000000 in
set_option maxRecDepth 100000 in
theorem waf_X3_size_L23 {l : Launch} {x : aP} {As : List Value} {σ0 : aS} {p : Program} {e : Env} {s : State} {m : MethodId} {below : List Frame} {meth : Method} {c : Code} {mc ms : Nat} (X : aX "BasicMachine$Parser" p l s m As.toArray meth c cX3_size 1 x σ0) (hex : ∀ z ∈ c.exceptionTable.toList, False) (hr : meth.sig.returnType = (some .int)) (hnm : "size" = meth.name) {n : Nat} {st : aS} {a0 : Nat} {q : aS × ((Int32) ⊕ Nat)} (hE : af_X3_size_L23 n x.sK st a0 = some q) (h1 : mc + σ0.1 = q.1.1) (h2 : ms + σ0.2.1 = q.1.2.1) {H : Heap} {locs : List Loc} {ls : Array Slot} {kc ks : Nat} (Y : aY x σ0 s st H locs kc ks) (hl : lv_has ls 1 [(0, .ref a0)]) : aG l 7 111 mc ms x As σ0 (oI q.2) q.1 p e s m below meth c H locs kc ks (F0 m 23 ls [.ref a0]) := by
  have hx := X.1
  have hb := X.2.1
  have hown := X.2.2.2.1
  have hts := X.2.2.2.2.1
  have hK := X.2.2.2.2.2.1
  have hl0 := X.2.2.2.2.2.2.2.2
  unfold af_X3_size_L23 at hE
  refine lv_iconst (v := 0) hx hb dX3_size_23 (by decide) ?_
  exact waf_X3_size_L24 X hex hr hnm hE h1 h2 Y (lv_sub hl [0] rfl)
set_option maxHeartbeats 4000000 in
set_option maxRecDepth 100000 in
theorem maf_X3_size {l : Launch} (hl0 : l.stackTraces = false) (n : Nat) {x : aP} {st : aS} {a0 : Nat} {q : aS × ((Int32) ⊕ Nat)} (hE : af_X3_size n x.sK st a0 = some q) : aMet l yX3_size (ws_ yX3_size cX3_size 1 (some .int)) 7 111 x [.ref a0] st (oI q.2) q.1 := by
  refine a_ofW (own := "BasicMachine$Parser") hl0 (by decide) rfl (Nat.le_of_ble_eq_true rfl) (fun mc ms p e s m below meth c ls H locs kc ks h1 h2 X hex Y hr hnm hl => ?_)
  have hnm : "size" = meth.name := hnm
  have hl : lv_has ls 1 [(0, .ref a0)] := hl
  have hx := X.1
  have hb := X.2.1
  have hown := X.2.2.2.1
  have hts := X.2.2.2.2.1
  have hK := X.2.2.2.2.2.1
  have hl0 := X.2.2.2.2.2.2.2.2
  unfold af_X3_size at hE
  refine lv_aload_n hx hb dX3_size_0 rfl (lv_at hl 0 rfl) ?_
  refine lv_aload_n hx hb dX3_size_1 rfl (lv_at hl 0 rfl) ?_
  replace hE := e_bind hE
  obtain ⟨u_3, g, hE⟩ := hE
  obtain ⟨fs9, g9⟩ := i_gC g
  have g7 := a_recv X Y k_X3.1 g9
  replace hE := e_cb hE
  obtain ⟨st_1, v_2, g, hE⟩ := hE
  have M9 := (mo_if (oaf_X3_size_L23 ) (mo_v fun _ => (mo_cb oaf_X3_here fun _ _ => (mo_if (oaf_X3_size_L23 ) (oaf_X3_size_L24 ))))) _ hE
  refine a_callV (n := 0) (C := "BasicMachine$Parser") (σ1 := st_1) (σf := q.1) [] X Y (maf_X3_here hl0 n g) ⟨oaf_X3_here _ g, M9, h1, h2, (by show _ ≤ 7; decide), (by show _ ≤ 111; decide)⟩ q469 q471 qs4 q129 q472 (by decide +kernel) g7 rfl hl.1 (Nat.le_of_ble_eq_true rfl) dX3_size_2 (fun v hv H locs kc ks Y => ?_) (fun k hk => by cases hk)
  cases hv
  refine lv_bipush (v := 49) hx hb dX3_size_5 (by decide) ?_
  refine lv_icmp_lt (tgt := 23) hx hb dX3_size_7 (by decide) (fun c_4 => ?_) (fun c_4 => ?_)
  · replace hE := e_t c_4 hE
    exact waf_X3_size_L23 X hex hr hnm hE h1 h2 Y (lv_sub hl [0] rfl)
  · replace hE := e_f c_4 hE
    refine lv_aload_n hx hb dX3_size_10 rfl (lv_at hl 0 rfl) ?_
    replace hE := e_bind hE
    obtain ⟨u_7, g, hE⟩ := hE
    obtain ⟨fs9, g9⟩ := i_gC g
    have g7 := a_recv X Y k_X3.1 g9
    replace hE := e_cb hE
    obtain ⟨st_5, v_6, g, hE⟩ := hE
    have M9 := (mo_if (oaf_X3_size_L23 ) (oaf_X3_size_L24 )) _ hE
    refine a_callV (n := 0) (C := "BasicMachine$Parser") (σ1 := st_5) (σf := q.1) [] X Y (maf_X3_here hl0 n g) ⟨oaf_X3_here _ g, M9, h1, h2, (by show _ ≤ 7; decide), (by show _ ≤ 111; decide)⟩ q469 q471 qs4 q129 q472 (by decide +kernel) g7 rfl hl.1 (Nat.le_of_ble_eq_true rfl) dX3_size_11 (fun v hv H locs kc ks Y => ?_) (fun k hk => by cases hk)
    cases hv
    refine lv_bipush (v := 54) hx hb dX3_size_14 (by decide) ?_
    refine lv_icmp_gt (tgt := 23) hx hb dX3_size_16 (by decide) (fun c_8 => ?_) (fun c_8 => ?_)
    · replace hE := e_t c_8 hE
      exact waf_X3_size_L23 X hex hr hnm hE h1 h2 Y (lv_sub hl [0] rfl)
    · replace hE := e_f c_8 hE
      refine lv_iconst (v := 1) hx hb dX3_size_19 (by decide) ?_
      refine lv_goto (tgt := 24) hx hb dX3_size_20 (by decide) ?_
      exact waf_X3_size_L24 X hex hr hnm hE h1 h2 Y (lv_sub hl [0] rfl)
/-! BasicMachine$Dim.<init>(III)V -/
set_option maxHeartbeats 4000000 in
set_option maxRecDepth 100000 in
theorem maf_X24_init {l : Launch} (hl0 : l.stackTraces = false) (n : Nat) {x : aP} {st : aS} {a0 : Nat} {p1 : Int32} {p2 : Int32} {p3 : Int32} {q : aS × Unit} (hE : af_X24_init n x.sK st a0 p1 p2 p3 = some q) : aMet l yX24_init (ws_ yX24_init cX24_init 4 none) 2 40 x [.ref a0, .int p1, .int p2, .int p3] st (.inl none) q.1 := by
  refine a_ofW (own := "BasicMachine$Dim") hl0 (by decide) rfl (Nat.le_of_ble_eq_true rfl) (fun mc ms p e s m below meth c ls H locs kc ks h1 h2 X hex Y hr hnm hl => ?_)
  have hnm : "<init>" = meth.name := hnm
  have hl : lv_has ls 4 [(0, .ref a0), (1, .int p1), (2, .int p2), (3, .int p3)] := hl
  have hx := X.1
  have hb := X.2.1
  have hown := X.2.2.2.1
  have hts := X.2.2.2.2.1
  have hK := X.2.2.2.2.2.1
  have hl0 := X.2.2.2.2.2.2.2.2
  unfold af_X24_init at hE
  refine lv_aload_n hx hb dX24_init_0 rfl (lv_at hl 0 rfl) ?_
  replace hE := e_cb hE
  obtain ⟨st_1, u_2, g, hE⟩ := hE
  have M9 := (mo_s (fun _ => le_pF) fun _ => (mo_s (fun _ => le_pF) fun _ => (mo_s (fun _ => le_pF) fun _ => mo_ret))) _ hE
  refine a_callI (n := 0) (σ1 := st_1) (σf := q.1) [] X Y (maf_J15_init hl0 n g) ⟨oaf_J15_init _ g, M9, h1, h2, (by show _ ≤ 2; decide), (by show _ ≤ 40; decide)⟩ q1203 q912 q143 q913 rfl (by decide +kernel) rfl hl.1 (Nat.le_of_ble_eq_true rfl) dX24_init_1 (fun v hv H locs kc ks Y => ?_) (fun k hk => by cases hk)
  cases hv
  refine lv_aload_n hx hb dX24_init_4 rfl (lv_at hl 0 rfl) ?_
  refine lv_iload_n hx hb dX24_init_5 rfl (lv_at hl 1 rfl) ?_
  replace hE := e_bind hE
  obtain ⟨st_3, g, hE⟩ := hE
  refine a_putFV X Y k_X24 0 g (by decide) rfl hnm rfl rfl rfl q1204 dX24_init_6 (fun H locs Y => ?_)
  refine lv_aload_n hx hb dX24_init_9 rfl (lv_at hl 0 rfl) ?_
  refine lv_iload_n hx hb dX24_init_10 rfl (lv_at hl 2 rfl) ?_
  replace hE := e_bind hE
  obtain ⟨st_4, g, hE⟩ := hE
  refine a_putFV X Y k_X24 1 g (by decide) rfl hnm rfl rfl rfl q1205 dX24_init_11 (fun H locs Y => ?_)
  refine lv_aload_n hx hb dX24_init_14 rfl (lv_at hl 0 rfl) ?_
  refine lv_iload_n hx hb dX24_init_15 rfl (lv_at hl 3 rfl) ?_
  replace hE := e_bind hE
  obtain ⟨st_5, g, hE⟩ := hE
  refine a_putFV X Y k_X24 2 g (by decide) rfl hnm rfl rfl rfl q1206 dX24_init_16 (fun H locs Y => ?_)
  cases hE
  exact a_vret X Y h1 h2 hr dX24_init_19
/-! BasicMachine$Parser.dim()LBasicMachine$Statement; -/
set_option maxHeartbeats 4000000 in
set_option maxRecDepth 100000 in
theorem maf_X3_dim {l : Launch} (hl0 : l.stackTraces = false) (n : Nat) {x : aP} {st : aS} {a0 : Nat} {q : aS × ((Option Nat) ⊕ Nat)} (hE : af_X3_dim n x.sK st a0 = some q) : aMet l yX3_dim (ws_ yX3_dim cX3_dim 4 (some (.object "BasicMachine$Statement"))) 8 132 x [.ref a0] st (oR q.2) q.1 := by
  refine a_ofW (own := "BasicMachine$Parser") hl0 (by decide) rfl (Nat.le_of_ble_eq_true rfl) (fun mc ms p e s m below meth c ls H locs kc ks h1 h2 X hex Y hr hnm hl => ?_)
  have hnm : "dim" = meth.name := hnm
  have hl : lv_has ls 4 [(0, .ref a0)] := hl
  have hx := X.1
  have hb := X.2.1
  have hown := X.2.2.2.1
  have hts := X.2.2.2.2.1
  have hK := X.2.2.2.2.2.1
  have hl0 := X.2.2.2.2.2.2.2.2
  unfold af_X3_dim at hE
  refine lv_aload_n hx hb dX3_dim_0 rfl (lv_at hl 0 rfl) ?_
  replace hE := e_bind hE
  obtain ⟨u_3, g, hE⟩ := hE
  obtain ⟨fs9, g9⟩ := i_gC g
  have g7 := a_recv X Y k_X3.1 g9
  replace hE := e_xb hE
  rcases hE with ⟨st_1, v_2, g, hE⟩ | ⟨st_1, k9, g, hE⟩
  rotate_left
  · subst hE
    refine a_callV (n := 0) (C := "BasicMachine$Parser") (σ1 := st_1) (σf := st_1) [] X Y (maf_X3_matrix hl0 n g) ⟨oaf_X3_matrix _ g, aLe.rf _, h1, h2, (by show _ ≤ 8; decide), (by show _ ≤ 132; decide)⟩ q867 q869 qs11 q129 q870 (by decide +kernel) g7 rfl hl.1 (Nat.le_of_ble_eq_true rfl) dX3_dim_1 (fun v hv => by cases hv) (fun k hk H locs kc ks q9 ce Y e1 e2 e3 => ?_)
    cases hk
    exact a_out X Y h1 h2 (fun z hz => (hex z hz).elim) e1 e2 e3
  have M9 := (mo_v fun _ => (mo_x oaf_X3_take fun _ _ => (mo_v fun _ => (mo_x oaf_X3_size fun _ _ => (mo_v fun _ => (mo_x oaf_X3_take fun _ _ => (mo_v fun _ => (mo_x oaf_X3_size fun _ _ => (mo_v fun _ => (mo_x oaf_X3_take fun _ _ => (mo_s (fun _ => le_nO) fun _ => (mo_cb oaf_X24_init fun _ _ => mo_ret)))))))))))) _ hE
  refine a_callV (n := 0) (C := "BasicMachine$Parser") (σ1 := st_1) (σf := q.1) [] X Y (maf_X3_matrix hl0 n g) ⟨oaf_X3_matrix _ g, M9, h1, h2, (by show _ ≤ 8; decide), (by show _ ≤ 132; decide)⟩ q867 q869 qs11 q129 q870 (by decide +kernel) g7 rfl hl.1 (Nat.le_of_ble_eq_true rfl) dX3_dim_1 (fun v hv H locs kc ks Y => ?_) (fun k hk => by cases hk)
  cases hv
  refine lv_istore_n (i := 1) (lv' := [(1, .int v_2), (0, .ref a0)]) hx hb dX3_dim_4 rfl hl (by decide) rfl (fun ls hl => ?_)
  refine lv_aload_n hx hb dX3_dim_5 rfl (lv_at hl 1 rfl) ?_
  refine lv_bipush (v := 40) hx hb dX3_dim_6 (by decide) ?_
  replace hE := e_bind hE
  obtain ⟨u_6, g, hE⟩ := hE
  obtain ⟨fs9, g9⟩ := i_gC g
  have g7 := a_recv X Y k_X3.1 g9
  replace hE := e_xb hE
  rcases hE with ⟨st_4, u_5, g, hE⟩ | ⟨st_4, k9, g, hE⟩
  rotate_left
  · subst hE
    refine a_callV (n := 1) (C := "BasicMachine$Parser") (σ1 := st_4) (σf := st_4) [.int (40 : Int32)] X Y (maf_X3_take hl0 n g) ⟨oaf_X3_take _ g, aLe.rf _, h1, h2, (by show _ ≤ 8; decide), (by show _ ≤ 132; decide)⟩ q875 q877 qs13 q129 q878 (by decide +kernel) g7 rfl hl.1 (Nat.le_of_ble_eq_true rfl) dX3_dim_8 (fun v hv => by cases hv) (fun k hk H locs kc ks q9 ce Y e1 e2 e3 => ?_)
    cases hk
    exact a_out X Y h1 h2 (fun z hz => (hex z hz).elim) e1 e2 e3
  have M9 := (mo_v fun _ => (mo_x oaf_X3_size fun _ _ => (mo_v fun _ => (mo_x oaf_X3_take fun _ _ => (mo_v fun _ => (mo_x oaf_X3_size fun _ _ => (mo_v fun _ => (mo_x oaf_X3_take fun _ _ => (mo_s (fun _ => le_nO) fun _ => (mo_cb oaf_X24_init fun _ _ => mo_ret)))))))))) _ hE
  refine a_callV (n := 1) (C := "BasicMachine$Parser") (σ1 := st_4) (σf := q.1) [.int (40 : Int32)] X Y (maf_X3_take hl0 n g) ⟨oaf_X3_take _ g, M9, h1, h2, (by show _ ≤ 8; decide), (by show _ ≤ 132; decide)⟩ q875 q877 qs13 q129 q878 (by decide +kernel) g7 rfl hl.1 (Nat.le_of_ble_eq_true rfl) dX3_dim_8 (fun v hv H locs kc ks Y => ?_) (fun k hk => by cases hk)
  cases hv
  refine lv_aload_n hx hb dX3_dim_11 rfl (lv_at hl 1 rfl) ?_
  replace hE := e_bind hE
  obtain ⟨u_9, g, hE⟩ := hE
  obtain ⟨fs9, g9⟩ := i_gC g
  have g7 := a_recv X Y k_X3.1 g9
  replace hE := e_xb hE
  rcases hE with ⟨st_7, v_8, g, hE⟩ | ⟨st_7, k9, g, hE⟩
  rotate_left
  · subst hE
    refine a_callV (n := 0) (C := "BasicMachine$Parser") (σ1 := st_7) (σf := st_7) [] X Y (maf_X3_size hl0 n g) ⟨oaf_X3_size _ g, aLe.rf _, h1, h2, (by show _ ≤ 8; decide), (by show _ ≤ 132; decide)⟩ q1194 q1196 qs31 q129 q1197 (by decide +kernel) g7 rfl hl.1 (Nat.le_of_ble_eq_true rfl) dX3_dim_12 (fun v hv => by cases hv) (fun k hk H locs kc ks q9 ce Y e1 e2 e3 => ?_)
    cases hk
    exact a_out X Y h1 h2 (fun z hz => (hex z hz).elim) e1 e2 e3
  have M9 := (mo_v fun _ => (mo_x oaf_X3_take fun _ _ => (mo_v fun _ => (mo_x oaf_X3_size fun _ _ => (mo_v fun _ => (mo_x oaf_X3_take fun _ _ => (mo_s (fun _ => le_nO) fun _ => (mo_cb oaf_X24_init fun _ _ => mo_ret)))))))) _ hE
  refine a_callV (n := 0) (C := "BasicMachine$Parser") (σ1 := st_7) (σf := q.1) [] X Y (maf_X3_size hl0 n g) ⟨oaf_X3_size _ g, M9, h1, h2, (by show _ ≤ 8; decide), (by show _ ≤ 132; decide)⟩ q1194 q1196 qs31 q129 q1197 (by decide +kernel) g7 rfl hl.1 (Nat.le_of_ble_eq_true rfl) dX3_dim_12 (fun v hv H locs kc ks Y => ?_) (fun k hk => by cases hk)
  cases hv
  refine lv_istore_n (i := 2) (lv' := [(2, .int v_8), (1, .int v_2), (0, .ref a0)]) hx hb dX3_dim_15 rfl hl (by decide) rfl (fun ls hl => ?_)
  refine lv_aload_n hx hb dX3_dim_16 rfl (lv_at hl 2 rfl) ?_
  refine lv_bipush (v := 44) hx hb dX3_dim_17 (by decide) ?_
  replace hE := e_bind hE
  obtain ⟨u_12, g, hE⟩ := hE
  obtain ⟨fs9, g9⟩ := i_gC g
  have g7 := a_recv X Y k_X3.1 g9
  replace hE := e_xb hE
  rcases hE with ⟨st_10, u_11, g, hE⟩ | ⟨st_10, k9, g, hE⟩
  rotate_left
  · subst hE
    refine a_callV (n := 1) (C := "BasicMachine$Parser") (σ1 := st_10) (σf := st_10) [.int (44 : Int32)] X Y (maf_X3_take hl0 n g) ⟨oaf_X3_take _ g, aLe.rf _, h1, h2, (by show _ ≤ 8; decide), (by show _ ≤ 132; decide)⟩ q875 q877 qs13 q129 q878 (by decide +kernel) g7 rfl hl.1 (Nat.le_of_ble_eq_true rfl) dX3_dim_19 (fun v hv => by cases hv) (fun k hk H locs kc ks q9 ce Y e1 e2 e3 => ?_)
    cases hk
    exact a_out X Y h1 h2 (fun z hz => (hex z hz).elim) e1 e2 e3
  have M9 := (mo_v fun _ => (mo_x oaf_X3_size fun _ _ => (mo_v fun _ => (mo_x oaf_X3_take fun _ _ => (mo_s (fun _ => le_nO) fun _ => (mo_cb oaf_X24_init fun _ _ => mo_ret)))))) _ hE
  refine a_callV (n := 1) (C := "BasicMachine$Parser") (σ1 := st_10) (σf := q.1) [.int (44 : Int32)] X Y (maf_X3_take hl0 n g) ⟨oaf_X3_take _ g, M9, h1, h2, (by show _ ≤ 8; decide), (by show _ ≤ 132; decide)⟩ q875 q877 qs13 q129 q878 (by decide +kernel) g7 rfl hl.1 (Nat.le_of_ble_eq_true rfl) dX3_dim_19 (fun v hv H locs kc ks Y => ?_) (fun k hk => by cases hk)
  cases hv
  refine lv_aload_n hx hb dX3_dim_22 rfl (lv_at hl 2 rfl) ?_
  replace hE := e_bind hE
  obtain ⟨u_15, g, hE⟩ := hE
  obtain ⟨fs9, g9⟩ := i_gC g
  have g7 := a_recv X Y k_X3.1 g9
  replace hE := e_xb hE
  rcases hE with ⟨st_13, v_14, g, hE⟩ | ⟨st_13, k9, g, hE⟩
  rotate_left
  · subst hE
    refine a_callV (n := 0) (C := "BasicMachine$Parser") (σ1 := st_13) (σf := st_13) [] X Y (maf_X3_size hl0 n g) ⟨oaf_X3_size _ g, aLe.rf _, h1, h2, (by show _ ≤ 8; decide), (by show _ ≤ 132; decide)⟩ q1194 q1196 qs31 q129 q1197 (by decide +kernel) g7 rfl hl.1 (Nat.le_of_ble_eq_true rfl) dX3_dim_23 (fun v hv => by cases hv) (fun k hk H locs kc ks q9 ce Y e1 e2 e3 => ?_)
    cases hk
    exact a_out X Y h1 h2 (fun z hz => (hex z hz).elim) e1 e2 e3
  have M9 := (mo_v fun _ => (mo_x oaf_X3_take fun _ _ => (mo_s (fun _ => le_nO) fun _ => (mo_cb oaf_X24_init fun _ _ => mo_ret)))) _ hE
  refine a_callV (n := 0) (C := "BasicMachine$Parser") (σ1 := st_13) (σf := q.1) [] X Y (maf_X3_size hl0 n g) ⟨oaf_X3_size _ g, M9, h1, h2, (by show _ ≤ 8; decide), (by show _ ≤ 132; decide)⟩ q1194 q1196 qs31 q129 q1197 (by decide +kernel) g7 rfl hl.1 (Nat.le_of_ble_eq_true rfl) dX3_dim_23 (fun v hv H locs kc ks Y => ?_) (fun k hk => by cases hk)
  cases hv
  refine lv_istore_n (i := 3) (lv' := [(3, .int v_14), (2, .int v_8), (1, .int v_2), (0, .ref a0)]) hx hb dX3_dim_26 rfl hl (by decide) rfl (fun ls hl => ?_)
  refine lv_aload_n hx hb dX3_dim_27 rfl (lv_at hl 3 rfl) ?_
  refine lv_bipush (v := 41) hx hb dX3_dim_28 (by decide) ?_
  replace hE := e_bind hE
  obtain ⟨u_18, g, hE⟩ := hE
  obtain ⟨fs9, g9⟩ := i_gC g
  have g7 := a_recv X Y k_X3.1 g9
  replace hE := e_xb hE
  rcases hE with ⟨st_16, u_17, g, hE⟩ | ⟨st_16, k9, g, hE⟩
  rotate_left
  · subst hE
    refine a_callV (n := 1) (C := "BasicMachine$Parser") (σ1 := st_16) (σf := st_16) [.int (41 : Int32)] X Y (maf_X3_take hl0 n g) ⟨oaf_X3_take _ g, aLe.rf _, h1, h2, (by show _ ≤ 8; decide), (by show _ ≤ 132; decide)⟩ q875 q877 qs13 q129 q878 (by decide +kernel) g7 rfl hl.1 (Nat.le_of_ble_eq_true rfl) dX3_dim_30 (fun v hv => by cases hv) (fun k hk H locs kc ks q9 ce Y e1 e2 e3 => ?_)
    cases hk
    exact a_out X Y h1 h2 (fun z hz => (hex z hz).elim) e1 e2 e3
  have M9 := (mo_s (fun _ => le_nO) fun _ => (mo_cb oaf_X24_init fun _ _ => mo_ret)) _ hE
  refine a_callV (n := 1) (C := "BasicMachine$Parser") (σ1 := st_16) (σf := q.1) [.int (41 : Int32)] X Y (maf_X3_take hl0 n g) ⟨oaf_X3_take _ g, M9, h1, h2, (by show _ ≤ 8; decide), (by show _ ≤ 132; decide)⟩ q875 q877 qs13 q129 q878 (by decide +kernel) g7 rfl hl.1 (Nat.le_of_ble_eq_true rfl) dX3_dim_30 (fun v hv H locs kc ks Y => ?_) (fun k hk => by cases hk)
  cases hv
  replace hE := e_bind hE
  obtain ⟨st_19, g, hE⟩ := hE
  have M9 := (mo_cb oaf_X24_init fun _ _ => mo_ret) _ hE
  refine a_new X Y k_X24 g b_X24 q1198 q1199 q163 (aRoom1 Y h1 (le_nO1 g) M9) (aRoom2 Y h2 (le_nO2 g) M9) dX3_dim_33 (fun H Y => ?_)
  generalize kc + 1 = kc at Y ⊢
  generalize ks + 3 = ks at Y ⊢
  refine lv_dup hx hb dX3_dim_36 rfl ?_
  refine lv_iload_n hx hb dX3_dim_37 rfl (lv_at hl 2 rfl) ?_
  refine lv_iload_n hx hb dX3_dim_38 rfl (lv_at hl 1 rfl) ?_
  refine lv_iload_n hx hb dX3_dim_39 rfl (lv_at hl 0 rfl) ?_
  replace hE := e_cb hE
  obtain ⟨st_20, u_21, g, hE⟩ := hE
  have M9 := mo_ret _ hE
  refine a_callIN (host := "BasicMachine") (n := 3) (σ1 := st_20) (σf := q.1) [.int v_2, .int v_8, .int v_14] X Y (maf_X24_init hl0 n g) ⟨oaf_X24_init _ g, M9, h1, h2, (by show _ ≤ 8; decide), (by show _ ≤ 132; decide)⟩ (by decide) q1201 q163 q1202 rfl (by decide +kernel) rfl hl.1 (Nat.le_of_ble_eq_true rfl) dX3_dim_40 (fun v hv H locs kc ks Y => ?_) (fun k hk => by cases hk)
  cases hv
  cases hE
  exact a_aret (r := (some st_16.1)) X Y h1 h2 hr (Or.inl ⟨_, rfl⟩) dX3_dim_43
/-! BasicMachine$Define.<init>(IILBasicMachine$Expression;)V -/
set_option maxHeartbeats 4000000 in
set_option maxRecDepth 100000 in
theorem maf_X25_init {l : Launch} (hl0 : l.stackTraces = false) (n : Nat) {x : aP} {st : aS} {a0 : Nat} {p1 : Int32} {p2 : Int32} {p3 : Option Nat} {q : aS × Unit} (hE : af_X25_init n x.sK st a0 p1 p2 p3 = some q) : aMet l yX25_init (ws_ yX25_init cX25_init 4 none) 2 40 x [.ref a0, .int p1, .int p2, va_rf p3] st (.inl none) q.1 := by
  refine a_ofW (own := "BasicMachine$Define") hl0 (by decide) rfl (by simp only [lg_sl, List.flatMap_cons, List.flatMap_nil, va_rf_cat]; exact Nat.le_of_ble_eq_true rfl) (fun mc ms p e s m below meth c ls H locs kc ks h1 h2 X hex Y hr hnm hl => ?_)
  have hnm : "<init>" = meth.name := hnm
  have hl : lv_has ls 4 [(0, .ref a0), (1, .int p1), (2, .int p2), (3, va_rf p3)] := by simp only [lv_args, va_rf_cat] at hl; exact hl
  have hx := X.1
  have hb := X.2.1
  have hown := X.2.2.2.1
  have hts := X.2.2.2.2.1
  have hK := X.2.2.2.2.2.1
  have hl0 := X.2.2.2.2.2.2.2.2
  unfold af_X25_init at hE
  refine lv_aload_n hx hb dX25_init_0 rfl (lv_at hl 0 rfl) ?_
  replace hE := e_cb hE
  obtain ⟨st_1, u_2, g, hE⟩ := hE
  have M9 := (mo_s (fun _ => le_pF) fun _ => (mo_s (fun _ => le_pF) fun _ => (mo_s (fun _ => le_pF) fun _ => mo_ret))) _ hE
  refine a_callI (n := 0) (σ1 := st_1) (σf := q.1) [] X Y (maf_J15_init hl0 n g) ⟨oaf_J15_init _ g, M9, h1, h2, (by show _ ≤ 2; decide), (by show _ ≤ 40; decide)⟩ q1223 q912 q143 q913 rfl (by decide +kernel) rfl hl.1 (Nat.le_of_ble_eq_true rfl) dX25_init_1 (fun v hv H locs kc ks Y => ?_) (fun k hk => by cases hk)
  cases hv
  refine lv_aload_n hx hb dX25_init_4 rfl (lv_at hl 0 rfl) ?_
  refine lv_iload_n hx hb dX25_init_5 rfl (lv_at hl 1 rfl) ?_
  replace hE := e_bind hE
  obtain ⟨st_3, g, hE⟩ := hE
  refine a_putFV X Y k_X25 0 g (by decide) rfl hnm rfl rfl rfl q1224 dX25_init_6 (fun H locs Y => ?_)
  refine lv_aload_n hx hb dX25_init_9 rfl (lv_at hl 0 rfl) ?_
  refine lv_iload_n hx hb dX25_init_10 rfl (lv_at hl 2 rfl) ?_
  replace hE := e_bind hE
  obtain ⟨st_4, g, hE⟩ := hE
  refine a_putFV X Y k_X25 1 g (by decide) rfl hnm rfl rfl rfl q1225 dX25_init_11 (fun H locs Y => ?_)
  refine lv_aload_n hx hb dX25_init_14 rfl (lv_at hl 0 rfl) ?_
  refine r_aload_n hx hb dX25_init_15 rfl (lv_at hl 3 rfl) ?_
  replace hE := e_bind hE
  obtain ⟨st_5, g, hE⟩ := hE
  refine a_putFV X Y k_X25 2 g (by decide) rfl hnm rfl (nr_o p3) (fr_o p3) q1226 dX25_init_16 (fun H locs Y => ?_)
  cases hE
  exact a_vret X Y h1 h2 hr dX25_init_19
/-! BasicMachine$Parser.define()LBasicMachine$Statement; -/
set_option maxHeartbeats 4000000 in
set_option maxRecDepth 100000 in
theorem maf_X3_define {l : Launch} (hl0 : l.stackTraces = false) (n : Nat) {x : aP} {st : aS} {a0 : Nat} {q : aS × ((Option Nat) ⊕ Nat)} (hE : af_X3_define n x.sK st a0 = some q) : aMet l yX3_define (ws_ yX3_define cX3_define 3 (some (.object "BasicMachine$Statement"))) 85 2007 x [.ref a0] st (oR q.2) q.1 := by
  refine a_ofW (own := "BasicMachine$Parser") hl0 (by decide) rfl (Nat.le_of_ble_eq_true rfl) (fun mc ms p e s m below meth c ls H locs kc ks h1 h2 X hex Y hr hnm hl => ?_)
  have hnm : "define" = meth.name := hnm
  have hl : lv_has ls 3 [(0, .ref a0)] := hl
  have hx := X.1
  have hb := X.2.1
  have hown := X.2.2.2.1
  have hts := X.2.2.2.2.1
  have hK := X.2.2.2.2.2.1
  have hl0 := X.2.2.2.2.2.2.2.2
  unfold af_X3_define at hE
  refine lv_aload_n hx hb dX3_define_0 rfl (lv_at hl 0 rfl) ?_
  refine s_ldc (i := 20) X (by decide) dX3_define_1 ?_
  replace hE := e_bind hE
  obtain ⟨u_3, g, hE⟩ := hE
  obtain ⟨fs9, g9⟩ := i_gC g
  have g7 := a_recv X Y k_X3.1 g9
  replace hE := e_xb hE
  rcases hE with ⟨st_1, u_2, g, hE⟩ | ⟨st_1, k9, g, hE⟩
  rotate_left
  · subst hE
    refine a_callV (n := 1) (C := "BasicMachine$Parser") (σ1 := st_1) (σf := st_1) [.ref (x.sK 20)] X Y (maf_X3_take_2 hl0 n g) ⟨oaf_X3_take_2 _ g, aLe.rf _, h1, h2, (by show _ ≤ 85; decide), (by show _ ≤ 2007; decide)⟩ q936 q938 qs23 q129 q939 (by decide +kernel) g7 rfl hl.1 (Nat.le_of_ble_eq_true rfl) dX3_define_3 (fun v hv => by cases hv) (fun k hk H locs kc ks q9 ce Y e1 e2 e3 => ?_)
    cases hk
    exact a_out X Y h1 h2 (fun z hz => (hex z hz).elim) e1 e2 e3
  have M9 := (mo_v fun _ => (mo_x oaf_X3_functionName fun _ _ => (mo_v fun _ => (mo_x oaf_X3_take fun _ _ => (mo_v fun _ => (mo_x oaf_X3_variable fun _ _ => (mo_v fun _ => (mo_x oaf_X3_take fun _ _ => (mo_v fun _ => (mo_x oaf_X3_take fun _ _ => (mo_s (fun _ => le_nO) fun _ => (mo_v fun _ => (mo_x (of_expr _ _ _) fun _ _ => (mo_cb oaf_X25_init fun _ _ => mo_ret)))))))))))))) _ hE
  refine a_callV (n := 1) (C := "BasicMachine$Parser") (σ1 := st_1) (σf := q.1) [.ref (x.sK 20)] X Y (maf_X3_take_2 hl0 n g) ⟨oaf_X3_take_2 _ g, M9, h1, h2, (by show _ ≤ 85; decide), (by show _ ≤ 2007; decide)⟩ q936 q938 qs23 q129 q939 (by decide +kernel) g7 rfl hl.1 (Nat.le_of_ble_eq_true rfl) dX3_define_3 (fun v hv H locs kc ks Y => ?_) (fun k hk => by cases hk)
  cases hv
  refine lv_aload_n hx hb dX3_define_6 rfl (lv_at hl 0 rfl) ?_
  replace hE := e_bind hE
  obtain ⟨u_6, g, hE⟩ := hE
  obtain ⟨fs9, g9⟩ := i_gC g
  have g7 := a_recv X Y k_X3.1 g9
  replace hE := e_xb hE
  rcases hE with ⟨st_4, v_5, g, hE⟩ | ⟨st_4, k9, g, hE⟩
  rotate_left
  · subst hE
    refine a_callV (n := 0) (C := "BasicMachine$Parser") (σ1 := st_4) (σf := st_4) [] X Y (maf_X3_functionName hl0 n g) ⟨oaf_X3_functionName _ g, aLe.rf _, h1, h2, (by show _ ≤ 85; decide), (by show _ ≤ 2007; decide)⟩ q956 q958 qs24 q129 q959 (by decide +kernel) g7 rfl hl.1 (Nat.le_of_ble_eq_true rfl) dX3_define_7 (fun v hv => by cases hv) (fun k hk H locs kc ks q9 ce Y e1 e2 e3 => ?_)
    cases hk
    exact a_out X Y h1 h2 (fun z hz => (hex z hz).elim) e1 e2 e3
  have M9 := (mo_v fun _ => (mo_x oaf_X3_take fun _ _ => (mo_v fun _ => (mo_x oaf_X3_variable fun _ _ => (mo_v fun _ => (mo_x oaf_X3_take fun _ _ => (mo_v fun _ => (mo_x oaf_X3_take fun _ _ => (mo_s (fun _ => le_nO) fun _ => (mo_v fun _ => (mo_x (of_expr _ _ _) fun _ _ => (mo_cb oaf_X25_init fun _ _ => mo_ret)))))))))))) _ hE
  refine a_callV (n := 0) (C := "BasicMachine$Parser") (σ1 := st_4) (σf := q.1) [] X Y (maf_X3_functionName hl0 n g) ⟨oaf_X3_functionName _ g, M9, h1, h2, (by show _ ≤ 85; decide), (by show _ ≤ 2007; decide)⟩ q956 q958 qs24 q129 q959 (by decide +kernel) g7 rfl hl.1 (Nat.le_of_ble_eq_true rfl) dX3_define_7 (fun v hv H locs kc ks Y => ?_) (fun k hk => by cases hk)
  cases hv
  refine lv_istore_n (i := 1) (lv' := [(1, .int v_5), (0, .ref a0)]) hx hb dX3_define_10 rfl hl (by decide) rfl (fun ls hl => ?_)
  refine lv_aload_n hx hb dX3_define_11 rfl (lv_at hl 1 rfl) ?_
  refine lv_bipush (v := 40) hx hb dX3_define_12 (by decide) ?_
  replace hE := e_bind hE
  obtain ⟨u_9, g, hE⟩ := hE
  obtain ⟨fs9, g9⟩ := i_gC g
  have g7 := a_recv X Y k_X3.1 g9
  replace hE := e_xb hE
  rcases hE with ⟨st_7, u_8, g, hE⟩ | ⟨st_7, k9, g, hE⟩
  rotate_left
  · subst hE
    refine a_callV (n := 1) (C := "BasicMachine$Parser") (σ1 := st_7) (σf := st_7) [.int (40 : Int32)] X Y (maf_X3_take hl0 n g) ⟨oaf_X3_take _ g, aLe.rf _, h1, h2, (by show _ ≤ 85; decide), (by show _ ≤ 2007; decide)⟩ q875 q877 qs13 q129 q878 (by decide +kernel) g7 rfl hl.1 (Nat.le_of_ble_eq_true rfl) dX3_define_14 (fun v hv => by cases hv) (fun k hk H locs kc ks q9 ce Y e1 e2 e3 => ?_)
    cases hk
    exact a_out X Y h1 h2 (fun z hz => (hex z hz).elim) e1 e2 e3
  have M9 := (mo_v fun _ => (mo_x oaf_X3_variable fun _ _ => (mo_v fun _ => (mo_x oaf_X3_take fun _ _ => (mo_v fun _ => (mo_x oaf_X3_take fun _ _ => (mo_s (fun _ => le_nO) fun _ => (mo_v fun _ => (mo_x (of_expr _ _ _) fun _ _ => (mo_cb oaf_X25_init fun _ _ => mo_ret)))))))))) _ hE
  refine a_callV (n := 1) (C := "BasicMachine$Parser") (σ1 := st_7) (σf := q.1) [.int (40 : Int32)] X Y (maf_X3_take hl0 n g) ⟨oaf_X3_take _ g, M9, h1, h2, (by show _ ≤ 85; decide), (by show _ ≤ 2007; decide)⟩ q875 q877 qs13 q129 q878 (by decide +kernel) g7 rfl hl.1 (Nat.le_of_ble_eq_true rfl) dX3_define_14 (fun v hv H locs kc ks Y => ?_) (fun k hk => by cases hk)
  cases hv
  refine lv_aload_n hx hb dX3_define_17 rfl (lv_at hl 1 rfl) ?_
  replace hE := e_bind hE
  obtain ⟨u_12, g, hE⟩ := hE
  obtain ⟨fs9, g9⟩ := i_gC g
  have g7 := a_recv X Y k_X3.1 g9
  replace hE := e_xb hE
  rcases hE with ⟨st_10, v_11, g, hE⟩ | ⟨st_10, k9, g, hE⟩
  rotate_left
  · subst hE
    refine a_callV (n := 0) (C := "BasicMachine$Parser") (σ1 := st_10) (σf := st_10) [] X Y (maf_X3_variable hl0 n g) ⟨oaf_X3_variable _ g, aLe.rf _, h1, h2, (by show _ ≤ 85; decide), (by show _ ≤ 2007; decide)⟩ q975 q977 qs25 q129 q978 (by decide +kernel) g7 rfl hl.1 (Nat.le_of_ble_eq_true rfl) dX3_define_18 (fun v hv => by cases hv) (fun k hk H locs kc ks q9 ce Y e1 e2 e3 => ?_)
    cases hk
    exact a_out X Y h1 h2 (fun z hz => (hex z hz).elim) e1 e2 e3
  have M9 := (mo_v fun _ => (mo_x oaf_X3_take fun _ _ => (mo_v fun _ => (mo_x oaf_X3_take fun _ _ => (mo_s (fun _ => le_nO) fun _ => (mo_v fun _ => (mo_x (of_expr _ _ _) fun _ _ => (mo_cb oaf_X25_init fun _ _ => mo_ret)))))))) _ hE
  refine a_callV (n := 0) (C := "BasicMachine$Parser") (σ1 := st_10) (σf := q.1) [] X Y (maf_X3_variable hl0 n g) ⟨oaf_X3_variable _ g, M9, h1, h2, (by show _ ≤ 85; decide), (by show _ ≤ 2007; decide)⟩ q975 q977 qs25 q129 q978 (by decide +kernel) g7 rfl hl.1 (Nat.le_of_ble_eq_true rfl) dX3_define_18 (fun v hv H locs kc ks Y => ?_) (fun k hk => by cases hk)
  cases hv
  refine lv_istore_n (i := 2) (lv' := [(2, .int v_11), (1, .int v_5), (0, .ref a0)]) hx hb dX3_define_21 rfl hl (by decide) rfl (fun ls hl => ?_)
  refine lv_aload_n hx hb dX3_define_22 rfl (lv_at hl 2 rfl) ?_
  refine lv_bipush (v := 41) hx hb dX3_define_23 (by decide) ?_
  replace hE := e_bind hE
  obtain ⟨u_15, g, hE⟩ := hE
  obtain ⟨fs9, g9⟩ := i_gC g
  have g7 := a_recv X Y k_X3.1 g9
  replace hE := e_xb hE
  rcases hE with ⟨st_13, u_14, g, hE⟩ | ⟨st_13, k9, g, hE⟩
  rotate_left
  · subst hE
    refine a_callV (n := 1) (C := "BasicMachine$Parser") (σ1 := st_13) (σf := st_13) [.int (41 : Int32)] X Y (maf_X3_take hl0 n g) ⟨oaf_X3_take _ g, aLe.rf _, h1, h2, (by show _ ≤ 85; decide), (by show _ ≤ 2007; decide)⟩ q875 q877 qs13 q129 q878 (by decide +kernel) g7 rfl hl.1 (Nat.le_of_ble_eq_true rfl) dX3_define_25 (fun v hv => by cases hv) (fun k hk H locs kc ks q9 ce Y e1 e2 e3 => ?_)
    cases hk
    exact a_out X Y h1 h2 (fun z hz => (hex z hz).elim) e1 e2 e3
  have M9 := (mo_v fun _ => (mo_x oaf_X3_take fun _ _ => (mo_s (fun _ => le_nO) fun _ => (mo_v fun _ => (mo_x (of_expr _ _ _) fun _ _ => (mo_cb oaf_X25_init fun _ _ => mo_ret)))))) _ hE
  refine a_callV (n := 1) (C := "BasicMachine$Parser") (σ1 := st_13) (σf := q.1) [.int (41 : Int32)] X Y (maf_X3_take hl0 n g) ⟨oaf_X3_take _ g, M9, h1, h2, (by show _ ≤ 85; decide), (by show _ ≤ 2007; decide)⟩ q875 q877 qs13 q129 q878 (by decide +kernel) g7 rfl hl.1 (Nat.le_of_ble_eq_true rfl) dX3_define_25 (fun v hv H locs kc ks Y => ?_) (fun k hk => by cases hk)
  cases hv
  refine lv_aload_n hx hb dX3_define_28 rfl (lv_at hl 2 rfl) ?_
  refine lv_bipush (v := 61) hx hb dX3_define_29 (by decide) ?_
  replace hE := e_bind hE
  obtain ⟨u_18, g, hE⟩ := hE
  obtain ⟨fs9, g9⟩ := i_gC g
  have g7 := a_recv X Y k_X3.1 g9
  replace hE := e_xb hE
  rcases hE with ⟨st_16, u_17, g, hE⟩ | ⟨st_16, k9, g, hE⟩
  rotate_left
  · subst hE
    refine a_callV (n := 1) (C := "BasicMachine$Parser") (σ1 := st_16) (σf := st_16) [.int (61 : Int32)] X Y (maf_X3_take hl0 n g) ⟨oaf_X3_take _ g, aLe.rf _, h1, h2, (by show _ ≤ 85; decide), (by show _ ≤ 2007; decide)⟩ q875 q877 qs13 q129 q878 (by decide +kernel) g7 rfl hl.1 (Nat.le_of_ble_eq_true rfl) dX3_define_31 (fun v hv => by cases hv) (fun k hk H locs kc ks q9 ce Y e1 e2 e3 => ?_)
    cases hk
    exact a_out X Y h1 h2 (fun z hz => (hex z hz).elim) e1 e2 e3
  have M9 := (mo_s (fun _ => le_nO) fun _ => (mo_v fun _ => (mo_x (of_expr _ _ _) fun _ _ => (mo_cb oaf_X25_init fun _ _ => mo_ret)))) _ hE
  refine a_callV (n := 1) (C := "BasicMachine$Parser") (σ1 := st_16) (σf := q.1) [.int (61 : Int32)] X Y (maf_X3_take hl0 n g) ⟨oaf_X3_take _ g, M9, h1, h2, (by show _ ≤ 85; decide), (by show _ ≤ 2007; decide)⟩ q875 q877 qs13 q129 q878 (by decide +kernel) g7 rfl hl.1 (Nat.le_of_ble_eq_true rfl) dX3_define_31 (fun v hv H locs kc ks Y => ?_) (fun k hk => by cases hk)
  cases hv
  replace hE := e_bind hE
  obtain ⟨st_19, g, hE⟩ := hE
  have M9 := (mo_v fun _ => (mo_x (of_expr _ _ _) fun _ _ => (mo_cb oaf_X25_init fun _ _ => mo_ret))) _ hE
  refine a_new X Y k_X25 g b_X25 q1218 q1219 q164 (aRoom1 Y h1 (le_nO1 g) M9) (aRoom2 Y h2 (le_nO2 g) M9) dX3_define_34 (fun H Y => ?_)
  generalize kc + 1 = kc at Y ⊢
  generalize ks + 3 = ks at Y ⊢
  refine lv_dup hx hb dX3_define_37 rfl ?_
  refine lv_iload_n hx hb dX3_define_38 rfl (lv_at hl 1 rfl) ?_
  refine lv_iload_n hx hb dX3_define_39 rfl (lv_at hl 0 rfl) ?_
  refine lv_aload_n hx hb dX3_define_40 rfl (lv_at hl 2 rfl) ?_
  replace hE := e_bind hE
  obtain ⟨u_22, g, hE⟩ := hE
  obtain ⟨fs9, g9⟩ := i_gC g
  have g7 := a_recv X Y k_X3.1 g9
  replace hE := e_xb hE
  rcases hE with ⟨st_20, r_21, g, hE⟩ | ⟨st_20, k9, g, hE⟩
  rotate_left
  · subst hE
    refine a_callV (n := 0) (C := "BasicMachine$Parser") (σ1 := st_20) (σf := st_20) [] X Y (mf_expr hl0 n g) ⟨(of_expr _ _ _) _ g, aLe.rf _, h1, h2, (by show _ ≤ 85; decide), (by show _ ≤ 2007; decide)⟩ q879 q880 q881 q129 q882 (by decide +kernel) g7 rfl hl.1 (Nat.le_of_ble_eq_true rfl) dX3_define_41 (fun v hv => by cases hv) (fun k hk H locs kc ks q9 ce Y e1 e2 e3 => ?_)
    cases hk
    exact a_out X Y h1 h2 (fun z hz => (hex z hz).elim) e1 e2 e3
  have M9 := (mo_cb oaf_X25_init fun _ _ => mo_ret) _ hE
  refine a_callV (n := 0) (C := "BasicMachine$Parser") (σ1 := st_20) (σf := q.1) [] X Y (mf_expr hl0 n g) ⟨(of_expr _ _ _) _ g, M9, h1, h2, (by show _ ≤ 85; decide), (by show _ ≤ 2007; decide)⟩ q879 q880 q881 q129 q882 (by decide +kernel) g7 rfl hl.1 (Nat.le_of_ble_eq_true rfl) dX3_define_41 (fun v hv H locs kc ks Y => ?_) (fun k hk => by cases hk)
  cases hv
  replace hE := e_cb hE
  obtain ⟨st_23, u_24, g, hE⟩ := hE
  have M9 := mo_ret _ hE
  refine a_callIN (host := "BasicMachine") (n := 3) (σ1 := st_23) (σf := q.1) [.int v_5, .int v_11, va_rf r_21] X Y (maf_X25_init hl0 n g) ⟨oaf_X25_init _ g, M9, h1, h2, (by show _ ≤ 85; decide), (by show _ ≤ 2007; decide)⟩ (by decide) q1221 q164 q1222 rfl (by decide +kernel) rfl hl.1 (Nat.le_of_ble_eq_true rfl) dX3_define_44 (fun v hv H locs kc ks Y => ?_) (fun k hk => by cases hk)
  cases hv
  cases hE
  exact a_aret (r := (some st_16.1)) X Y h1 h2 hr (Or.inl ⟨_, rfl⟩) dX3_define_47
/-! BasicMachine$Mat.<init>(ICIILBasicMachine$Expression;)V -/
set_option maxHeartbeats 4000000 in
set_option maxRecDepth 100000 in
theorem maf_X26_init {l : Launch} (hl0 : l.stackTraces = false) (n : Nat) {x : aP} {st : aS} {a0 : Nat} {p1 : Int32} {p2 : Int32} {p3 : Int32} {p4 : Int32} {p5 : Option Nat} {q : aS × Unit} (hE : af_X26_init n x.sK st a0 p1 p2 p3 p4 p5 = some q) : aMet l yX26_init (ws_ yX26_init cX26_init 6 none) 2 40 x [.ref a0, .int p1, .int p2, .int p3, .int p4, va_rf p5] st (.inl none) q.1 := by
  refine a_ofW (own := "BasicMachine$Mat") hl0 (by decide) rfl (by simp only [lg_sl, List.flatMap_cons, List.flatMap_nil, va_rf_cat]; exact Nat.le_of_ble_eq_true rfl) (fun mc ms p e s m below meth c ls H locs kc ks h1 h2 X hex Y hr hnm hl => ?_)
  have hnm : "<init>" = meth.name := hnm
  have hl : lv_has ls 6 [(0, .ref a0), (1, .int p1), (2, .int p2), (3, .int p3), (4, .int p4), (5, va_rf p5)] := by simp only [lv_args, va_rf_cat] at hl; exact hl
  have hx := X.1
  have hb := X.2.1
  have hown := X.2.2.2.1
  have hts := X.2.2.2.2.1
  have hK := X.2.2.2.2.2.1
  have hl0 := X.2.2.2.2.2.2.2.2
  unfold af_X26_init at hE
  refine lv_aload_n hx hb dX26_init_0 rfl (lv_at hl 0 rfl) ?_
  replace hE := e_cb hE
  obtain ⟨st_1, u_2, g, hE⟩ := hE
  have M9 := (mo_s (fun _ => le_pF) fun _ => (mo_v fun _ => (mo_s (fun _ => le_pF) fun _ => (mo_s (fun _ => le_pF) fun _ => (mo_s (fun _ => le_pF) fun _ => (mo_s (fun _ => le_pF) fun _ => mo_ret)))))) _ hE
  refine a_callI (n := 0) (σ1 := st_1) (σf := q.1) [] X Y (maf_J15_init hl0 n g) ⟨oaf_J15_init _ g, M9, h1, h2, (by show _ ≤ 2; decide), (by show _ ≤ 40; decide)⟩ q1246 q912 q143 q913 rfl (by decide +kernel) rfl hl.1 (Nat.le_of_ble_eq_true rfl) dX26_init_1 (fun v hv H locs kc ks Y => ?_) (fun k hk => by cases hk)
  cases hv
  refine lv_aload_n hx hb dX26_init_4 rfl (lv_at hl 0 rfl) ?_
  refine lv_iload_n hx hb dX26_init_5 rfl (lv_at hl 1 rfl) ?_
  replace hE := e_bind hE
  obtain ⟨st_3, g, hE⟩ := hE
  refine a_putFV X Y k_X26 0 g (by decide) rfl hnm rfl rfl rfl q1247 dX26_init_6 (fun H locs Y => ?_)
  refine lv_aload_n hx hb dX26_init_9 rfl (lv_at hl 0 rfl) ?_
  refine lv_iload_n hx hb dX26_init_10 rfl (lv_at hl 2 rfl) ?_
  replace hE := e_bind hE
  obtain ⟨v_4, g, hE⟩ := hE
  obtain ⟨g1, g2, g3⟩ := i_cz g
  refine n_eqi g1 ?_
  replace hE := e_bind hE
  obtain ⟨st_5, g, hE⟩ := hE
  refine a_putFV X Y k_X26 1 g (by decide) rfl hnm rfl g2 g3 q1248 dX26_init_11 (fun H locs Y => ?_)
  refine lv_aload_n hx hb dX26_init_14 rfl (lv_at hl 0 rfl) ?_
  refine lv_iload_n hx hb dX26_init_15 rfl (lv_at hl 3 rfl) ?_
  replace hE := e_bind hE
  obtain ⟨st_6, g, hE⟩ := hE
  refine a_putFV X Y k_X26 2 g (by decide) rfl hnm rfl rfl rfl q1249 dX26_init_16 (fun H locs Y => ?_)
  refine lv_aload_n hx hb dX26_init_19 rfl (lv_at hl 0 rfl) ?_
  refine lv_iload hx hb dX26_init_20 (lv_at hl 4 rfl) ?_
  replace hE := e_bind hE
  obtain ⟨st_7, g, hE⟩ := hE
  refine a_putFV X Y k_X26 3 g (by decide) rfl hnm rfl rfl rfl q1250 dX26_init_22 (fun H locs Y => ?_)
  refine lv_aload_n hx hb dX26_init_25 rfl (lv_at hl 0 rfl) ?_
  refine r_aload hx hb dX26_init_26 (lv_at hl 5 rfl) ?_
  replace hE := e_bind hE
  obtain ⟨st_8, g, hE⟩ := hE
  refine a_putFV X Y k_X26 4 g (by decide) rfl hnm rfl (nr_o p5) (fr_o p5) q1251 dX26_init_28 (fun H locs Y => ?_)
  cases hE
  exact a_vret X Y h1 h2 hr dX26_init_31

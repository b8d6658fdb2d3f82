/-! contracts of the model (printed by genb.py) -/
/-! BasicMachineModel.doFor(II)I -/
set_option maxHeartbeats 4000000 in
set_option maxRecDepth 100000 in
theorem wbf_doFor_S142_ {l : Launch} {b : bP} {As : List Value} {p : Program} {e : Env} {s : State} {m : MethodId} {below : List Frame} {meth : Method} {c : Code} (X : bX p s m (Value.ref b.h :: As).toArray c cX2_doFor 11 b) (hr : meth.sig.returnType = (some .int)) (hk : meth.locks = false) (n : Nat) {q : bS × Int32} : ∀ k : Nat, (∀ {st : bS} {x2 : Int32} {x3 : Int32} {x10 : Int32}, bf_doFor_S142 n k 0 st x2 x3 x10 = some q → ∀ {H : Heap} {locs : List Loc} {ls : Array Slot}, bY b s st H locs → lv_has ls 11 [(0, .ref b.h), (2, .int x2), (3, .int x3), (10, .int x10)] → bG l 6 145 b As (some (.int q.2)) q.1 p e s m below meth c H locs (F0 m 142 ls [])) ∧ (∀ {st : bS} {x2 : Int32} {x3 : Int32} {x10 : Int32}, bf_doFor_S142 n k 1 st x2 x3 x10 = some q → ∀ {H : Heap} {locs : List Loc} {ls : Array Slot}, bY b s st H locs → lv_has ls 11 [(0, .ref b.h), (2, .int x2), (3, .int x3), (10, .int x10)] → bG l 6 145 b As (some (.int q.2)) q.1 p e s m below meth c H locs (F0 m 185 ls [])) := by
  have hx := X.1
  have hb := X.2.1
  have hown := X.2.2.2.1
  have hts := X.2.2.2.2.1
  intro k
  induction k with
  | zero => exact ⟨(fun h => nomatch (show none = some q from h)), (fun h => nomatch (show none = some q from h))⟩
  | succ k ih =>
    obtain ⟨ih0, ih1⟩ := ih
    refine ⟨?_, ?_⟩
    · intro st x2 x3 x10 hE H locs ls Y hl
      replace hE : bf_doFor_B142 n (bf_doFor_S142 n k) st x2 x3 x10 = some q := hE
      unfold bf_doFor_B142 at hE
      refine lv_iload hx hb dX2_doFor_142 (lv_at hl 3 rfl) ?_
      refine lv_if_lt (tgt := 201) hx hb dX2_doFor_144 (by decide) (fun c_1 => ?_) (fun c_1 => ?_)
      · replace hE := e_t c_1 hE
        refine lv_aload_n hx hb dX2_doFor_201 rfl (lv_at hl 0 rfl) ?_
        refine lv_iconst (v := 2) hx hb dX2_doFor_202 (by decide) ?_
        obtain ⟨st_2, g, hE⟩ := e_bind hE
        refine n_put X Y 27 rfl (by decide) g rfl rfl rfl q1830 dX2_doFor_203 (fun H locs Y => ?_)
        refine lv_iload_n hx hb dX2_doFor_206 rfl (lv_at hl 1 rfl) ?_
        cases hE
        exact b_iret X Y hr hk dX2_doFor_207
      · replace hE := e_f c_1 hE
        refine lv_aload_n hx hb dX2_doFor_147 rfl (lv_at hl 0 rfl) ?_
        refine b_geta X Y 11 (by decide) (by decide) q1814 dX2_doFor_148 ?_
        refine lv_iload hx hb dX2_doFor_151 (lv_at hl 3 rfl) ?_
        obtain ⟨v_3, g, hE⟩ := e_bind hE
        refine n_iald X Y 3 11 rfl rfl g dX2_doFor_153 ?_
        refine lv_bipush (v := 8) hx hb dX2_doFor_154 (by decide) ?_
        refine lv_icmp_ne (tgt := 185) hx hb dX2_doFor_156 (by decide) (fun c_4 => ?_) (fun c_4 => ?_)
        · replace hE := e_f c_4 hE
          exact ih1 hE Y (lv_sub hl [0, 1, 2, 3] rfl)
        · replace hE := e_t c_4 hE
          refine lv_aload_n hx hb dX2_doFor_159 rfl (lv_at hl 0 rfl) ?_
          refine b_geta X Y 12 (by decide) (by decide) q1815 dX2_doFor_160 ?_
          refine lv_iload hx hb dX2_doFor_163 (lv_at hl 3 rfl) ?_
          refine lv_bipush (v := 8) hx hb dX2_doFor_165 (by decide) ?_
          refine lv_imul hx hb dX2_doFor_167 ?_
          obtain ⟨v_5, g, hE⟩ := e_bind hE
          refine n_iald X Y 4 12 rfl rfl g dX2_doFor_168 ?_
          refine lv_iload_n hx hb dX2_doFor_169 rfl (lv_at hl 2 rfl) ?_
          refine lv_icmp_ne (tgt := 185) hx hb dX2_doFor_170 (by decide) (fun c_6 => ?_) (fun c_6 => ?_)
          · replace hE := e_f c_6 hE
            exact ih1 hE Y (lv_sub hl [0, 1, 2, 3] rfl)
          · replace hE := e_t c_6 hE
            refine lv_aload_n hx hb dX2_doFor_173 rfl (lv_at hl 0 rfl) ?_
            refine lv_aload_n hx hb dX2_doFor_174 rfl (lv_at hl 0 rfl) ?_
            refine b_geta X Y 10 (by decide) (by decide) q1813 dX2_doFor_175 ?_
            refine lv_iload hx hb dX2_doFor_178 (lv_at hl 3 rfl) ?_
            obtain ⟨v_7, g, hE⟩ := e_bind hE
            refine n_iald X Y 2 10 rfl rfl g dX2_doFor_180 ?_
            obtain ⟨q_8, g, hE⟩ := e_bind hE
            refine n_call1 (n := 1) [.int v_7] X Y (mbf_nextSlot l n b X.2.2.2.2.2.2 g) q2160 q2162 qs94 q2163 (by decide +kernel) (by decide) rfl hl.1 (Nat.le_of_ble_eq_true rfl) dX2_doFor_181 (by decide) (fun H locs Y => ?_)
            cases hE
            exact b_iret X Y hr hk dX2_doFor_184
    · intro st x2 x3 x10 hE H locs ls Y hl
      replace hE : bf_doFor_B185 n (bf_doFor_S142 n k) st x2 x3 x10 = some q := hE
      unfold bf_doFor_B185 at hE
      refine lv_aload_n hx hb dX2_doFor_185 rfl (lv_at hl 0 rfl) ?_
      refine lv_aload_n hx hb dX2_doFor_186 rfl (lv_at hl 0 rfl) ?_
      refine b_geta X Y 10 (by decide) (by decide) q1813 dX2_doFor_187 ?_
      refine lv_iload hx hb dX2_doFor_190 (lv_at hl 3 rfl) ?_
      obtain ⟨v_1, g, hE⟩ := e_bind hE
      refine n_iald X Y 2 10 rfl rfl g dX2_doFor_192 ?_
      obtain ⟨q_2, g, hE⟩ := e_bind hE
      refine n_call1 (n := 1) [.int v_1] X Y (mbf_nextSlot l n b X.2.2.2.2.2.2 g) q2160 q2162 qs94 q2163 (by decide +kernel) (by decide) rfl hl.1 (Nat.le_of_ble_eq_true rfl) dX2_doFor_193 (by decide) (fun H locs Y => ?_)
      refine lv_istore (lv' := [(10, .int q_2.2), (0, .ref b.h), (2, .int x2), (3, .int x3)]) hx hb dX2_doFor_196 hl (by decide) rfl (fun ls hl => ?_)
      refine lv_goto (tgt := 142) hx hb dX2_doFor_198 (by decide) ?_
      exact ih0 hE Y (lv_sub hl [1, 2, 3, 0] rfl)
set_option maxHeartbeats 4000000 in
set_option maxRecDepth 100000 in
theorem wbf_doFor_S142 {l : Launch} {b : bP} {As : List Value} {p : Program} {e : Env} {s : State} {m : MethodId} {below : List Frame} {meth : Method} {c : Code} (X : bX p s m (Value.ref b.h :: As).toArray c cX2_doFor 11 b) (hr : meth.sig.returnType = (some .int)) (hk : meth.locks = false) (n : Nat) {q : bS × Int32} : (∀ {st : bS} {x2 : Int32} {x3 : Int32} {x10 : Int32}, bf_doFor_S142 n n 0 st x2 x3 x10 = some q → ∀ {H : Heap} {locs : List Loc} {ls : Array Slot}, bY b s st H locs → lv_has ls 11 [(0, .ref b.h), (2, .int x2), (3, .int x3), (10, .int x10)] → bG l 6 145 b As (some (.int q.2)) q.1 p e s m below meth c H locs (F0 m 142 ls [])) ∧ (∀ {st : bS} {x2 : Int32} {x3 : Int32} {x10 : Int32}, bf_doFor_S142 n n 1 st x2 x3 x10 = some q → ∀ {H : Heap} {locs : List Loc} {ls : Array Slot}, bY b s st H locs → lv_has ls 11 [(0, .ref b.h), (2, .int x2), (3, .int x3), (10, .int x10)] → bG l 6 145 b As (some (.int q.2)) q.1 p e s m below meth c H locs (F0 m 185 ls [])) := wbf_doFor_S142_ X hr hk n n
set_option maxHeartbeats 4000000 in
set_option maxRecDepth 100000 in
theorem wbf_doFor_L118 {l : Launch} {b : bP} {As : List Value} {p : Program} {e : Env} {s : State} {m : MethodId} {below : List Frame} {meth : Method} {c : Code} (X : bX p s m (Value.ref b.h :: As).toArray c cX2_doFor 11 b) (hr : meth.sig.returnType = (some .int)) (hk : meth.locks = false) {n : Nat} {st : bS} {x1 : Int32} {x2 : Int32} {x3 : Int32} {x4 : UInt64} {x6 : UInt64} {x8 : UInt64} {q : bS × Int32} (hE : bf_doFor_L118 n st x1 x2 x3 x4 x6 x8 = some q) {H : Heap} {locs : List Loc} {ls : Array Slot} (Y : bY b s st H locs) (hl : lv_has ls 11 [(0, .ref b.h), (1, .int x1), (2, .int x2), (3, .int x3), (4, .double x4), (6, .double x6), (8, .double x8)]) : bG l 6 145 b As (some (.int q.2)) q.1 p e s m below meth c H locs (F0 m 118 ls []) := by
  have hx := X.1
  have hb := X.2.1
  have hown := X.2.2.2.1
  have hts := X.2.2.2.2.1
  unfold bf_doFor_L118 at hE
  refine lv_aload_n hx hb dX2_doFor_118 rfl (lv_at hl 0 rfl) ?_
  refine b_geta X Y 29 (by decide) (by decide) q1832 dX2_doFor_119 ?_
  refine lv_iload_n hx hb dX2_doFor_122 rfl (lv_at hl 3 rfl) ?_
  refine lv_dload hx hb dX2_doFor_123 (lv_at hl 4 rfl) ?_
  obtain ⟨st_1, g, hE⟩ := e_bind hE
  refine n_dast X Y 9 29 rfl rfl g dX2_doFor_125 (fun H locs Y => ?_)
  refine lv_aload_n hx hb dX2_doFor_126 rfl (lv_at hl 0 rfl) ?_
  refine lv_dload hx hb dX2_doFor_127 (lv_at hl 4 rfl) ?_
  refine lv_dload hx hb dX2_doFor_129 (lv_at hl 5 rfl) ?_
  refine lv_dload hx hb dX2_doFor_131 (lv_at hl 6 rfl) ?_
  obtain ⟨q_2, g, hE⟩ := e_bind hE
  refine n_call1 (n := 3) [.double x4, .double x6, .double x8] X Y (mbf_over l n b X.2.2.2.2.2.2 g) q2250 q2252 qs115 q2253 (by decide +kernel) (by decide) rfl hl.1 (Nat.le_of_ble_eq_true rfl) dX2_doFor_133 (by decide) (fun H locs Y => ?_)
  refine lv_if_eq (tgt := 208) hx hb dX2_doFor_136 (by decide) (fun c_3 => ?_) (fun c_3 => ?_)
  · replace hE := e_t c_3 hE
    refine lv_aload_n hx hb dX2_doFor_208 rfl (lv_at hl 0 rfl) ?_
    refine b_geti X Y 23 rfl (by decide) rfl q1826 dX2_doFor_209 ?_
    refine lv_bipush (v := 6) hx hb dX2_doFor_212 (by decide) ?_
    refine lv_icmp_ne (tgt := 224) hx hb dX2_doFor_214 (by decide) (fun c_4 => ?_) (fun c_4 => ?_)
    · replace hE := e_f c_4 hE
      refine lv_aload_n hx hb dX2_doFor_224 rfl (lv_at hl 0 rfl) ?_
      refine b_geta X Y 41 (by decide) (by decide) q1844 dX2_doFor_225 ?_
      refine lv_aload_n hx hb dX2_doFor_228 rfl (lv_at hl 0 rfl) ?_
      refine b_geti X Y 23 rfl (by decide) rfl q1826 dX2_doFor_229 ?_
      refine lv_iload_n hx hb dX2_doFor_232 rfl (lv_at hl 3 rfl) ?_
      obtain ⟨st_5, g, hE⟩ := e_bind hE
      refine n_iast X Y 21 41 rfl rfl g dX2_doFor_233 (fun H locs Y => ?_)
      refine lv_aload_n hx hb dX2_doFor_234 rfl (lv_at hl 0 rfl) ?_
      refine b_geta X Y 42 (by decide) (by decide) q1845 dX2_doFor_235 ?_
      refine lv_aload_n hx hb dX2_doFor_238 rfl (lv_at hl 0 rfl) ?_
      refine b_geti X Y 23 rfl (by decide) rfl q1826 dX2_doFor_239 ?_
      refine lv_iload_n hx hb dX2_doFor_242 rfl (lv_at hl 1 rfl) ?_
      obtain ⟨st_6, g, hE⟩ := e_bind hE
      refine n_iast X Y 22 42 rfl rfl g dX2_doFor_243 (fun H locs Y => ?_)
      refine lv_aload_n hx hb dX2_doFor_244 rfl (lv_at hl 0 rfl) ?_
      refine b_geta X Y 32 (by decide) (by decide) q1835 dX2_doFor_245 ?_
      refine lv_aload_n hx hb dX2_doFor_248 rfl (lv_at hl 0 rfl) ?_
      refine b_geti X Y 23 rfl (by decide) rfl q1826 dX2_doFor_249 ?_
      refine lv_dload hx hb dX2_doFor_252 (lv_at hl 5 rfl) ?_
      obtain ⟨st_7, g, hE⟩ := e_bind hE
      refine n_dast X Y 12 32 rfl rfl g dX2_doFor_254 (fun H locs Y => ?_)
      refine lv_aload_n hx hb dX2_doFor_255 rfl (lv_at hl 0 rfl) ?_
      refine b_geta X Y 33 (by decide) (by decide) q1836 dX2_doFor_256 ?_
      refine lv_aload_n hx hb dX2_doFor_259 rfl (lv_at hl 0 rfl) ?_
      refine b_geti X Y 23 rfl (by decide) rfl q1826 dX2_doFor_260 ?_
      refine lv_dload hx hb dX2_doFor_263 (lv_at hl 6 rfl) ?_
      obtain ⟨st_8, g, hE⟩ := e_bind hE
      refine n_dast X Y 13 33 rfl rfl g dX2_doFor_265 (fun H locs Y => ?_)
      refine lv_aload_n hx hb dX2_doFor_266 rfl (lv_at hl 0 rfl) ?_
      refine lv_dup hx hb dX2_doFor_267 rfl ?_
      refine b_geti X Y 23 rfl (by decide) rfl q1826 dX2_doFor_268 ?_
      refine lv_iconst (v := 1) hx hb dX2_doFor_271 (by decide) ?_
      refine lv_iadd hx hb dX2_doFor_272 ?_
      obtain ⟨st_9, g, hE⟩ := e_bind hE
      refine n_put X Y 23 rfl (by decide) g rfl rfl rfl q1826 dX2_doFor_273 (fun H locs Y => ?_)
      refine lv_iload_n hx hb dX2_doFor_276 rfl (lv_at hl 2 rfl) ?_
      cases hE
      exact b_iret X Y hr hk dX2_doFor_277
    · replace hE := e_t c_4 hE
      refine lv_aload_n hx hb dX2_doFor_217 rfl (lv_at hl 0 rfl) ?_
      refine lv_iconst (v := 2) hx hb dX2_doFor_218 (by decide) ?_
      obtain ⟨st_10, g, hE⟩ := e_bind hE
      refine n_put X Y 27 rfl (by decide) g rfl rfl rfl q1830 dX2_doFor_219 (fun H locs Y => ?_)
      refine lv_iload_n hx hb dX2_doFor_222 rfl (lv_at hl 2 rfl) ?_
      cases hE
      exact b_iret X Y hr hk dX2_doFor_223
  · replace hE := e_f c_3 hE
    refine lv_iload_n hx hb dX2_doFor_139 rfl (lv_at hl 2 rfl) ?_
    refine lv_istore (lv' := [(10, .int x2), (0, .ref b.h), (1, .int x1), (2, .int x2), (3, .int x3), (4, .double x4), (6, .double x6), (8, .double x8)]) hx hb dX2_doFor_140 hl (by decide) rfl (fun ls hl => ?_)
    exact (wbf_doFor_S142 X hr hk n).1 hE Y (lv_sub hl [1, 3, 4, 0] rfl)
set_option maxHeartbeats 4000000 in
set_option maxRecDepth 100000 in
theorem wbf_doFor_L92 {l : Launch} {b : bP} {As : List Value} {p : Program} {e : Env} {s : State} {m : MethodId} {below : List Frame} {meth : Method} {c : Code} (X : bX p s m (Value.ref b.h :: As).toArray c cX2_doFor 11 b) (hr : meth.sig.returnType = (some .int)) (hk : meth.locks = false) {n : Nat} {st : bS} {x1 : Int32} {x2 : Int32} {x3 : Int32} {x4 : UInt64} {x6 : UInt64} {x8 : UInt64} {q : bS × Int32} (hE : bf_doFor_L92 n st x1 x2 x3 x4 x6 x8 = some q) {H : Heap} {locs : List Loc} {ls : Array Slot} (Y : bY b s st H locs) (hl : lv_has ls 11 [(0, .ref b.h), (1, .int x1), (2, .int x2), (3, .int x3), (4, .double x4), (6, .double x6), (8, .double x8)]) : bG l 6 145 b As (some (.int q.2)) q.1 p e s m below meth c H locs (F0 m 92 ls []) := by
  have hx := X.1
  have hb := X.2.1
  have hown := X.2.2.2.1
  have hts := X.2.2.2.2.1
  unfold bf_doFor_L92 at hE
  refine lv_aload_n hx hb dX2_doFor_92 rfl (lv_at hl 0 rfl) ?_
  refine b_geti X Y 27 rfl (by decide) rfl q1830 dX2_doFor_93 ?_
  refine lv_if_eq (tgt := 101) hx hb dX2_doFor_96 (by decide) (fun c_1 => ?_) (fun c_1 => ?_)
  · replace hE := e_t c_1 hE
    refine lv_aload_n hx hb dX2_doFor_101 rfl (lv_at hl 0 rfl) ?_
    refine lv_iload_n hx hb dX2_doFor_102 rfl (lv_at hl 3 rfl) ?_
    obtain ⟨q_2, g, hE⟩ := e_bind hE
    refine n_call1 (n := 1) [.int x3] X Y (mbf_loopFor l n b X.2.2.2.2.2.2 g) q2246 q2248 qs114 q2249 (by decide +kernel) (by decide) rfl hl.1 (Nat.le_of_ble_eq_true rfl) dX2_doFor_103 (by decide) (fun H locs Y => ?_)
    refine lv_if_lt (tgt := 118) hx hb dX2_doFor_106 (by decide) (fun c_3 => ?_) (fun c_3 => ?_)
    · replace hE := e_t c_3 hE
      exact wbf_doFor_L118 X hr hk hE Y (lv_sub hl [0, 1, 2, 3, 4, 5, 6] rfl)
    · replace hE := e_f c_3 hE
      refine lv_aload_n hx hb dX2_doFor_109 rfl (lv_at hl 0 rfl) ?_
      refine lv_aload_n hx hb dX2_doFor_110 rfl (lv_at hl 0 rfl) ?_
      refine lv_iload_n hx hb dX2_doFor_111 rfl (lv_at hl 3 rfl) ?_
      obtain ⟨q_4, g, hE⟩ := e_bind hE
      refine n_call1 (n := 1) [.int x3] X Y (mbf_loopFor l n b X.2.2.2.2.2.2 g) q2246 q2248 qs114 q2249 (by decide +kernel) (by decide) rfl hl.1 (Nat.le_of_ble_eq_true rfl) dX2_doFor_112 (by decide) (fun H locs Y => ?_)
      obtain ⟨st_5, g, hE⟩ := e_bind hE
      refine n_put X Y 23 rfl (by decide) g rfl rfl rfl q1826 dX2_doFor_115 (fun H locs Y => ?_)
      exact wbf_doFor_L118 X hr hk hE Y (lv_sub hl [0, 1, 2, 3, 4, 5, 6] rfl)
  · replace hE := e_f c_1 hE
    refine lv_iload_n hx hb dX2_doFor_99 rfl (lv_at hl 2 rfl) ?_
    cases hE
    exact b_iret X Y hr hk dX2_doFor_100
set_option maxHeartbeats 4000000 in
set_option maxRecDepth 100000 in
theorem wbf_doFor_L49 {l : Launch} {b : bP} {As : List Value} {p : Program} {e : Env} {s : State} {m : MethodId} {below : List Frame} {meth : Method} {c : Code} (X : bX p s m (Value.ref b.h :: As).toArray c cX2_doFor 11 b) (hr : meth.sig.returnType = (some .int)) (hk : meth.locks = false) {n : Nat} {st : bS} {x1 : Int32} {x2 : Int32} {x3 : Int32} {x4 : UInt64} {z49_0 : UInt64} {q : bS × Int32} (hE : bf_doFor_L49 n st x1 x2 x3 x4 z49_0 = some q) {H : Heap} {locs : List Loc} {ls : Array Slot} (Y : bY b s st H locs) (hl : lv_has ls 11 [(0, .ref b.h), (1, .int x1), (2, .int x2), (3, .int x3), (4, .double x4)]) : bG l 6 145 b As (some (.int q.2)) q.1 p e s m below meth c H locs (F0 m 49 ls [.double z49_0]) := by
  have hx := X.1
  have hb := X.2.1
  have hown := X.2.2.2.1
  have hts := X.2.2.2.2.1
  unfold bf_doFor_L49 at hE
  refine lv_dstore (lv' := [(6, .double z49_0), (0, .ref b.h), (1, .int x1), (2, .int x2), (3, .int x3), (4, .double x4)]) hx hb dX2_doFor_49 hl (by decide) rfl (fun ls hl => ?_)
  refine lv_dconst1 hx hb dX2_doFor_51 ?_
  refine lv_dstore (lv' := [(8, .double FP.dconst1), (6, .double z49_0), (0, .ref b.h), (1, .int x1), (2, .int x2), (3, .int x3), (4, .double x4)]) hx hb dX2_doFor_52 hl (by decide) rfl (fun ls hl => ?_)
  refine lv_aload_n hx hb dX2_doFor_54 rfl (lv_at hl 2 rfl) ?_
  refine b_geti X Y 27 rfl (by decide) rfl q1830 dX2_doFor_55 ?_
  refine lv_if_ne (tgt := 92) hx hb dX2_doFor_58 (by decide) (fun c_1 => ?_) (fun c_1 => ?_)
  · replace hE := e_f c_1 hE
    exact wbf_doFor_L92 X hr hk hE Y (lv_sub hl [2, 3, 4, 5, 6, 1, 0] rfl)
  · replace hE := e_t c_1 hE
    refine lv_aload_n hx hb dX2_doFor_61 rfl (lv_at hl 2 rfl) ?_
    refine b_geta X Y 12 (by decide) (by decide) q1815 dX2_doFor_62 ?_
    refine lv_iload_n hx hb dX2_doFor_65 rfl (lv_at hl 3 rfl) ?_
    refine lv_bipush (v := 8) hx hb dX2_doFor_66 (by decide) ?_
    refine lv_imul hx hb dX2_doFor_68 ?_
    refine lv_iconst (v := 1) hx hb dX2_doFor_69 (by decide) ?_
    refine lv_iadd hx hb dX2_doFor_70 ?_
    obtain ⟨v_2, g, hE⟩ := e_bind hE
    refine n_iald X Y 4 12 rfl rfl g dX2_doFor_71 ?_
    refine lv_iconst (v := 1) hx hb dX2_doFor_72 (by decide) ?_
    refine lv_icmp_ne (tgt := 92) hx hb dX2_doFor_73 (by decide) (fun c_3 => ?_) (fun c_3 => ?_)
    · replace hE := e_f c_3 hE
      exact wbf_doFor_L92 X hr hk hE Y (lv_sub hl [2, 3, 4, 5, 6, 1, 0] rfl)
    · replace hE := e_t c_3 hE
      refine lv_aload_n hx hb dX2_doFor_76 rfl (lv_at hl 2 rfl) ?_
      refine lv_aload_n hx hb dX2_doFor_77 rfl (lv_at hl 2 rfl) ?_
      refine b_geta X Y 13 (by decide) (by decide) q1816 dX2_doFor_78 ?_
      refine lv_iload_n hx hb dX2_doFor_81 rfl (lv_at hl 3 rfl) ?_
      refine lv_iconst (v := 4) hx hb dX2_doFor_82 (by decide) ?_
      refine lv_imul hx hb dX2_doFor_83 ?_
      refine lv_iconst (v := 2) hx hb dX2_doFor_84 (by decide) ?_
      refine lv_iadd hx hb dX2_doFor_85 ?_
      obtain ⟨v_4, g, hE⟩ := e_bind hE
      refine n_iald X Y 5 13 rfl rfl g dX2_doFor_86 ?_
      obtain ⟨q_5, g, hE⟩ := e_bind hE
      refine n_call1 (n := 1) [.int v_4] X Y (mbf_work l n b X.2.2.2.2.2.2 g) q2177 q2179 qs98 q2180 (by decide +kernel) (by decide) rfl hl.1 (Nat.le_of_ble_eq_true rfl) dX2_doFor_87 (by decide) (fun H locs Y => ?_)
      refine lv_dstore (lv' := [(8, .double q_5.2), (6, .double z49_0), (0, .ref b.h), (1, .int x1), (2, .int x2), (3, .int x3), (4, .double x4)]) hx hb dX2_doFor_90 hl (by decide) rfl (fun ls hl => ?_)
      exact wbf_doFor_L92 X hr hk hE Y (lv_sub hl [2, 3, 4, 5, 6, 1, 0] rfl)
set_option maxHeartbeats 4000000 in
set_option maxRecDepth 100000 in
theorem mbf_doFor (l : Launch) (n : Nat) (b : bP) (ok : bOk b) {st : bS} {a1 : Int32} {a2 : Int32} {q : bS × Int32} (hE : bf_doFor n st a1 a2 = some q) : bMet l yX2_doFor cX2_doFor 11 (some .int) 6 145 b [.int a1, .int a2] st (some (.int q.2)) q.1 := by
  refine b_ofW (by decide) rfl ok (Nat.le_of_ble_eq_true rfl) (fun p e s m below meth c ls X Y hr hk hl => ?_)
  have hl : lv_has ls 11 [(0, .ref b.h), (1, .int a1), (2, .int a2)] := hl
  generalize s.heap = H at Y ⊢
  generalize ([] : List Loc) = locs at Y ⊢
  have hx := X.1
  have hb := X.2.1
  have hown := X.2.2.2.1
  have hts := X.2.2.2.2.1
  unfold bf_doFor at hE
  refine lv_aload_n hx hb dX2_doFor_0 rfl (lv_at hl 0 rfl) ?_
  refine b_geta X Y 12 (by decide) (by decide) q1815 dX2_doFor_1 ?_
  refine lv_iload_n hx hb dX2_doFor_4 rfl (lv_at hl 1 rfl) ?_
  refine lv_bipush (v := 8) hx hb dX2_doFor_5 (by decide) ?_
  refine lv_imul hx hb dX2_doFor_7 ?_
  obtain ⟨v_1, g, hE⟩ := e_bind hE
  refine n_iald X Y 4 12 rfl rfl g dX2_doFor_8 ?_
  refine lv_istore_n (lv' := [(3, .int v_1), (0, .ref b.h), (1, .int a1), (2, .int a2)]) hx hb dX2_doFor_9 rfl hl (by decide) rfl (fun ls hl => ?_)
  refine lv_aload_n hx hb dX2_doFor_10 rfl (lv_at hl 1 rfl) ?_
  refine lv_aload_n hx hb dX2_doFor_11 rfl (lv_at hl 1 rfl) ?_
  refine b_geta X Y 13 (by decide) (by decide) q1816 dX2_doFor_12 ?_
  refine lv_iload_n hx hb dX2_doFor_15 rfl (lv_at hl 2 rfl) ?_
  refine lv_iconst (v := 4) hx hb dX2_doFor_16 (by decide) ?_
  refine lv_imul hx hb dX2_doFor_17 ?_
  obtain ⟨v_2, g, hE⟩ := e_bind hE
  refine n_iald X Y 5 13 rfl rfl g dX2_doFor_18 ?_
  obtain ⟨q_3, g, hE⟩ := e_bind hE
  refine n_call1 (n := 1) [.int v_2] X Y (mbf_work l n b X.2.2.2.2.2.2 g) q2177 q2179 qs98 q2180 (by decide +kernel) (by decide) rfl hl.1 (Nat.le_of_ble_eq_true rfl) dX2_doFor_19 (by decide) (fun H locs Y => ?_)
  refine lv_dstore (lv' := [(4, .double q_3.2), (3, .int v_1), (0, .ref b.h), (1, .int a1), (2, .int a2)]) hx hb dX2_doFor_22 hl (by decide) rfl (fun ls hl => ?_)
  refine lv_aload_n hx hb dX2_doFor_24 rfl (lv_at hl 2 rfl) ?_
  refine b_geti X Y 27 rfl (by decide) rfl q1830 dX2_doFor_25 ?_
  refine lv_if_ne (tgt := 48) hx hb dX2_doFor_28 (by decide) (fun c_4 => ?_) (fun c_4 => ?_)
  · replace hE := e_f c_4 hE
    refine lv_dconst0 hx hb dX2_doFor_48 ?_
    exact wbf_doFor_L49 X hr hk hE Y (lv_sub hl [2, 3, 4, 1, 0] rfl)
  · replace hE := e_t c_4 hE
    refine lv_aload_n hx hb dX2_doFor_31 rfl (lv_at hl 2 rfl) ?_
    refine lv_aload_n hx hb dX2_doFor_32 rfl (lv_at hl 2 rfl) ?_
    refine b_geta X Y 13 (by decide) (by decide) q1816 dX2_doFor_33 ?_
    refine lv_iload_n hx hb dX2_doFor_36 rfl (lv_at hl 3 rfl) ?_
    refine lv_iconst (v := 4) hx hb dX2_doFor_37 (by decide) ?_
    refine lv_imul hx hb dX2_doFor_38 ?_
    refine lv_iconst (v := 1) hx hb dX2_doFor_39 (by decide) ?_
    refine lv_iadd hx hb dX2_doFor_40 ?_
    obtain ⟨v_5, g, hE⟩ := e_bind hE
    refine n_iald X Y 5 13 rfl rfl g dX2_doFor_41 ?_
    obtain ⟨q_6, g, hE⟩ := e_bind hE
    refine n_call1 (n := 1) [.int v_5] X Y (mbf_work l n b X.2.2.2.2.2.2 g) q2177 q2179 qs98 q2180 (by decide +kernel) (by decide) rfl hl.1 (Nat.le_of_ble_eq_true rfl) dX2_doFor_42 (by decide) (fun H locs Y => ?_)
    refine lv_goto (tgt := 49) hx hb dX2_doFor_45 (by decide) ?_
    exact wbf_doFor_L49 X hr hk hE Y (lv_sub hl [2, 3, 4, 1, 0] rfl)
/-! BasicMachineModel.doNext(II)I -/
set_option maxHeartbeats 4000000 in
set_option maxRecDepth 100000 in
theorem mbf_doNext (l : Launch) (n : Nat) (b : bP) (ok : bOk b) {st : bS} {a1 : Int32} {a2 : Int32} {q : bS × Int32} (hE : bf_doNext n st a1 a2 = some q) : bMet l yX2_doNext cX2_doNext 7 (some .int) 1 26 b [.int a1, .int a2] st (some (.int q.2)) q.1 := by
  refine b_ofW (by decide) rfl ok (Nat.le_of_ble_eq_true rfl) (fun p e s m below meth c ls X Y hr hk hl => ?_)
  have hl : lv_has ls 7 [(0, .ref b.h), (1, .int a1), (2, .int a2)] := hl
  generalize s.heap = H at Y ⊢
  generalize ([] : List Loc) = locs at Y ⊢
  have hx := X.1
  have hb := X.2.1
  have hown := X.2.2.2.1
  have hts := X.2.2.2.2.1
  unfold bf_doNext at hE
  refine lv_aload_n hx hb dX2_doNext_0 rfl (lv_at hl 0 rfl) ?_
  refine b_geta X Y 12 (by decide) (by decide) q1815 dX2_doNext_1 ?_
  refine lv_iload_n hx hb dX2_doNext_4 rfl (lv_at hl 1 rfl) ?_
  refine lv_bipush (v := 8) hx hb dX2_doNext_5 (by decide) ?_
  refine lv_imul hx hb dX2_doNext_7 ?_
  obtain ⟨v_1, g, hE⟩ := e_bind hE
  refine n_iald X Y 4 12 rfl rfl g dX2_doNext_8 ?_
  refine lv_istore_n (lv' := [(3, .int v_1), (0, .ref b.h), (1, .int a1), (2, .int a2)]) hx hb dX2_doNext_9 rfl hl (by decide) rfl (fun ls hl => ?_)
  refine lv_aload_n hx hb dX2_doNext_10 rfl (lv_at hl 1 rfl) ?_
  refine lv_iload_n hx hb dX2_doNext_11 rfl (lv_at hl 0 rfl) ?_
  obtain ⟨q_2, g, hE⟩ := e_bind hE
  refine n_call1 (n := 1) [.int v_1] X Y (mbf_loopFor l n b X.2.2.2.2.2.2 g) q2246 q2248 qs114 q2249 (by decide +kernel) (by decide) rfl hl.1 (Nat.le_of_ble_eq_true rfl) dX2_doNext_12 (by decide) (fun H locs Y => ?_)
  refine lv_istore (lv' := [(4, .int q_2.2), (3, .int v_1), (0, .ref b.h), (1, .int a1), (2, .int a2)]) hx hb dX2_doNext_15 hl (by decide) rfl (fun ls hl => ?_)
  refine lv_iload hx hb dX2_doNext_17 (lv_at hl 0 rfl) ?_
  refine lv_if_ge (tgt := 29) hx hb dX2_doNext_19 (by decide) (fun c_3 => ?_) (fun c_3 => ?_)
  · replace hE := e_t c_3 hE
    refine lv_aload_n hx hb dX2_doNext_29 rfl (lv_at hl 2 rfl) ?_
    refine lv_iload hx hb dX2_doNext_30 (lv_at hl 0 rfl) ?_
    refine lv_iconst (v := 1) hx hb dX2_doNext_32 (by decide) ?_
    refine lv_iadd hx hb dX2_doNext_33 ?_
    obtain ⟨st_4, g, hE⟩ := e_bind hE
    refine n_put X Y 23 rfl (by decide) g rfl rfl rfl q1826 dX2_doNext_34 (fun H locs Y => ?_)
    refine lv_aload_n hx hb dX2_doNext_37 rfl (lv_at hl 2 rfl) ?_
    refine lv_aload_n hx hb dX2_doNext_38 rfl (lv_at hl 2 rfl) ?_
    refine b_geta X Y 29 (by decide) (by decide) q1832 dX2_doNext_39 ?_
    refine lv_iload_n hx hb dX2_doNext_42 rfl (lv_at hl 1 rfl) ?_
    obtain ⟨v_5, g, hE⟩ := e_bind hE
    refine n_dald X Y 9 29 rfl rfl g dX2_doNext_43 ?_
    refine lv_aload_n hx hb dX2_doNext_44 rfl (lv_at hl 2 rfl) ?_
    refine b_geta X Y 33 (by decide) (by decide) q1836 dX2_doNext_45 ?_
    refine lv_iload hx hb dX2_doNext_48 (lv_at hl 0 rfl) ?_
    obtain ⟨v_6, g, hE⟩ := e_bind hE
    refine n_dald X Y 13 33 rfl rfl g dX2_doNext_50 ?_
    obtain ⟨v_7, g, hE⟩ := e_bind hE
    refine n_dadd hx hb g dX2_doNext_51 ?_
    obtain ⟨q_8, g, hE⟩ := e_bind hE
    refine n_call1 (n := 1) [.double v_7] X Y (mbf_kept l n b X.2.2.2.2.2.2 g) q2193 q2195 qs102 q2196 (by decide +kernel) (by decide) rfl hl.1 (Nat.le_of_ble_eq_true rfl) dX2_doNext_52 (by decide) (fun H locs Y => ?_)
    refine lv_dstore (lv' := [(5, .double q_8.2), (4, .int q_2.2), (3, .int v_1), (0, .ref b.h), (1, .int a1), (2, .int a2)]) hx hb dX2_doNext_55 hl (by decide) rfl (fun ls hl => ?_)
    refine lv_aload_n hx hb dX2_doNext_57 rfl (lv_at hl 3 rfl) ?_
    refine b_geti X Y 27 rfl (by decide) rfl q1830 dX2_doNext_58 ?_
    refine lv_if_eq (tgt := 66) hx hb dX2_doNext_61 (by decide) (fun c_9 => ?_) (fun c_9 => ?_)
    · replace hE := e_t c_9 hE
      refine lv_aload_n hx hb dX2_doNext_66 rfl (lv_at hl 3 rfl) ?_
      refine b_geta X Y 29 (by decide) (by decide) q1832 dX2_doNext_67 ?_
      refine lv_iload_n hx hb dX2_doNext_70 rfl (lv_at hl 2 rfl) ?_
      refine lv_dload hx hb dX2_doNext_71 (lv_at hl 0 rfl) ?_
      obtain ⟨st_10, g, hE⟩ := e_bind hE
      refine n_dast X Y 9 29 rfl rfl g dX2_doNext_73 (fun H locs Y => ?_)
      refine lv_aload_n hx hb dX2_doNext_74 rfl (lv_at hl 3 rfl) ?_
      refine lv_dload hx hb dX2_doNext_75 (lv_at hl 0 rfl) ?_
      refine lv_aload_n hx hb dX2_doNext_77 rfl (lv_at hl 3 rfl) ?_
      refine b_geta X Y 32 (by decide) (by decide) q1835 dX2_doNext_78 ?_
      refine lv_iload hx hb dX2_doNext_81 (lv_at hl 1 rfl) ?_
      obtain ⟨v_11, g, hE⟩ := e_bind hE
      refine n_dald X Y 12 32 rfl rfl g dX2_doNext_83 ?_
      refine lv_aload_n hx hb dX2_doNext_84 rfl (lv_at hl 3 rfl) ?_
      refine b_geta X Y 33 (by decide) (by decide) q1836 dX2_doNext_85 ?_
      refine lv_iload hx hb dX2_doNext_88 (lv_at hl 1 rfl) ?_
      obtain ⟨v_12, g, hE⟩ := e_bind hE
      refine n_dald X Y 13 33 rfl rfl g dX2_doNext_90 ?_
      obtain ⟨q_13, g, hE⟩ := e_bind hE
      refine n_call1 (n := 3) [.double q_8.2, .double v_11, .double v_12] X Y (mbf_over l n b X.2.2.2.2.2.2 g) q2250 q2252 qs115 q2253 (by decide +kernel) (by decide) rfl hl.1 (Nat.le_of_ble_eq_true rfl) dX2_doNext_91 (by decide) (fun H locs Y => ?_)
      refine lv_if_ne (tgt := 114) hx hb dX2_doNext_94 (by decide) (fun c_14 => ?_) (fun c_14 => ?_)
      · replace hE := e_f c_14 hE
        refine lv_aload_n hx hb dX2_doNext_114 rfl (lv_at hl 3 rfl) ?_
        refine lv_iload hx hb dX2_doNext_115 (lv_at hl 1 rfl) ?_
        obtain ⟨st_15, g, hE⟩ := e_bind hE
        refine n_put X Y 23 rfl (by decide) g rfl rfl rfl q1826 dX2_doNext_117 (fun H locs Y => ?_)
        refine lv_iload_n hx hb dX2_doNext_120 rfl (lv_at hl 5 rfl) ?_
        cases hE
        exact b_iret X Y hr hk dX2_doNext_121
      · replace hE := e_t c_14 hE
        refine lv_aload_n hx hb dX2_doNext_97 rfl (lv_at hl 3 rfl) ?_
        refine lv_aload_n hx hb dX2_doNext_98 rfl (lv_at hl 3 rfl) ?_
        refine b_geta X Y 10 (by decide) (by decide) q1813 dX2_doNext_99 ?_
        refine lv_aload_n hx hb dX2_doNext_102 rfl (lv_at hl 3 rfl) ?_
        refine b_geta X Y 42 (by decide) (by decide) q1845 dX2_doNext_103 ?_
        refine lv_iload hx hb dX2_doNext_106 (lv_at hl 1 rfl) ?_
        obtain ⟨v_16, g, hE⟩ := e_bind hE
        refine n_iald X Y 22 42 rfl rfl g dX2_doNext_108 ?_
        obtain ⟨v_17, g, hE⟩ := e_bind hE
        refine n_iald X Y 2 10 rfl rfl g dX2_doNext_109 ?_
        obtain ⟨q_18, g, hE⟩ := e_bind hE
        refine n_call1 (n := 1) [.int v_17] X Y (mbf_nextSlot l n b X.2.2.2.2.2.2 g) q2160 q2162 qs94 q2163 (by decide +kernel) (by decide) rfl hl.1 (Nat.le_of_ble_eq_true rfl) dX2_doNext_110 (by decide) (fun H locs Y => ?_)
        cases hE
        exact b_iret X Y hr hk dX2_doNext_113
    · replace hE := e_f c_9 hE
      refine lv_iload_n hx hb dX2_doNext_64 rfl (lv_at hl 5 rfl) ?_
      cases hE
      exact b_iret X Y hr hk dX2_doNext_65
  · replace hE := e_f c_3 hE
    refine lv_aload_n hx hb dX2_doNext_22 rfl (lv_at hl 2 rfl) ?_
    refine lv_iconst (v := 2) hx hb dX2_doNext_23 (by decide) ?_
    obtain ⟨st_19, g, hE⟩ := e_bind hE
    refine n_put X Y 27 rfl (by decide) g rfl rfl rfl q1830 dX2_doNext_24 (fun H locs Y => ?_)
    refine lv_iload_n hx hb dX2_doNext_27 rfl (lv_at hl 4 rfl) ?_
    cases hE
    exact b_iret X Y hr hk dX2_doNext_28
/-! BasicMachineModel.choose(I)I -/
set_option maxHeartbeats 4000000 in
set_option maxRecDepth 100000 in
theorem wbf_choose_L49 {l : Launch} {b : bP} {As : List Value} {p : Program} {e : Env} {s : State} {m : MethodId} {below : List Frame} {meth : Method} {c : Code} (X : bX p s m (Value.ref b.h :: As).toArray c cX2_choose 6 b) (hr : meth.sig.returnType = (some .int)) (hk : meth.locks = false) {n : Nat} {st : bS} {q : bS × Int32} (hE : bf_choose_L49 n st = some q) {H : Heap} {locs : List Loc} {ls : Array Slot} (Y : bY b s st H locs) (hl : lv_has ls 6 [(0, .ref b.h)]) : bG l 6 145 b As (some (.int q.2)) q.1 p e s m below meth c H locs (F0 m 49 ls []) := by
  have hx := X.1
  have hb := X.2.1
  have hown := X.2.2.2.1
  have hts := X.2.2.2.2.1
  unfold bf_choose_L49 at hE
  refine lv_aload_n hx hb dX2_choose_49 rfl (lv_at hl 0 rfl) ?_
  refine lv_iconst (v := 1) hx hb dX2_choose_50 (by decide) ?_
  obtain ⟨st_1, g, hE⟩ := e_bind hE
  refine n_put X Y 27 rfl (by decide) g rfl rfl rfl q1830 dX2_choose_51 (fun H locs Y => ?_)
  refine lv_iconst (v := -1) hx hb dX2_choose_54 (by decide) ?_
  cases hE
  exact b_iret X Y hr hk dX2_choose_55
set_option maxHeartbeats 4000000 in
set_option maxRecDepth 100000 in
theorem mbf_choose (l : Launch) (n : Nat) (b : bP) (ok : bOk b) {st : bS} {a1 : Int32} {q : bS × Int32} (hE : bf_choose n st a1 = some q) : bMet l yX2_choose cX2_choose 6 (some .int) 6 145 b [.int a1] st (some (.int q.2)) q.1 := by
  refine b_ofW (by decide) rfl ok (Nat.le_of_ble_eq_true rfl) (fun p e s m below meth c ls X Y hr hk hl => ?_)
  have hl : lv_has ls 6 [(0, .ref b.h), (1, .int a1)] := hl
  generalize s.heap = H at Y ⊢
  generalize ([] : List Loc) = locs at Y ⊢
  have hx := X.1
  have hb := X.2.1
  have hown := X.2.2.2.1
  have hts := X.2.2.2.2.1
  unfold bf_choose at hE
  refine lv_aload_n hx hb dX2_choose_0 rfl (lv_at hl 0 rfl) ?_
  refine lv_aload_n hx hb dX2_choose_1 rfl (lv_at hl 0 rfl) ?_
  refine b_geta X Y 13 (by decide) (by decide) q1816 dX2_choose_2 ?_
  refine lv_iload_n hx hb dX2_choose_5 rfl (lv_at hl 1 rfl) ?_
  refine lv_iconst (v := 4) hx hb dX2_choose_6 (by decide) ?_
  refine lv_imul hx hb dX2_choose_7 ?_
  obtain ⟨v_1, g, hE⟩ := e_bind hE
  refine n_iald X Y 5 13 rfl rfl g dX2_choose_8 ?_
  obtain ⟨q_2, g, hE⟩ := e_bind hE
  refine n_call1 (n := 1) [.int v_1] X Y (mbf_work l n b X.2.2.2.2.2.2 g) q2177 q2179 qs98 q2180 (by decide +kernel) (by decide) rfl hl.1 (Nat.le_of_ble_eq_true rfl) dX2_choose_9 (by decide) (fun H locs Y => ?_)
  refine lv_dstore_n (lv' := [(2, .double q_2.2), (0, .ref b.h), (1, .int a1)]) hx hb dX2_choose_12 rfl hl (by decide) rfl (fun ls hl => ?_)
  refine lv_aload_n hx hb dX2_choose_13 rfl (lv_at hl 1 rfl) ?_
  refine b_geti X Y 27 rfl (by decide) rfl q1830 dX2_choose_14 ?_
  refine lv_if_eq (tgt := 22) hx hb dX2_choose_17 (by decide) (fun c_3 => ?_) (fun c_3 => ?_)
  · replace hE := e_t c_3 hE
    refine lv_dload_n hx hb dX2_choose_22 rfl (lv_at hl 0 rfl) ?_
    refine lv_d2l hx hb dX2_choose_23 ?_
    obtain ⟨x4_4, g, hE⟩ := e_bind hE
    refine n_topl g ?_
    refine lv_lstore (lv' := [(4, .long x4_4), (2, .double q_2.2), (0, .ref b.h), (1, .int a1)]) hx hb dX2_choose_24 hl (by decide) rfl (fun ls hl => ?_)
    refine lv_lload hx hb dX2_choose_26 (lv_at hl 0 rfl) ?_
    refine lv_lconst (v := 1) hx hb dX2_choose_28 (by decide) ?_
    refine W.lcmp hx hb dX2_choose_29 ?_
    refine lv_if_lt (tgt := 49) hx hb dX2_choose_30 (by decide) (fun c_5 => ?_) (fun c_5 => ?_)
    · replace hE := e_t c_5 hE
      exact wbf_choose_L49 X hr hk hE Y (lv_sub hl [2] rfl)
    · replace hE := e_f c_5 hE
      refine lv_lload hx hb dX2_choose_33 (lv_at hl 0 rfl) ?_
      refine lv_aload_n hx hb dX2_choose_35 rfl (lv_at hl 2 rfl) ?_
      refine b_geta X Y 12 (by decide) (by decide) q1815 dX2_choose_36 ?_
      refine lv_iload_n hx hb dX2_choose_39 rfl (lv_at hl 3 rfl) ?_
      refine lv_bipush (v := 8) hx hb dX2_choose_40 (by decide) ?_
      refine lv_imul hx hb dX2_choose_42 ?_
      obtain ⟨v_6, g, hE⟩ := e_bind hE
      refine n_iald X Y 4 12 rfl rfl g dX2_choose_43 ?_
      refine lv_i2l hx hb dX2_choose_44 rfl ?_
      refine W.lcmp hx hb dX2_choose_45 ?_
      refine lv_if_le (tgt := 56) hx hb dX2_choose_46 (by decide) (fun c_7 => ?_) (fun c_7 => ?_)
      · replace hE := e_t c_7 hE
        refine lv_aload_n hx hb dX2_choose_56 rfl (lv_at hl 2 rfl) ?_
        refine lv_aload_n hx hb dX2_choose_57 rfl (lv_at hl 2 rfl) ?_
        refine b_geta X Y 12 (by decide) (by decide) q1815 dX2_choose_58 ?_
        refine lv_iload_n hx hb dX2_choose_61 rfl (lv_at hl 3 rfl) ?_
        refine lv_bipush (v := 8) hx hb dX2_choose_62 (by decide) ?_
        refine lv_imul hx hb dX2_choose_64 ?_
        refine lv_lload hx hb dX2_choose_65 (lv_at hl 0 rfl) ?_
        refine lv_l2i hx hb dX2_choose_67 rfl ?_
        refine lv_iadd hx hb dX2_choose_68 ?_
        obtain ⟨v_8, g, hE⟩ := e_bind hE
        refine n_iald X Y 4 12 rfl rfl g dX2_choose_69 ?_
        obtain ⟨q_9, g, hE⟩ := e_bind hE
        refine n_call1 (n := 1) [.int v_8] X Y (mbf_goTo l n b X.2.2.2.2.2.2 g) q2230 q2232 qs110 q2233 (by decide +kernel) (by decide) rfl hl.1 (Nat.le_of_ble_eq_true rfl) dX2_choose_70 (by decide) (fun H locs Y => ?_)
        cases hE
        exact b_iret X Y hr hk dX2_choose_73
      · replace hE := e_f c_7 hE
        exact wbf_choose_L49 X hr hk hE Y (lv_sub hl [2] rfl)
  · replace hE := e_f c_3 hE
    refine lv_iconst (v := -1) hx hb dX2_choose_20 (by decide) ?_
    cases hE
    exact b_iret X Y hr hk dX2_choose_21
/-! BasicMachineModel.goSub(II)I -/
set_option maxHeartbeats 4000000 in
set_option maxRecDepth 100000 in
theorem mbf_goSub (l : Launch) (n : Nat) (b : bP) (ok : bOk b) {st : bS} {a1 : Int32} {a2 : Int32} {q : bS × Int32} (hE : bf_goSub n st a1 a2 = some q) : bMet l yX2_goSub cX2_goSub 4 (some .int) 2 44 b [.int a1, .int a2] st (some (.int q.2)) q.1 := by
  refine b_ofW (by decide) rfl ok (Nat.le_of_ble_eq_true rfl) (fun p e s m below meth c ls X Y hr hk hl => ?_)
  have hl : lv_has ls 4 [(0, .ref b.h), (1, .int a1), (2, .int a2)] := hl
  generalize s.heap = H at Y ⊢
  generalize ([] : List Loc) = locs at Y ⊢
  have hx := X.1
  have hb := X.2.1
  have hown := X.2.2.2.1
  have hts := X.2.2.2.2.1
  unfold bf_goSub at hE
  refine lv_aload_n hx hb dX2_goSub_0 rfl (lv_at hl 0 rfl) ?_
  refine b_geti X Y 22 rfl (by decide) rfl q1825 dX2_goSub_1 ?_
  refine lv_bipush (v := 8) hx hb dX2_goSub_4 (by decide) ?_
  refine lv_icmp_ne (tgt := 16) hx hb dX2_goSub_6 (by decide) (fun c_1 => ?_) (fun c_1 => ?_)
  · replace hE := e_f c_1 hE
    refine lv_aload_n hx hb dX2_goSub_16 rfl (lv_at hl 0 rfl) ?_
    refine lv_aload_n hx hb dX2_goSub_17 rfl (lv_at hl 0 rfl) ?_
    refine b_geta X Y 12 (by decide) (by decide) q1815 dX2_goSub_18 ?_
    refine lv_iload_n hx hb dX2_goSub_21 rfl (lv_at hl 1 rfl) ?_
    refine lv_bipush (v := 8) hx hb dX2_goSub_22 (by decide) ?_
    refine lv_imul hx hb dX2_goSub_24 ?_
    obtain ⟨v_2, g, hE⟩ := e_bind hE
    refine n_iald X Y 4 12 rfl rfl g dX2_goSub_25 ?_
    obtain ⟨q_3, g, hE⟩ := e_bind hE
    refine n_call1 (n := 1) [.int v_2] X Y (mbf_goTo l n b X.2.2.2.2.2.2 g) q2230 q2232 qs110 q2233 (by decide +kernel) (by decide) rfl hl.1 (Nat.le_of_ble_eq_true rfl) dX2_goSub_26 (by decide) (fun H locs Y => ?_)
    refine lv_istore_n (lv' := [(3, .int q_3.2), (0, .ref b.h), (1, .int a1), (2, .int a2)]) hx hb dX2_goSub_29 rfl hl (by decide) rfl (fun ls hl => ?_)
    refine lv_aload_n hx hb dX2_goSub_30 rfl (lv_at hl 1 rfl) ?_
    refine b_geti X Y 27 rfl (by decide) rfl q1830 dX2_goSub_31 ?_
    refine lv_if_ne (tgt := 57) hx hb dX2_goSub_34 (by decide) (fun c_4 => ?_) (fun c_4 => ?_)
    · replace hE := e_f c_4 hE
      refine lv_iload_n hx hb dX2_goSub_57 rfl (lv_at hl 0 rfl) ?_
      cases hE
      exact b_iret X Y hr hk dX2_goSub_58
    · replace hE := e_t c_4 hE
      refine lv_aload_n hx hb dX2_goSub_37 rfl (lv_at hl 1 rfl) ?_
      refine b_geta X Y 40 (by decide) (by decide) q1843 dX2_goSub_38 ?_
      refine lv_aload_n hx hb dX2_goSub_41 rfl (lv_at hl 1 rfl) ?_
      refine b_geti X Y 22 rfl (by decide) rfl q1825 dX2_goSub_42 ?_
      refine lv_iload_n hx hb dX2_goSub_45 rfl (lv_at hl 3 rfl) ?_
      obtain ⟨st_5, g, hE⟩ := e_bind hE
      refine n_iast X Y 20 40 rfl rfl g dX2_goSub_46 (fun H locs Y => ?_)
      refine lv_aload_n hx hb dX2_goSub_47 rfl (lv_at hl 1 rfl) ?_
      refine lv_dup hx hb dX2_goSub_48 rfl ?_
      refine b_geti X Y 22 rfl (by decide) rfl q1825 dX2_goSub_49 ?_
      refine lv_iconst (v := 1) hx hb dX2_goSub_52 (by decide) ?_
      refine lv_iadd hx hb dX2_goSub_53 ?_
      obtain ⟨st_6, g, hE⟩ := e_bind hE
      refine n_put X Y 22 rfl (by decide) g rfl rfl rfl q1825 dX2_goSub_54 (fun H locs Y => ?_)
      refine lv_iload_n hx hb dX2_goSub_57 rfl (lv_at hl 0 rfl) ?_
      cases hE
      exact b_iret X Y hr hk dX2_goSub_58
  · replace hE := e_t c_1 hE
    refine lv_aload_n hx hb dX2_goSub_9 rfl (lv_at hl 0 rfl) ?_
    refine lv_iconst (v := 2) hx hb dX2_goSub_10 (by decide) ?_
    obtain ⟨st_7, g, hE⟩ := e_bind hE
    refine n_put X Y 27 rfl (by decide) g rfl rfl rfl q1830 dX2_goSub_11 (fun H locs Y => ?_)
    refine lv_iconst (v := -1) hx hb dX2_goSub_14 (by decide) ?_
    cases hE
    exact b_iret X Y hr hk dX2_goSub_15
/-! BasicMachineModel.matCell(IIIIID)D -/
set_option maxHeartbeats 4000000 in
set_option maxRecDepth 100000 in
theorem wbf_matCell_S212_ {l : Launch} {b : bP} {As : List Value} {p : Program} {e : Env} {s : State} {m : MethodId} {below : List Frame} {meth : Method} {c : Code} (X : bX p s m (Value.ref b.h :: As).toArray c cX2_matCell 14 b) (hr : meth.sig.returnType = (some .double)) (hk : meth.locks = false) (n : Nat) {q : bS × UInt64} : ∀ k : Nat, (∀ {st : bS} {x2 : Int32} {x3 : Int32} {x4 : Int32} {x5 : Int32} {x9 : UInt64} {x11 : Int32}, bf_matCell_S212 n k 0 st x2 x3 x4 x5 x9 x11 = some q → ∀ {H : Heap} {locs : List Loc} {ls : Array Slot}, bY b s st H locs → lv_has ls 14 [(0, .ref b.h), (2, .int x2), (3, .int x3), (4, .int x4), (5, .int x5), (9, .double x9), (11, .int x11)] → bG l 1 22 b As (some (.double q.2)) q.1 p e s m below meth c H locs (F0 m 212 ls [])) ∧ (∀ {st : bS} {x2 : Int32} {x3 : Int32} {x4 : Int32} {x5 : Int32} {x9 : UInt64} {x11 : Int32}, bf_matCell_S212 n k 1 st x2 x3 x4 x5 x9 x11 = some q → ∀ {H : Heap} {locs : List Loc} {ls : Array Slot}, bY b s st H locs → lv_has ls 14 [(0, .ref b.h), (2, .int x2), (3, .int x3), (4, .int x4), (5, .int x5), (9, .double x9), (11, .int x11)] → bG l 1 22 b As (some (.double q.2)) q.1 p e s m below meth c H locs (F0 m 291 ls [])) := by
  have hx := X.1
  have hb := X.2.1
  have hown := X.2.2.2.1
  have hts := X.2.2.2.2.1
  intro k
  induction k with
  | zero => exact ⟨(fun h => nomatch (show none = some q from h)), (fun h => nomatch (show none = some q from h))⟩
  | succ k ih =>
    obtain ⟨ih0, ih1⟩ := ih
    refine ⟨?_, ?_⟩
    · intro st x2 x3 x4 x5 x9 x11 hE H locs ls Y hl
      replace hE : bf_matCell_B212 n (bf_matCell_S212 n k) st x2 x3 x4 x5 x9 x11 = some q := hE
      unfold bf_matCell_B212 at hE
      refine lv_iload hx hb dX2_matCell_212 (lv_at hl 6 rfl) ?_
      refine lv_aload_n hx hb dX2_matCell_214 rfl (lv_at hl 0 rfl) ?_
      refine b_geta X Y 39 (by decide) (by decide) q1842 dX2_matCell_215 ?_
      refine lv_iload_n hx hb dX2_matCell_218 rfl (lv_at hl 1 rfl) ?_
      obtain ⟨v_1, g, hE⟩ := e_bind hE
      refine n_iald X Y 19 39 rfl rfl g dX2_matCell_219 ?_
      refine lv_icmp_ge (tgt := 297) hx hb dX2_matCell_220 (by decide) (fun c_2 => ?_) (fun c_2 => ?_)
      · replace hE := e_t c_2 hE
        refine lv_dload hx hb dX2_matCell_297 (lv_at hl 5 rfl) ?_
        cases hE
        exact b_dret X Y hr hk dX2_matCell_299
      · replace hE := e_f c_2 hE
        refine lv_aload_n hx hb dX2_matCell_223 rfl (lv_at hl 0 rfl) ?_
        refine b_geti X Y 27 rfl (by decide) rfl q1830 dX2_matCell_224 ?_
        refine lv_if_ne (tgt := 297) hx hb dX2_matCell_227 (by decide) (fun c_3 => ?_) (fun c_3 => ?_)
        · replace hE := e_f c_3 hE
          refine lv_dload hx hb dX2_matCell_297 (lv_at hl 5 rfl) ?_
          cases hE
          exact b_dret X Y hr hk dX2_matCell_299
        · replace hE := e_t c_3 hE
          refine lv_aload_n hx hb dX2_matCell_230 rfl (lv_at hl 0 rfl) ?_
          refine lv_aload_n hx hb dX2_matCell_231 rfl (lv_at hl 0 rfl) ?_
          refine b_geta X Y 35 (by decide) (by decide) q1838 dX2_matCell_232 ?_
          refine lv_iload_n hx hb dX2_matCell_235 rfl (lv_at hl 1 rfl) ?_
          refine lv_bipush (v := 36) hx hb dX2_matCell_236 (by decide) ?_
          refine lv_imul hx hb dX2_matCell_238 ?_
          refine lv_iload hx hb dX2_matCell_239 (lv_at hl 3 rfl) ?_
          refine lv_bipush (v := 6) hx hb dX2_matCell_241 (by decide) ?_
          refine lv_imul hx hb dX2_matCell_243 ?_
          refine lv_iadd hx hb dX2_matCell_244 ?_
          refine lv_iload hx hb dX2_matCell_245 (lv_at hl 6 rfl) ?_
          refine lv_iadd hx hb dX2_matCell_247 ?_
          obtain ⟨v_4, g, hE⟩ := e_bind hE
          refine n_dald X Y 15 35 rfl rfl g dX2_matCell_248 ?_
          refine lv_aload_n hx hb dX2_matCell_249 rfl (lv_at hl 0 rfl) ?_
          refine b_geta X Y 35 (by decide) (by decide) q1838 dX2_matCell_250 ?_
          refine lv_iload_n hx hb dX2_matCell_253 rfl (lv_at hl 2 rfl) ?_
          refine lv_bipush (v := 36) hx hb dX2_matCell_254 (by decide) ?_
          refine lv_imul hx hb dX2_matCell_256 ?_
          refine lv_iload hx hb dX2_matCell_257 (lv_at hl 6 rfl) ?_
          refine lv_bipush (v := 6) hx hb dX2_matCell_259 (by decide) ?_
          refine lv_imul hx hb dX2_matCell_261 ?_
          refine lv_iadd hx hb dX2_matCell_262 ?_
          refine lv_iload hx hb dX2_matCell_263 (lv_at hl 4 rfl) ?_
          refine lv_iadd hx hb dX2_matCell_265 ?_
          obtain ⟨v_5, g, hE⟩ := e_bind hE
          refine n_dald X Y 15 35 rfl rfl g dX2_matCell_266 ?_
          obtain ⟨v_6, g, hE⟩ := e_bind hE
          refine n_dmul hx hb g dX2_matCell_267 ?_
          obtain ⟨q_7, g, hE⟩ := e_bind hE
          refine n_call1 (n := 1) [.double v_6] X Y (mbf_kept l n b X.2.2.2.2.2.2 g) q2193 q2195 qs102 q2196 (by decide +kernel) (by decide) rfl hl.1 (Nat.le_of_ble_eq_true rfl) dX2_matCell_268 (by decide) (fun H locs Y => ?_)
          refine lv_dstore (lv' := [(12, .double q_7.2), (0, .ref b.h), (2, .int x2), (3, .int x3), (4, .int x4), (5, .int x5), (9, .double x9), (11, .int x11)]) hx hb dX2_matCell_271 hl (by decide) rfl (fun ls hl => ?_)
          refine lv_aload_n hx hb dX2_matCell_273 rfl (lv_at hl 1 rfl) ?_
          refine b_geti X Y 27 rfl (by decide) rfl q1830 dX2_matCell_274 ?_
          refine lv_if_ne (tgt := 291) hx hb dX2_matCell_277 (by decide) (fun c_8 => ?_) (fun c_8 => ?_)
          · replace hE := e_f c_8 hE
            exact ih1 hE Y (lv_sub hl [1, 2, 3, 4, 5, 6, 7] rfl)
          · replace hE := e_t c_8 hE
            refine lv_aload_n hx hb dX2_matCell_280 rfl (lv_at hl 1 rfl) ?_
            refine lv_dload hx hb dX2_matCell_281 (lv_at hl 6 rfl) ?_
            refine lv_dload hx hb dX2_matCell_283 (lv_at hl 0 rfl) ?_
            obtain ⟨v_9, g, hE⟩ := e_bind hE
            refine n_dadd hx hb g dX2_matCell_285 ?_
            obtain ⟨q_10, g, hE⟩ := e_bind hE
            refine n_call1 (n := 1) [.double v_9] X Y (mbf_kept l n b X.2.2.2.2.2.2 g) q2193 q2195 qs102 q2196 (by decide +kernel) (by decide) rfl hl.1 (Nat.le_of_ble_eq_true rfl) dX2_matCell_286 (by decide) (fun H locs Y => ?_)
            refine lv_dstore (lv' := [(9, .double q_10.2), (12, .double q_7.2), (0, .ref b.h), (2, .int x2), (3, .int x3), (4, .int x4), (5, .int x5), (11, .int x11)]) hx hb dX2_matCell_289 hl (by decide) rfl (fun ls hl => ?_)
            exact ih1 hE Y (lv_sub hl [2, 3, 4, 5, 6, 0, 7] rfl)
    · intro st x2 x3 x4 x5 x9 x11 hE H locs ls Y hl
      replace hE : bf_matCell_B291 n (bf_matCell_S212 n k) st x2 x3 x4 x5 x9 x11 = some q := hE
      unfold bf_matCell_B291 at hE
      refine lv_iinc (v := (x11 + (1 : Int32))) (lv' := [(11, .int (x11 + (1 : Int32))), (0, .ref b.h), (2, .int x2), (3, .int x3), (4, .int x4), (5, .int x5), (9, .double x9)]) hx hb dX2_matCell_291 hl (k := 6) rfl rfl (by decide) rfl (fun ls hl => ?_)
      refine lv_goto (tgt := 212) hx hb dX2_matCell_294 (by decide) ?_
      exact ih0 hE Y (lv_sub hl [1, 2, 3, 4, 5, 6, 0] rfl)
set_option maxHeartbeats 4000000 in
set_option maxRecDepth 100000 in
theorem wbf_matCell_S212 {l : Launch} {b : bP} {As : List Value} {p : Program} {e : Env} {s : State} {m : MethodId} {below : List Frame} {meth : Method} {c : Code} (X : bX p s m (Value.ref b.h :: As).toArray c cX2_matCell 14 b) (hr : meth.sig.returnType = (some .double)) (hk : meth.locks = false) (n : Nat) {q : bS × UInt64} : (∀ {st : bS} {x2 : Int32} {x3 : Int32} {x4 : Int32} {x5 : Int32} {x9 : UInt64} {x11 : Int32}, bf_matCell_S212 n n 0 st x2 x3 x4 x5 x9 x11 = some q → ∀ {H : Heap} {locs : List Loc} {ls : Array Slot}, bY b s st H locs → lv_has ls 14 [(0, .ref b.h), (2, .int x2), (3, .int x3), (4, .int x4), (5, .int x5), (9, .double x9), (11, .int x11)] → bG l 1 22 b As (some (.double q.2)) q.1 p e s m below meth c H locs (F0 m 212 ls [])) ∧ (∀ {st : bS} {x2 : Int32} {x3 : Int32} {x4 : Int32} {x5 : Int32} {x9 : UInt64} {x11 : Int32}, bf_matCell_S212 n n 1 st x2 x3 x4 x5 x9 x11 = some q → ∀ {H : Heap} {locs : List Loc} {ls : Array Slot}, bY b s st H locs → lv_has ls 14 [(0, .ref b.h), (2, .int x2), (3, .int x3), (4, .int x4), (5, .int x5), (9, .double x9), (11, .int x11)] → bG l 1 22 b As (some (.double q.2)) q.1 p e s m below meth c H locs (F0 m 291 ls [])) := wbf_matCell_S212_ X hr hk n n
set_option maxHeartbeats 4000000 in
set_option maxRecDepth 100000 in
theorem mbf_matCell (l : Launch) (n : Nat) (b : bP) (ok : bOk b) {st : bS} {a1 : Int32} {a2 : Int32} {a3 : Int32} {a4 : Int32} {a5 : Int32} {a6 : UInt64} {q : bS × UInt64} (hE : bf_matCell n st a1 a2 a3 a4 a5 a6 = some q) : bMet l yX2_matCell cX2_matCell 14 (some .double) 1 22 b [.int a1, .int a2, .int a3, .int a4, .int a5, .double a6] st (some (.double q.2)) q.1 := by
  refine b_ofW (by decide) rfl ok (Nat.le_of_ble_eq_true rfl) (fun p e s m below meth c ls X Y hr hk hl => ?_)
  have hl : lv_has ls 14 [(0, .ref b.h), (1, .int a1), (2, .int a2), (3, .int a3), (4, .int a4), (5, .int a5), (6, .double a6)] := hl
  generalize s.heap = H at Y ⊢
  generalize ([] : List Loc) = locs at Y ⊢
  have hx := X.1
  have hb := X.2.1
  have hown := X.2.2.2.1
  have hts := X.2.2.2.2.1
  unfold bf_matCell at hE
  refine lv_iload hx hb dX2_matCell_0 (lv_at hl 4 rfl) ?_
  refine lv_bipush (v := 6) hx hb dX2_matCell_2 (by decide) ?_
  refine lv_imul hx hb dX2_matCell_4 ?_
  refine lv_iload hx hb dX2_matCell_5 (lv_at hl 5 rfl) ?_
  refine lv_iadd hx hb dX2_matCell_7 ?_
  obtain ⟨x8_1, g, hE⟩ := e_bind hE
  refine n_topi g ?_
  refine lv_istore (lv' := [(8, .int x8_1), (0, .ref b.h), (1, .int a1), (2, .int a2), (3, .int a3), (4, .int a4), (5, .int a5), (6, .double a6)]) hx hb dX2_matCell_8 hl (by decide) rfl (fun ls hl => ?_)
  refine lv_iload_n hx hb dX2_matCell_10 rfl (lv_at hl 2 rfl) ?_
  refine lv_iconst (v := 2) hx hb dX2_matCell_11 (by decide) ?_
  refine lv_icmp_ge (tgt := 18) hx hb dX2_matCell_12 (by decide) (fun c_2 => ?_) (fun c_2 => ?_)
  · replace hE := e_t c_2 hE
    refine lv_iload_n hx hb dX2_matCell_18 rfl (lv_at hl 2 rfl) ?_
    refine lv_iconst (v := 2) hx hb dX2_matCell_19 (by decide) ?_
    refine lv_icmp_ne (tgt := 36) hx hb dX2_matCell_20 (by decide) (fun c_3 => ?_) (fun c_3 => ?_)
    · replace hE := e_f c_3 hE
      refine lv_iload_n hx hb dX2_matCell_36 rfl (lv_at hl 2 rfl) ?_
      refine lv_iconst (v := 3) hx hb dX2_matCell_37 (by decide) ?_
      refine lv_icmp_ne (tgt := 60) hx hb dX2_matCell_38 (by decide) (fun c_4 => ?_) (fun c_4 => ?_)
      · replace hE := e_f c_4 hE
        refine lv_iload_n hx hb dX2_matCell_60 rfl (lv_at hl 2 rfl) ?_
        refine lv_iconst (v := 4) hx hb dX2_matCell_61 (by decide) ?_
        refine lv_icmp_ne (tgt := 85) hx hb dX2_matCell_62 (by decide) (fun c_5 => ?_) (fun c_5 => ?_)
        · replace hE := e_f c_5 hE
          refine lv_iload_n hx hb dX2_matCell_85 rfl (lv_at hl 2 rfl) ?_
          refine lv_iconst (v := 5) hx hb dX2_matCell_86 (by decide) ?_
          refine lv_icmp_ne (tgt := 103) hx hb dX2_matCell_87 (by decide) (fun c_6 => ?_) (fun c_6 => ?_)
          · replace hE := e_f c_6 hE
            refine lv_iload_n hx hb dX2_matCell_103 rfl (lv_at hl 2 rfl) ?_
            refine lv_bipush (v := 6) hx hb dX2_matCell_104 (by decide) ?_
            refine lv_icmp_ne (tgt := 139) hx hb dX2_matCell_106 (by decide) (fun c_7 => ?_) (fun c_7 => ?_)
            · replace hE := e_f c_7 hE
              refine lv_iload_n hx hb dX2_matCell_139 rfl (lv_at hl 2 rfl) ?_
              refine lv_bipush (v := 7) hx hb dX2_matCell_140 (by decide) ?_
              refine lv_icmp_ne (tgt := 175) hx hb dX2_matCell_142 (by decide) (fun c_8 => ?_) (fun c_8 => ?_)
              · replace hE := e_f c_8 hE
                refine lv_aload_n hx hb dX2_matCell_175 rfl (lv_at hl 1 rfl) ?_
                refine lv_aload_n hx hb dX2_matCell_176 rfl (lv_at hl 1 rfl) ?_
                refine b_geta X Y 35 (by decide) (by decide) q1838 dX2_matCell_177 ?_
                refine lv_iload_n hx hb dX2_matCell_180 rfl (lv_at hl 3 rfl) ?_
                refine lv_bipush (v := 36) hx hb dX2_matCell_181 (by decide) ?_
                refine lv_imul hx hb dX2_matCell_183 ?_
                refine lv_iload hx hb dX2_matCell_184 (lv_at hl 5 rfl) ?_
                refine lv_bipush (v := 6) hx hb dX2_matCell_186 (by decide) ?_
                refine lv_imul hx hb dX2_matCell_188 ?_
                refine lv_iadd hx hb dX2_matCell_189 ?_
                obtain ⟨v_9, g, hE⟩ := e_bind hE
                refine n_dald X Y 15 35 rfl rfl g dX2_matCell_190 ?_
                refine lv_aload_n hx hb dX2_matCell_191 rfl (lv_at hl 1 rfl) ?_
                refine b_geta X Y 35 (by decide) (by decide) q1838 dX2_matCell_192 ?_
                refine lv_iload_n hx hb dX2_matCell_195 rfl (lv_at hl 4 rfl) ?_
                refine lv_bipush (v := 36) hx hb dX2_matCell_196 (by decide) ?_
                refine lv_imul hx hb dX2_matCell_198 ?_
                refine lv_iload hx hb dX2_matCell_199 (lv_at hl 6 rfl) ?_
                refine lv_iadd hx hb dX2_matCell_201 ?_
                obtain ⟨v_10, g, hE⟩ := e_bind hE
                refine n_dald X Y 15 35 rfl rfl g dX2_matCell_202 ?_
                obtain ⟨v_11, g, hE⟩ := e_bind hE
                refine n_dmul hx hb g dX2_matCell_203 ?_
                obtain ⟨q_12, g, hE⟩ := e_bind hE
                refine n_call1 (n := 1) [.double v_11] X Y (mbf_kept l n b X.2.2.2.2.2.2 g) q2193 q2195 qs102 q2196 (by decide +kernel) (by decide) rfl hl.1 (Nat.le_of_ble_eq_true rfl) dX2_matCell_204 (by decide) (fun H locs Y => ?_)
                refine lv_dstore (lv' := [(9, .double q_12.2), (8, .int x8_1), (0, .ref b.h), (1, .int a1), (2, .int a2), (3, .int a3), (4, .int a4), (5, .int a5), (6, .double a6)]) hx hb dX2_matCell_207 hl (by decide) rfl (fun ls hl => ?_)
                refine lv_iconst (v := 1) hx hb dX2_matCell_209 (by decide) ?_
                refine lv_istore (lv' := [(11, .int (1 : Int32)), (9, .double q_12.2), (8, .int x8_1), (0, .ref b.h), (1, .int a1), (2, .int a2), (3, .int a3), (4, .int a4), (5, .int a5), (6, .double a6)]) hx hb dX2_matCell_210 hl (by decide) rfl (fun ls hl => ?_)
                exact (wbf_matCell_S212 X hr hk n).1 hE Y (lv_sub hl [3, 5, 6, 7, 8, 1, 0] rfl)
              · replace hE := e_t c_8 hE
                refine lv_aload_n hx hb dX2_matCell_145 rfl (lv_at hl 1 rfl) ?_
                refine lv_aload_n hx hb dX2_matCell_146 rfl (lv_at hl 1 rfl) ?_
                refine b_geta X Y 35 (by decide) (by decide) q1838 dX2_matCell_147 ?_
                refine lv_iload_n hx hb dX2_matCell_150 rfl (lv_at hl 3 rfl) ?_
                refine lv_bipush (v := 36) hx hb dX2_matCell_151 (by decide) ?_
                refine lv_imul hx hb dX2_matCell_153 ?_
                refine lv_iload hx hb dX2_matCell_154 (lv_at hl 0 rfl) ?_
                refine lv_iadd hx hb dX2_matCell_156 ?_
                obtain ⟨v_13, g, hE⟩ := e_bind hE
                refine n_dald X Y 15 35 rfl rfl g dX2_matCell_157 ?_
                refine lv_aload_n hx hb dX2_matCell_158 rfl (lv_at hl 1 rfl) ?_
                refine b_geta X Y 35 (by decide) (by decide) q1838 dX2_matCell_159 ?_
                refine lv_iload_n hx hb dX2_matCell_162 rfl (lv_at hl 4 rfl) ?_
                refine lv_bipush (v := 36) hx hb dX2_matCell_163 (by decide) ?_
                refine lv_imul hx hb dX2_matCell_165 ?_
                refine lv_iload hx hb dX2_matCell_166 (lv_at hl 0 rfl) ?_
                refine lv_iadd hx hb dX2_matCell_168 ?_
                obtain ⟨v_14, g, hE⟩ := e_bind hE
                refine n_dald X Y 15 35 rfl rfl g dX2_matCell_169 ?_
                obtain ⟨v_15, g, hE⟩ := e_bind hE
                refine n_dsub hx hb g dX2_matCell_170 ?_
                obtain ⟨q_16, g, hE⟩ := e_bind hE
                refine n_call1 (n := 1) [.double v_15] X Y (mbf_kept l n b X.2.2.2.2.2.2 g) q2193 q2195 qs102 q2196 (by decide +kernel) (by decide) rfl hl.1 (Nat.le_of_ble_eq_true rfl) dX2_matCell_171 (by decide) (fun H locs Y => ?_)
                cases hE
                exact b_dret X Y hr hk dX2_matCell_174
            · replace hE := e_t c_7 hE
              refine lv_aload_n hx hb dX2_matCell_109 rfl (lv_at hl 1 rfl) ?_
              refine lv_aload_n hx hb dX2_matCell_110 rfl (lv_at hl 1 rfl) ?_
              refine b_geta X Y 35 (by decide) (by decide) q1838 dX2_matCell_111 ?_
              refine lv_iload_n hx hb dX2_matCell_114 rfl (lv_at hl 3 rfl) ?_
              refine lv_bipush (v := 36) hx hb dX2_matCell_115 (by decide) ?_
              refine lv_imul hx hb dX2_matCell_117 ?_
              refine lv_iload hx hb dX2_matCell_118 (lv_at hl 0 rfl) ?_
              refine lv_iadd hx hb dX2_matCell_120 ?_
              obtain ⟨v_17, g, hE⟩ := e_bind hE
              refine n_dald X Y 15 35 rfl rfl g dX2_matCell_121 ?_
              refine lv_aload_n hx hb dX2_matCell_122 rfl (lv_at hl 1 rfl) ?_
              refine b_geta X Y 35 (by decide) (by decide) q1838 dX2_matCell_123 ?_
              refine lv_iload_n hx hb dX2_matCell_126 rfl (lv_at hl 4 rfl) ?_
              refine lv_bipush (v := 36) hx hb dX2_matCell_127 (by decide) ?_
              refine lv_imul hx hb dX2_matCell_129 ?_
              refine lv_iload hx hb dX2_matCell_130 (lv_at hl 0 rfl) ?_
              refine lv_iadd hx hb dX2_matCell_132 ?_
              obtain ⟨v_18, g, hE⟩ := e_bind hE
              refine n_dald X Y 15 35 rfl rfl g dX2_matCell_133 ?_
              obtain ⟨v_19, g, hE⟩ := e_bind hE
              refine n_dadd hx hb g dX2_matCell_134 ?_
              obtain ⟨q_20, g, hE⟩ := e_bind hE
              refine n_call1 (n := 1) [.double v_19] X Y (mbf_kept l n b X.2.2.2.2.2.2 g) q2193 q2195 qs102 q2196 (by decide +kernel) (by decide) rfl hl.1 (Nat.le_of_ble_eq_true rfl) dX2_matCell_135 (by decide) (fun H locs Y => ?_)
              cases hE
              exact b_dret X Y hr hk dX2_matCell_138
          · replace hE := e_t c_6 hE
            refine lv_aload_n hx hb dX2_matCell_90 rfl (lv_at hl 1 rfl) ?_
            refine b_geta X Y 35 (by decide) (by decide) q1838 dX2_matCell_91 ?_
            refine lv_iload_n hx hb dX2_matCell_94 rfl (lv_at hl 3 rfl) ?_
            refine lv_bipush (v := 36) hx hb dX2_matCell_95 (by decide) ?_
            refine lv_imul hx hb dX2_matCell_97 ?_
            refine lv_iload hx hb dX2_matCell_98 (lv_at hl 0 rfl) ?_
            refine lv_iadd hx hb dX2_matCell_100 ?_
            obtain ⟨v_21, g, hE⟩ := e_bind hE
            refine n_dald X Y 15 35 rfl rfl g dX2_matCell_101 ?_
            cases hE
            exact b_dret X Y hr hk dX2_matCell_102
        · replace hE := e_t c_5 hE
          refine lv_aload_n hx hb dX2_matCell_65 rfl (lv_at hl 1 rfl) ?_
          refine lv_dload hx hb dX2_matCell_66 (lv_at hl 7 rfl) ?_
          refine lv_aload_n hx hb dX2_matCell_68 rfl (lv_at hl 1 rfl) ?_
          refine b_geta X Y 35 (by decide) (by decide) q1838 dX2_matCell_69 ?_
          refine lv_iload_n hx hb dX2_matCell_72 rfl (lv_at hl 3 rfl) ?_
          refine lv_bipush (v := 36) hx hb dX2_matCell_73 (by decide) ?_
          refine lv_imul hx hb dX2_matCell_75 ?_
          refine lv_iload hx hb dX2_matCell_76 (lv_at hl 0 rfl) ?_
          refine lv_iadd hx hb dX2_matCell_78 ?_
          obtain ⟨v_22, g, hE⟩ := e_bind hE
          refine n_dald X Y 15 35 rfl rfl g dX2_matCell_79 ?_
          obtain ⟨v_23, g, hE⟩ := e_bind hE
          refine n_dmul hx hb g dX2_matCell_80 ?_
          obtain ⟨q_24, g, hE⟩ := e_bind hE
          refine n_call1 (n := 1) [.double v_23] X Y (mbf_kept l n b X.2.2.2.2.2.2 g) q2193 q2195 qs102 q2196 (by decide +kernel) (by decide) rfl hl.1 (Nat.le_of_ble_eq_true rfl) dX2_matCell_81 (by decide) (fun H locs Y => ?_)
          cases hE
          exact b_dret X Y hr hk dX2_matCell_84
      · replace hE := e_t c_4 hE
        refine lv_aload_n hx hb dX2_matCell_41 rfl (lv_at hl 1 rfl) ?_
        refine b_geta X Y 35 (by decide) (by decide) q1838 dX2_matCell_42 ?_
        refine lv_iload_n hx hb dX2_matCell_45 rfl (lv_at hl 3 rfl) ?_
        refine lv_bipush (v := 36) hx hb dX2_matCell_46 (by decide) ?_
        refine lv_imul hx hb dX2_matCell_48 ?_
        refine lv_iload hx hb dX2_matCell_49 (lv_at hl 6 rfl) ?_
        refine lv_bipush (v := 6) hx hb dX2_matCell_51 (by decide) ?_
        refine lv_imul hx hb dX2_matCell_53 ?_
        refine lv_iadd hx hb dX2_matCell_54 ?_
        refine lv_iload hx hb dX2_matCell_55 (lv_at hl 5 rfl) ?_
        refine lv_iadd hx hb dX2_matCell_57 ?_
        obtain ⟨v_25, g, hE⟩ := e_bind hE
        refine n_dald X Y 15 35 rfl rfl g dX2_matCell_58 ?_
        cases hE
        exact b_dret X Y hr hk dX2_matCell_59
    · replace hE := e_t c_3 hE
      refine lv_iload hx hb dX2_matCell_23 (lv_at hl 5 rfl) ?_
      refine lv_iload hx hb dX2_matCell_25 (lv_at hl 6 rfl) ?_
      refine lv_icmp_ne (tgt := 34) hx hb dX2_matCell_27 (by decide) (fun c_26 => ?_) (fun c_26 => ?_)
      · replace hE := e_f c_26 hE
        refine lv_dconst0 hx hb dX2_matCell_34 ?_
        cases hE
        exact b_dret X Y hr hk dX2_matCell_35
      · replace hE := e_t c_26 hE
        refine lv_dconst1 hx hb dX2_matCell_30 ?_
        refine lv_goto (tgt := 35) hx hb dX2_matCell_31 (by decide) ?_
        cases hE
        exact b_dret X Y hr hk dX2_matCell_35
  · replace hE := e_f c_2 hE
    refine lv_iload_n hx hb dX2_matCell_15 rfl (lv_at hl 2 rfl) ?_
    refine lv_i2d hx hb dX2_matCell_16 ?_
    cases hE
    exact b_dret X Y hr hk dX2_matCell_17
/-! BasicMachineModel.matFits(IIII)Z -/
set_option maxHeartbeats 4000000 in
set_option maxRecDepth 100000 in
theorem wbf_matFits_L34 {l : Launch} {b : bP} {As : List Value} {p : Program} {e : Env} {s : State} {m : MethodId} {below : List Frame} {meth : Method} {c : Code} (X : bX p s m (Value.ref b.h :: As).toArray c cX2_matFits 5 b) (hr : meth.sig.returnType = (some .boolean)) (hk : meth.locks = false) {n : Nat} {st : bS} {q : bS × Int32} (hE : bf_matFits_L34 n st = some q) {H : Heap} {locs : List Loc} {ls : Array Slot} (Y : bY b s st H locs) (hl : lv_has ls 5 [(0, .ref b.h)]) : bG l 0 0 b As (some (.int q.2)) q.1 p e s m below meth c H locs (F0 m 34 ls []) := by
  have hx := X.1
  have hb := X.2.1
  have hown := X.2.2.2.1
  have hts := X.2.2.2.2.1
  unfold bf_matFits_L34 at hE
  refine lv_iconst (v := 1) hx hb dX2_matFits_34 (by decide) ?_
  refine lv_goto (tgt := 39) hx hb dX2_matFits_35 (by decide) ?_
  cases hE
  exact b_zret (v := 1) X Y hr hk nz1 dX2_matFits_39
set_option maxHeartbeats 4000000 in
set_option maxRecDepth 100000 in
theorem mbf_matFits (l : Launch) (n : Nat) (b : bP) (ok : bOk b) {st : bS} {a1 : Int32} {a2 : Int32} {a3 : Int32} {a4 : Int32} {q : bS × Int32} (hE : bf_matFits n st a1 a2 a3 a4 = some q) : bMet l yX2_matFits cX2_matFits 5 (some .boolean) 0 0 b [.int a1, .int a2, .int a3, .int a4] st (some (.int q.2)) q.1 := by
  refine b_ofW (by decide) rfl ok (Nat.le_of_ble_eq_true rfl) (fun p e s m below meth c ls X Y hr hk hl => ?_)
  have hl : lv_has ls 5 [(0, .ref b.h), (1, .int a1), (2, .int a2), (3, .int a3), (4, .int a4)] := hl
  generalize s.heap = H at Y ⊢
  generalize ([] : List Loc) = locs at Y ⊢
  have hx := X.1
  have hb := X.2.1
  have hown := X.2.2.2.1
  have hts := X.2.2.2.2.1
  unfold bf_matFits at hE
  refine lv_iload_n hx hb dX2_matFits_0 rfl (lv_at hl 1 rfl) ?_
  refine lv_iconst (v := 3) hx hb dX2_matFits_1 (by decide) ?_
  refine lv_icmp_ge (tgt := 40) hx hb dX2_matFits_2 (by decide) (fun c_1 => ?_) (fun c_1 => ?_)
  · replace hE := e_t c_1 hE
    refine lv_aload_n hx hb dX2_matFits_40 rfl (lv_at hl 0 rfl) ?_
    refine b_geta X Y 38 (by decide) (by decide) q1841 dX2_matFits_41 ?_
    refine lv_iload_n hx hb dX2_matFits_44 rfl (lv_at hl 3 rfl) ?_
    obtain ⟨v_2, g, hE⟩ := e_bind hE
    refine n_iald X Y 18 38 rfl rfl g dX2_matFits_45 ?_
    refine lv_if_ne (tgt := 51) hx hb dX2_matFits_46 (by decide) (fun c_3 => ?_) (fun c_3 => ?_)
    · replace hE := e_f c_3 hE
      refine lv_iload_n hx hb dX2_matFits_51 rfl (lv_at hl 1 rfl) ?_
      refine lv_bipush (v := 6) hx hb dX2_matFits_52 (by decide) ?_
      refine lv_icmp_ge (tgt := 59) hx hb dX2_matFits_54 (by decide) (fun c_4 => ?_) (fun c_4 => ?_)
      · replace hE := e_t c_4 hE
        refine lv_aload_n hx hb dX2_matFits_59 rfl (lv_at hl 0 rfl) ?_
        refine b_geta X Y 38 (by decide) (by decide) q1841 dX2_matFits_60 ?_
        refine lv_iload hx hb dX2_matFits_63 (lv_at hl 4 rfl) ?_
        obtain ⟨v_5, g, hE⟩ := e_bind hE
        refine n_iald X Y 18 38 rfl rfl g dX2_matFits_65 ?_
        refine lv_if_ne (tgt := 71) hx hb dX2_matFits_66 (by decide) (fun c_6 => ?_) (fun c_6 => ?_)
        · replace hE := e_f c_6 hE
          refine lv_iload_n hx hb dX2_matFits_71 rfl (lv_at hl 1 rfl) ?_
          refine lv_bipush (v := 8) hx hb dX2_matFits_72 (by decide) ?_
          refine lv_icmp_ne (tgt := 101) hx hb dX2_matFits_74 (by decide) (fun c_7 => ?_) (fun c_7 => ?_)
          · replace hE := e_f c_7 hE
            refine lv_aload_n hx hb dX2_matFits_101 rfl (lv_at hl 0 rfl) ?_
            refine b_geta X Y 38 (by decide) (by decide) q1841 dX2_matFits_102 ?_
            refine lv_iload_n hx hb dX2_matFits_105 rfl (lv_at hl 3 rfl) ?_
            obtain ⟨v_8, g, hE⟩ := e_bind hE
            refine n_iald X Y 18 38 rfl rfl g dX2_matFits_106 ?_
            refine lv_aload_n hx hb dX2_matFits_107 rfl (lv_at hl 0 rfl) ?_
            refine b_geta X Y 38 (by decide) (by decide) q1841 dX2_matFits_108 ?_
            refine lv_iload hx hb dX2_matFits_111 (lv_at hl 4 rfl) ?_
            obtain ⟨v_9, g, hE⟩ := e_bind hE
            refine n_iald X Y 18 38 rfl rfl g dX2_matFits_113 ?_
            refine lv_icmp_ne (tgt := 137) hx hb dX2_matFits_114 (by decide) (fun c_10 => ?_) (fun c_10 => ?_)
            · replace hE := e_f c_10 hE
              refine lv_iconst (v := 0) hx hb dX2_matFits_137 (by decide) ?_
              cases hE
              exact b_zret (v := 0) X Y hr hk nz0 dX2_matFits_138
            · replace hE := e_t c_10 hE
              refine lv_aload_n hx hb dX2_matFits_117 rfl (lv_at hl 0 rfl) ?_
              refine b_geta X Y 39 (by decide) (by decide) q1842 dX2_matFits_118 ?_
              refine lv_iload_n hx hb dX2_matFits_121 rfl (lv_at hl 3 rfl) ?_
              obtain ⟨v_11, g, hE⟩ := e_bind hE
              refine n_iald X Y 19 39 rfl rfl g dX2_matFits_122 ?_
              refine lv_aload_n hx hb dX2_matFits_123 rfl (lv_at hl 0 rfl) ?_
              refine b_geta X Y 39 (by decide) (by decide) q1842 dX2_matFits_124 ?_
              refine lv_iload hx hb dX2_matFits_127 (lv_at hl 4 rfl) ?_
              obtain ⟨v_12, g, hE⟩ := e_bind hE
              refine n_iald X Y 19 39 rfl rfl g dX2_matFits_129 ?_
              refine lv_icmp_ne (tgt := 137) hx hb dX2_matFits_130 (by decide) (fun c_13 => ?_) (fun c_13 => ?_)
              · replace hE := e_f c_13 hE
                refine lv_iconst (v := 0) hx hb dX2_matFits_137 (by decide) ?_
                cases hE
                exact b_zret (v := 0) X Y hr hk nz0 dX2_matFits_138
              · replace hE := e_t c_13 hE
                refine lv_iconst (v := 1) hx hb dX2_matFits_133 (by decide) ?_
                refine lv_goto (tgt := 138) hx hb dX2_matFits_134 (by decide) ?_
                cases hE
                exact b_zret (v := 1) X Y hr hk nz1 dX2_matFits_138
          · replace hE := e_t c_7 hE
            refine lv_aload_n hx hb dX2_matFits_77 rfl (lv_at hl 0 rfl) ?_
            refine b_geta X Y 39 (by decide) (by decide) q1842 dX2_matFits_78 ?_
            refine lv_iload_n hx hb dX2_matFits_81 rfl (lv_at hl 3 rfl) ?_
            obtain ⟨v_14, g, hE⟩ := e_bind hE
            refine n_iald X Y 19 39 rfl rfl g dX2_matFits_82 ?_
            refine lv_aload_n hx hb dX2_matFits_83 rfl (lv_at hl 0 rfl) ?_
            refine b_geta X Y 38 (by decide) (by decide) q1841 dX2_matFits_84 ?_
            refine lv_iload hx hb dX2_matFits_87 (lv_at hl 4 rfl) ?_
            obtain ⟨v_15, g, hE⟩ := e_bind hE
            refine n_iald X Y 18 38 rfl rfl g dX2_matFits_89 ?_
            refine lv_icmp_ne (tgt := 97) hx hb dX2_matFits_90 (by decide) (fun c_16 => ?_) (fun c_16 => ?_)
            · replace hE := e_f c_16 hE
              refine lv_iconst (v := 0) hx hb dX2_matFits_97 (by decide) ?_
              refine lv_goto (tgt := 138) hx hb dX2_matFits_98 (by decide) ?_
              cases hE
              exact b_zret (v := 0) X Y hr hk nz0 dX2_matFits_138
            · replace hE := e_t c_16 hE
              refine lv_iconst (v := 1) hx hb dX2_matFits_93 (by decide) ?_
              refine lv_goto (tgt := 138) hx hb dX2_matFits_94 (by decide) ?_
              cases hE
              exact b_zret (v := 1) X Y hr hk nz1 dX2_matFits_138
        · replace hE := e_t c_6 hE
          refine lv_iconst (v := 0) hx hb dX2_matFits_69 (by decide) ?_
          cases hE
          exact b_zret (v := 0) X Y hr hk nz0 dX2_matFits_70
      · replace hE := e_f c_4 hE
        refine lv_iconst (v := 1) hx hb dX2_matFits_57 (by decide) ?_
        cases hE
        exact b_zret (v := 1) X Y hr hk nz1 dX2_matFits_58
    · replace hE := e_t c_3 hE
      refine lv_iconst (v := 0) hx hb dX2_matFits_49 (by decide) ?_
      cases hE
      exact b_zret (v := 0) X Y hr hk nz0 dX2_matFits_50
  · replace hE := e_f c_1 hE
    refine lv_aload_n hx hb dX2_matFits_5 rfl (lv_at hl 0 rfl) ?_
    refine b_geta X Y 38 (by decide) (by decide) q1841 dX2_matFits_6 ?_
    refine lv_iload_n hx hb dX2_matFits_9 rfl (lv_at hl 2 rfl) ?_
    obtain ⟨v_17, g, hE⟩ := e_bind hE
    refine n_iald X Y 18 38 rfl rfl g dX2_matFits_10 ?_
    refine lv_if_le (tgt := 38) hx hb dX2_matFits_11 (by decide) (fun c_18 => ?_) (fun c_18 => ?_)
    · replace hE := e_t c_18 hE
      refine lv_iconst (v := 0) hx hb dX2_matFits_38 (by decide) ?_
      cases hE
      exact b_zret (v := 0) X Y hr hk nz0 dX2_matFits_39
    · replace hE := e_f c_18 hE
      refine lv_iload_n hx hb dX2_matFits_14 rfl (lv_at hl 1 rfl) ?_
      refine lv_iconst (v := 2) hx hb dX2_matFits_15 (by decide) ?_
      refine lv_icmp_lt (tgt := 34) hx hb dX2_matFits_16 (by decide) (fun c_19 => ?_) (fun c_19 => ?_)
      · replace hE := e_t c_19 hE
        exact wbf_matFits_L34 X hr hk hE Y (lv_sub hl [0] rfl)
      · replace hE := e_f c_19 hE
        refine lv_aload_n hx hb dX2_matFits_19 rfl (lv_at hl 0 rfl) ?_
        refine b_geta X Y 38 (by decide) (by decide) q1841 dX2_matFits_20 ?_
        refine lv_iload_n hx hb dX2_matFits_23 rfl (lv_at hl 2 rfl) ?_
        obtain ⟨v_20, g, hE⟩ := e_bind hE
        refine n_iald X Y 18 38 rfl rfl g dX2_matFits_24 ?_
        refine lv_aload_n hx hb dX2_matFits_25 rfl (lv_at hl 0 rfl) ?_
        refine b_geta X Y 39 (by decide) (by decide) q1842 dX2_matFits_26 ?_
        refine lv_iload_n hx hb dX2_matFits_29 rfl (lv_at hl 2 rfl) ?_
        obtain ⟨v_21, g, hE⟩ := e_bind hE
        refine n_iald X Y 19 39 rfl rfl g dX2_matFits_30 ?_
        refine lv_icmp_ne (tgt := 38) hx hb dX2_matFits_31 (by decide) (fun c_22 => ?_) (fun c_22 => ?_)
        · replace hE := e_f c_22 hE
          refine lv_iconst (v := 0) hx hb dX2_matFits_38 (by decide) ?_
          cases hE
          exact b_zret (v := 0) X Y hr hk nz0 dX2_matFits_39
        · replace hE := e_t c_22 hE
          exact wbf_matFits_L34 X hr hk hE Y (lv_sub hl [0] rfl)
/-! BasicMachineModel.doMat(I)V -/
set_option maxHeartbeats 4000000 in
set_option maxRecDepth 100000 in
theorem wbf_doMat_S252_ {l : Launch} {b : bP} {As : List Value} {p : Program} {e : Env} {s : State} {m : MethodId} {below : List Frame} {meth : Method} {c : Code} (X : bX p s m (Value.ref b.h :: As).toArray c cX2_doMat 12 b) (hr : meth.sig.returnType = none) (hk : meth.locks = false) (n : Nat) {q : bS × Unit} : ∀ k : Nat, (∀ {st : bS} {x2 : Int32} {x10 : Int32}, bf_doMat_S252 n k st x2 x10 = some q → ∀ {H : Heap} {locs : List Loc} {ls : Array Slot}, bY b s st H locs → lv_has ls 12 [(0, .ref b.h), (2, .int x2), (10, .int x10)] → bG l 6 145 b As none q.1 p e s m below meth c H locs (F0 m 252 ls [])) := by
  have hx := X.1
  have hb := X.2.1
  have hown := X.2.2.2.1
  have hts := X.2.2.2.2.1
  intro k
  induction k with
  | zero => exact fun h => nomatch (show none = some q from h)
  | succ k ih =>
    intro st x2 x10 hE H locs ls Y hl
    replace hE : bf_doMat_B252 n (bf_doMat_S252 n k) st x2 x10 = some q := hE
    unfold bf_doMat_B252 at hE
    refine lv_iload hx hb dX2_doMat_252 (lv_at hl 2 rfl) ?_
    refine lv_bipush (v := 36) hx hb dX2_doMat_254 (by decide) ?_
    refine lv_icmp_ge (tgt := 284) hx hb dX2_doMat_256 (by decide) (fun c_1 => ?_) (fun c_1 => ?_)
    · replace hE := e_t c_1 hE
      cases hE
      exact b_vret X Y hr hk dX2_doMat_284
    · replace hE := e_f c_1 hE
      refine lv_aload_n hx hb dX2_doMat_259 rfl (lv_at hl 0 rfl) ?_
      refine b_geta X Y 35 (by decide) (by decide) q1838 dX2_doMat_260 ?_
      refine lv_iload_n hx hb dX2_doMat_263 rfl (lv_at hl 1 rfl) ?_
      refine lv_bipush (v := 36) hx hb dX2_doMat_264 (by decide) ?_
      refine lv_imul hx hb dX2_doMat_266 ?_
      refine lv_iload hx hb dX2_doMat_267 (lv_at hl 2 rfl) ?_
      refine lv_iadd hx hb dX2_doMat_269 ?_
      refine lv_aload_n hx hb dX2_doMat_270 rfl (lv_at hl 0 rfl) ?_
      refine b_geta X Y 36 (by decide) (by decide) q1839 dX2_doMat_271 ?_
      refine lv_iload hx hb dX2_doMat_274 (lv_at hl 2 rfl) ?_
      obtain ⟨v_2, g, hE⟩ := e_bind hE
      refine n_dald X Y 16 36 rfl rfl g dX2_doMat_276 ?_
      obtain ⟨st_3, g, hE⟩ := e_bind hE
      refine n_dast X Y 15 35 rfl rfl g dX2_doMat_277 (fun H locs Y => ?_)
      refine lv_iinc (v := (x10 + (1 : Int32))) (lv' := [(10, .int (x10 + (1 : Int32))), (0, .ref b.h), (2, .int x2)]) hx hb dX2_doMat_278 hl (k := 2) rfl rfl (by decide) rfl (fun ls hl => ?_)
      refine lv_goto (tgt := 252) hx hb dX2_doMat_281 (by decide) ?_
      exact ih hE Y (lv_sub hl [1, 2, 0] rfl)
set_option maxHeartbeats 4000000 in
set_option maxRecDepth 100000 in
theorem wbf_doMat_S252 {l : Launch} {b : bP} {As : List Value} {p : Program} {e : Env} {s : State} {m : MethodId} {below : List Frame} {meth : Method} {c : Code} (X : bX p s m (Value.ref b.h :: As).toArray c cX2_doMat 12 b) (hr : meth.sig.returnType = none) (hk : meth.locks = false) (n : Nat) {q : bS × Unit} : (∀ {st : bS} {x2 : Int32} {x10 : Int32}, bf_doMat_S252 n n st x2 x10 = some q → ∀ {H : Heap} {locs : List Loc} {ls : Array Slot}, bY b s st H locs → lv_has ls 12 [(0, .ref b.h), (2, .int x2), (10, .int x10)] → bG l 6 145 b As none q.1 p e s m below meth c H locs (F0 m 252 ls [])) := wbf_doMat_S252_ X hr hk n n
set_option maxHeartbeats 4000000 in
set_option maxRecDepth 100000 in
theorem wbf_doMat_S161_ {l : Launch} {b : bP} {As : List Value} {p : Program} {e : Env} {s : State} {m : MethodId} {below : List Frame} {meth : Method} {c : Code} (X : bX p s m (Value.ref b.h :: As).toArray c cX2_doMat 12 b) (hr : meth.sig.returnType = none) (hk : meth.locks = false) (n : Nat) {q : bS × Unit} : ∀ k : Nat, (∀ {st : bS} {x2 : Int32} {x3 : Int32} {x4 : Int32} {x5 : Int32} {x6 : UInt64} {x8 : Int32} {x9 : Int32} {x10 : Int32} {x11 : Int32}, bf_doMat_S161 n k 0 st x2 x3 x4 x5 x6 x8 x9 x10 x11 = some q → ∀ {H : Heap} {locs : List Loc} {ls : Array Slot}, bY b s st H locs → lv_has ls 12 [(0, .ref b.h), (2, .int x2), (3, .int x3), (4, .int x4), (5, .int x5), (6, .double x6), (8, .int x8), (9, .int x9), (10, .int x10)] → bG l 6 145 b As none q.1 p e s m below meth c H locs (F0 m 161 ls [])) ∧ (∀ {st : bS} {x2 : Int32} {x3 : Int32} {x4 : Int32} {x5 : Int32} {x6 : UInt64} {x8 : Int32} {x9 : Int32} {x10 : Int32} {x11 : Int32}, bf_doMat_S161 n k 1 st x2 x3 x4 x5 x6 x8 x9 x10 x11 = some q → ∀ {H : Heap} {locs : List Loc} {ls : Array Slot}, bY b s st H locs → lv_has ls 12 [(0, .ref b.h), (2, .int x2), (3, .int x3), (4, .int x4), (5, .int x5), (6, .double x6), (8, .int x8), (9, .int x9), (10, .int x10), (11, .int x11)] → bG l 6 145 b As none q.1 p e s m below meth c H locs (F0 m 171 ls [])) ∧ (∀ {st : bS} {x2 : Int32} {x3 : Int32} {x4 : Int32} {x5 : Int32} {x6 : UInt64} {x8 : Int32} {x9 : Int32} {x10 : Int32} {x11 : Int32}, bf_doMat_S161 n k 2 st x2 x3 x4 x5 x6 x8 x9 x10 x11 = some q → ∀ {H : Heap} {locs : List Loc} {ls : Array Slot}, bY b s st H locs → lv_has ls 12 [(0, .ref b.h), (2, .int x2), (3, .int x3), (4, .int x4), (5, .int x5), (6, .double x6), (8, .int x8), (9, .int x9), (10, .int x10)] → bG l 6 145 b As none q.1 p e s m below meth c H locs (F0 m 219 ls [])) := by
  have hx := X.1
  have hb := X.2.1
  have hown := X.2.2.2.1
  have hts := X.2.2.2.2.1
  intro k
  induction k with
  | zero => exact ⟨(fun h => nomatch (show none = some q from h)), (fun h => nomatch (show none = some q from h)), (fun h => nomatch (show none = some q from h))⟩
  | succ k ih =>
    obtain ⟨ih0, ih1, ih2⟩ := ih
    refine ⟨?_, ?_, ?_⟩
    · intro st x2 x3 x4 x5 x6 x8 x9 x10 x11 hE H locs ls Y hl
      replace hE : bf_doMat_B161 n (bf_doMat_S161 n k) st x2 x3 x4 x5 x6 x8 x9 x10 x11 = some q := hE
      unfold bf_doMat_B161 at hE
      refine lv_iload hx hb dX2_doMat_161 (lv_at hl 8 rfl) ?_
      refine lv_iload hx hb dX2_doMat_163 (lv_at hl 6 rfl) ?_
      refine lv_icmp_ge (tgt := 225) hx hb dX2_doMat_165 (by decide) (fun c_1 => ?_) (fun c_1 => ?_)
      · replace hE := e_t c_1 hE
        refine lv_aload_n hx hb dX2_doMat_225 rfl (lv_at hl 0 rfl) ?_
        refine b_geti X Y 27 rfl (by decide) rfl q1830 dX2_doMat_226 ?_
        refine lv_if_eq (tgt := 233) hx hb dX2_doMat_229 (by decide) (fun c_2 => ?_) (fun c_2 => ?_)
        · replace hE := e_t c_2 hE
          refine lv_aload_n hx hb dX2_doMat_233 rfl (lv_at hl 0 rfl) ?_
          refine b_geta X Y 38 (by decide) (by decide) q1841 dX2_doMat_234 ?_
          refine lv_iload_n hx hb dX2_doMat_237 rfl (lv_at hl 1 rfl) ?_
          refine lv_iload hx hb dX2_doMat_238 (lv_at hl 6 rfl) ?_
          obtain ⟨st_3, g, hE⟩ := e_bind hE
          refine n_iast X Y 18 38 rfl rfl g dX2_doMat_240 (fun H locs Y => ?_)
          refine lv_aload_n hx hb dX2_doMat_241 rfl (lv_at hl 0 rfl) ?_
          refine b_geta X Y 39 (by decide) (by decide) q1842 dX2_doMat_242 ?_
          refine lv_iload_n hx hb dX2_doMat_245 rfl (lv_at hl 1 rfl) ?_
          refine lv_iload hx hb dX2_doMat_246 (lv_at hl 7 rfl) ?_
          obtain ⟨st_4, g, hE⟩ := e_bind hE
          refine n_iast X Y 19 39 rfl rfl g dX2_doMat_248 (fun H locs Y => ?_)
          refine lv_iconst (v := 0) hx hb dX2_doMat_249 (by decide) ?_
          refine lv_istore (lv' := [(10, .int (0 : Int32)), (0, .ref b.h), (2, .int x2), (3, .int x3), (4, .int x4), (5, .int x5), (6, .double x6), (8, .int x8), (9, .int x9)]) hx hb dX2_doMat_250 hl (by decide) rfl (fun ls hl => ?_)
          exact (wbf_doMat_S252 X hr hk n) hE Y (lv_sub hl [1, 2, 0] rfl)
        · replace hE := e_f c_2 hE
          cases hE
          exact b_vret X Y hr hk dX2_doMat_232
      · replace hE := e_f c_1 hE
        refine lv_iconst (v := 0) hx hb dX2_doMat_168 (by decide) ?_
        refine lv_istore (lv' := [(11, .int (0 : Int32)), (0, .ref b.h), (2, .int x2), (3, .int x3), (4, .int x4), (5, .int x5), (6, .double x6), (8, .int x8), (9, .int x9), (10, .int x10)]) hx hb dX2_doMat_169 hl (by decide) rfl (fun ls hl => ?_)
        exact ih1 hE Y (lv_sub hl [1, 2, 3, 4, 5, 6, 7, 8, 9, 0] rfl)
    · intro st x2 x3 x4 x5 x6 x8 x9 x10 x11 hE H locs ls Y hl
      replace hE : bf_doMat_B171 n (bf_doMat_S161 n k) st x2 x3 x4 x5 x6 x8 x9 x10 x11 = some q := hE
      unfold bf_doMat_B171 at hE
      refine lv_iload hx hb dX2_doMat_171 (lv_at hl 9 rfl) ?_
      refine lv_iload hx hb dX2_doMat_173 (lv_at hl 7 rfl) ?_
      refine lv_icmp_ge (tgt := 219) hx hb dX2_doMat_175 (by decide) (fun c_1 => ?_) (fun c_1 => ?_)
      · replace hE := e_t c_1 hE
        exact ih2 hE Y (lv_sub hl [0, 1, 2, 3, 4, 5, 6, 7, 8] rfl)
      · replace hE := e_f c_1 hE
        refine lv_aload_n hx hb dX2_doMat_178 rfl (lv_at hl 0 rfl) ?_
        refine b_geti X Y 27 rfl (by decide) rfl q1830 dX2_doMat_179 ?_
        refine lv_if_ne (tgt := 219) hx hb dX2_doMat_182 (by decide) (fun c_2 => ?_) (fun c_2 => ?_)
        · replace hE := e_f c_2 hE
          exact ih2 hE Y (lv_sub hl [0, 1, 2, 3, 4, 5, 6, 7, 8] rfl)
        · replace hE := e_t c_2 hE
          refine lv_aload_n hx hb dX2_doMat_185 rfl (lv_at hl 0 rfl) ?_
          refine b_geta X Y 36 (by decide) (by decide) q1839 dX2_doMat_186 ?_
          refine lv_iload hx hb dX2_doMat_189 (lv_at hl 8 rfl) ?_
          refine lv_bipush (v := 6) hx hb dX2_doMat_191 (by decide) ?_
          refine lv_imul hx hb dX2_doMat_193 ?_
          refine lv_iload hx hb dX2_doMat_194 (lv_at hl 9 rfl) ?_
          refine lv_iadd hx hb dX2_doMat_196 ?_
          refine lv_aload_n hx hb dX2_doMat_197 rfl (lv_at hl 0 rfl) ?_
          refine lv_iload_n hx hb dX2_doMat_198 rfl (lv_at hl 2 rfl) ?_
          refine lv_iload hx hb dX2_doMat_199 (lv_at hl 3 rfl) ?_
          refine lv_iload hx hb dX2_doMat_201 (lv_at hl 4 rfl) ?_
          refine lv_iload hx hb dX2_doMat_203 (lv_at hl 8 rfl) ?_
          refine lv_iload hx hb dX2_doMat_205 (lv_at hl 9 rfl) ?_
          refine lv_dload hx hb dX2_doMat_207 (lv_at hl 5 rfl) ?_
          obtain ⟨q_3, g, hE⟩ := e_bind hE
          refine n_call1 (n := 6) [.int x3, .int x4, .int x5, .int x10, .int x11, .double x6] X Y (mbf_matCell l n b X.2.2.2.2.2.2 g) q2266 q2268 qs119 q2269 (by decide +kernel) (by decide) rfl hl.1 (Nat.le_of_ble_eq_true rfl) dX2_doMat_209 (by decide) (fun H locs Y => ?_)
          obtain ⟨st_4, g, hE⟩ := e_bind hE
          refine n_dast X Y 16 36 rfl rfl g dX2_doMat_212 (fun H locs Y => ?_)
          refine lv_iinc (v := (x11 + (1 : Int32))) (lv' := [(11, .int (x11 + (1 : Int32))), (0, .ref b.h), (2, .int x2), (3, .int x3), (4, .int x4), (5, .int x5), (6, .double x6), (8, .int x8), (9, .int x9), (10, .int x10)]) hx hb dX2_doMat_213 hl (k := 9) rfl rfl (by decide) rfl (fun ls hl => ?_)
          refine lv_goto (tgt := 171) hx hb dX2_doMat_216 (by decide) ?_
          exact ih1 hE Y (lv_sub hl [1, 2, 3, 4, 5, 6, 7, 8, 9, 0] rfl)
    · intro st x2 x3 x4 x5 x6 x8 x9 x10 x11 hE H locs ls Y hl
      replace hE : bf_doMat_B219 n (bf_doMat_S161 n k) st x2 x3 x4 x5 x6 x8 x9 x10 x11 = some q := hE
      unfold bf_doMat_B219 at hE
      refine lv_iinc (v := (x10 + (1 : Int32))) (lv' := [(10, .int (x10 + (1 : Int32))), (0, .ref b.h), (2, .int x2), (3, .int x3), (4, .int x4), (5, .int x5), (6, .double x6), (8, .int x8), (9, .int x9)]) hx hb dX2_doMat_219 hl (k := 8) rfl rfl (by decide) rfl (fun ls hl => ?_)
      refine lv_goto (tgt := 161) hx hb dX2_doMat_222 (by decide) ?_
      exact ih0 hE Y (lv_sub hl [1, 2, 3, 4, 5, 6, 7, 8, 0] rfl)
set_option maxHeartbeats 4000000 in
set_option maxRecDepth 100000 in
theorem wbf_doMat_S161 {l : Launch} {b : bP} {As : List Value} {p : Program} {e : Env} {s : State} {m : MethodId} {below : List Frame} {meth : Method} {c : Code} (X : bX p s m (Value.ref b.h :: As).toArray c cX2_doMat 12 b) (hr : meth.sig.returnType = none) (hk : meth.locks = false) (n : Nat) {q : bS × Unit} : (∀ {st : bS} {x2 : Int32} {x3 : Int32} {x4 : Int32} {x5 : Int32} {x6 : UInt64} {x8 : Int32} {x9 : Int32} {x10 : Int32} {x11 : Int32}, bf_doMat_S161 n n 0 st x2 x3 x4 x5 x6 x8 x9 x10 x11 = some q → ∀ {H : Heap} {locs : List Loc} {ls : Array Slot}, bY b s st H locs → lv_has ls 12 [(0, .ref b.h), (2, .int x2), (3, .int x3), (4, .int x4), (5, .int x5), (6, .double x6), (8, .int x8), (9, .int x9), (10, .int x10)] → bG l 6 145 b As none q.1 p e s m below meth c H locs (F0 m 161 ls [])) ∧ (∀ {st : bS} {x2 : Int32} {x3 : Int32} {x4 : Int32} {x5 : Int32} {x6 : UInt64} {x8 : Int32} {x9 : Int32} {x10 : Int32} {x11 : Int32}, bf_doMat_S161 n n 1 st x2 x3 x4 x5 x6 x8 x9 x10 x11 = some q → ∀ {H : Heap} {locs : List Loc} {ls : Array Slot}, bY b s st H locs → lv_has ls 12 [(0, .ref b.h), (2, .int x2), (3, .int x3), (4, .int x4), (5, .int x5), (6, .double x6), (8, .int x8), (9, .int x9), (10, .int x10), (11, .int x11)] → bG l 6 145 b As none q.1 p e s m below meth c H locs (F0 m 171 ls [])) ∧ (∀ {st : bS} {x2 : Int32} {x3 : Int32} {x4 : Int32} {x5 : Int32} {x6 : UInt64} {x8 : Int32} {x9 : Int32} {x10 : Int32} {x11 : Int32}, bf_doMat_S161 n n 2 st x2 x3 x4 x5 x6 x8 x9 x10 x11 = some q → ∀ {H : Heap} {locs : List Loc} {ls : Array Slot}, bY b s st H locs → lv_has ls 12 [(0, .ref b.h), (2, .int x2), (3, .int x3), (4, .int x4), (5, .int x5), (6, .double x6), (8, .int x8), (9, .int x9), (10, .int x10)] → bG l 6 145 b As none q.1 p e s m below meth c H locs (F0 m 219 ls [])) := wbf_doMat_S161_ X hr hk n n
set_option maxHeartbeats 4000000 in
set_option maxRecDepth 100000 in
theorem wbf_doMat_L156 {l : Launch} {b : bP} {As : List Value} {p : Program} {e : Env} {s : State} {m : MethodId} {below : List Frame} {meth : Method} {c : Code} (X : bX p s m (Value.ref b.h :: As).toArray c cX2_doMat 12 b) (hr : meth.sig.returnType = none) (hk : meth.locks = false) {n : Nat} {st : bS} {x2 : Int32} {x3 : Int32} {x4 : Int32} {x5 : Int32} {x6 : UInt64} {x8 : Int32} {z156_0 : Int32} {q : bS × Unit} (hE : bf_doMat_L156 n st x2 x3 x4 x5 x6 x8 z156_0 = some q) {H : Heap} {locs : List Loc} {ls : Array Slot} (Y : bY b s st H locs) (hl : lv_has ls 12 [(0, .ref b.h), (2, .int x2), (3, .int x3), (4, .int x4), (5, .int x5), (6, .double x6), (8, .int x8)]) : bG l 6 145 b As none q.1 p e s m below meth c H locs (F0 m 156 ls [.int z156_0]) := by
  have hx := X.1
  have hb := X.2.1
  have hown := X.2.2.2.1
  have hts := X.2.2.2.2.1
  unfold bf_doMat_L156 at hE
  refine lv_istore (lv' := [(9, .int z156_0), (0, .ref b.h), (2, .int x2), (3, .int x3), (4, .int x4), (5, .int x5), (6, .double x6), (8, .int x8)]) hx hb dX2_doMat_156 hl (by decide) rfl (fun ls hl => ?_)
  refine lv_iconst (v := 0) hx hb dX2_doMat_158 (by decide) ?_
  refine lv_istore (lv' := [(10, .int (0 : Int32)), (9, .int z156_0), (0, .ref b.h), (2, .int x2), (3, .int x3), (4, .int x4), (5, .int x5), (6, .double x6), (8, .int x8)]) hx hb dX2_doMat_159 hl (by decide) rfl (fun ls hl => ?_)
  exact (wbf_doMat_S161 X hr hk n).1 hE Y (lv_sub hl [2, 3, 4, 5, 6, 7, 8, 1, 0] rfl)
set_option maxHeartbeats 4000000 in
set_option maxRecDepth 100000 in
theorem wbf_doMat_L132 {l : Launch} {b : bP} {As : List Value} {p : Program} {e : Env} {s : State} {m : MethodId} {below : List Frame} {meth : Method} {c : Code} (X : bX p s m (Value.ref b.h :: As).toArray c cX2_doMat 12 b) (hr : meth.sig.returnType = none) (hk : meth.locks = false) {n : Nat} {st : bS} {x2 : Int32} {x3 : Int32} {x4 : Int32} {x5 : Int32} {x6 : UInt64} {z132_0 : Int32} {q : bS × Unit} (hE : bf_doMat_L132 n st x2 x3 x4 x5 x6 z132_0 = some q) {H : Heap} {locs : List Loc} {ls : Array Slot} (Y : bY b s st H locs) (hl : lv_has ls 12 [(0, .ref b.h), (2, .int x2), (3, .int x3), (4, .int x4), (5, .int x5), (6, .double x6)]) : bG l 6 145 b As none q.1 p e s m below meth c H locs (F0 m 132 ls [.int z132_0]) := by
  have hx := X.1
  have hb := X.2.1
  have hown := X.2.2.2.1
  have hts := X.2.2.2.2.1
  unfold bf_doMat_L132 at hE
  refine lv_istore (lv' := [(8, .int z132_0), (0, .ref b.h), (2, .int x2), (3, .int x3), (4, .int x4), (5, .int x5), (6, .double x6)]) hx hb dX2_doMat_132 hl (by decide) rfl (fun ls hl => ?_)
  refine lv_iload_n hx hb dX2_doMat_134 rfl (lv_at hl 3 rfl) ?_
  refine lv_iconst (v := 3) hx hb dX2_doMat_135 (by decide) ?_
  refine lv_icmp_ne (tgt := 149) hx hb dX2_doMat_136 (by decide) (fun c_1 => ?_) (fun c_1 => ?_)
  · replace hE := e_f c_1 hE
    refine lv_aload_n hx hb dX2_doMat_149 rfl (lv_at hl 1 rfl) ?_
    refine b_geta X Y 39 (by decide) (by decide) q1842 dX2_doMat_150 ?_
    refine lv_iload hx hb dX2_doMat_153 (lv_at hl 5 rfl) ?_
    obtain ⟨v_2, g, hE⟩ := e_bind hE
    refine n_iald X Y 19 39 rfl rfl g dX2_doMat_155 ?_
    exact wbf_doMat_L156 X hr hk hE Y (lv_sub hl [1, 2, 3, 4, 5, 6, 0] rfl)
  · replace hE := e_t c_1 hE
    refine lv_aload_n hx hb dX2_doMat_139 rfl (lv_at hl 1 rfl) ?_
    refine b_geta X Y 38 (by decide) (by decide) q1841 dX2_doMat_140 ?_
    refine lv_iload hx hb dX2_doMat_143 (lv_at hl 4 rfl) ?_
    obtain ⟨v_3, g, hE⟩ := e_bind hE
    refine n_iald X Y 18 38 rfl rfl g dX2_doMat_145 ?_
    refine lv_goto (tgt := 156) hx hb dX2_doMat_146 (by decide) ?_
    exact wbf_doMat_L156 X hr hk hE Y (lv_sub hl [1, 2, 3, 4, 5, 6, 0] rfl)
set_option maxHeartbeats 4000000 in
set_option maxRecDepth 100000 in
theorem wbf_doMat_L108 {l : Launch} {b : bP} {As : List Value} {p : Program} {e : Env} {s : State} {m : MethodId} {below : List Frame} {meth : Method} {c : Code} (X : bX p s m (Value.ref b.h :: As).toArray c cX2_doMat 12 b) (hr : meth.sig.returnType = none) (hk : meth.locks = false) {n : Nat} {st : bS} {x2 : Int32} {x3 : Int32} {x4 : Int32} {x5 : Int32} {z108_0 : UInt64} {q : bS × Unit} (hE : bf_doMat_L108 n st x2 x3 x4 x5 z108_0 = some q) {H : Heap} {locs : List Loc} {ls : Array Slot} (Y : bY b s st H locs) (hl : lv_has ls 12 [(0, .ref b.h), (2, .int x2), (3, .int x3), (4, .int x4), (5, .int x5)]) : bG l 6 145 b As none q.1 p e s m below meth c H locs (F0 m 108 ls [.double z108_0]) := by
  have hx := X.1
  have hb := X.2.1
  have hown := X.2.2.2.1
  have hts := X.2.2.2.2.1
  unfold bf_doMat_L108 at hE
  refine lv_dstore (lv' := [(6, .double z108_0), (0, .ref b.h), (2, .int x2), (3, .int x3), (4, .int x4), (5, .int x5)]) hx hb dX2_doMat_108 hl (by decide) rfl (fun ls hl => ?_)
  refine lv_iload_n hx hb dX2_doMat_110 rfl (lv_at hl 3 rfl) ?_
  refine lv_iconst (v := 3) hx hb dX2_doMat_111 (by decide) ?_
  refine lv_icmp_ne (tgt := 125) hx hb dX2_doMat_112 (by decide) (fun c_1 => ?_) (fun c_1 => ?_)
  · replace hE := e_f c_1 hE
    refine lv_aload_n hx hb dX2_doMat_125 rfl (lv_at hl 1 rfl) ?_
    refine b_geta X Y 38 (by decide) (by decide) q1841 dX2_doMat_126 ?_
    refine lv_iload hx hb dX2_doMat_129 (lv_at hl 4 rfl) ?_
    obtain ⟨v_2, g, hE⟩ := e_bind hE
    refine n_iald X Y 18 38 rfl rfl g dX2_doMat_131 ?_
    exact wbf_doMat_L132 X hr hk hE Y (lv_sub hl [1, 2, 3, 4, 5, 0] rfl)
  · replace hE := e_t c_1 hE
    refine lv_aload_n hx hb dX2_doMat_115 rfl (lv_at hl 1 rfl) ?_
    refine b_geta X Y 39 (by decide) (by decide) q1842 dX2_doMat_116 ?_
    refine lv_iload hx hb dX2_doMat_119 (lv_at hl 4 rfl) ?_
    obtain ⟨v_3, g, hE⟩ := e_bind hE
    refine n_iald X Y 19 39 rfl rfl g dX2_doMat_121 ?_
    refine lv_goto (tgt := 132) hx hb dX2_doMat_122 (by decide) ?_
    exact wbf_doMat_L132 X hr hk hE Y (lv_sub hl [1, 2, 3, 4, 5, 0] rfl)
set_option maxHeartbeats 4000000 in
set_option maxRecDepth 100000 in
theorem wbf_doMat_L65 {l : Launch} {b : bP} {As : List Value} {p : Program} {e : Env} {s : State} {m : MethodId} {below : List Frame} {meth : Method} {c : Code} (X : bX p s m (Value.ref b.h :: As).toArray c cX2_doMat 12 b) (hr : meth.sig.returnType = none) (hk : meth.locks = false) {n : Nat} {st : bS} {x1 : Int32} {x2 : Int32} {x3 : Int32} {x4 : Int32} {z65_0 : Int32} {q : bS × Unit} (hE : bf_doMat_L65 n st x1 x2 x3 x4 z65_0 = some q) {H : Heap} {locs : List Loc} {ls : Array Slot} (Y : bY b s st H locs) (hl : lv_has ls 12 [(0, .ref b.h), (1, .int x1), (2, .int x2), (3, .int x3), (4, .int x4)]) : bG l 6 145 b As none q.1 p e s m below meth c H locs (F0 m 65 ls [.int z65_0]) := by
  have hx := X.1
  have hb := X.2.1
  have hown := X.2.2.2.1
  have hts := X.2.2.2.2.1
  unfold bf_doMat_L65 at hE
  refine lv_istore (lv' := [(5, .int z65_0), (0, .ref b.h), (1, .int x1), (2, .int x2), (3, .int x3), (4, .int x4)]) hx hb dX2_doMat_65 hl (by decide) rfl (fun ls hl => ?_)
  refine lv_aload_n hx hb dX2_doMat_67 rfl (lv_at hl 1 rfl) ?_
  refine lv_iload_n hx hb dX2_doMat_68 rfl (lv_at hl 4 rfl) ?_
  refine lv_iload_n hx hb dX2_doMat_69 rfl (lv_at hl 3 rfl) ?_
  refine lv_iload hx hb dX2_doMat_70 (lv_at hl 5 rfl) ?_
  refine lv_iload hx hb dX2_doMat_72 (lv_at hl 0 rfl) ?_
  obtain ⟨q_1, g, hE⟩ := e_bind hE
  refine n_call1 (n := 4) [.int x3, .int x2, .int x4, .int z65_0] X Y (mbf_matFits l n b X.2.2.2.2.2.2 g) q2262 q2264 qs118 q2265 (by decide +kernel) (by decide) rfl hl.1 (Nat.le_of_ble_eq_true rfl) dX2_doMat_74 (by decide) (fun H locs Y => ?_)
  refine lv_if_ne (tgt := 87) hx hb dX2_doMat_77 (by decide) (fun c_2 => ?_) (fun c_2 => ?_)
  · replace hE := e_f c_2 hE
    refine lv_iload_n hx hb dX2_doMat_87 rfl (lv_at hl 4 rfl) ?_
    refine lv_iconst (v := 4) hx hb dX2_doMat_88 (by decide) ?_
    refine lv_icmp_ne (tgt := 107) hx hb dX2_doMat_89 (by decide) (fun c_3 => ?_) (fun c_3 => ?_)
    · replace hE := e_f c_3 hE
      refine lv_dconst1 hx hb dX2_doMat_107 ?_
      exact wbf_doMat_L108 X hr hk hE Y (lv_sub hl [1, 3, 4, 5, 0] rfl)
    · replace hE := e_t c_3 hE
      refine lv_aload_n hx hb dX2_doMat_92 rfl (lv_at hl 1 rfl) ?_
      refine lv_aload_n hx hb dX2_doMat_93 rfl (lv_at hl 1 rfl) ?_
      refine b_geta X Y 13 (by decide) (by decide) q1816 dX2_doMat_94 ?_
      refine lv_iload_n hx hb dX2_doMat_97 rfl (lv_at hl 2 rfl) ?_
      refine lv_iconst (v := 4) hx hb dX2_doMat_98 (by decide) ?_
      refine lv_imul hx hb dX2_doMat_99 ?_
      obtain ⟨v_4, g, hE⟩ := e_bind hE
      refine n_iald X Y 5 13 rfl rfl g dX2_doMat_100 ?_
      obtain ⟨q_5, g, hE⟩ := e_bind hE
      refine n_call1 (n := 1) [.int v_4] X Y (mbf_work l n b X.2.2.2.2.2.2 g) q2177 q2179 qs98 q2180 (by decide +kernel) (by decide) rfl hl.1 (Nat.le_of_ble_eq_true rfl) dX2_doMat_101 (by decide) (fun H locs Y => ?_)
      refine lv_goto (tgt := 108) hx hb dX2_doMat_104 (by decide) ?_
      exact wbf_doMat_L108 X hr hk hE Y (lv_sub hl [1, 3, 4, 5, 0] rfl)
  · replace hE := e_t c_2 hE
    refine lv_aload_n hx hb dX2_doMat_80 rfl (lv_at hl 1 rfl) ?_
    refine lv_bipush (v := 6) hx hb dX2_doMat_81 (by decide) ?_
    obtain ⟨st_6, g, hE⟩ := e_bind hE
    refine n_put X Y 27 rfl (by decide) g rfl rfl rfl q1830 dX2_doMat_83 (fun H locs Y => ?_)
    cases hE
    exact b_vret X Y hr hk dX2_doMat_86
set_option maxHeartbeats 4000000 in
set_option maxRecDepth 100000 in
theorem wbf_doMat_L42 {l : Launch} {b : bP} {As : List Value} {p : Program} {e : Env} {s : State} {m : MethodId} {below : List Frame} {meth : Method} {c : Code} (X : bX p s m (Value.ref b.h :: As).toArray c cX2_doMat 12 b) (hr : meth.sig.returnType = none) (hk : meth.locks = false) {n : Nat} {st : bS} {x1 : Int32} {x2 : Int32} {x3 : Int32} {z42_0 : Int32} {q : bS × Unit} (hE : bf_doMat_L42 n st x1 x2 x3 z42_0 = some q) {H : Heap} {locs : List Loc} {ls : Array Slot} (Y : bY b s st H locs) (hl : lv_has ls 12 [(0, .ref b.h), (1, .int x1), (2, .int x2), (3, .int x3)]) : bG l 6 145 b As none q.1 p e s m below meth c H locs (F0 m 42 ls [.int z42_0]) := by
  have hx := X.1
  have hb := X.2.1
  have hown := X.2.2.2.1
  have hts := X.2.2.2.2.1
  unfold bf_doMat_L42 at hE
  refine lv_istore (lv' := [(4, .int z42_0), (0, .ref b.h), (1, .int x1), (2, .int x2), (3, .int x3)]) hx hb dX2_doMat_42 hl (by decide) rfl (fun ls hl => ?_)
  refine lv_iload_n hx hb dX2_doMat_44 rfl (lv_at hl 4 rfl) ?_
  refine lv_iconst (v := 5) hx hb dX2_doMat_45 (by decide) ?_
  refine lv_icmp_le (tgt := 63) hx hb dX2_doMat_46 (by decide) (fun c_1 => ?_) (fun c_1 => ?_)
  · replace hE := e_t c_1 hE
    refine lv_iload hx hb dX2_doMat_63 (lv_at hl 0 rfl) ?_
    exact wbf_doMat_L65 X hr hk hE Y (lv_sub hl [1, 2, 3, 4, 0] rfl)
  · replace hE := e_f c_1 hE
    refine lv_aload_n hx hb dX2_doMat_49 rfl (lv_at hl 1 rfl) ?_
    refine b_geta X Y 12 (by decide) (by decide) q1815 dX2_doMat_50 ?_
    refine lv_iload_n hx hb dX2_doMat_53 rfl (lv_at hl 2 rfl) ?_
    refine lv_bipush (v := 8) hx hb dX2_doMat_54 (by decide) ?_
    refine lv_imul hx hb dX2_doMat_56 ?_
    refine lv_iconst (v := 3) hx hb dX2_doMat_57 (by decide) ?_
    refine lv_iadd hx hb dX2_doMat_58 ?_
    obtain ⟨v_2, g, hE⟩ := e_bind hE
    refine n_iald X Y 4 12 rfl rfl g dX2_doMat_59 ?_
    refine lv_goto (tgt := 65) hx hb dX2_doMat_60 (by decide) ?_
    exact wbf_doMat_L65 X hr hk hE Y (lv_sub hl [1, 2, 3, 4, 0] rfl)
set_option maxHeartbeats 4000000 in
set_option maxRecDepth 100000 in
theorem mbf_doMat (l : Launch) (n : Nat) (b : bP) (ok : bOk b) {st : bS} {a1 : Int32} {q : bS × Unit} (hE : bf_doMat n st a1 = some q) : bMet l yX2_doMat cX2_doMat 12 none 6 145 b [.int a1] st none q.1 := by
  refine b_ofW (by decide) rfl ok (Nat.le_of_ble_eq_true rfl) (fun p e s m below meth c ls X Y hr hk hl => ?_)
  have hl : lv_has ls 12 [(0, .ref b.h), (1, .int a1)] := hl
  generalize s.heap = H at Y ⊢
  generalize ([] : List Loc) = locs at Y ⊢
  have hx := X.1
  have hb := X.2.1
  have hown := X.2.2.2.1
  have hts := X.2.2.2.2.1
  unfold bf_doMat at hE
  refine lv_aload_n hx hb dX2_doMat_0 rfl (lv_at hl 0 rfl) ?_
  refine b_geta X Y 12 (by decide) (by decide) q1815 dX2_doMat_1 ?_
  refine lv_iload_n hx hb dX2_doMat_4 rfl (lv_at hl 1 rfl) ?_
  refine lv_bipush (v := 8) hx hb dX2_doMat_5 (by decide) ?_
  refine lv_imul hx hb dX2_doMat_7 ?_
  obtain ⟨v_1, g, hE⟩ := e_bind hE
  refine n_iald X Y 4 12 rfl rfl g dX2_doMat_8 ?_
  refine lv_istore_n (lv' := [(2, .int v_1), (0, .ref b.h), (1, .int a1)]) hx hb dX2_doMat_9 rfl hl (by decide) rfl (fun ls hl => ?_)
  refine lv_aload_n hx hb dX2_doMat_10 rfl (lv_at hl 1 rfl) ?_
  refine b_geta X Y 12 (by decide) (by decide) q1815 dX2_doMat_11 ?_
  refine lv_iload_n hx hb dX2_doMat_14 rfl (lv_at hl 2 rfl) ?_
  refine lv_bipush (v := 8) hx hb dX2_doMat_15 (by decide) ?_
  refine lv_imul hx hb dX2_doMat_17 ?_
  refine lv_iconst (v := 1) hx hb dX2_doMat_18 (by decide) ?_
  refine lv_iadd hx hb dX2_doMat_19 ?_
  obtain ⟨v_2, g, hE⟩ := e_bind hE
  refine n_iald X Y 4 12 rfl rfl g dX2_doMat_20 ?_
  refine lv_istore_n (lv' := [(3, .int v_2), (2, .int v_1), (0, .ref b.h), (1, .int a1)]) hx hb dX2_doMat_21 rfl hl (by decide) rfl (fun ls hl => ?_)
  refine lv_iload_n hx hb dX2_doMat_22 rfl (lv_at hl 0 rfl) ?_
  refine lv_iconst (v := 3) hx hb dX2_doMat_23 (by decide) ?_
  refine lv_icmp_ge (tgt := 31) hx hb dX2_doMat_24 (by decide) (fun c_3 => ?_) (fun c_3 => ?_)
  · replace hE := e_t c_3 hE
    refine lv_aload_n hx hb dX2_doMat_31 rfl (lv_at hl 2 rfl) ?_
    refine b_geta X Y 12 (by decide) (by decide) q1815 dX2_doMat_32 ?_
    refine lv_iload_n hx hb dX2_doMat_35 rfl (lv_at hl 3 rfl) ?_
    refine lv_bipush (v := 8) hx hb dX2_doMat_36 (by decide) ?_
    refine lv_imul hx hb dX2_doMat_38 ?_
    refine lv_iconst (v := 2) hx hb dX2_doMat_39 (by decide) ?_
    refine lv_iadd hx hb dX2_doMat_40 ?_
    obtain ⟨v_4, g, hE⟩ := e_bind hE
    refine n_iald X Y 4 12 rfl rfl g dX2_doMat_41 ?_
    exact wbf_doMat_L42 X hr hk hE Y (lv_sub hl [2, 3, 1, 0] rfl)
  · replace hE := e_f c_3 hE
    refine lv_iload_n hx hb dX2_doMat_27 rfl (lv_at hl 1 rfl) ?_
    refine lv_goto (tgt := 42) hx hb dX2_doMat_28 (by decide) ?_
    exact wbf_doMat_L42 X hr hk hE Y (lv_sub hl [2, 3, 1, 0] rfl)
/-! BasicMachineModel.dimension(III)V -/
set_option maxHeartbeats 4000000 in
set_option maxRecDepth 100000 in
theorem wbf_dimension_S20_ {l : Launch} {b : bP} {As : List Value} {p : Program} {e : Env} {s : State} {m : MethodId} {below : List Frame} {meth : Method} {c : Code} (X : bX p s m (Value.ref b.h :: As).toArray c cX2_dimension 5 b) (hr : meth.sig.returnType = none) (hk : meth.locks = false) (n : Nat) {q : bS × Unit} : ∀ k : Nat, (∀ {st : bS} {x1 : Int32} {x4 : Int32}, bf_dimension_S20 n k st x1 x4 = some q → ∀ {H : Heap} {locs : List Loc} {ls : Array Slot}, bY b s st H locs → lv_has ls 5 [(0, .ref b.h), (1, .int x1), (4, .int x4)] → bG l 0 0 b As none q.1 p e s m below meth c H locs (F0 m 20 ls [])) := by
  have hx := X.1
  have hb := X.2.1
  have hown := X.2.2.2.1
  have hts := X.2.2.2.2.1
  intro k
  induction k with
  | zero => exact fun h => nomatch (show none = some q from h)
  | succ k ih =>
    intro st x1 x4 hE H locs ls Y hl
    replace hE : bf_dimension_B20 n (bf_dimension_S20 n k) st x1 x4 = some q := hE
    unfold bf_dimension_B20 at hE
    refine lv_iload hx hb dX2_dimension_20 (lv_at hl 2 rfl) ?_
    refine lv_iload_n hx hb dX2_dimension_22 rfl (lv_at hl 1 rfl) ?_
    refine lv_bipush (v := 36) hx hb dX2_dimension_23 (by decide) ?_
    refine lv_imul hx hb dX2_dimension_25 ?_
    refine lv_bipush (v := 36) hx hb dX2_dimension_26 (by decide) ?_
    refine lv_iadd hx hb dX2_dimension_28 ?_
    refine lv_icmp_ge (tgt := 46) hx hb dX2_dimension_29 (by decide) (fun c_1 => ?_) (fun c_1 => ?_)
    · replace hE := e_t c_1 hE
      cases hE
      exact b_vret X Y hr hk dX2_dimension_46
    · replace hE := e_f c_1 hE
      refine lv_aload_n hx hb dX2_dimension_32 rfl (lv_at hl 0 rfl) ?_
      refine b_geta X Y 35 (by decide) (by decide) q1838 dX2_dimension_33 ?_
      refine lv_iload hx hb dX2_dimension_36 (lv_at hl 2 rfl) ?_
      refine lv_dconst0 hx hb dX2_dimension_38 ?_
      obtain ⟨st_2, g, hE⟩ := e_bind hE
      refine n_dast X Y 15 35 rfl rfl g dX2_dimension_39 (fun H locs Y => ?_)
      refine lv_iinc (v := (x4 + (1 : Int32))) (lv' := [(4, .int (x4 + (1 : Int32))), (0, .ref b.h), (1, .int x1)]) hx hb dX2_dimension_40 hl (k := 2) rfl rfl (by decide) rfl (fun ls hl => ?_)
      refine lv_goto (tgt := 20) hx hb dX2_dimension_43 (by decide) ?_
      exact ih hE Y (lv_sub hl [1, 2, 0] rfl)
set_option maxHeartbeats 4000000 in
set_option maxRecDepth 100000 in
theorem wbf_dimension_S20 {l : Launch} {b : bP} {As : List Value} {p : Program} {e : Env} {s : State} {m : MethodId} {below : List Frame} {meth : Method} {c : Code} (X : bX p s m (Value.ref b.h :: As).toArray c cX2_dimension 5 b) (hr : meth.sig.returnType = none) (hk : meth.locks = false) (n : Nat) {q : bS × Unit} : (∀ {st : bS} {x1 : Int32} {x4 : Int32}, bf_dimension_S20 n n st x1 x4 = some q → ∀ {H : Heap} {locs : List Loc} {ls : Array Slot}, bY b s st H locs → lv_has ls 5 [(0, .ref b.h), (1, .int x1), (4, .int x4)] → bG l 0 0 b As none q.1 p e s m below meth c H locs (F0 m 20 ls [])) := wbf_dimension_S20_ X hr hk n n
set_option maxHeartbeats 4000000 in
set_option maxRecDepth 100000 in
theorem mbf_dimension (l : Launch) (n : Nat) (b : bP) (ok : bOk b) {st : bS} {a1 : Int32} {a2 : Int32} {a3 : Int32} {q : bS × Unit} (hE : bf_dimension n st a1 a2 a3 = some q) : bMet l yX2_dimension cX2_dimension 5 none 0 0 b [.int a1, .int a2, .int a3] st none q.1 := by
  refine b_ofW (by decide) rfl ok (Nat.le_of_ble_eq_true rfl) (fun p e s m below meth c ls X Y hr hk hl => ?_)
  have hl : lv_has ls 5 [(0, .ref b.h), (1, .int a1), (2, .int a2), (3, .int a3)] := hl
  generalize s.heap = H at Y ⊢
  generalize ([] : List Loc) = locs at Y ⊢
  have hx := X.1
  have hb := X.2.1
  have hown := X.2.2.2.1
  have hts := X.2.2.2.2.1
  unfold bf_dimension at hE
  refine lv_aload_n hx hb dX2_dimension_0 rfl (lv_at hl 0 rfl) ?_
  refine b_geta X Y 38 (by decide) (by decide) q1841 dX2_dimension_1 ?_
  refine lv_iload_n hx hb dX2_dimension_4 rfl (lv_at hl 1 rfl) ?_
  refine lv_iload_n hx hb dX2_dimension_5 rfl (lv_at hl 2 rfl) ?_
  obtain ⟨st_1, g, hE⟩ := e_bind hE
  refine n_iast X Y 18 38 rfl rfl g dX2_dimension_6 (fun H locs Y => ?_)
  refine lv_aload_n hx hb dX2_dimension_7 rfl (lv_at hl 0 rfl) ?_
  refine b_geta X Y 39 (by decide) (by decide) q1842 dX2_dimension_8 ?_
  refine lv_iload_n hx hb dX2_dimension_11 rfl (lv_at hl 1 rfl) ?_
  refine lv_iload_n hx hb dX2_dimension_12 rfl (lv_at hl 3 rfl) ?_
  obtain ⟨st_2, g, hE⟩ := e_bind hE
  refine n_iast X Y 19 39 rfl rfl g dX2_dimension_13 (fun H locs Y => ?_)
  refine lv_iload_n hx hb dX2_dimension_14 rfl (lv_at hl 1 rfl) ?_
  refine lv_bipush (v := 36) hx hb dX2_dimension_15 (by decide) ?_
  refine lv_imul hx hb dX2_dimension_17 ?_
  obtain ⟨x4_3, g, hE⟩ := e_bind hE
  refine n_topi g ?_
  refine lv_istore (lv' := [(4, .int x4_3), (0, .ref b.h), (1, .int a1), (2, .int a2), (3, .int a3)]) hx hb dX2_dimension_18 hl (by decide) rfl (fun ls hl => ?_)
  exact (wbf_dimension_S20 X hr hk n) hE Y (lv_sub hl [1, 2, 0] rfl)
/-! BasicMachineModel.step(I)I -/
set_option maxHeartbeats 4000000 in
set_option maxRecDepth 100000 in
theorem wbf_step_L377 {l : Launch} {b : bP} {As : List Value} {p : Program} {e : Env} {s : State} {m : MethodId} {below : List Frame} {meth : Method} {c : Code} (X : bX p s m (Value.ref b.h :: As).toArray c cX2_step 9 b) (hr : meth.sig.returnType = (some .int)) (hk : meth.locks = false) {n : Nat} {st : bS} {x2 : Int32} {x4 : Int32} {q : bS × Int32} (hE : bf_step_L377 n st x2 x4 = some q) {H : Heap} {locs : List Loc} {ls : Array Slot} (Y : bY b s st H locs) (hl : lv_has ls 9 [(0, .ref b.h), (2, .int x2), (4, .int x4)]) : bG l 7 176 b As (some (.int q.2)) q.1 p e s m below meth c H locs (F0 m 377 ls []) := by
  have hx := X.1
  have hb := X.2.1
  have hown := X.2.2.2.1
  have hts := X.2.2.2.2.1
  unfold bf_step_L377 at hE
  refine lv_iload_n hx hb dX2_step_377 rfl (lv_at hl 1 rfl) ?_
  refine lv_bipush (v := 16) hx hb dX2_step_378 (by decide) ?_
  refine lv_icmp_ne (tgt := 387) hx hb dX2_step_380 (by decide) (fun c_1 => ?_) (fun c_1 => ?_)
  · replace hE := e_f c_1 hE
    refine lv_iload hx hb dX2_step_387 (lv_at hl 2 rfl) ?_
    cases hE
    exact b_iret X Y hr hk dX2_step_389
  · replace hE := e_t c_1 hE
    refine lv_iconst (v := -1) hx hb dX2_step_383 (by decide) ?_
    refine lv_goto (tgt := 389) hx hb dX2_step_384 (by decide) ?_
    cases hE
    exact b_iret X Y hr hk dX2_step_389
set_option maxHeartbeats 4000000 in
set_option maxRecDepth 100000 in
theorem wbf_step_L366 {l : Launch} {b : bP} {As : List Value} {p : Program} {e : Env} {s : State} {m : MethodId} {below : List Frame} {meth : Method} {c : Code} (X : bX p s m (Value.ref b.h :: As).toArray c cX2_step 9 b) (hr : meth.sig.returnType = (some .int)) (hk : meth.locks = false) {n : Nat} {st : bS} {x1 : Int32} {x2 : Int32} {x4 : Int32} {q : bS × Int32} (hE : bf_step_L366 n st x1 x2 x4 = some q) {H : Heap} {locs : List Loc} {ls : Array Slot} (Y : bY b s st H locs) (hl : lv_has ls 9 [(0, .ref b.h), (1, .int x1), (2, .int x2), (4, .int x4)]) : bG l 7 176 b As (some (.int q.2)) q.1 p e s m below meth c H locs (F0 m 366 ls []) := by
  have hx := X.1
  have hb := X.2.1
  have hown := X.2.2.2.1
  have hts := X.2.2.2.2.1
  unfold bf_step_L366 at hE
  refine lv_iload_n hx hb dX2_step_366 rfl (lv_at hl 2 rfl) ?_
  refine lv_bipush (v := 14) hx hb dX2_step_367 (by decide) ?_
  refine lv_icmp_ne (tgt := 377) hx hb dX2_step_369 (by decide) (fun c_1 => ?_) (fun c_1 => ?_)
  · replace hE := e_f c_1 hE
    exact wbf_step_L377 X hr hk hE Y (lv_sub hl [0, 2, 3] rfl)
  · replace hE := e_t c_1 hE
    refine lv_aload_n hx hb dX2_step_372 rfl (lv_at hl 0 rfl) ?_
    refine lv_iload_n hx hb dX2_step_373 rfl (lv_at hl 1 rfl) ?_
    obtain ⟨q_2, g, hE⟩ := e_bind hE
    refine n_call0 (n := 1) [.int x1] X Y (mbf_doMat l n b X.2.2.2.2.2.2 g) q2258 q2260 qs117 q2261 (by decide +kernel) (by decide) rfl hl.1 (Nat.le_of_ble_eq_true rfl) dX2_step_374 (by decide) (fun H locs Y => ?_)
    exact wbf_step_L377 X hr hk hE Y (lv_sub hl [0, 2, 3] rfl)
set_option maxHeartbeats 4000000 in
set_option maxRecDepth 100000 in
theorem wbf_step_L353 {l : Launch} {b : bP} {As : List Value} {p : Program} {e : Env} {s : State} {m : MethodId} {below : List Frame} {meth : Method} {c : Code} (X : bX p s m (Value.ref b.h :: As).toArray c cX2_step 9 b) (hr : meth.sig.returnType = (some .int)) (hk : meth.locks = false) {n : Nat} {st : bS} {x1 : Int32} {x2 : Int32} {x3 : Int32} {x4 : Int32} {q : bS × Int32} (hE : bf_step_L353 n st x1 x2 x3 x4 = some q) {H : Heap} {locs : List Loc} {ls : Array Slot} (Y : bY b s st H locs) (hl : lv_has ls 9 [(0, .ref b.h), (1, .int x1), (2, .int x2), (3, .int x3), (4, .int x4)]) : bG l 7 176 b As (some (.int q.2)) q.1 p e s m below meth c H locs (F0 m 353 ls []) := by
  have hx := X.1
  have hb := X.2.1
  have hown := X.2.2.2.1
  have hts := X.2.2.2.2.1
  unfold bf_step_L353 at hE
  refine lv_iload_n hx hb dX2_step_353 rfl (lv_at hl 2 rfl) ?_
  refine lv_bipush (v := 13) hx hb dX2_step_354 (by decide) ?_
  refine lv_icmp_ne (tgt := 366) hx hb dX2_step_356 (by decide) (fun c_1 => ?_) (fun c_1 => ?_)
  · replace hE := e_f c_1 hE
    exact wbf_step_L366 X hr hk hE Y (lv_sub hl [0, 1, 2, 4] rfl)
  · replace hE := e_t c_1 hE
    refine lv_aload_n hx hb dX2_step_359 rfl (lv_at hl 0 rfl) ?_
    refine b_geta X Y 37 (by decide) (by decide) q1840 dX2_step_360 ?_
    refine lv_iload_n hx hb dX2_step_363 rfl (lv_at hl 3 rfl) ?_
    refine lv_iload_n hx hb dX2_step_364 rfl (lv_at hl 1 rfl) ?_
    obtain ⟨st_2, g, hE⟩ := e_bind hE
    refine n_iast X Y 17 37 rfl rfl g dX2_step_365 (fun H locs Y => ?_)
    exact wbf_step_L366 X hr hk hE Y (lv_sub hl [0, 1, 2, 4] rfl)
set_option maxHeartbeats 4000000 in
set_option maxRecDepth 100000 in
theorem wbf_step_L320 {l : Launch} {b : bP} {As : List Value} {p : Program} {e : Env} {s : State} {m : MethodId} {below : List Frame} {meth : Method} {c : Code} (X : bX p s m (Value.ref b.h :: As).toArray c cX2_step 9 b) (hr : meth.sig.returnType = (some .int)) (hk : meth.locks = false) {n : Nat} {st : bS} {x1 : Int32} {x2 : Int32} {x3 : Int32} {x4 : Int32} {q : bS × Int32} (hE : bf_step_L320 n st x1 x2 x3 x4 = some q) {H : Heap} {locs : List Loc} {ls : Array Slot} (Y : bY b s st H locs) (hl : lv_has ls 9 [(0, .ref b.h), (1, .int x1), (2, .int x2), (3, .int x3), (4, .int x4)]) : bG l 7 176 b As (some (.int q.2)) q.1 p e s m below meth c H locs (F0 m 320 ls []) := by
  have hx := X.1
  have hb := X.2.1
  have hown := X.2.2.2.1
  have hts := X.2.2.2.2.1
  unfold bf_step_L320 at hE
  refine lv_iload_n hx hb dX2_step_320 rfl (lv_at hl 2 rfl) ?_
  refine lv_bipush (v := 12) hx hb dX2_step_321 (by decide) ?_
  refine lv_icmp_ne (tgt := 353) hx hb dX2_step_323 (by decide) (fun c_1 => ?_) (fun c_1 => ?_)
  · replace hE := e_f c_1 hE
    exact wbf_step_L353 X hr hk hE Y (lv_sub hl [0, 1, 2, 3, 4] rfl)
  · replace hE := e_t c_1 hE
    refine lv_aload_n hx hb dX2_step_326 rfl (lv_at hl 0 rfl) ?_
    refine lv_iload_n hx hb dX2_step_327 rfl (lv_at hl 3 rfl) ?_
    refine lv_aload_n hx hb dX2_step_328 rfl (lv_at hl 0 rfl) ?_
    refine b_geta X Y 12 (by decide) (by decide) q1815 dX2_step_329 ?_
    refine lv_iload_n hx hb dX2_step_332 rfl (lv_at hl 1 rfl) ?_
    refine lv_bipush (v := 8) hx hb dX2_step_333 (by decide) ?_
    refine lv_imul hx hb dX2_step_335 ?_
    refine lv_iconst (v := 1) hx hb dX2_step_336 (by decide) ?_
    refine lv_iadd hx hb dX2_step_337 ?_
    obtain ⟨v_2, g, hE⟩ := e_bind hE
    refine n_iald X Y 4 12 rfl rfl g dX2_step_338 ?_
    refine lv_aload_n hx hb dX2_step_339 rfl (lv_at hl 0 rfl) ?_
    refine b_geta X Y 12 (by decide) (by decide) q1815 dX2_step_340 ?_
    refine lv_iload_n hx hb dX2_step_343 rfl (lv_at hl 1 rfl) ?_
    refine lv_bipush (v := 8) hx hb dX2_step_344 (by decide) ?_
    refine lv_imul hx hb dX2_step_346 ?_
    refine lv_iconst (v := 2) hx hb dX2_step_347 (by decide) ?_
    refine lv_iadd hx hb dX2_step_348 ?_
    obtain ⟨v_3, g, hE⟩ := e_bind hE
    refine n_iald X Y 4 12 rfl rfl g dX2_step_349 ?_
    obtain ⟨q_4, g, hE⟩ := e_bind hE
    refine n_call0 (n := 3) [.int x3, .int v_2, .int v_3] X Y (mbf_dimension l n b X.2.2.2.2.2.2 g) q2152 q2154 qs92 q2155 (by decide +kernel) (by decide) rfl hl.1 (Nat.le_of_ble_eq_true rfl) dX2_step_350 (by decide) (fun H locs Y => ?_)
    exact wbf_step_L353 X hr hk hE Y (lv_sub hl [0, 1, 2, 3, 4] rfl)
set_option maxHeartbeats 4000000 in
set_option maxRecDepth 100000 in
theorem wbf_step_L281 {l : Launch} {b : bP} {As : List Value} {p : Program} {e : Env} {s : State} {m : MethodId} {below : List Frame} {meth : Method} {c : Code} (X : bX p s m (Value.ref b.h :: As).toArray c cX2_step 9 b) (hr : meth.sig.returnType = (some .int)) (hk : meth.locks = false) {n : Nat} {st : bS} {x1 : Int32} {x2 : Int32} {x3 : Int32} {x4 : Int32} {q : bS × Int32} (hE : bf_step_L281 n st x1 x2 x3 x4 = some q) {H : Heap} {locs : List Loc} {ls : Array Slot} (Y : bY b s st H locs) (hl : lv_has ls 9 [(0, .ref b.h), (1, .int x1), (2, .int x2), (3, .int x3), (4, .int x4)]) : bG l 7 176 b As (some (.int q.2)) q.1 p e s m below meth c H locs (F0 m 281 ls []) := by
  have hx := X.1
  have hb := X.2.1
  have hown := X.2.2.2.1
  have hts := X.2.2.2.2.1
  unfold bf_step_L281 at hE
  refine lv_iload_n hx hb dX2_step_281 rfl (lv_at hl 2 rfl) ?_
  refine lv_bipush (v := 7) hx hb dX2_step_282 (by decide) ?_
  refine lv_icmp_ne (tgt := 295) hx hb dX2_step_284 (by decide) (fun c_1 => ?_) (fun c_1 => ?_)
  · replace hE := e_f c_1 hE
    refine lv_iload_n hx hb dX2_step_295 rfl (lv_at hl 2 rfl) ?_
    refine lv_bipush (v := 8) hx hb dX2_step_296 (by decide) ?_
    refine lv_icmp_ne (tgt := 309) hx hb dX2_step_298 (by decide) (fun c_2 => ?_) (fun c_2 => ?_)
    · replace hE := e_f c_2 hE
      refine lv_iload_n hx hb dX2_step_309 rfl (lv_at hl 2 rfl) ?_
      refine lv_bipush (v := 11) hx hb dX2_step_310 (by decide) ?_
      refine lv_icmp_ne (tgt := 320) hx hb dX2_step_312 (by decide) (fun c_3 => ?_) (fun c_3 => ?_)
      · replace hE := e_f c_3 hE
        exact wbf_step_L320 X hr hk hE Y (lv_sub hl [0, 1, 2, 3, 4] rfl)
      · replace hE := e_t c_3 hE
        refine lv_aload_n hx hb dX2_step_315 rfl (lv_at hl 0 rfl) ?_
        refine lv_iconst (v := 0) hx hb dX2_step_316 (by decide) ?_
        obtain ⟨st_4, g, hE⟩ := e_bind hE
        refine n_put X Y 19 rfl (by decide) g rfl rfl rfl q1822 dX2_step_317 (fun H locs Y => ?_)
        exact wbf_step_L320 X hr hk hE Y (lv_sub hl [0, 1, 2, 3, 4] rfl)
    · replace hE := e_t c_2 hE
      refine lv_aload_n hx hb dX2_step_301 rfl (lv_at hl 0 rfl) ?_
      refine lv_iload_n hx hb dX2_step_302 rfl (lv_at hl 1 rfl) ?_
      refine lv_iload hx hb dX2_step_303 (lv_at hl 4 rfl) ?_
      obtain ⟨q_5, g, hE⟩ := e_bind hE
      refine n_call1 (n := 2) [.int x1, .int x4] X Y (mbf_doNext l n b X.2.2.2.2.2.2 g) q2254 q2256 qs116 q2257 (by decide +kernel) (by decide) rfl hl.1 (Nat.le_of_ble_eq_true rfl) dX2_step_305 (by decide) (fun H locs Y => ?_)
      cases hE
      exact b_iret X Y hr hk dX2_step_308
  · replace hE := e_t c_1 hE
    refine lv_aload_n hx hb dX2_step_287 rfl (lv_at hl 0 rfl) ?_
    refine lv_iload_n hx hb dX2_step_288 rfl (lv_at hl 1 rfl) ?_
    refine lv_iload hx hb dX2_step_289 (lv_at hl 4 rfl) ?_
    obtain ⟨q_6, g, hE⟩ := e_bind hE
    refine n_call1 (n := 2) [.int x1, .int x4] X Y (mbf_doFor l n b X.2.2.2.2.2.2 g) q2242 q2244 qs113 q2245 (by decide +kernel) (by decide) rfl hl.1 (Nat.le_of_ble_eq_true rfl) dX2_step_291 (by decide) (fun H locs Y => ?_)
    cases hE
    exact b_iret X Y hr hk dX2_step_294
set_option maxHeartbeats 4000000 in
set_option maxRecDepth 100000 in
theorem wbf_step_L255 {l : Launch} {b : bP} {As : List Value} {p : Program} {e : Env} {s : State} {m : MethodId} {below : List Frame} {meth : Method} {c : Code} (X : bX p s m (Value.ref b.h :: As).toArray c cX2_step 9 b) (hr : meth.sig.returnType = (some .int)) (hk : meth.locks = false) {n : Nat} {st : bS} {x1 : Int32} {x2 : Int32} {x3 : Int32} {x4 : Int32} {q : bS × Int32} (hE : bf_step_L255 n st x1 x2 x3 x4 = some q) {H : Heap} {locs : List Loc} {ls : Array Slot} (Y : bY b s st H locs) (hl : lv_has ls 9 [(0, .ref b.h), (1, .int x1), (2, .int x2), (3, .int x3), (4, .int x4)]) : bG l 7 176 b As (some (.int q.2)) q.1 p e s m below meth c H locs (F0 m 255 ls []) := by
  have hx := X.1
  have hb := X.2.1
  have hown := X.2.2.2.1
  have hts := X.2.2.2.2.1
  unfold bf_step_L255 at hE
  refine lv_iload_n hx hb dX2_step_255 rfl (lv_at hl 2 rfl) ?_
  refine lv_bipush (v := 6) hx hb dX2_step_256 (by decide) ?_
  refine lv_icmp_ne (tgt := 281) hx hb dX2_step_258 (by decide) (fun c_1 => ?_) (fun c_1 => ?_)
  · replace hE := e_f c_1 hE
    exact wbf_step_L281 X hr hk hE Y (lv_sub hl [0, 1, 2, 3, 4] rfl)
  · replace hE := e_t c_1 hE
    refine lv_aload_n hx hb dX2_step_261 rfl (lv_at hl 0 rfl) ?_
    refine lv_dup hx hb dX2_step_262 rfl ?_
    refine b_geti X Y 22 rfl (by decide) rfl q1825 dX2_step_263 ?_
    refine lv_iconst (v := 1) hx hb dX2_step_266 (by decide) ?_
    refine lv_isub hx hb dX2_step_267 ?_
    obtain ⟨st_2, g, hE⟩ := e_bind hE
    refine n_put X Y 22 rfl (by decide) g rfl rfl rfl q1825 dX2_step_268 (fun H locs Y => ?_)
    refine lv_aload_n hx hb dX2_step_271 rfl (lv_at hl 0 rfl) ?_
    refine b_geta X Y 40 (by decide) (by decide) q1843 dX2_step_272 ?_
    refine lv_aload_n hx hb dX2_step_275 rfl (lv_at hl 0 rfl) ?_
    refine b_geti X Y 22 rfl (by decide) rfl q1825 dX2_step_276 ?_
    obtain ⟨v_3, g, hE⟩ := e_bind hE
    refine n_iald X Y 20 40 rfl rfl g dX2_step_279 ?_
    cases hE
    exact b_iret X Y hr hk dX2_step_280
set_option maxHeartbeats 4000000 in
set_option maxRecDepth 100000 in
theorem wbf_step_L199 {l : Launch} {b : bP} {As : List Value} {p : Program} {e : Env} {s : State} {m : MethodId} {below : List Frame} {meth : Method} {c : Code} (X : bX p s m (Value.ref b.h :: As).toArray c cX2_step 9 b) (hr : meth.sig.returnType = (some .int)) (hk : meth.locks = false) {n : Nat} {st : bS} {x1 : Int32} {x2 : Int32} {x3 : Int32} {x4 : Int32} {q : bS × Int32} (hE : bf_step_L199 n st x1 x2 x3 x4 = some q) {H : Heap} {locs : List Loc} {ls : Array Slot} (Y : bY b s st H locs) (hl : lv_has ls 9 [(0, .ref b.h), (1, .int x1), (2, .int x2), (3, .int x3), (4, .int x4)]) : bG l 7 176 b As (some (.int q.2)) q.1 p e s m below meth c H locs (F0 m 199 ls []) := by
  have hx := X.1
  have hb := X.2.1
  have hown := X.2.2.2.1
  have hts := X.2.2.2.2.1
  unfold bf_step_L199 at hE
  refine lv_iload_n hx hb dX2_step_199 rfl (lv_at hl 2 rfl) ?_
  refine lv_iconst (v := 3) hx hb dX2_step_200 (by decide) ?_
  refine lv_icmp_ne (tgt := 210) hx hb dX2_step_201 (by decide) (fun c_1 => ?_) (fun c_1 => ?_)
  · replace hE := e_f c_1 hE
    refine lv_iload_n hx hb dX2_step_210 rfl (lv_at hl 2 rfl) ?_
    refine lv_iconst (v := 4) hx hb dX2_step_211 (by decide) ?_
    refine lv_icmp_ne (tgt := 221) hx hb dX2_step_212 (by decide) (fun c_2 => ?_) (fun c_2 => ?_)
    · replace hE := e_f c_2 hE
      refine lv_iload_n hx hb dX2_step_221 rfl (lv_at hl 2 rfl) ?_
      refine lv_iconst (v := 5) hx hb dX2_step_222 (by decide) ?_
      refine lv_icmp_ne (tgt := 234) hx hb dX2_step_223 (by decide) (fun c_3 => ?_) (fun c_3 => ?_)
      · replace hE := e_f c_3 hE
        refine lv_iload_n hx hb dX2_step_234 rfl (lv_at hl 2 rfl) ?_
        refine lv_bipush (v := 6) hx hb dX2_step_235 (by decide) ?_
        refine lv_icmp_ne (tgt := 255) hx hb dX2_step_237 (by decide) (fun c_4 => ?_) (fun c_4 => ?_)
        · replace hE := e_f c_4 hE
          exact wbf_step_L255 X hr hk hE Y (lv_sub hl [0, 1, 2, 3, 4] rfl)
        · replace hE := e_t c_4 hE
          refine lv_aload_n hx hb dX2_step_240 rfl (lv_at hl 0 rfl) ?_
          refine b_geti X Y 22 rfl (by decide) rfl q1825 dX2_step_241 ?_
          refine lv_if_ne (tgt := 255) hx hb dX2_step_244 (by decide) (fun c_5 => ?_) (fun c_5 => ?_)
          · replace hE := e_f c_5 hE
            exact wbf_step_L255 X hr hk hE Y (lv_sub hl [0, 1, 2, 3, 4] rfl)
          · replace hE := e_t c_5 hE
            refine lv_aload_n hx hb dX2_step_247 rfl (lv_at hl 0 rfl) ?_
            refine lv_iconst (v := 2) hx hb dX2_step_248 (by decide) ?_
            obtain ⟨st_6, g, hE⟩ := e_bind hE
            refine n_put X Y 27 rfl (by decide) g rfl rfl rfl q1830 dX2_step_249 (fun H locs Y => ?_)
            refine lv_goto (tgt := 281) hx hb dX2_step_252 (by decide) ?_
            exact wbf_step_L281 X hr hk hE Y (lv_sub hl [0, 1, 2, 3, 4] rfl)
      · replace hE := e_t c_3 hE
        refine lv_aload_n hx hb dX2_step_226 rfl (lv_at hl 0 rfl) ?_
        refine lv_iload_n hx hb dX2_step_227 rfl (lv_at hl 1 rfl) ?_
        refine lv_iload hx hb dX2_step_228 (lv_at hl 4 rfl) ?_
        obtain ⟨q_7, g, hE⟩ := e_bind hE
        refine n_call1 (n := 2) [.int x1, .int x4] X Y (mbf_goSub l n b X.2.2.2.2.2.2 g) q2238 q2240 qs112 q2241 (by decide +kernel) (by decide) rfl hl.1 (Nat.le_of_ble_eq_true rfl) dX2_step_230 (by decide) (fun H locs Y => ?_)
        cases hE
        exact b_iret X Y hr hk dX2_step_233
    · replace hE := e_t c_2 hE
      refine lv_aload_n hx hb dX2_step_215 rfl (lv_at hl 0 rfl) ?_
      refine lv_iload_n hx hb dX2_step_216 rfl (lv_at hl 1 rfl) ?_
      obtain ⟨q_8, g, hE⟩ := e_bind hE
      refine n_call1 (n := 1) [.int x1] X Y (mbf_choose l n b X.2.2.2.2.2.2 g) q2234 q2236 qs111 q2237 (by decide +kernel) (by decide) rfl hl.1 (Nat.le_of_ble_eq_true rfl) dX2_step_217 (by decide) (fun H locs Y => ?_)
      cases hE
      exact b_iret X Y hr hk dX2_step_220
  · replace hE := e_t c_1 hE
    refine lv_aload_n hx hb dX2_step_204 rfl (lv_at hl 0 rfl) ?_
    refine lv_iload_n hx hb dX2_step_205 rfl (lv_at hl 3 rfl) ?_
    obtain ⟨q_9, g, hE⟩ := e_bind hE
    refine n_call1 (n := 1) [.int x3] X Y (mbf_goTo l n b X.2.2.2.2.2.2 g) q2230 q2232 qs110 q2233 (by decide +kernel) (by decide) rfl hl.1 (Nat.le_of_ble_eq_true rfl) dX2_step_206 (by decide) (fun H locs Y => ?_)
    cases hE
    exact b_iret X Y hr hk dX2_step_209
set_option maxHeartbeats 4000000 in
set_option maxRecDepth 100000 in
theorem wbf_step_L162 {l : Launch} {b : bP} {As : List Value} {p : Program} {e : Env} {s : State} {m : MethodId} {below : List Frame} {meth : Method} {c : Code} (X : bX p s m (Value.ref b.h :: As).toArray c cX2_step 9 b) (hr : meth.sig.returnType = (some .int)) (hk : meth.locks = false) {n : Nat} {st : bS} {x1 : Int32} {x2 : Int32} {x3 : Int32} {x4 : Int32} {x5 : UInt64} {z162_0 : UInt64} {q : bS × Int32} (hE : bf_step_L162 n st x1 x2 x3 x4 x5 z162_0 = some q) {H : Heap} {locs : List Loc} {ls : Array Slot} (Y : bY b s st H locs) (hl : lv_has ls 9 [(0, .ref b.h), (1, .int x1), (2, .int x2), (3, .int x3), (4, .int x4), (5, .double x5)]) : bG l 7 176 b As (some (.int q.2)) q.1 p e s m below meth c H locs (F0 m 162 ls [.double z162_0]) := by
  have hx := X.1
  have hb := X.2.1
  have hown := X.2.2.2.1
  have hts := X.2.2.2.2.1
  unfold bf_step_L162 at hE
  refine lv_dstore (lv' := [(7, .double z162_0), (0, .ref b.h), (1, .int x1), (2, .int x2), (3, .int x3), (4, .int x4), (5, .double x5)]) hx hb dX2_step_162 hl (by decide) rfl (fun ls hl => ?_)
  refine lv_aload_n hx hb dX2_step_164 rfl (lv_at hl 1 rfl) ?_
  refine b_geti X Y 27 rfl (by decide) rfl q1830 dX2_step_165 ?_
  refine lv_if_ne (tgt := 199) hx hb dX2_step_168 (by decide) (fun c_1 => ?_) (fun c_1 => ?_)
  · replace hE := e_f c_1 hE
    exact wbf_step_L199 X hr hk hE Y (lv_sub hl [1, 2, 3, 4, 5] rfl)
  · replace hE := e_t c_1 hE
    refine lv_aload_n hx hb dX2_step_171 rfl (lv_at hl 1 rfl) ?_
    refine lv_aload_n hx hb dX2_step_172 rfl (lv_at hl 1 rfl) ?_
    refine b_geta X Y 12 (by decide) (by decide) q1815 dX2_step_173 ?_
    refine lv_iload_n hx hb dX2_step_176 rfl (lv_at hl 2 rfl) ?_
    refine lv_bipush (v := 8) hx hb dX2_step_177 (by decide) ?_
    refine lv_imul hx hb dX2_step_179 ?_
    refine lv_iconst (v := 1) hx hb dX2_step_180 (by decide) ?_
    refine lv_iadd hx hb dX2_step_181 ?_
    obtain ⟨v_2, g, hE⟩ := e_bind hE
    refine n_iald X Y 4 12 rfl rfl g dX2_step_182 ?_
    refine lv_dload hx hb dX2_step_183 (lv_at hl 6 rfl) ?_
    refine lv_dload hx hb dX2_step_185 (lv_at hl 0 rfl) ?_
    obtain ⟨q_3, g, hE⟩ := e_bind hE
    refine n_call1 (n := 3) [.int v_2, .double x5, .double z162_0] X Y (mbf_holds l n b X.2.2.2.2.2.2 g) q2226 q2228 qs109 q2229 (by decide +kernel) (by decide) rfl hl.1 (Nat.le_of_ble_eq_true rfl) dX2_step_187 (by decide) (fun H locs Y => ?_)
    refine lv_if_eq (tgt := 199) hx hb dX2_step_190 (by decide) (fun c_4 => ?_) (fun c_4 => ?_)
    · replace hE := e_t c_4 hE
      exact wbf_step_L199 X hr hk hE Y (lv_sub hl [1, 2, 3, 4, 5] rfl)
    · replace hE := e_f c_4 hE
      refine lv_aload_n hx hb dX2_step_193 rfl (lv_at hl 1 rfl) ?_
      refine lv_iload_n hx hb dX2_step_194 rfl (lv_at hl 4 rfl) ?_
      obtain ⟨q_5, g, hE⟩ := e_bind hE
      refine n_call1 (n := 1) [.int x3] X Y (mbf_goTo l n b X.2.2.2.2.2.2 g) q2230 q2232 qs110 q2233 (by decide +kernel) (by decide) rfl hl.1 (Nat.le_of_ble_eq_true rfl) dX2_step_195 (by decide) (fun H locs Y => ?_)
      cases hE
      exact b_iret X Y hr hk dX2_step_198
set_option maxHeartbeats 4000000 in
set_option maxRecDepth 100000 in
theorem wbf_step_L118 {l : Launch} {b : bP} {As : List Value} {p : Program} {e : Env} {s : State} {m : MethodId} {below : List Frame} {meth : Method} {c : Code} (X : bX p s m (Value.ref b.h :: As).toArray c cX2_step 9 b) (hr : meth.sig.returnType = (some .int)) (hk : meth.locks = false) {n : Nat} {st : bS} {x1 : Int32} {x2 : Int32} {x3 : Int32} {x4 : Int32} {q : bS × Int32} (hE : bf_step_L118 n st x1 x2 x3 x4 = some q) {H : Heap} {locs : List Loc} {ls : Array Slot} (Y : bY b s st H locs) (hl : lv_has ls 9 [(0, .ref b.h), (1, .int x1), (2, .int x2), (3, .int x3), (4, .int x4)]) : bG l 7 176 b As (some (.int q.2)) q.1 p e s m below meth c H locs (F0 m 118 ls []) := by
  have hx := X.1
  have hb := X.2.1
  have hown := X.2.2.2.1
  have hts := X.2.2.2.2.1
  unfold bf_step_L118 at hE
  refine lv_iload_n hx hb dX2_step_118 rfl (lv_at hl 2 rfl) ?_
  refine lv_iconst (v := 2) hx hb dX2_step_119 (by decide) ?_
  refine lv_icmp_ne (tgt := 199) hx hb dX2_step_120 (by decide) (fun c_1 => ?_) (fun c_1 => ?_)
  · replace hE := e_f c_1 hE
    exact wbf_step_L199 X hr hk hE Y (lv_sub hl [0, 1, 2, 3, 4] rfl)
  · replace hE := e_t c_1 hE
    refine lv_aload_n hx hb dX2_step_123 rfl (lv_at hl 0 rfl) ?_
    refine lv_aload_n hx hb dX2_step_124 rfl (lv_at hl 0 rfl) ?_
    refine b_geta X Y 13 (by decide) (by decide) q1816 dX2_step_125 ?_
    refine lv_iload_n hx hb dX2_step_128 rfl (lv_at hl 1 rfl) ?_
    refine lv_iconst (v := 4) hx hb dX2_step_129 (by decide) ?_
    refine lv_imul hx hb dX2_step_130 ?_
    obtain ⟨v_2, g, hE⟩ := e_bind hE
    refine n_iald X Y 5 13 rfl rfl g dX2_step_131 ?_
    obtain ⟨q_3, g, hE⟩ := e_bind hE
    refine n_call1 (n := 1) [.int v_2] X Y (mbf_work l n b X.2.2.2.2.2.2 g) q2177 q2179 qs98 q2180 (by decide +kernel) (by decide) rfl hl.1 (Nat.le_of_ble_eq_true rfl) dX2_step_132 (by decide) (fun H locs Y => ?_)
    refine lv_dstore (lv' := [(5, .double q_3.2), (0, .ref b.h), (1, .int x1), (2, .int x2), (3, .int x3), (4, .int x4)]) hx hb dX2_step_135 hl (by decide) rfl (fun ls hl => ?_)
    refine lv_aload_n hx hb dX2_step_137 rfl (lv_at hl 1 rfl) ?_
    refine b_geti X Y 27 rfl (by decide) rfl q1830 dX2_step_138 ?_
    refine lv_if_ne (tgt := 161) hx hb dX2_step_141 (by decide) (fun c_4 => ?_) (fun c_4 => ?_)
    · replace hE := e_f c_4 hE
      refine lv_dconst0 hx hb dX2_step_161 ?_
      exact wbf_step_L162 X hr hk hE Y (lv_sub hl [1, 2, 3, 4, 5, 0] rfl)
    · replace hE := e_t c_4 hE
      refine lv_aload_n hx hb dX2_step_144 rfl (lv_at hl 1 rfl) ?_
      refine lv_aload_n hx hb dX2_step_145 rfl (lv_at hl 1 rfl) ?_
      refine b_geta X Y 13 (by decide) (by decide) q1816 dX2_step_146 ?_
      refine lv_iload_n hx hb dX2_step_149 rfl (lv_at hl 2 rfl) ?_
      refine lv_iconst (v := 4) hx hb dX2_step_150 (by decide) ?_
      refine lv_imul hx hb dX2_step_151 ?_
      refine lv_iconst (v := 1) hx hb dX2_step_152 (by decide) ?_
      refine lv_iadd hx hb dX2_step_153 ?_
      obtain ⟨v_5, g, hE⟩ := e_bind hE
      refine n_iald X Y 5 13 rfl rfl g dX2_step_154 ?_
      obtain ⟨q_6, g, hE⟩ := e_bind hE
      refine n_call1 (n := 1) [.int v_5] X Y (mbf_work l n b X.2.2.2.2.2.2 g) q2177 q2179 qs98 q2180 (by decide +kernel) (by decide) rfl hl.1 (Nat.le_of_ble_eq_true rfl) dX2_step_155 (by decide) (fun H locs Y => ?_)
      refine lv_goto (tgt := 162) hx hb dX2_step_158 (by decide) ?_
      exact wbf_step_L162 X hr hk hE Y (lv_sub hl [1, 2, 3, 4, 5, 0] rfl)
set_option maxHeartbeats 4000000 in
set_option maxRecDepth 100000 in
theorem wbf_step_L101 {l : Launch} {b : bP} {As : List Value} {p : Program} {e : Env} {s : State} {m : MethodId} {below : List Frame} {meth : Method} {c : Code} (X : bX p s m (Value.ref b.h :: As).toArray c cX2_step 9 b) (hr : meth.sig.returnType = (some .int)) (hk : meth.locks = false) {n : Nat} {st : bS} {x1 : Int32} {x2 : Int32} {x3 : Int32} {x4 : Int32} {q : bS × Int32} (hE : bf_step_L101 n st x1 x2 x3 x4 = some q) {H : Heap} {locs : List Loc} {ls : Array Slot} (Y : bY b s st H locs) (hl : lv_has ls 9 [(0, .ref b.h), (1, .int x1), (2, .int x2), (3, .int x3), (4, .int x4)]) : bG l 7 176 b As (some (.int q.2)) q.1 p e s m below meth c H locs (F0 m 101 ls []) := by
  have hx := X.1
  have hb := X.2.1
  have hown := X.2.2.2.1
  have hts := X.2.2.2.2.1
  unfold bf_step_L101 at hE
  refine lv_aload_n hx hb dX2_step_101 rfl (lv_at hl 0 rfl) ?_
  refine b_geti X Y 27 rfl (by decide) rfl q1830 dX2_step_102 ?_
  refine lv_if_ne (tgt := 118) hx hb dX2_step_105 (by decide) (fun c_1 => ?_) (fun c_1 => ?_)
  · replace hE := e_f c_1 hE
    exact wbf_step_L118 X hr hk hE Y (lv_sub hl [0, 1, 2, 3, 4] rfl)
  · replace hE := e_t c_1 hE
    refine lv_aload_n hx hb dX2_step_108 rfl (lv_at hl 0 rfl) ?_
    refine lv_dup hx hb dX2_step_109 rfl ?_
    refine b_geti X Y 18 rfl (by decide) rfl q1821 dX2_step_110 ?_
    refine lv_iconst (v := 1) hx hb dX2_step_113 (by decide) ?_
    refine lv_iadd hx hb dX2_step_114 ?_
    obtain ⟨st_2, g, hE⟩ := e_bind hE
    refine n_put X Y 18 rfl (by decide) g rfl rfl rfl q1821 dX2_step_115 (fun H locs Y => ?_)
    exact wbf_step_L118 X hr hk hE Y (lv_sub hl [0, 1, 2, 3, 4] rfl)
set_option maxHeartbeats 4000000 in
set_option maxRecDepth 100000 in
theorem wbf_step_L55 {l : Launch} {b : bP} {As : List Value} {p : Program} {e : Env} {s : State} {m : MethodId} {below : List Frame} {meth : Method} {c : Code} (X : bX p s m (Value.ref b.h :: As).toArray c cX2_step 9 b) (hr : meth.sig.returnType = (some .int)) (hk : meth.locks = false) {n : Nat} {st : bS} {x1 : Int32} {x2 : Int32} {x3 : Int32} {x4 : Int32} {q : bS × Int32} (hE : bf_step_L55 n st x1 x2 x3 x4 = some q) {H : Heap} {locs : List Loc} {ls : Array Slot} (Y : bY b s st H locs) (hl : lv_has ls 9 [(0, .ref b.h), (1, .int x1), (2, .int x2), (3, .int x3), (4, .int x4)]) : bG l 7 176 b As (some (.int q.2)) q.1 p e s m below meth c H locs (F0 m 55 ls []) := by
  have hx := X.1
  have hb := X.2.1
  have hown := X.2.2.2.1
  have hts := X.2.2.2.2.1
  unfold bf_step_L55 at hE
  refine lv_iload_n hx hb dX2_step_55 rfl (lv_at hl 2 rfl) ?_
  refine lv_iconst (v := 1) hx hb dX2_step_56 (by decide) ?_
  refine lv_icmp_ne (tgt := 118) hx hb dX2_step_57 (by decide) (fun c_1 => ?_) (fun c_1 => ?_)
  · replace hE := e_f c_1 hE
    exact wbf_step_L118 X hr hk hE Y (lv_sub hl [0, 1, 2, 3, 4] rfl)
  · replace hE := e_t c_1 hE
    refine lv_aload_n hx hb dX2_step_60 rfl (lv_at hl 0 rfl) ?_
    refine lv_aload_n hx hb dX2_step_61 rfl (lv_at hl 0 rfl) ?_
    refine b_geta X Y 13 (by decide) (by decide) q1816 dX2_step_62 ?_
    refine lv_iload_n hx hb dX2_step_65 rfl (lv_at hl 1 rfl) ?_
    refine lv_iconst (v := 4) hx hb dX2_step_66 (by decide) ?_
    refine lv_imul hx hb dX2_step_67 ?_
    obtain ⟨v_2, g, hE⟩ := e_bind hE
    refine n_iald X Y 5 13 rfl rfl g dX2_step_68 ?_
    obtain ⟨q_3, g, hE⟩ := e_bind hE
    refine n_call1 (n := 1) [.int v_2] X Y (mbf_work l n b X.2.2.2.2.2.2 g) q2177 q2179 qs98 q2180 (by decide +kernel) (by decide) rfl hl.1 (Nat.le_of_ble_eq_true rfl) dX2_step_69 (by decide) (fun H locs Y => ?_)
    refine lv_dstore (lv' := [(5, .double q_3.2), (0, .ref b.h), (1, .int x1), (2, .int x2), (3, .int x3), (4, .int x4)]) hx hb dX2_step_72 hl (by decide) rfl (fun ls hl => ?_)
    refine lv_aload_n hx hb dX2_step_74 rfl (lv_at hl 1 rfl) ?_
    refine b_geti X Y 27 rfl (by decide) rfl q1830 dX2_step_75 ?_
    refine lv_if_ne (tgt := 101) hx hb dX2_step_78 (by decide) (fun c_4 => ?_) (fun c_4 => ?_)
    · replace hE := e_f c_4 hE
      exact wbf_step_L101 X hr hk hE Y (lv_sub hl [1, 2, 3, 4, 5] rfl)
    · replace hE := e_t c_4 hE
      refine lv_aload_n hx hb dX2_step_81 rfl (lv_at hl 1 rfl) ?_
      refine b_geti X Y 18 rfl (by decide) rfl q1821 dX2_step_82 ?_
      refine lv_bipush (v := 40) hx hb dX2_step_85 (by decide) ?_
      refine lv_icmp_ge (tgt := 101) hx hb dX2_step_87 (by decide) (fun c_5 => ?_) (fun c_5 => ?_)
      · replace hE := e_t c_5 hE
        exact wbf_step_L101 X hr hk hE Y (lv_sub hl [1, 2, 3, 4, 5] rfl)
      · replace hE := e_f c_5 hE
        refine lv_aload_n hx hb dX2_step_90 rfl (lv_at hl 1 rfl) ?_
        refine b_geta X Y 28 (by decide) (by decide) q1831 dX2_step_91 ?_
        refine lv_aload_n hx hb dX2_step_94 rfl (lv_at hl 1 rfl) ?_
        refine b_geti X Y 18 rfl (by decide) rfl q1821 dX2_step_95 ?_
        refine lv_dload hx hb dX2_step_98 (lv_at hl 0 rfl) ?_
        obtain ⟨st_6, g, hE⟩ := e_bind hE
        refine n_dast X Y 8 28 rfl rfl g dX2_step_100 (fun H locs Y => ?_)
        exact wbf_step_L101 X hr hk hE Y (lv_sub hl [1, 2, 3, 4, 5] rfl)
set_option maxHeartbeats 4000000 in
set_option maxRecDepth 100000 in
theorem wbf_step_L52 {l : Launch} {b : bP} {As : List Value} {p : Program} {e : Env} {s : State} {m : MethodId} {below : List Frame} {meth : Method} {c : Code} (X : bX p s m (Value.ref b.h :: As).toArray c cX2_step 9 b) (hr : meth.sig.returnType = (some .int)) (hk : meth.locks = false) {n : Nat} {st : bS} {x1 : Int32} {x2 : Int32} {x3 : Int32} {x4 : Int32} {z52_1 : Int32} {z52_2 : Int32} {q : bS × Int32} (hE : bf_step_L52 n st x1 x2 x3 x4 z52_1 z52_2 = some q) {H : Heap} {locs : List Loc} {ls : Array Slot} (Y : bY b s st H locs) (hl : lv_has ls 9 [(0, .ref b.h), (1, .int x1), (2, .int x2), (3, .int x3), (4, .int x4)]) : bG l 7 176 b As (some (.int q.2)) q.1 p e s m below meth c H locs (F0 m 52 ls [.int z52_2, .int z52_1, .ref b.h]) := by
  have hx := X.1
  have hb := X.2.1
  have hown := X.2.2.2.1
  have hts := X.2.2.2.2.1
  unfold bf_step_L52 at hE
  obtain ⟨q_1, g, hE⟩ := e_bind hE
  refine n_call0 (n := 2) [.int z52_1, .int z52_2] X Y (mbf_assign l n b X.2.2.2.2.2.2 g) q2173 q2175 qs97 q2176 (by decide +kernel) (by decide) rfl hl.1 (Nat.le_of_ble_eq_true rfl) dX2_step_52 (by decide) (fun H locs Y => ?_)
  exact wbf_step_L55 X hr hk hE Y (lv_sub hl [0, 1, 2, 3, 4] rfl)
set_option maxHeartbeats 4000000 in
set_option maxRecDepth 100000 in
theorem wbf_step_L39 {l : Launch} {b : bP} {As : List Value} {p : Program} {e : Env} {s : State} {m : MethodId} {below : List Frame} {meth : Method} {c : Code} (X : bX p s m (Value.ref b.h :: As).toArray c cX2_step 9 b) (hr : meth.sig.returnType = (some .int)) (hk : meth.locks = false) {n : Nat} {st : bS} {x1 : Int32} {x2 : Int32} {x3 : Int32} {x4 : Int32} {q : bS × Int32} (hE : bf_step_L39 n st x1 x2 x3 x4 = some q) {H : Heap} {locs : List Loc} {ls : Array Slot} (Y : bY b s st H locs) (hl : lv_has ls 9 [(0, .ref b.h), (1, .int x1), (2, .int x2), (3, .int x3), (4, .int x4)]) : bG l 7 176 b As (some (.int q.2)) q.1 p e s m below meth c H locs (F0 m 39 ls []) := by
  have hx := X.1
  have hb := X.2.1
  have hown := X.2.2.2.1
  have hts := X.2.2.2.2.1
  unfold bf_step_L39 at hE
  refine lv_aload_n hx hb dX2_step_39 rfl (lv_at hl 0 rfl) ?_
  refine lv_iload_n hx hb dX2_step_40 rfl (lv_at hl 1 rfl) ?_
  refine lv_iload_n hx hb dX2_step_41 rfl (lv_at hl 2 rfl) ?_
  refine lv_bipush (v := 9) hx hb dX2_step_42 (by decide) ?_
  refine lv_icmp_ne (tgt := 51) hx hb dX2_step_44 (by decide) (fun c_1 => ?_) (fun c_1 => ?_)
  · replace hE := e_f c_1 hE
    refine lv_iconst (v := 0) hx hb dX2_step_51 (by decide) ?_
    exact wbf_step_L52 X hr hk hE Y (lv_sub hl [0, 1, 2, 3, 4] rfl)
  · replace hE := e_t c_1 hE
    refine lv_iconst (v := 1) hx hb dX2_step_47 (by decide) ?_
    refine lv_goto (tgt := 52) hx hb dX2_step_48 (by decide) ?_
    exact wbf_step_L52 X hr hk hE Y (lv_sub hl [0, 1, 2, 3, 4] rfl)
set_option maxHeartbeats 4000000 in
set_option maxRecDepth 100000 in
theorem mbf_step (l : Launch) (n : Nat) (b : bP) (ok : bOk b) {st : bS} {a1 : Int32} {q : bS × Int32} (hE : bf_step n st a1 = some q) : bMet l yX2_step cX2_step 9 (some .int) 7 176 b [.int a1] st (some (.int q.2)) q.1 := by
  refine b_ofW (by decide) rfl ok (Nat.le_of_ble_eq_true rfl) (fun p e s m below meth c ls X Y hr hk hl => ?_)
  have hl : lv_has ls 9 [(0, .ref b.h), (1, .int a1)] := hl
  generalize s.heap = H at Y ⊢
  generalize ([] : List Loc) = locs at Y ⊢
  have hx := X.1
  have hb := X.2.1
  have hown := X.2.2.2.1
  have hts := X.2.2.2.2.1
  unfold bf_step at hE
  refine lv_aload_n hx hb dX2_step_0 rfl (lv_at hl 0 rfl) ?_
  refine b_geta X Y 11 (by decide) (by decide) q1814 dX2_step_1 ?_
  refine lv_iload_n hx hb dX2_step_4 rfl (lv_at hl 1 rfl) ?_
  obtain ⟨v_1, g, hE⟩ := e_bind hE
  refine n_iald X Y 3 11 rfl rfl g dX2_step_5 ?_
  refine lv_istore_n (lv' := [(2, .int v_1), (0, .ref b.h), (1, .int a1)]) hx hb dX2_step_6 rfl hl (by decide) rfl (fun ls hl => ?_)
  refine lv_aload_n hx hb dX2_step_7 rfl (lv_at hl 1 rfl) ?_
  refine b_geta X Y 12 (by decide) (by decide) q1815 dX2_step_8 ?_
  refine lv_iload_n hx hb dX2_step_11 rfl (lv_at hl 2 rfl) ?_
  refine lv_bipush (v := 8) hx hb dX2_step_12 (by decide) ?_
  refine lv_imul hx hb dX2_step_14 ?_
  obtain ⟨v_2, g, hE⟩ := e_bind hE
  refine n_iald X Y 4 12 rfl rfl g dX2_step_15 ?_
  refine lv_istore_n (lv' := [(3, .int v_2), (2, .int v_1), (0, .ref b.h), (1, .int a1)]) hx hb dX2_step_16 rfl hl (by decide) rfl (fun ls hl => ?_)
  refine lv_aload_n hx hb dX2_step_17 rfl (lv_at hl 2 rfl) ?_
  refine lv_aload_n hx hb dX2_step_18 rfl (lv_at hl 2 rfl) ?_
  refine b_geta X Y 10 (by decide) (by decide) q1813 dX2_step_19 ?_
  refine lv_iload_n hx hb dX2_step_22 rfl (lv_at hl 3 rfl) ?_
  obtain ⟨v_3, g, hE⟩ := e_bind hE
  refine n_iald X Y 2 10 rfl rfl g dX2_step_23 ?_
  obtain ⟨q_4, g, hE⟩ := e_bind hE
  refine n_call1 (n := 1) [.int v_3] X Y (mbf_nextSlot l n b X.2.2.2.2.2.2 g) q2160 q2162 qs94 q2163 (by decide +kernel) (by decide) rfl hl.1 (Nat.le_of_ble_eq_true rfl) dX2_step_24 (by decide) (fun H locs Y => ?_)
  refine lv_istore (lv' := [(4, .int q_4.2), (3, .int v_2), (2, .int v_1), (0, .ref b.h), (1, .int a1)]) hx hb dX2_step_27 hl (by decide) rfl (fun ls hl => ?_)
  refine lv_iload_n hx hb dX2_step_29 rfl (lv_at hl 2 rfl) ?_
  refine lv_if_eq (tgt := 39) hx hb dX2_step_30 (by decide) (fun c_5 => ?_) (fun c_5 => ?_)
  · replace hE := e_t c_5 hE
    exact wbf_step_L39 X hr hk hE Y (lv_sub hl [3, 4, 2, 1, 0] rfl)
  · replace hE := e_f c_5 hE
    refine lv_iload_n hx hb dX2_step_33 rfl (lv_at hl 2 rfl) ?_
    refine lv_bipush (v := 9) hx hb dX2_step_34 (by decide) ?_
    refine lv_icmp_ne (tgt := 55) hx hb dX2_step_36 (by decide) (fun c_6 => ?_) (fun c_6 => ?_)
    · replace hE := e_f c_6 hE
      exact wbf_step_L55 X hr hk hE Y (lv_sub hl [3, 4, 2, 1, 0] rfl)
    · replace hE := e_t c_6 hE
      exact wbf_step_L39 X hr hk hE Y (lv_sub hl [3, 4, 2, 1, 0] rfl)
/-! BasicMachineModel.run()I -/
set_option maxHeartbeats 4000000 in
set_option maxRecDepth 100000 in
theorem wbf_run_L151 {l : Launch} {b : bP} {As : List Value} {p : Program} {e : Env} {s : State} {m : MethodId} {below : List Frame} {meth : Method} {c : Code} (X : bX p s m (Value.ref b.h :: As).toArray c cX2_run 2 b) (hr : meth.sig.returnType = (some .int)) (hk : meth.locks = false) {n : Nat} {st : bS} {q : bS × Int32} (hE : bf_run_L151 n st = some q) {H : Heap} {locs : List Loc} {ls : Array Slot} (Y : bY b s st H locs) (hl : lv_has ls 2 [(0, .ref b.h)]) : bG l 8 204 b As (some (.int q.2)) q.1 p e s m below meth c H locs (F0 m 151 ls []) := by
  have hx := X.1
  have hb := X.2.1
  have hown := X.2.2.2.1
  have hts := X.2.2.2.2.1
  unfold bf_run_L151 at hE
  refine lv_aload_n hx hb dX2_run_151 rfl (lv_at hl 0 rfl) ?_
  refine lv_aload_n hx hb dX2_run_152 rfl (lv_at hl 0 rfl) ?_
  refine b_geti X Y 20 rfl (by decide) rfl q1823 dX2_run_153 ?_
  refine lv_aload_n hx hb dX2_run_156 rfl (lv_at hl 0 rfl) ?_
  refine b_geti X Y 19 rfl (by decide) rfl q1822 dX2_run_157 ?_
  refine lv_isub hx hb dX2_run_160 ?_
  obtain ⟨st_1, g, hE⟩ := e_bind hE
  refine n_put X Y 21 rfl (by decide) g rfl rfl rfl q1824 dX2_run_161 (fun H locs Y => ?_)
  refine lv_aload_n hx hb dX2_run_164 rfl (lv_at hl 0 rfl) ?_
  refine b_geti X Y 27 rfl (by decide) rfl q1830 dX2_run_165 ?_
  refine lv_if_ne (tgt := 180) hx hb dX2_run_168 (by decide) (fun c_2 => ?_) (fun c_2 => ?_)
  · replace hE := e_f c_2 hE
    refine lv_aload_n hx hb dX2_run_180 rfl (lv_at hl 0 rfl) ?_
    refine lv_dup hx hb dX2_run_181 rfl ?_
    refine b_geti X Y 26 rfl (by decide) rfl q1829 dX2_run_182 ?_
    refine lv_iconst (v := 1) hx hb dX2_run_185 (by decide) ?_
    refine lv_iadd hx hb dX2_run_186 ?_
    obtain ⟨st_3, g, hE⟩ := e_bind hE
    refine n_put X Y 26 rfl (by decide) g rfl rfl rfl q1829 dX2_run_187 (fun H locs Y => ?_)
    refine lv_aload_n hx hb dX2_run_190 rfl (lv_at hl 0 rfl) ?_
    refine lv_aload_n hx hb dX2_run_191 rfl (lv_at hl 0 rfl) ?_
    refine b_geti X Y 27 rfl (by decide) rfl q1830 dX2_run_192 ?_
    obtain ⟨q_4, g, hE⟩ := e_bind hE
    refine n_call1 (n := 1) [.int (st_3.1 27)] X Y (mbf_refuse l n b X.2.2.2.2.2.2 g) q1947 q1949 qs52 q1950 (by decide +kernel) (by decide) rfl hl.1 (Nat.le_of_ble_eq_true rfl) dX2_run_195 (by decide) (fun H locs Y => ?_)
    cases hE
    exact b_iret X Y hr hk dX2_run_198
  · replace hE := e_t c_2 hE
    refine lv_aload_n hx hb dX2_run_171 rfl (lv_at hl 0 rfl) ?_
    refine lv_aload_n hx hb dX2_run_172 rfl (lv_at hl 0 rfl) ?_
    refine b_geti X Y 16 rfl (by decide) rfl q1819 dX2_run_173 ?_
    obtain ⟨q_5, g, hE⟩ := e_bind hE
    refine n_call1 (n := 1) [.int (st_1.1 16)] X Y (mbf_fine l n b X.2.2.2.2.2.2 g) q1951 q1953 qs53 q1954 (by decide +kernel) (by decide) rfl hl.1 (Nat.le_of_ble_eq_true rfl) dX2_run_176 (by decide) (fun H locs Y => ?_)
    cases hE
    exact b_iret X Y hr hk dX2_run_179
set_option maxHeartbeats 4000000 in
set_option maxRecDepth 100000 in
theorem wbf_run_S93_ {l : Launch} {b : bP} {As : List Value} {p : Program} {e : Env} {s : State} {m : MethodId} {below : List Frame} {meth : Method} {c : Code} (X : bX p s m (Value.ref b.h :: As).toArray c cX2_run 2 b) (hr : meth.sig.returnType = (some .int)) (hk : meth.locks = false) (n : Nat) {q : bS × Int32} : ∀ k : Nat, (∀ {st : bS} {x1 : Int32}, bf_run_S93 n k st x1 = some q → ∀ {H : Heap} {locs : List Loc} {ls : Array Slot}, bY b s st H locs → lv_has ls 2 [(0, .ref b.h), (1, .int x1)] → bG l 8 204 b As (some (.int q.2)) q.1 p e s m below meth c H locs (F0 m 93 ls [])) := by
  have hx := X.1
  have hb := X.2.1
  have hown := X.2.2.2.1
  have hts := X.2.2.2.2.1
  intro k
  induction k with
  | zero => exact fun h => nomatch (show none = some q from h)
  | succ k ih =>
    intro st x1 hE H locs ls Y hl
    replace hE : bf_run_B93 n (bf_run_S93 n k) st x1 = some q := hE
    unfold bf_run_B93 at hE
    refine lv_iload_n hx hb dX2_run_93 rfl (lv_at hl 1 rfl) ?_
    refine lv_if_lt (tgt := 151) hx hb dX2_run_94 (by decide) (fun c_1 => ?_) (fun c_1 => ?_)
    · replace hE := e_t c_1 hE
      exact wbf_run_L151 X hr hk hE Y (lv_sub hl [0] rfl)
    · replace hE := e_f c_1 hE
      refine lv_aload_n hx hb dX2_run_97 rfl (lv_at hl 0 rfl) ?_
      refine b_geti X Y 27 rfl (by decide) rfl q1830 dX2_run_98 ?_
      refine lv_if_ne (tgt := 151) hx hb dX2_run_101 (by decide) (fun c_2 => ?_) (fun c_2 => ?_)
      · replace hE := e_f c_2 hE
        exact wbf_run_L151 X hr hk hE Y (lv_sub hl [0] rfl)
      · replace hE := e_t c_2 hE
        refine lv_aload_n hx hb dX2_run_104 rfl (lv_at hl 0 rfl) ?_
        refine b_geti X Y 16 rfl (by decide) rfl q1819 dX2_run_105 ?_
        refine lv_sipush (v := 300) hx hb dX2_run_108 (by decide) ?_
        refine lv_icmp_ne (tgt := 122) hx hb dX2_run_111 (by decide) (fun c_3 => ?_) (fun c_3 => ?_)
        · replace hE := e_f c_3 hE
          refine lv_aload_n hx hb dX2_run_122 rfl (lv_at hl 0 rfl) ?_
          refine lv_dup hx hb dX2_run_123 rfl ?_
          refine b_geti X Y 16 rfl (by decide) rfl q1819 dX2_run_124 ?_
          refine lv_iconst (v := 1) hx hb dX2_run_127 (by decide) ?_
          refine lv_iadd hx hb dX2_run_128 ?_
          obtain ⟨st_4, g, hE⟩ := e_bind hE
          refine n_put X Y 16 rfl (by decide) g rfl rfl rfl q1819 dX2_run_129 (fun H locs Y => ?_)
          refine lv_aload_n hx hb dX2_run_132 rfl (lv_at hl 0 rfl) ?_
          refine lv_aload_n hx hb dX2_run_133 rfl (lv_at hl 0 rfl) ?_
          refine b_geta X Y 10 (by decide) (by decide) q1813 dX2_run_134 ?_
          refine lv_iload_n hx hb dX2_run_137 rfl (lv_at hl 1 rfl) ?_
          obtain ⟨v_5, g, hE⟩ := e_bind hE
          refine n_iald X Y 2 10 rfl rfl g dX2_run_138 ?_
          obtain ⟨st_6, g, hE⟩ := e_bind hE
          refine n_put X Y 17 rfl (by decide) g rfl rfl rfl q1820 dX2_run_139 (fun H locs Y => ?_)
          refine lv_aload_n hx hb dX2_run_142 rfl (lv_at hl 0 rfl) ?_
          refine lv_iload_n hx hb dX2_run_143 rfl (lv_at hl 1 rfl) ?_
          obtain ⟨q_7, g, hE⟩ := e_bind hE
          refine n_call1 (n := 1) [.int x1] X Y (mbf_step l n b X.2.2.2.2.2.2 g) q2169 q2171 qs96 q2172 (by decide +kernel) (by decide) rfl hl.1 (Nat.le_of_ble_eq_true rfl) dX2_run_144 (by decide) (fun H locs Y => ?_)
          refine lv_istore_n (lv' := [(1, .int q_7.2), (0, .ref b.h)]) hx hb dX2_run_147 rfl hl (by decide) rfl (fun ls hl => ?_)
          refine lv_goto (tgt := 93) hx hb dX2_run_148 (by decide) ?_
          exact ih hE Y (lv_sub hl [1, 0] rfl)
        · replace hE := e_t c_3 hE
          refine lv_aload_n hx hb dX2_run_114 rfl (lv_at hl 0 rfl) ?_
          refine lv_iconst (v := 2) hx hb dX2_run_115 (by decide) ?_
          obtain ⟨st_8, g, hE⟩ := e_bind hE
          refine n_put X Y 27 rfl (by decide) g rfl rfl rfl q1830 dX2_run_116 (fun H locs Y => ?_)
          refine lv_goto (tgt := 93) hx hb dX2_run_119 (by decide) ?_
          exact ih hE Y (lv_sub hl [0, 1] rfl)
set_option maxHeartbeats 4000000 in
set_option maxRecDepth 100000 in
theorem wbf_run_S93 {l : Launch} {b : bP} {As : List Value} {p : Program} {e : Env} {s : State} {m : MethodId} {below : List Frame} {meth : Method} {c : Code} (X : bX p s m (Value.ref b.h :: As).toArray c cX2_run 2 b) (hr : meth.sig.returnType = (some .int)) (hk : meth.locks = false) (n : Nat) {q : bS × Int32} : (∀ {st : bS} {x1 : Int32}, bf_run_S93 n n st x1 = some q → ∀ {H : Heap} {locs : List Loc} {ls : Array Slot}, bY b s st H locs → lv_has ls 2 [(0, .ref b.h), (1, .int x1)] → bG l 8 204 b As (some (.int q.2)) q.1 p e s m below meth c H locs (F0 m 93 ls [])) := wbf_run_S93_ X hr hk n n
set_option maxHeartbeats 4000000 in
set_option maxRecDepth 100000 in
theorem wbf_run_S23_ {l : Launch} {b : bP} {As : List Value} {p : Program} {e : Env} {s : State} {m : MethodId} {below : List Frame} {meth : Method} {c : Code} (X : bX p s m (Value.ref b.h :: As).toArray c cX2_run 2 b) (hr : meth.sig.returnType = (some .int)) (hk : meth.locks = false) (n : Nat) {q : bS × Int32} : ∀ k : Nat, (∀ {st : bS} {x1 : Int32}, bf_run_S23 n k st x1 = some q → ∀ {H : Heap} {locs : List Loc} {ls : Array Slot}, bY b s st H locs → lv_has ls 2 [(0, .ref b.h), (1, .int x1)] → bG l 8 204 b As (some (.int q.2)) q.1 p e s m below meth c H locs (F0 m 23 ls [])) := by
  have hx := X.1
  have hb := X.2.1
  have hown := X.2.2.2.1
  have hts := X.2.2.2.2.1
  intro k
  induction k with
  | zero => exact fun h => nomatch (show none = some q from h)
  | succ k ih =>
    intro st x1 hE H locs ls Y hl
    replace hE : bf_run_B23 n (bf_run_S23 n k) st x1 = some q := hE
    unfold bf_run_B23 at hE
    refine lv_iload_n hx hb dX2_run_23 rfl (lv_at hl 1 rfl) ?_
    refine lv_iconst (v := 3) hx hb dX2_run_24 (by decide) ?_
    refine lv_icmp_ge (tgt := 48) hx hb dX2_run_25 (by decide) (fun c_1 => ?_) (fun c_1 => ?_)
    · replace hE := e_t c_1 hE
      refine lv_aload_n hx hb dX2_run_48 rfl (lv_at hl 0 rfl) ?_
      refine lv_iconst (v := 0) hx hb dX2_run_49 (by decide) ?_
      obtain ⟨st_2, g, hE⟩ := e_bind hE
      refine n_put X Y 16 rfl (by decide) g rfl rfl rfl q1819 dX2_run_50 (fun H locs Y => ?_)
      refine lv_aload_n hx hb dX2_run_53 rfl (lv_at hl 0 rfl) ?_
      refine lv_iconst (v := -1) hx hb dX2_run_54 (by decide) ?_
      obtain ⟨st_3, g, hE⟩ := e_bind hE
      refine n_put X Y 17 rfl (by decide) g rfl rfl rfl q1820 dX2_run_55 (fun H locs Y => ?_)
      refine lv_aload_n hx hb dX2_run_58 rfl (lv_at hl 0 rfl) ?_
      refine lv_iconst (v := 0) hx hb dX2_run_59 (by decide) ?_
      obtain ⟨st_4, g, hE⟩ := e_bind hE
      refine n_put X Y 18 rfl (by decide) g rfl rfl rfl q1821 dX2_run_60 (fun H locs Y => ?_)
      refine lv_aload_n hx hb dX2_run_63 rfl (lv_at hl 0 rfl) ?_
      refine lv_iconst (v := 0) hx hb dX2_run_64 (by decide) ?_
      obtain ⟨st_5, g, hE⟩ := e_bind hE
      refine n_put X Y 19 rfl (by decide) g rfl rfl rfl q1822 dX2_run_65 (fun H locs Y => ?_)
      refine lv_aload_n hx hb dX2_run_68 rfl (lv_at hl 0 rfl) ?_
      refine lv_iconst (v := 0) hx hb dX2_run_69 (by decide) ?_
      obtain ⟨st_6, g, hE⟩ := e_bind hE
      refine n_put X Y 22 rfl (by decide) g rfl rfl rfl q1825 dX2_run_70 (fun H locs Y => ?_)
      refine lv_aload_n hx hb dX2_run_73 rfl (lv_at hl 0 rfl) ?_
      refine lv_iconst (v := 0) hx hb dX2_run_74 (by decide) ?_
      obtain ⟨st_7, g, hE⟩ := e_bind hE
      refine n_put X Y 23 rfl (by decide) g rfl rfl rfl q1826 dX2_run_75 (fun H locs Y => ?_)
      refine lv_aload_n hx hb dX2_run_78 rfl (lv_at hl 0 rfl) ?_
      refine lv_iconst (v := 0) hx hb dX2_run_79 (by decide) ?_
      obtain ⟨st_8, g, hE⟩ := e_bind hE
      refine n_put X Y 27 rfl (by decide) g rfl rfl rfl q1830 dX2_run_80 (fun H locs Y => ?_)
      refine lv_aload_n hx hb dX2_run_83 rfl (lv_at hl 0 rfl) ?_
      obtain ⟨q_9, g, hE⟩ := e_bind hE
      refine n_call0 (n := 0) [] X Y (mbf_collect l n b X.2.2.2.2.2.2 g) q2156 q2158 qs93 q2159 (by decide +kernel) (by decide) rfl hl.1 (Nat.le_of_ble_eq_true rfl) dX2_run_84 (by decide) (fun H locs Y => ?_)
      refine lv_aload_n hx hb dX2_run_87 rfl (lv_at hl 0 rfl) ?_
      refine lv_iconst (v := 0) hx hb dX2_run_88 (by decide) ?_
      obtain ⟨q_10, g, hE⟩ := e_bind hE
      refine n_call1 (n := 1) [.int (0 : Int32)] X Y (mbf_nextSlot l n b X.2.2.2.2.2.2 g) q2160 q2162 qs94 q2163 (by decide +kernel) (by decide) rfl hl.1 (Nat.le_of_ble_eq_true rfl) dX2_run_89 (by decide) (fun H locs Y => ?_)
      refine lv_istore_n (lv' := [(1, .int q_10.2), (0, .ref b.h)]) hx hb dX2_run_92 rfl hl (by decide) rfl (fun ls hl => ?_)
      exact (wbf_run_S93 X hr hk n) hE Y (lv_sub hl [1, 0] rfl)
    · replace hE := e_f c_1 hE
      refine lv_aload_n hx hb dX2_run_28 rfl (lv_at hl 0 rfl) ?_
      refine lv_iload_n hx hb dX2_run_29 rfl (lv_at hl 1 rfl) ?_
      refine lv_iconst (v := 0) hx hb dX2_run_30 (by decide) ?_
      refine lv_iconst (v := 0) hx hb dX2_run_31 (by decide) ?_
      obtain ⟨q_11, g, hE⟩ := e_bind hE
      refine n_call0 (n := 3) [.int x1, .int (0 : Int32), .int (0 : Int32)] X Y (mbf_dimension l n b X.2.2.2.2.2.2 g) q2152 q2154 qs92 q2155 (by decide +kernel) (by decide) rfl hl.1 (Nat.le_of_ble_eq_true rfl) dX2_run_32 (by decide) (fun H locs Y => ?_)
      refine lv_aload_n hx hb dX2_run_35 rfl (lv_at hl 0 rfl) ?_
      refine b_geta X Y 37 (by decide) (by decide) q1840 dX2_run_36 ?_
      refine lv_iload_n hx hb dX2_run_39 rfl (lv_at hl 1 rfl) ?_
      refine lv_iconst (v := -1) hx hb dX2_run_40 (by decide) ?_
      obtain ⟨st_12, g, hE⟩ := e_bind hE
      refine n_iast X Y 17 37 rfl rfl g dX2_run_41 (fun H locs Y => ?_)
      refine lv_iinc (v := (x1 + (1 : Int32))) (lv' := [(1, .int (x1 + (1 : Int32))), (0, .ref b.h)]) hx hb dX2_run_42 hl (k := 1) rfl rfl (by decide) rfl (fun ls hl => ?_)
      refine lv_goto (tgt := 23) hx hb dX2_run_45 (by decide) ?_
      exact ih hE Y (lv_sub hl [1, 0] rfl)
set_option maxHeartbeats 4000000 in
set_option maxRecDepth 100000 in
theorem wbf_run_S23 {l : Launch} {b : bP} {As : List Value} {p : Program} {e : Env} {s : State} {m : MethodId} {below : List Frame} {meth : Method} {c : Code} (X : bX p s m (Value.ref b.h :: As).toArray c cX2_run 2 b) (hr : meth.sig.returnType = (some .int)) (hk : meth.locks = false) (n : Nat) {q : bS × Int32} : (∀ {st : bS} {x1 : Int32}, bf_run_S23 n n st x1 = some q → ∀ {H : Heap} {locs : List Loc} {ls : Array Slot}, bY b s st H locs → lv_has ls 2 [(0, .ref b.h), (1, .int x1)] → bG l 8 204 b As (some (.int q.2)) q.1 p e s m below meth c H locs (F0 m 23 ls [])) := wbf_run_S23_ X hr hk n n
set_option maxHeartbeats 4000000 in
set_option maxRecDepth 100000 in
theorem wbf_run_S2_ {l : Launch} {b : bP} {As : List Value} {p : Program} {e : Env} {s : State} {m : MethodId} {below : List Frame} {meth : Method} {c : Code} (X : bX p s m (Value.ref b.h :: As).toArray c cX2_run 2 b) (hr : meth.sig.returnType = (some .int)) (hk : meth.locks = false) (n : Nat) {q : bS × Int32} : ∀ k : Nat, (∀ {st : bS} {x1 : Int32}, bf_run_S2 n k st x1 = some q → ∀ {H : Heap} {locs : List Loc} {ls : Array Slot}, bY b s st H locs → lv_has ls 2 [(0, .ref b.h), (1, .int x1)] → bG l 8 204 b As (some (.int q.2)) q.1 p e s m below meth c H locs (F0 m 2 ls [])) := by
  have hx := X.1
  have hb := X.2.1
  have hown := X.2.2.2.1
  have hts := X.2.2.2.2.1
  intro k
  induction k with
  | zero => exact fun h => nomatch (show none = some q from h)
  | succ k ih =>
    intro st x1 hE H locs ls Y hl
    replace hE : bf_run_B2 n (bf_run_S2 n k) st x1 = some q := hE
    unfold bf_run_B2 at hE
    refine lv_iload_n hx hb dX2_run_2 rfl (lv_at hl 1 rfl) ?_
    refine lv_bipush (v := 26) hx hb dX2_run_3 (by decide) ?_
    refine lv_icmp_ge (tgt := 21) hx hb dX2_run_5 (by decide) (fun c_1 => ?_) (fun c_1 => ?_)
    · replace hE := e_t c_1 hE
      refine lv_iconst (v := 0) hx hb dX2_run_21 (by decide) ?_
      refine lv_istore_n (lv' := [(1, .int (0 : Int32)), (0, .ref b.h)]) hx hb dX2_run_22 rfl hl (by decide) rfl (fun ls hl => ?_)
      exact (wbf_run_S23 X hr hk n) hE Y (lv_sub hl [1, 0] rfl)
    · replace hE := e_f c_1 hE
      refine lv_aload_n hx hb dX2_run_8 rfl (lv_at hl 0 rfl) ?_
      refine b_geta X Y 29 (by decide) (by decide) q1832 dX2_run_9 ?_
      refine lv_iload_n hx hb dX2_run_12 rfl (lv_at hl 1 rfl) ?_
      refine lv_dconst0 hx hb dX2_run_13 ?_
      obtain ⟨st_2, g, hE⟩ := e_bind hE
      refine n_dast X Y 9 29 rfl rfl g dX2_run_14 (fun H locs Y => ?_)
      refine lv_iinc (v := (x1 + (1 : Int32))) (lv' := [(1, .int (x1 + (1 : Int32))), (0, .ref b.h)]) hx hb dX2_run_15 hl (k := 1) rfl rfl (by decide) rfl (fun ls hl => ?_)
      refine lv_goto (tgt := 2) hx hb dX2_run_18 (by decide) ?_
      exact ih hE Y (lv_sub hl [1, 0] rfl)
set_option maxHeartbeats 4000000 in
set_option maxRecDepth 100000 in
theorem wbf_run_S2 {l : Launch} {b : bP} {As : List Value} {p : Program} {e : Env} {s : State} {m : MethodId} {below : List Frame} {meth : Method} {c : Code} (X : bX p s m (Value.ref b.h :: As).toArray c cX2_run 2 b) (hr : meth.sig.returnType = (some .int)) (hk : meth.locks = false) (n : Nat) {q : bS × Int32} : (∀ {st : bS} {x1 : Int32}, bf_run_S2 n n st x1 = some q → ∀ {H : Heap} {locs : List Loc} {ls : Array Slot}, bY b s st H locs → lv_has ls 2 [(0, .ref b.h), (1, .int x1)] → bG l 8 204 b As (some (.int q.2)) q.1 p e s m below meth c H locs (F0 m 2 ls [])) := wbf_run_S2_ X hr hk n n
set_option maxHeartbeats 4000000 in
set_option maxRecDepth 100000 in
theorem mbf_run (l : Launch) (n : Nat) (b : bP) (ok : bOk b) {st : bS} {q : bS × Int32} (hE : bf_run n st = some q) : bMet l yX2_run cX2_run 2 (some .int) 8 204 b [] st (some (.int q.2)) q.1 := by
  refine b_ofW (by decide) rfl ok (Nat.le_of_ble_eq_true rfl) (fun p e s m below meth c ls X Y hr hk hl => ?_)
  have hl : lv_has ls 2 [(0, .ref b.h)] := hl
  generalize s.heap = H at Y ⊢
  generalize ([] : List Loc) = locs at Y ⊢
  have hx := X.1
  have hb := X.2.1
  have hown := X.2.2.2.1
  have hts := X.2.2.2.2.1
  unfold bf_run at hE
  refine lv_iconst (v := 0) hx hb dX2_run_0 (by decide) ?_
  refine lv_istore_n (lv' := [(1, .int (0 : Int32)), (0, .ref b.h)]) hx hb dX2_run_1 rfl hl (by decide) rfl (fun ls hl => ?_)
  exact (wbf_run_S2 X hr hk n) hE Y (lv_sub hl [1, 0] rfl)
/-! BasicMachineModel.printed(I)D -/
set_option maxHeartbeats 4000000 in
set_option maxRecDepth 100000 in
theorem wbf_printed_L18 {l : Launch} {b : bP} {As : List Value} {p : Program} {e : Env} {s : State} {m : MethodId} {below : List Frame} {meth : Method} {c : Code} (X : bX p s m (Value.ref b.h :: As).toArray c cX2_printed 2 b) (hr : meth.sig.returnType = (some .double)) (hk : meth.locks = false) {n : Nat} {st : bS} {q : bS × UInt64} (hE : bf_printed_L18 n st = some q) {H : Heap} {locs : List Loc} {ls : Array Slot} (Y : bY b s st H locs) (hl : lv_has ls 2 [(0, .ref b.h)]) : bG l 0 0 b As (some (.double q.2)) q.1 p e s m below meth c H locs (F0 m 18 ls []) := by
  have hx := X.1
  have hb := X.2.1
  have hown := X.2.2.2.1
  have hts := X.2.2.2.2.1
  unfold bf_printed_L18 at hE
  refine lv_aload_n hx hb dX2_printed_18 rfl (lv_at hl 0 rfl) ?_
  refine lv_iconst (v := 1) hx hb dX2_printed_19 (by decide) ?_
  obtain ⟨st_1, g, hE⟩ := e_bind hE
  refine n_put X Y 0 rfl (by decide) g rfl rfl rfl q1803 dX2_printed_20 (fun H locs Y => ?_)
  refine lv_dconst0 hx hb dX2_printed_23 ?_
  cases hE
  exact b_dret X Y hr hk dX2_printed_24
set_option maxHeartbeats 4000000 in
set_option maxRecDepth 100000 in
theorem mbf_printed (l : Launch) (n : Nat) (b : bP) (ok : bOk b) {st : bS} {a1 : Int32} {q : bS × UInt64} (hE : bf_printed n st a1 = some q) : bMet l yX2_printed cX2_printed 2 (some .double) 0 0 b [.int a1] st (some (.double q.2)) q.1 := by
  refine b_ofW (by decide) rfl ok (Nat.le_of_ble_eq_true rfl) (fun p e s m below meth c ls X Y hr hk hl => ?_)
  have hl : lv_has ls 2 [(0, .ref b.h), (1, .int a1)] := hl
  generalize s.heap = H at Y ⊢
  generalize ([] : List Loc) = locs at Y ⊢
  have hx := X.1
  have hb := X.2.1
  have hown := X.2.2.2.1
  have hts := X.2.2.2.2.1
  unfold bf_printed at hE
  refine lv_iload_n hx hb dX2_printed_0 rfl (lv_at hl 1 rfl) ?_
  refine lv_if_lt (tgt := 18) hx hb dX2_printed_1 (by decide) (fun c_1 => ?_) (fun c_1 => ?_)
  · replace hE := e_t c_1 hE
    exact wbf_printed_L18 X hr hk hE Y (lv_sub hl [0] rfl)
  · replace hE := e_f c_1 hE
    refine lv_iload_n hx hb dX2_printed_4 rfl (lv_at hl 1 rfl) ?_
    refine lv_aload_n hx hb dX2_printed_5 rfl (lv_at hl 0 rfl) ?_
    refine b_geti X Y 18 rfl (by decide) rfl q1821 dX2_printed_6 ?_
    refine lv_icmp_ge (tgt := 18) hx hb dX2_printed_9 (by decide) (fun c_2 => ?_) (fun c_2 => ?_)
    · replace hE := e_t c_2 hE
      exact wbf_printed_L18 X hr hk hE Y (lv_sub hl [0] rfl)
    · replace hE := e_f c_2 hE
      refine lv_iload_n hx hb dX2_printed_12 rfl (lv_at hl 1 rfl) ?_
      refine lv_bipush (v := 39) hx hb dX2_printed_13 (by decide) ?_
      refine lv_icmp_le (tgt := 25) hx hb dX2_printed_15 (by decide) (fun c_3 => ?_) (fun c_3 => ?_)
      · replace hE := e_t c_3 hE
        refine lv_aload_n hx hb dX2_printed_25 rfl (lv_at hl 0 rfl) ?_
        refine lv_iconst (v := 0) hx hb dX2_printed_26 (by decide) ?_
        obtain ⟨st_4, g, hE⟩ := e_bind hE
        refine n_put X Y 0 rfl (by decide) g rfl rfl rfl q1803 dX2_printed_27 (fun H locs Y => ?_)
        refine lv_aload_n hx hb dX2_printed_30 rfl (lv_at hl 0 rfl) ?_
        refine b_geta X Y 28 (by decide) (by decide) q1831 dX2_printed_31 ?_
        refine lv_iload_n hx hb dX2_printed_34 rfl (lv_at hl 1 rfl) ?_
        obtain ⟨v_5, g, hE⟩ := e_bind hE
        refine n_dald X Y 8 28 rfl rfl g dX2_printed_35 ?_
        cases hE
        exact b_dret X Y hr hk dX2_printed_36
      · replace hE := e_f c_3 hE
        exact wbf_printed_L18 X hr hk hE Y (lv_sub hl [0] rfl)
/-! BasicMachineModel.variable(I)D -/
set_option maxHeartbeats 4000000 in
set_option maxRecDepth 100000 in
theorem wbf_variable_2_L21 {l : Launch} {b : bP} {As : List Value} {p : Program} {e : Env} {s : State} {m : MethodId} {below : List Frame} {meth : Method} {c : Code} (X : bX p s m (Value.ref b.h :: As).toArray c cX2_variable_2 2 b) (hr : meth.sig.returnType = (some .double)) (hk : meth.locks = false) {n : Nat} {st : bS} {q : bS × UInt64} (hE : bf_variable_2_L21 n st = some q) {H : Heap} {locs : List Loc} {ls : Array Slot} (Y : bY b s st H locs) (hl : lv_has ls 2 [(0, .ref b.h)]) : bG l 1 21 b As (some (.double q.2)) q.1 p e s m below meth c H locs (F0 m 21 ls []) := by
  have hx := X.1
  have hb := X.2.1
  have hown := X.2.2.2.1
  have hts := X.2.2.2.2.1
  unfold bf_variable_2_L21 at hE
  refine lv_aload_n hx hb dX2_variable_2_21 rfl (lv_at hl 0 rfl) ?_
  refine lv_iconst (v := 1) hx hb dX2_variable_2_22 (by decide) ?_
  obtain ⟨st_1, g, hE⟩ := e_bind hE
  refine n_put X Y 0 rfl (by decide) g rfl rfl rfl q1803 dX2_variable_2_23 (fun H locs Y => ?_)
  refine lv_dconst0 hx hb dX2_variable_2_26 ?_
  cases hE
  exact b_dret X Y hr hk dX2_variable_2_27
set_option maxHeartbeats 4000000 in
set_option maxRecDepth 100000 in
theorem mbf_variable_2 (l : Launch) (n : Nat) (b : bP) (ok : bOk b) {st : bS} {a1 : Int32} {q : bS × UInt64} (hE : bf_variable_2 n st a1 = some q) : bMet l yX2_variable_2 cX2_variable_2 2 (some .double) 1 21 b [.int a1] st (some (.double q.2)) q.1 := by
  refine b_ofW (by decide) rfl ok (Nat.le_of_ble_eq_true rfl) (fun p e s m below meth c ls X Y hr hk hl => ?_)
  have hl : lv_has ls 2 [(0, .ref b.h), (1, .int a1)] := hl
  generalize s.heap = H at Y ⊢
  generalize ([] : List Loc) = locs at Y ⊢
  have hx := X.1
  have hb := X.2.1
  have hown := X.2.2.2.1
  have hts := X.2.2.2.2.1
  unfold bf_variable_2 at hE
  refine lv_iload_n hx hb dX2_variable_2_0 rfl (lv_at hl 1 rfl) ?_
  refine lv_if_lt (tgt := 21) hx hb dX2_variable_2_1 (by decide) (fun c_1 => ?_) (fun c_1 => ?_)
  · replace hE := e_t c_1 hE
    exact wbf_variable_2_L21 X hr hk hE Y (lv_sub hl [0] rfl)
  · replace hE := e_f c_1 hE
    refine lv_iload_n hx hb dX2_variable_2_4 rfl (lv_at hl 1 rfl) ?_
    refine lv_bipush (v := 25) hx hb dX2_variable_2_5 (by decide) ?_
    refine lv_icmp_gt (tgt := 21) hx hb dX2_variable_2_7 (by decide) (fun c_2 => ?_) (fun c_2 => ?_)
    · replace hE := e_t c_2 hE
      exact wbf_variable_2_L21 X hr hk hE Y (lv_sub hl [0] rfl)
    · replace hE := e_f c_2 hE
      refine lv_aload_n hx hb dX2_variable_2_10 rfl (lv_at hl 0 rfl) ?_
      refine lv_bipush (v := 65) hx hb dX2_variable_2_11 (by decide) ?_
      refine lv_iload_n hx hb dX2_variable_2_13 rfl (lv_at hl 1 rfl) ?_
      refine lv_iadd hx hb dX2_variable_2_14 ?_
      obtain ⟨q_3, g, hE⟩ := e_bind hE
      refine n_call1 (n := 1) [.int ((65 : Int32) + a1)] X Y (mbf_isMatrix l n b X.2.2.2.2.2.2 g) q2028 q2030 qs64 q2031 (by decide +kernel) (by decide) rfl hl.1 (Nat.le_of_ble_eq_true rfl) dX2_variable_2_15 (by decide) (fun H locs Y => ?_)
      refine lv_if_eq (tgt := 28) hx hb dX2_variable_2_18 (by decide) (fun c_4 => ?_) (fun c_4 => ?_)
      · replace hE := e_t c_4 hE
        refine lv_aload_n hx hb dX2_variable_2_28 rfl (lv_at hl 0 rfl) ?_
        refine lv_iconst (v := 0) hx hb dX2_variable_2_29 (by decide) ?_
        obtain ⟨st_5, g, hE⟩ := e_bind hE
        refine n_put X Y 0 rfl (by decide) g rfl rfl rfl q1803 dX2_variable_2_30 (fun H locs Y => ?_)
        refine lv_aload_n hx hb dX2_variable_2_33 rfl (lv_at hl 0 rfl) ?_
        refine b_geta X Y 29 (by decide) (by decide) q1832 dX2_variable_2_34 ?_
        refine lv_iload_n hx hb dX2_variable_2_37 rfl (lv_at hl 1 rfl) ?_
        obtain ⟨v_6, g, hE⟩ := e_bind hE
        refine n_dald X Y 9 29 rfl rfl g dX2_variable_2_38 ?_
        cases hE
        exact b_dret X Y hr hk dX2_variable_2_39
      · replace hE := e_f c_4 hE
        exact wbf_variable_2_L21 X hr hk hE Y (lv_sub hl [0] rfl)
/-! BasicMachineModel.element(III)D -/
set_option maxHeartbeats 4000000 in
set_option maxRecDepth 100000 in
theorem wbf_element_L49 {l : Launch} {b : bP} {As : List Value} {p : Program} {e : Env} {s : State} {m : MethodId} {below : List Frame} {meth : Method} {c : Code} (X : bX p s m (Value.ref b.h :: As).toArray c cX2_element 4 b) (hr : meth.sig.returnType = (some .double)) (hk : meth.locks = false) {n : Nat} {st : bS} {x1 : Int32} {x2 : Int32} {x3 : Int32} {z49_1 : Int32} {q : bS × UInt64} (hE : bf_element_L49 n st x1 x2 x3 z49_1 = some q) {H : Heap} {locs : List Loc} {ls : Array Slot} (Y : bY b s st H locs) (hl : lv_has ls 4 [(0, .ref b.h), (1, .int x1), (2, .int x2), (3, .int x3)]) : bG l 0 0 b As (some (.double q.2)) q.1 p e s m below meth c H locs (F0 m 49 ls [.int z49_1, .ref b.h]) := by
  have hx := X.1
  have hb := X.2.1
  have hown := X.2.2.2.1
  have hts := X.2.2.2.2.1
  unfold bf_element_L49 at hE
  obtain ⟨st_1, g, hE⟩ := e_bind hE
  refine n_put X Y 0 rfl (by decide) g rfl rfl rfl q1803 dX2_element_49 (fun H locs Y => ?_)
  refine lv_aload_n hx hb dX2_element_52 rfl (lv_at hl 0 rfl) ?_
  refine b_geti X Y 0 rfl (by decide) rfl q1803 dX2_element_53 ?_
  refine lv_if_ne (tgt := 82) hx hb dX2_element_56 (by decide) (fun c_2 => ?_) (fun c_2 => ?_)
  · replace hE := e_f c_2 hE
    refine lv_dconst0 hx hb dX2_element_82 ?_
    cases hE
    exact b_dret X Y hr hk dX2_element_83
  · replace hE := e_t c_2 hE
    refine lv_aload_n hx hb dX2_element_59 rfl (lv_at hl 0 rfl) ?_
    refine b_geta X Y 35 (by decide) (by decide) q1838 dX2_element_60 ?_
    refine lv_iload_n hx hb dX2_element_63 rfl (lv_at hl 1 rfl) ?_
    refine lv_bipush (v := 36) hx hb dX2_element_64 (by decide) ?_
    refine lv_imul hx hb dX2_element_66 ?_
    refine lv_iload_n hx hb dX2_element_67 rfl (lv_at hl 2 rfl) ?_
    refine lv_iconst (v := 1) hx hb dX2_element_68 (by decide) ?_
    refine lv_isub hx hb dX2_element_69 ?_
    refine lv_bipush (v := 6) hx hb dX2_element_70 (by decide) ?_
    refine lv_imul hx hb dX2_element_72 ?_
    refine lv_iadd hx hb dX2_element_73 ?_
    refine lv_iload_n hx hb dX2_element_74 rfl (lv_at hl 3 rfl) ?_
    refine lv_iadd hx hb dX2_element_75 ?_
    refine lv_iconst (v := 1) hx hb dX2_element_76 (by decide) ?_
    refine lv_isub hx hb dX2_element_77 ?_
    obtain ⟨v_3, g, hE⟩ := e_bind hE
    refine n_dald X Y 15 35 rfl rfl g dX2_element_78 ?_
    refine lv_goto (tgt := 83) hx hb dX2_element_79 (by decide) ?_
    cases hE
    exact b_dret X Y hr hk dX2_element_83
set_option maxHeartbeats 4000000 in
set_option maxRecDepth 100000 in
theorem wbf_element_L10 {l : Launch} {b : bP} {As : List Value} {p : Program} {e : Env} {s : State} {m : MethodId} {below : List Frame} {meth : Method} {c : Code} (X : bX p s m (Value.ref b.h :: As).toArray c cX2_element 4 b) (hr : meth.sig.returnType = (some .double)) (hk : meth.locks = false) {n : Nat} {st : bS} {x1 : Int32} {x2 : Int32} {x3 : Int32} {q : bS × UInt64} (hE : bf_element_L10 n st x1 x2 x3 = some q) {H : Heap} {locs : List Loc} {ls : Array Slot} (Y : bY b s st H locs) (hl : lv_has ls 4 [(0, .ref b.h), (1, .int x1), (2, .int x2), (3, .int x3)]) : bG l 0 0 b As (some (.double q.2)) q.1 p e s m below meth c H locs (F0 m 10 ls [.ref b.h]) := by
  have hx := X.1
  have hb := X.2.1
  have hown := X.2.2.2.1
  have hts := X.2.2.2.2.1
  unfold bf_element_L10 at hE
  refine lv_iconst (v := 1) hx hb dX2_element_10 (by decide) ?_
  refine lv_goto (tgt := 49) hx hb dX2_element_11 (by decide) ?_
  exact wbf_element_L49 X hr hk hE Y (lv_sub hl [0, 1, 2, 3] rfl)
set_option maxHeartbeats 4000000 in
set_option maxRecDepth 100000 in
theorem wbf_element_L44 {l : Launch} {b : bP} {As : List Value} {p : Program} {e : Env} {s : State} {m : MethodId} {below : List Frame} {meth : Method} {c : Code} (X : bX p s m (Value.ref b.h :: As).toArray c cX2_element 4 b) (hr : meth.sig.returnType = (some .double)) (hk : meth.locks = false) {n : Nat} {st : bS} {x1 : Int32} {x2 : Int32} {x3 : Int32} {q : bS × UInt64} (hE : bf_element_L44 n st x1 x2 x3 = some q) {H : Heap} {locs : List Loc} {ls : Array Slot} (Y : bY b s st H locs) (hl : lv_has ls 4 [(0, .ref b.h), (1, .int x1), (2, .int x2), (3, .int x3)]) : bG l 0 0 b As (some (.double q.2)) q.1 p e s m below meth c H locs (F0 m 44 ls [.ref b.h]) := by
  have hx := X.1
  have hb := X.2.1
  have hown := X.2.2.2.1
  have hts := X.2.2.2.2.1
  unfold bf_element_L44 at hE
  refine lv_iconst (v := 2) hx hb dX2_element_44 (by decide) ?_
  refine lv_goto (tgt := 49) hx hb dX2_element_45 (by decide) ?_
  exact wbf_element_L49 X hr hk hE Y (lv_sub hl [0, 1, 2, 3] rfl)
set_option maxHeartbeats 4000000 in
set_option maxRecDepth 100000 in
theorem mbf_element (l : Launch) (n : Nat) (b : bP) (ok : bOk b) {st : bS} {a1 : Int32} {a2 : Int32} {a3 : Int32} {q : bS × UInt64} (hE : bf_element n st a1 a2 a3 = some q) : bMet l yX2_element cX2_element 4 (some .double) 0 0 b [.int a1, .int a2, .int a3] st (some (.double q.2)) q.1 := by
  refine b_ofW (by decide) rfl ok (Nat.le_of_ble_eq_true rfl) (fun p e s m below meth c ls X Y hr hk hl => ?_)
  have hl : lv_has ls 4 [(0, .ref b.h), (1, .int a1), (2, .int a2), (3, .int a3)] := hl
  generalize s.heap = H at Y ⊢
  generalize ([] : List Loc) = locs at Y ⊢
  have hx := X.1
  have hb := X.2.1
  have hown := X.2.2.2.1
  have hts := X.2.2.2.2.1
  unfold bf_element at hE
  refine lv_aload_n hx hb dX2_element_0 rfl (lv_at hl 0 rfl) ?_
  refine lv_iload_n hx hb dX2_element_1 rfl (lv_at hl 1 rfl) ?_
  refine lv_if_lt (tgt := 10) hx hb dX2_element_2 (by decide) (fun c_1 => ?_) (fun c_1 => ?_)
  · replace hE := e_t c_1 hE
    exact wbf_element_L10 X hr hk hE Y (lv_sub hl [0, 1, 2, 3] rfl)
  · replace hE := e_f c_1 hE
    refine lv_iload_n hx hb dX2_element_5 rfl (lv_at hl 1 rfl) ?_
    refine lv_iconst (v := 2) hx hb dX2_element_6 (by decide) ?_
    refine lv_icmp_le (tgt := 14) hx hb dX2_element_7 (by decide) (fun c_2 => ?_) (fun c_2 => ?_)
    · replace hE := e_t c_2 hE
      refine lv_iload_n hx hb dX2_element_14 rfl (lv_at hl 2 rfl) ?_
      refine lv_iconst (v := 1) hx hb dX2_element_15 (by decide) ?_
      refine lv_icmp_lt (tgt := 44) hx hb dX2_element_16 (by decide) (fun c_3 => ?_) (fun c_3 => ?_)
      · replace hE := e_t c_3 hE
        exact wbf_element_L44 X hr hk hE Y (lv_sub hl [0, 1, 2, 3] rfl)
      · replace hE := e_f c_3 hE
        refine lv_iload_n hx hb dX2_element_19 rfl (lv_at hl 2 rfl) ?_
        refine lv_aload_n hx hb dX2_element_20 rfl (lv_at hl 0 rfl) ?_
        refine b_geta X Y 38 (by decide) (by decide) q1841 dX2_element_21 ?_
        refine lv_iload_n hx hb dX2_element_24 rfl (lv_at hl 1 rfl) ?_
        obtain ⟨v_4, g, hE⟩ := e_bind hE
        refine n_iald X Y 18 38 rfl rfl g dX2_element_25 ?_
        refine lv_icmp_gt (tgt := 44) hx hb dX2_element_26 (by decide) (fun c_5 => ?_) (fun c_5 => ?_)
        · replace hE := e_t c_5 hE
          exact wbf_element_L44 X hr hk hE Y (lv_sub hl [0, 1, 2, 3] rfl)
        · replace hE := e_f c_5 hE
          refine lv_iload_n hx hb dX2_element_29 rfl (lv_at hl 3 rfl) ?_
          refine lv_iconst (v := 1) hx hb dX2_element_30 (by decide) ?_
          refine lv_icmp_lt (tgt := 44) hx hb dX2_element_31 (by decide) (fun c_6 => ?_) (fun c_6 => ?_)
          · replace hE := e_t c_6 hE
            exact wbf_element_L44 X hr hk hE Y (lv_sub hl [0, 1, 2, 3] rfl)
          · replace hE := e_f c_6 hE
            refine lv_iload_n hx hb dX2_element_34 rfl (lv_at hl 3 rfl) ?_
            refine lv_aload_n hx hb dX2_element_35 rfl (lv_at hl 0 rfl) ?_
            refine b_geta X Y 39 (by decide) (by decide) q1842 dX2_element_36 ?_
            refine lv_iload_n hx hb dX2_element_39 rfl (lv_at hl 1 rfl) ?_
            obtain ⟨v_7, g, hE⟩ := e_bind hE
            refine n_iald X Y 19 39 rfl rfl g dX2_element_40 ?_
            refine lv_icmp_le (tgt := 48) hx hb dX2_element_41 (by decide) (fun c_8 => ?_) (fun c_8 => ?_)
            · replace hE := e_t c_8 hE
              refine lv_iconst (v := 0) hx hb dX2_element_48 (by decide) ?_
              exact wbf_element_L49 X hr hk hE Y (lv_sub hl [0, 1, 2, 3] rfl)
            · replace hE := e_f c_8 hE
              exact wbf_element_L44 X hr hk hE Y (lv_sub hl [0, 1, 2, 3] rfl)
    · replace hE := e_f c_2 hE
      exact wbf_element_L10 X hr hk hE Y (lv_sub hl [0, 1, 2, 3] rfl)
/-! BasicMachineModel.at()I -/
set_option maxHeartbeats 4000000 in
set_option maxRecDepth 100000 in
theorem mbf_at (l : Launch) (n : Nat) (b : bP) (ok : bOk b) {st : bS} {q : bS × Int32} (hE : bf_at n st = some q) : bMet l yX2_at cX2_at 1 (some .int) 1 21 b [] st (some (.int q.2)) q.1 := by
  refine b_ofW (by decide) rfl ok (Nat.le_of_ble_eq_true rfl) (fun p e s m below meth c ls X Y hr hk hl => ?_)
  have hl : lv_has ls 1 [(0, .ref b.h)] := hl
  generalize s.heap = H at Y ⊢
  generalize ([] : List Loc) = locs at Y ⊢
  have hx := X.1
  have hb := X.2.1
  have hown := X.2.2.2.1
  have hts := X.2.2.2.2.1
  unfold bf_at at hE
  refine lv_aload_n hx hb dX2_at_0 rfl (lv_at hl 0 rfl) ?_
  refine lv_aload_n hx hb dX2_at_1 rfl (lv_at hl 0 rfl) ?_
  refine b_geti X Y 17 rfl (by decide) rfl q1820 dX2_at_2 ?_
  obtain ⟨q_1, g, hE⟩ := e_bind hE
  refine n_call1 (n := 1) [.int (st.1 17)] X Y (mbf_fine l n b X.2.2.2.2.2.2 g) q1951 q1953 qs53 q1954 (by decide +kernel) (by decide) rfl hl.1 (Nat.le_of_ble_eq_true rfl) dX2_at_5 (by decide) (fun H locs Y => ?_)
  cases hE
  exact b_iret X Y hr hk dX2_at_8
/-! BasicMachineModel.most()I -/
set_option maxHeartbeats 4000000 in
set_option maxRecDepth 100000 in
theorem wbf_most_S4_ {l : Launch} {b : bP} {As : List Value} {p : Program} {e : Env} {s : State} {m : MethodId} {below : List Frame} {meth : Method} {c : Code} (X : bX p s m (Value.ref b.h :: As).toArray c cX2_most 3 b) (hr : meth.sig.returnType = (some .int)) (hk : meth.locks = false) (n : Nat) {q : bS × Int32} : ∀ k : Nat, (∀ {st : bS} {x1 : Int32} {x2 : Int32}, bf_most_S4 n k 0 st x1 x2 = some q → ∀ {H : Heap} {locs : List Loc} {ls : Array Slot}, bY b s st H locs → lv_has ls 3 [(0, .ref b.h), (1, .int x1), (2, .int x2)] → bG l 0 0 b As (some (.int q.2)) q.1 p e s m below meth c H locs (F0 m 4 ls [])) ∧ (∀ {st : bS} {x1 : Int32} {x2 : Int32}, bf_most_S4 n k 1 st x1 x2 = some q → ∀ {H : Heap} {locs : List Loc} {ls : Array Slot}, bY b s st H locs → lv_has ls 3 [(0, .ref b.h), (1, .int x1), (2, .int x2)] → bG l 0 0 b As (some (.int q.2)) q.1 p e s m below meth c H locs (F0 m 36 ls [])) := by
  have hx := X.1
  have hb := X.2.1
  have hown := X.2.2.2.1
  have hts := X.2.2.2.2.1
  intro k
  induction k with
  | zero => exact ⟨(fun h => nomatch (show none = some q from h)), (fun h => nomatch (show none = some q from h))⟩
  | succ k ih =>
    obtain ⟨ih0, ih1⟩ := ih
    refine ⟨?_, ?_⟩
    · intro st x1 x2 hE H locs ls Y hl
      replace hE : bf_most_B4 n (bf_most_S4 n k) st x1 x2 = some q := hE
      unfold bf_most_B4 at hE
      refine lv_iload_n hx hb dX2_most_4 rfl (lv_at hl 2 rfl) ?_
      refine lv_bipush (v := 24) hx hb dX2_most_5 (by decide) ?_
      refine lv_icmp_ge (tgt := 42) hx hb dX2_most_7 (by decide) (fun c_1 => ?_) (fun c_1 => ?_)
      · replace hE := e_t c_1 hE
        refine lv_iload_n hx hb dX2_most_42 rfl (lv_at hl 1 rfl) ?_
        cases hE
        exact b_iret X Y hr hk dX2_most_43
      · replace hE := e_f c_1 hE
        refine lv_aload_n hx hb dX2_most_10 rfl (lv_at hl 0 rfl) ?_
        refine b_geta X Y 10 (by decide) (by decide) q1813 dX2_most_11 ?_
        refine lv_iload_n hx hb dX2_most_14 rfl (lv_at hl 2 rfl) ?_
        obtain ⟨v_2, g, hE⟩ := e_bind hE
        refine n_iald X Y 2 10 rfl rfl g dX2_most_15 ?_
        refine lv_if_le (tgt := 36) hx hb dX2_most_16 (by decide) (fun c_3 => ?_) (fun c_3 => ?_)
        · replace hE := e_t c_3 hE
          exact ih1 hE Y (lv_sub hl [0, 1, 2] rfl)
        · replace hE := e_f c_3 hE
          refine lv_aload_n hx hb dX2_most_19 rfl (lv_at hl 0 rfl) ?_
          refine b_geta X Y 10 (by decide) (by decide) q1813 dX2_most_20 ?_
          refine lv_iload_n hx hb dX2_most_23 rfl (lv_at hl 2 rfl) ?_
          obtain ⟨v_4, g, hE⟩ := e_bind hE
          refine n_iald X Y 2 10 rfl rfl g dX2_most_24 ?_
          refine lv_iload_n hx hb dX2_most_25 rfl (lv_at hl 1 rfl) ?_
          refine lv_icmp_le (tgt := 36) hx hb dX2_most_26 (by decide) (fun c_5 => ?_) (fun c_5 => ?_)
          · replace hE := e_t c_5 hE
            exact ih1 hE Y (lv_sub hl [0, 1, 2] rfl)
          · replace hE := e_f c_5 hE
            refine lv_aload_n hx hb dX2_most_29 rfl (lv_at hl 0 rfl) ?_
            refine b_geta X Y 10 (by decide) (by decide) q1813 dX2_most_30 ?_
            refine lv_iload_n hx hb dX2_most_33 rfl (lv_at hl 2 rfl) ?_
            obtain ⟨v_6, g, hE⟩ := e_bind hE
            refine n_iald X Y 2 10 rfl rfl g dX2_most_34 ?_
            refine lv_istore_n (lv' := [(1, .int v_6), (0, .ref b.h), (2, .int x2)]) hx hb dX2_most_35 rfl hl (by decide) rfl (fun ls hl => ?_)
            exact ih1 hE Y (lv_sub hl [1, 0, 2] rfl)
    · intro st x1 x2 hE H locs ls Y hl
      replace hE : bf_most_B36 n (bf_most_S4 n k) st x1 x2 = some q := hE
      unfold bf_most_B36 at hE
      refine lv_iinc (v := (x2 + (1 : Int32))) (lv' := [(2, .int (x2 + (1 : Int32))), (0, .ref b.h), (1, .int x1)]) hx hb dX2_most_36 hl (k := 2) rfl rfl (by decide) rfl (fun ls hl => ?_)
      refine lv_goto (tgt := 4) hx hb dX2_most_39 (by decide) ?_
      exact ih0 hE Y (lv_sub hl [1, 2, 0] rfl)
set_option maxHeartbeats 4000000 in
set_option maxRecDepth 100000 in
theorem wbf_most_S4 {l : Launch} {b : bP} {As : List Value} {p : Program} {e : Env} {s : State} {m : MethodId} {below : List Frame} {meth : Method} {c : Code} (X : bX p s m (Value.ref b.h :: As).toArray c cX2_most 3 b) (hr : meth.sig.returnType = (some .int)) (hk : meth.locks = false) (n : Nat) {q : bS × Int32} : (∀ {st : bS} {x1 : Int32} {x2 : Int32}, bf_most_S4 n n 0 st x1 x2 = some q → ∀ {H : Heap} {locs : List Loc} {ls : Array Slot}, bY b s st H locs → lv_has ls 3 [(0, .ref b.h), (1, .int x1), (2, .int x2)] → bG l 0 0 b As (some (.int q.2)) q.1 p e s m below meth c H locs (F0 m 4 ls [])) ∧ (∀ {st : bS} {x1 : Int32} {x2 : Int32}, bf_most_S4 n n 1 st x1 x2 = some q → ∀ {H : Heap} {locs : List Loc} {ls : Array Slot}, bY b s st H locs → lv_has ls 3 [(0, .ref b.h), (1, .int x1), (2, .int x2)] → bG l 0 0 b As (some (.int q.2)) q.1 p e s m below meth c H locs (F0 m 36 ls [])) := wbf_most_S4_ X hr hk n n
set_option maxHeartbeats 4000000 in
set_option maxRecDepth 100000 in
theorem mbf_most (l : Launch) (n : Nat) (b : bP) (ok : bOk b) {st : bS} {q : bS × Int32} (hE : bf_most n st = some q) : bMet l yX2_most cX2_most 3 (some .int) 0 0 b [] st (some (.int q.2)) q.1 := by
  refine b_ofW (by decide) rfl ok (Nat.le_of_ble_eq_true rfl) (fun p e s m below meth c ls X Y hr hk hl => ?_)
  have hl : lv_has ls 3 [(0, .ref b.h)] := hl
  generalize s.heap = H at Y ⊢
  generalize ([] : List Loc) = locs at Y ⊢
  have hx := X.1
  have hb := X.2.1
  have hown := X.2.2.2.1
  have hts := X.2.2.2.2.1
  unfold bf_most at hE
  refine lv_iconst (v := -1) hx hb dX2_most_0 (by decide) ?_
  refine lv_istore_n (lv' := [(1, .int (-1 : Int32)), (0, .ref b.h)]) hx hb dX2_most_1 rfl hl (by decide) rfl (fun ls hl => ?_)
  refine lv_iconst (v := 0) hx hb dX2_most_2 (by decide) ?_
  refine lv_istore_n (lv' := [(2, .int (0 : Int32)), (1, .int (-1 : Int32)), (0, .ref b.h)]) hx hb dX2_most_3 rfl hl (by decide) rfl (fun ls hl => ?_)
  exact (wbf_most_S4 X hr hk n).1 hE Y (lv_sub hl [2, 1, 0] rfl)
/-! BasicMachineModel.count(I)I -/
set_option maxHeartbeats 4000000 in
set_option maxRecDepth 100000 in
theorem mbf_count (l : Launch) (n : Nat) (b : bP) (ok : bOk b) {st : bS} {a1 : Int32} {q : bS × Int32} (hE : bf_count n st a1 = some q) : bMet l yX2_count cX2_count 2 (some .int) 1 23 b [.int a1] st (some (.int q.2)) q.1 := by
  refine b_ofW (by decide) rfl ok (Nat.le_of_ble_eq_true rfl) (fun p e s m below meth c ls X Y hr hk hl => ?_)
  have hl : lv_has ls 2 [(0, .ref b.h), (1, .int a1)] := hl
  generalize s.heap = H at Y ⊢
  generalize ([] : List Loc) = locs at Y ⊢
  have hx := X.1
  have hb := X.2.1
  have hown := X.2.2.2.1
  have hts := X.2.2.2.2.1
  unfold bf_count at hE
  refine lv_aload_n hx hb dX2_count_0 rfl (lv_at hl 0 rfl) ?_
  refine lv_iconst (v := 0) hx hb dX2_count_1 (by decide) ?_
  obtain ⟨st_1, g, hE⟩ := e_bind hE
  refine n_put X Y 0 rfl (by decide) g rfl rfl rfl q1803 dX2_count_2 (fun H locs Y => ?_)
  refine lv_iload_n hx hb dX2_count_5 rfl (lv_at hl 1 rfl) ?_
  by_cases c_2 : a1 = (0 : Int32)
  · replace hE := e_t c_2 hE
    refine lv_tableIn (off := 54) (tgt := 60) hx hb dX2_count_6 (by rw [c_2]; decide) (by rw [c_2]; decide) (by rw [c_2]; rfl) (by decide) ?_
    refine lv_aload_n hx hb dX2_count_60 rfl (lv_at hl 0 rfl) ?_
    refine b_geti X Y 1 rfl (by decide) rfl q1804 dX2_count_61 ?_
    cases hE
    exact b_iret X Y hr hk dX2_count_64
  replace hE := e_f c_2 hE
  by_cases c_3 : a1 = (1 : Int32)
  · replace hE := e_t c_3 hE
    refine lv_tableIn (off := 59) (tgt := 65) hx hb dX2_count_6 (by rw [c_3]; decide) (by rw [c_3]; decide) (by rw [c_3]; rfl) (by decide) ?_
    refine lv_aload_n hx hb dX2_count_65 rfl (lv_at hl 0 rfl) ?_
    obtain ⟨q_4, g, hE⟩ := e_bind hE
    refine n_call1 (n := 0) [] X Y (mbf_lines l n b X.2.2.2.2.2.2 g) q2132 q2134 qs90 q2135 (by decide +kernel) (by decide) rfl hl.1 (Nat.le_of_ble_eq_true rfl) dX2_count_66 (by decide) (fun H locs Y => ?_)
    cases hE
    exact b_iret X Y hr hk dX2_count_69
  replace hE := e_f c_3 hE
  by_cases c_5 : a1 = (2 : Int32)
  · replace hE := e_t c_5 hE
    refine lv_tableIn (off := 64) (tgt := 70) hx hb dX2_count_6 (by rw [c_5]; decide) (by rw [c_5]; decide) (by rw [c_5]; rfl) (by decide) ?_
    refine lv_aload_n hx hb dX2_count_70 rfl (lv_at hl 0 rfl) ?_
    refine b_geti X Y 16 rfl (by decide) rfl q1819 dX2_count_71 ?_
    cases hE
    exact b_iret X Y hr hk dX2_count_74
  replace hE := e_f c_5 hE
  by_cases c_6 : a1 = (3 : Int32)
  · replace hE := e_t c_6 hE
    refine lv_tableIn (off := 69) (tgt := 75) hx hb dX2_count_6 (by rw [c_6]; decide) (by rw [c_6]; decide) (by rw [c_6]; rfl) (by decide) ?_
    refine lv_aload_n hx hb dX2_count_75 rfl (lv_at hl 0 rfl) ?_
    refine b_geti X Y 18 rfl (by decide) rfl q1821 dX2_count_76 ?_
    cases hE
    exact b_iret X Y hr hk dX2_count_79
  replace hE := e_f c_6 hE
  by_cases c_7 : a1 = (4 : Int32)
  · replace hE := e_t c_7 hE
    refine lv_tableIn (off := 74) (tgt := 80) hx hb dX2_count_6 (by rw [c_7]; decide) (by rw [c_7]; decide) (by rw [c_7]; rfl) (by decide) ?_
    refine lv_aload_n hx hb dX2_count_80 rfl (lv_at hl 0 rfl) ?_
    refine b_geti X Y 23 rfl (by decide) rfl q1826 dX2_count_81 ?_
    cases hE
    exact b_iret X Y hr hk dX2_count_84
  replace hE := e_f c_7 hE
  by_cases c_8 : a1 = (5 : Int32)
  · replace hE := e_t c_8 hE
    refine lv_tableIn (off := 79) (tgt := 85) hx hb dX2_count_6 (by rw [c_8]; decide) (by rw [c_8]; decide) (by rw [c_8]; rfl) (by decide) ?_
    refine lv_aload_n hx hb dX2_count_85 rfl (lv_at hl 0 rfl) ?_
    refine b_geti X Y 22 rfl (by decide) rfl q1825 dX2_count_86 ?_
    cases hE
    exact b_iret X Y hr hk dX2_count_89
  replace hE := e_f c_8 hE
  by_cases c_9 : a1 = (6 : Int32)
  · replace hE := e_t c_9 hE
    refine lv_tableIn (off := 84) (tgt := 90) hx hb dX2_count_6 (by rw [c_9]; decide) (by rw [c_9]; decide) (by rw [c_9]; rfl) (by decide) ?_
    refine lv_aload_n hx hb dX2_count_90 rfl (lv_at hl 0 rfl) ?_
    refine b_geti X Y 21 rfl (by decide) rfl q1824 dX2_count_91 ?_
    cases hE
    exact b_iret X Y hr hk dX2_count_94
  replace hE := e_f c_9 hE
  by_cases c_10 : a1 = (7 : Int32)
  · replace hE := e_t c_10 hE
    refine lv_tableIn (off := 89) (tgt := 95) hx hb dX2_count_6 (by rw [c_10]; decide) (by rw [c_10]; decide) (by rw [c_10]; rfl) (by decide) ?_
    refine lv_aload_n hx hb dX2_count_95 rfl (lv_at hl 0 rfl) ?_
    refine b_geti X Y 26 rfl (by decide) rfl q1829 dX2_count_96 ?_
    cases hE
    exact b_iret X Y hr hk dX2_count_99
  replace hE := e_f c_10 hE
  by_cases c_11 : a1 = (8 : Int32)
  · replace hE := e_t c_11 hE
    refine lv_tableIn (off := 94) (tgt := 100) hx hb dX2_count_6 (by rw [c_11]; decide) (by rw [c_11]; decide) (by rw [c_11]; rfl) (by decide) ?_
    refine lv_aload_n hx hb dX2_count_100 rfl (lv_at hl 0 rfl) ?_
    refine lv_iconst (v := 0) hx hb dX2_count_101 (by decide) ?_
    obtain ⟨q_12, g, hE⟩ := e_bind hE
    refine n_call1 (n := 1) [.int (0 : Int32)] X Y (mbf_nextSlot l n b X.2.2.2.2.2.2 g) q2160 q2162 qs94 q2163 (by decide +kernel) (by decide) rfl hl.1 (Nat.le_of_ble_eq_true rfl) dX2_count_102 (by decide) (fun H locs Y => ?_)
    refine lv_if_ge (tgt := 112) hx hb dX2_count_105 (by decide) (fun c_13 => ?_) (fun c_13 => ?_)
    · replace hE := e_t c_13 hE
      refine lv_aload_n hx hb dX2_count_112 rfl (lv_at hl 0 rfl) ?_
      refine b_geta X Y 10 (by decide) (by decide) q1813 dX2_count_113 ?_
      refine lv_aload_n hx hb dX2_count_116 rfl (lv_at hl 0 rfl) ?_
      refine lv_iconst (v := 0) hx hb dX2_count_117 (by decide) ?_
      obtain ⟨q_14, g, hE⟩ := e_bind hE
      refine n_call1 (n := 1) [.int (0 : Int32)] X Y (mbf_nextSlot l n b X.2.2.2.2.2.2 g) q2160 q2162 qs94 q2163 (by decide +kernel) (by decide) rfl hl.1 (Nat.le_of_ble_eq_true rfl) dX2_count_118 (by decide) (fun H locs Y => ?_)
      obtain ⟨v_15, g, hE⟩ := e_bind hE
      refine n_iald X Y 2 10 rfl rfl g dX2_count_121 ?_
      cases hE
      exact b_iret X Y hr hk dX2_count_122
    · replace hE := e_f c_13 hE
      refine lv_iconst (v := -1) hx hb dX2_count_108 (by decide) ?_
      refine lv_goto (tgt := 122) hx hb dX2_count_109 (by decide) ?_
      cases hE
      exact b_iret X Y hr hk dX2_count_122
  replace hE := e_f c_11 hE
  by_cases c_16 : a1 = (9 : Int32)
  · replace hE := e_t c_16 hE
    refine lv_tableIn (off := 117) (tgt := 123) hx hb dX2_count_6 (by rw [c_16]; decide) (by rw [c_16]; decide) (by rw [c_16]; rfl) (by decide) ?_
    refine lv_aload_n hx hb dX2_count_123 rfl (lv_at hl 0 rfl) ?_
    obtain ⟨q_17, g, hE⟩ := e_bind hE
    refine n_call1 (n := 0) [] X Y (mbf_most l n b X.2.2.2.2.2.2 g) q2290 q2292 qs120 q2293 (by decide +kernel) (by decide) rfl hl.1 (Nat.le_of_ble_eq_true rfl) dX2_count_124 (by decide) (fun H locs Y => ?_)
    cases hE
    exact b_iret X Y hr hk dX2_count_127
  replace hE := e_f c_16 hE
  refine lv_tableOut (tgt := 128) hx hb dX2_count_6 (by have h0 := lv_neT c_2 (a := 0) (by decide); have h1 := lv_neT c_3 (a := 1) (by decide); have h2 := lv_neT c_5 (a := 2) (by decide); have h3 := lv_neT c_6 (a := 3) (by decide); have h4 := lv_neT c_7 (a := 4) (by decide); have h5 := lv_neT c_8 (a := 5) (by decide); have h6 := lv_neT c_9 (a := 6) (by decide); have h7 := lv_neT c_10 (a := 7) (by decide); have h8 := lv_neT c_11 (a := 8) (by decide); have h9 := lv_neT c_16 (a := 9) (by decide); omega) (by decide) ?_
  refine lv_iconst (v := -1) hx hb dX2_count_128 (by decide) ?_
  cases hE
  exact b_iret X Y hr hk dX2_count_129

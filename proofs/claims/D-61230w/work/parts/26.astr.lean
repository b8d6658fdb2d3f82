/-! the string constants: by their addresses (printed by gens.py) -/
def sIx (S : Nat → Nat) (q : Nat) : Option Nat := (List.range 28).find? (fun i => S i = q)
def sLen (S : Nat → Nat) (q : Nat) : Option Int32 := (sIx S q).bind fun i => some (Int32.ofNat (aSb i).length)
def sAt (S : Nat → Nat) (q : Nat) (k : Int32) : Option Int32 := (sIx S q).bind fun i => if k < 0 ∨ (aSb i).length ≤ k.toNatClampNeg then none else some ((aSb i).getD k.toNatClampNeg 0)
def sHash (S : Nat → Nat) (q : Nat) : Option Int32 := (sIx S q).bind fun i => some (aSh i)
def sEq (S : Nat → Nat) (q : Nat) (r : Option Nat) : Option Int32 := (sIx S q).bind fun _ => if r = some q then some 1 else none
theorem i_sIx {S : Nat → Nat} {q i : Nat} (h : sIx S q = some i) : i < 28 ∧ S i = q := by
  unfold sIx at h
  have h1 := List.find?_some h
  have h2 := List.mem_of_find?_eq_some h
  exact ⟨List.mem_range.mp h2, by simpa using h1⟩
theorem aSb_ok : ∀ i, i < 28 → (aSb i).length < 2 ^ 31 ∧ (∀ b ∈ aSb i, ((b &&& 255).toUInt32 % 65536).toInt32 = b ∧ narrow .char (.int b) = .int b) ∧ ¬ aSh i = 0 := by decide +kernel
theorem n_eqi9 {p : Program} {l : Launch} {e : Env} {R : Room} {s : State} {m : MethodId} {args : Array Value} {below : List Frame} {meth : Method} {c : Code} {H : Heap} {locs : List Loc} {kc ks : Nat} {Q : State → Prop} {pc : Nat} {ls : Array Slot} {rest : List Value} {v z : Int32} (g : v = z) (k : W p l e R s m args below meth c H locs kc ks Q (F0 m pc ls (.int z :: rest))) : W p l e R s m args below meth c H locs kc ks Q (F0 m pc ls (.int v :: rest)) := by subst g; exact k
theorem ms_coder {l : Launch} (hl0 : l.stackTraces = false) {x : aP} {σ : aS} {i : Nat} (hi : i < 28) : aMet l yJ5_coder (ws_ yJ5_coder cJ5_coder 1 (some .byte)) 0 0 x [.ref (x.sK i)] σ (.inl (some (.int 0))) σ := by
  refine a_ofW (own := "java/lang/String") hl0 (by decide) rfl (Nat.le_of_ble_eq_true rfl) (fun mc ms p e s m below meth c ls H locs kc ks h1 h2 X hex Y hr hnm hl => ?_)
  have hx := X.1
  have hb := X.2.1
  have hown := X.2.2.2.1
  have hts := X.2.2.2.2.1
  have hZ := X.2.2.2.2.2.2.1
  have hl : lv_has ls 1 [(0, .ref (x.sK i))] := hl
  refine va_gets (C := "java/lang/String") (ref := "java/lang/String") hx hb hZ.2.2.1 Y.2.1 hown (hts _ q520) (fun _ h => h) dJ5_coder_0 ?_
  refine lv_if_eq (tgt := 13) hx hb dJ5_coder_3 (by decide) (fun c1 => absurd c1 (by decide)) (fun _ => ?_)
  refine lv_aload_n hx hb dJ5_coder_6 rfl (lv_at hl 0 rfl) ?_
  refine vk_getf (v := .int 0) (ref := "java/lang/String") hx hb (hZ.2.2.2.1 i hi).2.1 Y.2.1 hown (hts _ q829) (fun _ h => h) dJ5_coder_7 ?_
  refine lv_goto (tgt := 14) hx hb dJ5_coder_10 (by decide) ?_
  exact a_zret (v := 0) X Y h1 h2 hr (by first | rfl | decide +kernel) dJ5_coder_14
theorem ms_isLatin1 {l : Launch} (hl0 : l.stackTraces = false) {x : aP} {σ : aS} {i : Nat} (hi : i < 28) : aMet l yJ5_isLatin1 (ws_ yJ5_isLatin1 cJ5_isLatin1 1 (some .boolean)) 0 0 x [.ref (x.sK i)] σ (.inl (some (.int 1))) σ := by
  refine a_ofW (own := "java/lang/String") hl0 (by decide) rfl (Nat.le_of_ble_eq_true rfl) (fun mc ms p e s m below meth c ls H locs kc ks h1 h2 X hex Y hr hnm hl => ?_)
  have hx := X.1
  have hb := X.2.1
  have hown := X.2.2.2.1
  have hts := X.2.2.2.2.1
  have hZ := X.2.2.2.2.2.2.1
  have hl : lv_has ls 1 [(0, .ref (x.sK i))] := hl
  refine va_gets (C := "java/lang/String") (ref := "java/lang/String") hx hb hZ.2.2.1 Y.2.1 hown (hts _ q520) (fun _ h => h) dJ5_isLatin1_0 ?_
  refine lv_if_eq (tgt := 17) hx hb dJ5_isLatin1_3 (by decide) (fun c1 => absurd c1 (by decide)) (fun _ => ?_)
  refine lv_aload_n hx hb dJ5_isLatin1_6 rfl (lv_at hl 0 rfl) ?_
  refine vk_getf (v := .int 0) (ref := "java/lang/String") hx hb (hZ.2.2.2.1 i hi).2.1 Y.2.1 hown (hts _ q829) (fun _ h => h) dJ5_isLatin1_7 ?_
  refine lv_if_ne (tgt := 17) hx hb dJ5_isLatin1_10 (by decide) (fun c1 => absurd rfl c1) (fun _ => ?_)
  refine lv_iconst (v := 1) hx hb dJ5_isLatin1_13 (by decide) ?_
  refine lv_goto (tgt := 18) hx hb dJ5_isLatin1_14 (by decide) ?_
  exact a_zret (v := 1) X Y h1 h2 hr nz1 dJ5_isLatin1_18
theorem ms_length {l : Launch} (hl0 : l.stackTraces = false) {x : aP} {σ : aS} {i : Nat} (hi : i < 28) : aMet l yJ5_length (ws_ yJ5_length cJ5_length 1 (some .int)) 1 20 x [.ref (x.sK i)] σ (.inl (some (.int (Int32.ofNat (aSb i).length)))) σ := by
  refine a_ofW (own := "java/lang/String") hl0 (by decide) rfl (Nat.le_of_ble_eq_true rfl) (fun mc ms p e s m below meth c ls H locs kc ks h1 h2 X hex Y hr hnm hl => ?_)
  have hx := X.1
  have hb := X.2.1
  have hown := X.2.2.2.1
  have hts := X.2.2.2.2.1
  have hZ := X.2.2.2.2.2.2.1
  have hl : lv_has ls 1 [(0, .ref (x.sK i))] := hl
  refine lv_aload_n hx hb dJ5_length_0 rfl (lv_at hl 0 rfl) ?_
  refine vk_getf (v := .ref (x.sV i)) (ref := "java/lang/String") hx hb (hZ.2.2.2.1 i hi).2.2.1 Y.2.1 hown (hts _ q828) (fun _ h => h) dJ5_length_1 ?_
  refine va_tlen hx hb (hZ.2.2.2.1 i hi).2.2.2.2 Y.2.1 rfl dJ5_length_4 ?_
  refine lv_aload_n hx hb dJ5_length_5 rfl (lv_at hl 0 rfl) ?_
  refine a_callV (n := 0) (C := "java/lang/String") (σf := σ) [] X Y (ms_coder hl0 hi) ⟨aLe.rf _, aLe.rf _, h1, h2, by show _ ≤ 1; decide, by show _ ≤ 20; decide⟩ q516 q517 q518 q131 q519 (by decide +kernel) (a_srecv X Y hi) rfl hl.1 (Nat.le_of_ble_eq_true rfl) dJ5_length_6 (fun v hv H locs kc ks Y => ?_) (fun k hk => by cases hk)
  cases hv
  refine lv_ishr hx hb dJ5_length_9 ?_
  refine n_eqi9 (sc_shr0 (aSb_ok i hi).1) ?_
  exact a_iret X Y h1 h2 hr dJ5_length_10
theorem ms_hashCode {l : Launch} (hl0 : l.stackTraces = false) {x : aP} {σ : aS} {i : Nat} (hi : i < 28) : aMet l yJ5_hashCode (ws_ yJ5_hashCode cJ5_hashCode 2 (some .int)) 0 0 x [.ref (x.sK i)] σ (.inl (some (.int (aSh i)))) σ := by
  refine a_ofW (own := "java/lang/String") hl0 (by decide) rfl (Nat.le_of_ble_eq_true rfl) (fun mc ms p e s m below meth c ls H locs kc ks h1 h2 X hex Y hr hnm hl => ?_)
  have hx := X.1
  have hb := X.2.1
  have hown := X.2.2.2.1
  have hts := X.2.2.2.2.1
  have hZ := X.2.2.2.2.2.2.1
  have hl : lv_has ls 2 [(0, .ref (x.sK i))] := hl
  refine lv_aload_n hx hb dJ5_hashCode_0 rfl (lv_at hl 0 rfl) ?_
  refine vk_getf (v := .int (aSh i)) (ref := "java/lang/String") hx hb (hZ.2.2.2.1 i hi).2.2.2.1 Y.2.1 hown (hts _ q830) (fun _ h => h) dJ5_hashCode_1 ?_
  refine lv_istore_n (i := 1) (lv' := [(1, .int (aSh i)), (0, .ref (x.sK i))]) hx hb dJ5_hashCode_4 rfl hl (by decide) rfl (fun ls hl => ?_)
  refine lv_iload_n hx hb dJ5_hashCode_5 rfl (lv_at hl 0 rfl) ?_
  refine lv_if_ne (tgt := 58) hx hb dJ5_hashCode_6 (by decide) (fun _ => ?_) (fun c1 => absurd c1 (aSb_ok i hi).2.2)
  refine lv_iload_n hx hb dJ5_hashCode_58 rfl (lv_at hl 0 rfl) ?_
  exact a_iret X Y h1 h2 hr dJ5_hashCode_59
theorem ms_equals {l : Launch} (hl0 : l.stackTraces = false) {x : aP} {σ : aS} {i : Nat} : aMet l yJ5_equals (ws_ yJ5_equals cJ5_equals 3 (some .boolean)) 0 0 x [.ref (x.sK i), .ref (x.sK i)] σ (.inl (some (.int 1))) σ := by
  refine a_ofW (own := "java/lang/String") hl0 (by decide) rfl (Nat.le_of_ble_eq_true rfl) (fun mc ms p e s m below meth c ls H locs kc ks h1 h2 X hex Y hr hnm hl => ?_)
  have hx := X.1
  have hb := X.2.1
  have hown := X.2.2.2.1
  have hts := X.2.2.2.2.1
  have hZ := X.2.2.2.2.2.2.1
  have hl : lv_has ls 3 [(0, .ref (x.sK i)), (1, .ref (x.sK i))] := hl
  refine lv_aload_n hx hb dJ5_equals_0 rfl (lv_at hl 0 rfl) ?_
  refine lv_aload_n hx hb dJ5_equals_1 rfl (lv_at hl 1 rfl) ?_
  refine lv_acmp_ne (rx := some (x.sK i)) (ry := some (x.sK i)) (tgt := 7) hx hb dJ5_equals_2 (by decide) (fun c1 => absurd rfl c1) (fun _ => ?_)
  refine lv_iconst (v := 1) hx hb dJ5_equals_5 (by decide) ?_
  exact a_zret (v := 1) X Y h1 h2 hr nz1 dJ5_equals_6
theorem ms_checkIndexP {l : Launch} (hl0 : l.stackTraces = false) {x : aP} {σ : aS} {k n : Int32} {r : Option Nat} (hk : ¬ k < 0) (hn : k < n) : aMet l yJ7_checkIndex (ws_ yJ7_checkIndex cJ7_checkIndex 3 (some .int)) 0 0 x [.int k, .int n, va_rf r] σ (.inl (some (.int k))) σ := by
  refine a_ofW (own := "jdk/internal/util/Preconditions") hl0 (by decide) rfl (by cases r <;> exact Nat.le_of_ble_eq_true rfl) (fun mc ms p e s m below meth c ls H locs kc ks h1 h2 X hex Y hr hnm hl => ?_)
  have hx := X.1
  have hb := X.2.1
  have hown := X.2.2.2.1
  have hts := X.2.2.2.2.1
  have hZ := X.2.2.2.2.2.2.1
  have hl : lv_has ls 3 [(0, .int k), (1, .int n), (2, va_rf r)] := hl
  refine lv_iload_n hx hb dJ7_checkIndex_0 rfl (lv_at hl 0 rfl) ?_
  refine lv_if_lt (tgt := 9) hx hb dJ7_checkIndex_1 (by decide) (fun c1 => absurd c1 hk) (fun _ => ?_)
  refine lv_iload_n hx hb dJ7_checkIndex_4 rfl (lv_at hl 0 rfl) ?_
  refine lv_iload_n hx hb dJ7_checkIndex_5 rfl (lv_at hl 1 rfl) ?_
  refine lv_icmp_lt (tgt := 16) hx hb dJ7_checkIndex_6 (by decide) (fun _ => ?_) (fun c1 => absurd hn c1)
  refine lv_iload_n hx hb dJ7_checkIndex_16 rfl (lv_at hl 0 rfl) ?_
  exact a_iret X Y h1 h2 hr dJ7_checkIndex_17
theorem ms_checkIndex {l : Launch} (hl0 : l.stackTraces = false) {x : aP} {σ : aS} {k n : Int32} (hk : ¬ k < 0) (hn : k < n) : aMet l yJ5_checkIndex (ws_ yJ5_checkIndex cJ5_checkIndex 2 none) 1 30 x [.int k, .int n] σ (.inl none) σ := by
  refine a_ofW (own := "java/lang/String") hl0 (by decide) rfl (Nat.le_of_ble_eq_true rfl) (fun mc ms p e s m below meth c ls H locs kc ks h1 h2 X hex Y hr hnm hl => ?_)
  have hx := X.1
  have hb := X.2.1
  have hown := X.2.2.2.1
  have hts := X.2.2.2.2.1
  have hZ := X.2.2.2.2.2.2.1
  have hl : lv_has ls 2 [(0, .int k), (1, .int n)] := hl
  refine lv_iload_n hx hb dJ5_checkIndex_0 rfl (lv_at hl 0 rfl) ?_
  refine lv_iload_n hx hb dJ5_checkIndex_1 rfl (lv_at hl 1 rfl) ?_
  obtain ⟨r, hq⟩ : ∃ r : Option Nat, va_Z "jdk/internal/util/Preconditions" "SIOOBE_FORMATTER" "Ljava/util/function/BiFunction;" (va_rf r) (aDom σ) s s.heap := by rcases hZ.2.2.2.2 with h | ⟨t, h⟩; exact ⟨none, h⟩; exact ⟨some t, h⟩
  refine va_gets (C := "jdk/internal/util/Preconditions") (ref := "jdk/internal/util/Preconditions") hx hb hq Y.2.1 hown (hts _ q536) (fun _ h => h) dJ5_checkIndex_2 ?_
  refine a_callS (n := 3) (σf := σ) [.int k, .int n, va_rf r] X Y (ms_checkIndexP hl0 hk hn) ⟨aLe.rf _, aLe.rf _, h1, h2, by show _ ≤ 1; decide, by show _ ≤ 30; decide⟩ q538 q539 q133 q540 (by decide +kernel) rfl hl.1 (Nat.le_of_ble_eq_true rfl) dJ5_checkIndex_5 (fun v hv H locs kc ks Y => ?_) (fun k hk => by cases hk)
  cases hv
  refine lv_pop hx hb dJ5_checkIndex_8 rfl ?_
  exact a_vret X Y h1 h2 hr dJ5_checkIndex_9
theorem ms_charAtL {l : Launch} (hl0 : l.stackTraces = false) {x : aP} {σ : aS} {i : Nat} {k : Int32} (hi : i < 28) (hk : ¬ k < 0) (hn : k.toNatClampNeg < (aSb i).length) : aMet l yJ6_charAt (ws_ yJ6_charAt cJ6_charAt 2 (some .char)) 2 60 x [.ref (x.sV i), .int k] σ (.inl (some (.int ((aSb i).getD k.toNatClampNeg 0)))) σ := by
  refine a_ofW (own := "java/lang/StringLatin1") hl0 (by decide) rfl (Nat.le_of_ble_eq_true rfl) (fun mc ms p e s m below meth c ls H locs kc ks h1 h2 X hex Y hr hnm hl => ?_)
  have hx := X.1
  have hb := X.2.1
  have hown := X.2.2.2.1
  have hts := X.2.2.2.2.1
  have hZ := X.2.2.2.2.2.2.1
  have hl : lv_has ls 2 [(0, .ref (x.sV i)), (1, .int k)] := hl
  have hlen := (aSb_ok i hi).1
  have hkn : k < Int32.ofNat (aSb i).length := by
    obtain ⟨j, hj, rfl⟩ := nI_of hk
    rw [nI_clamp hj] at hn
    exact nI_lt hn hlen
  refine lv_iload_n hx hb dJ6_charAt_0 rfl (lv_at hl 1 rfl) ?_
  refine lv_aload_n hx hb dJ6_charAt_1 rfl (lv_at hl 0 rfl) ?_
  refine va_tlen hx hb (hZ.2.2.2.1 i hi).2.2.2.2 Y.2.1 rfl dJ6_charAt_2 ?_
  refine a_callS (n := 2) (σf := σ) [.int k, .int (Int32.ofNat (aSb i).length)] X Y (ms_checkIndex hl0 hk hkn) ⟨aLe.rf _, aLe.rf _, h1, h2, by show _ ≤ 2; decide, by show _ ≤ 60; decide⟩ q533 q534 q131 q535 (by decide +kernel) rfl hl.1 (Nat.le_of_ble_eq_true rfl) dJ6_charAt_3 (fun v hv H locs kc ks Y => ?_) (fun k hk => by cases hk)
  cases hv
  refine lv_aload_n hx hb dJ6_charAt_6 rfl (lv_at hl 0 rfl) ?_
  refine lv_iload_n hx hb dJ6_charAt_7 rfl (lv_at hl 1 rfl) ?_
  refine va_tb (v := .int ((aSb i).getD k.toNatClampNeg 0)) hx hb (hZ.2.2.2.1 i hi).2.2.2.2 Y.2.1 (fun z => z.elim hk (fun z => absurd hn (Nat.not_lt.mpr z))) rfl dJ6_charAt_8 ?_
  refine lv_sipush (v := 255) hx hb dJ6_charAt_9 (by decide) ?_
  refine lv_iand hx hb dJ6_charAt_12 ?_
  have hm : (aSb i).getD k.toNatClampNeg 0 ∈ aSb i := by rw [List.getD_eq_getElem?_getD, List.getElem?_eq_getElem hn]; exact List.getElem_mem hn
  refine lv_i2c (v := (aSb i).getD k.toNatClampNeg 0) hx hb dJ6_charAt_13 ((aSb_ok i hi).2.1 _ hm).1 ?_
  exact a_zret X Y h1 h2 hr ((aSb_ok i hi).2.1 _ hm).2 dJ6_charAt_14
theorem ms_charAt {l : Launch} (hl0 : l.stackTraces = false) {x : aP} {σ : aS} {i : Nat} {k : Int32} (hi : i < 28) (hk : ¬ k < 0) (hn : k.toNatClampNeg < (aSb i).length) : aMet l yJ5_charAt (ws_ yJ5_charAt cJ5_charAt 2 (some .char)) 3 90 x [.ref (x.sK i), .int k] σ (.inl (some (.int ((aSb i).getD k.toNatClampNeg 0)))) σ := by
  refine a_ofW (own := "java/lang/String") hl0 (by decide) rfl (Nat.le_of_ble_eq_true rfl) (fun mc ms p e s m below meth c ls H locs kc ks h1 h2 X hex Y hr hnm hl => ?_)
  have hx := X.1
  have hb := X.2.1
  have hown := X.2.2.2.1
  have hts := X.2.2.2.2.1
  have hZ := X.2.2.2.2.2.2.1
  have hl : lv_has ls 2 [(0, .ref (x.sK i)), (1, .int k)] := hl
  refine lv_aload_n hx hb dJ5_charAt_0 rfl (lv_at hl 0 rfl) ?_
  refine a_callV (n := 0) (C := "java/lang/String") (σf := σ) [] X Y (ms_isLatin1 hl0 hi) ⟨aLe.rf _, aLe.rf _, h1, h2, by show _ ≤ 3; decide, by show _ ≤ 90; decide⟩ q526 q527 q528 q131 q529 (by decide +kernel) (a_srecv X Y hi) rfl hl.1 (Nat.le_of_ble_eq_true rfl) dJ5_charAt_1 (fun v hv H locs kc ks Y => ?_) (fun k hk => by cases hk)
  cases hv
  refine lv_if_eq (tgt := 16) hx hb dJ5_charAt_4 (by decide) (fun c1 => absurd c1 (by decide)) (fun _ => ?_)
  refine lv_aload_n hx hb dJ5_charAt_7 rfl (lv_at hl 0 rfl) ?_
  refine vk_getf (v := .ref (x.sV i)) (ref := "java/lang/String") hx hb (hZ.2.2.2.1 i hi).2.2.1 Y.2.1 hown (hts _ q828) (fun _ h => h) dJ5_charAt_8 ?_
  refine lv_iload_n hx hb dJ5_charAt_11 rfl (lv_at hl 1 rfl) ?_
  refine a_callS (n := 2) (σf := σ) [.ref (x.sV i), .int k] X Y (ms_charAtL hl0 hi hk hn) ⟨aLe.rf _, aLe.rf _, h1, h2, by show _ ≤ 3; decide, by show _ ≤ 90; decide⟩ q530 q531 q132 q532 (by decide +kernel) rfl hl.1 (Nat.le_of_ble_eq_true rfl) dJ5_charAt_12 (fun v hv H locs kc ks Y => ?_) (fun k hk => by cases hk)
  cases hv
  have hm : (aSb i).getD k.toNatClampNeg 0 ∈ aSb i := by rw [List.getD_eq_getElem?_getD, List.getElem?_eq_getElem hn]; exact List.getElem_mem hn
  exact a_zret X Y h1 h2 hr ((aSb_ok i hi).2.1 _ hm).2 dJ5_charAt_15
section SROWS
variable {own : String} {p : Program} {l : Launch} {e : Env} {s : State} {m : MethodId} {args : Array Value} {below : List Frame} {meth : Method} {c : Code} {H : Heap} {locs : List Loc} {kc ks : Nat} {Q : State → Prop}
variable {cc : ByteArray} {nL : Nat} {x : aP} {σ0 σ σf : aS} {pc : Nat} {ls : Array Slot} {rest : List Value} {idx a : Nat}
theorem sLen_row {fr lo mc ms : Nat} {v : Int32} (X : aX own p l s m args meth c cc nL x σ0) (Y : aY x σ0 s σ H locs kc ks) (h1 : mc + σ0.1 = σf.1) (h2 : ms + σ0.2.1 = σf.2.1) (M9 : aLe σ σf) (g : sLen x.sK a = some v) (hlk : Cond.methodLink own idx ⟨"java/lang/String", "length", "()I"⟩ ∈ lw_all) (hf : 8 ≤ fr) (ho : 200 ≤ lo) (hls : ls.size = nL) (hW : (rest.map fun v => v.category).sum ≤ 8) (hdg : decode cc pc = .ok (.invokevirtual idx, 3))
    (kk : ∀ (H1 : Heap) (locs1 : List Loc) (kc1 ks1 : Nat), aY x σ0 s σ H1 locs1 kc1 ks1 → W p l e (aRm fr lo mc ms) s m args below meth c H1 locs1 kc1 ks1 Q (F0 m (pc + 3) ls (.int v :: rest))) : W p l e (aRm fr lo mc ms) s m args below meth c H locs kc ks Q (F0 m pc ls (.ref a :: rest)) := by
  replace g := e_bind g
  obtain ⟨i, g1, g⟩ := g
  obtain ⟨hi, rfl⟩ := i_sIx g1
  cases g
  have hl0 := X.2.2.2.2.2.2.2.2
  refine a_callV (n := 0) (C := "java/lang/String") (σf := σf) [] X Y (ms_length hl0 hi) ⟨aLe.rf _, M9, h1, h2, by show _ ≤ fr; omega, by show _ ≤ lo; omega⟩ hlk q513 q514 q131 q515 (by decide +kernel) (a_srecv X Y hi) rfl hls hW hdg (fun v hv H locs kc ks Y => ?_) (fun k hk => by cases hk)
  cases hv
  exact kk H locs kc ks Y
theorem sHash_row {fr lo mc ms : Nat} {v : Int32} (X : aX own p l s m args meth c cc nL x σ0) (Y : aY x σ0 s σ H locs kc ks) (h1 : mc + σ0.1 = σf.1) (h2 : ms + σ0.2.1 = σf.2.1) (M9 : aLe σ σf) (g : sHash x.sK a = some v) (hlk : Cond.methodLink own idx ⟨"java/lang/String", "hashCode", "()I"⟩ ∈ lw_all) (hf : 8 ≤ fr) (ho : 200 ≤ lo) (hls : ls.size = nL) (hW : (rest.map fun v => v.category).sum ≤ 8) (hdg : decode cc pc = .ok (.invokevirtual idx, 3))
    (kk : ∀ (H1 : Heap) (locs1 : List Loc) (kc1 ks1 : Nat), aY x σ0 s σ H1 locs1 kc1 ks1 → W p l e (aRm fr lo mc ms) s m args below meth c H1 locs1 kc1 ks1 Q (F0 m (pc + 3) ls (.int v :: rest))) : W p l e (aRm fr lo mc ms) s m args below meth c H locs kc ks Q (F0 m pc ls (.ref a :: rest)) := by
  replace g := e_bind g
  obtain ⟨i, g1, g⟩ := g
  obtain ⟨hi, rfl⟩ := i_sIx g1
  cases g
  have hl0 := X.2.2.2.2.2.2.2.2
  refine a_callV (n := 0) (C := "java/lang/String") (σf := σf) [] X Y (ms_hashCode hl0 hi) ⟨aLe.rf _, M9, h1, h2, by show _ ≤ fr; omega, by show _ ≤ lo; omega⟩ hlk q561 q562 q131 q563 (by decide +kernel) (a_srecv X Y hi) rfl hls hW hdg (fun v hv H locs kc ks Y => ?_) (fun k hk => by cases hk)
  cases hv
  exact kk H locs kc ks Y
theorem sAt_row {fr lo mc ms : Nat} {k : Int32} {v : Int32} (X : aX own p l s m args meth c cc nL x σ0) (Y : aY x σ0 s σ H locs kc ks) (h1 : mc + σ0.1 = σf.1) (h2 : ms + σ0.2.1 = σf.2.1) (M9 : aLe σ σf) (g : sAt x.sK a k = some v) (hlk : Cond.methodLink own idx ⟨"java/lang/String", "charAt", "(I)C"⟩ ∈ lw_all) (hf : 8 ≤ fr) (ho : 200 ≤ lo) (hls : ls.size = nL) (hW : (rest.map fun v => v.category).sum ≤ 8) (hdg : decode cc pc = .ok (.invokevirtual idx, 3))
    (kk : ∀ (H1 : Heap) (locs1 : List Loc) (kc1 ks1 : Nat), aY x σ0 s σ H1 locs1 kc1 ks1 → W p l e (aRm fr lo mc ms) s m args below meth c H1 locs1 kc1 ks1 Q (F0 m (pc + 3) ls (.int v :: rest))) : W p l e (aRm fr lo mc ms) s m args below meth c H locs kc ks Q (F0 m pc ls (.int k :: .ref a :: rest)) := by
  replace g := e_bind g
  obtain ⟨i, g1, g⟩ := g
  obtain ⟨hi, rfl⟩ := i_sIx g1
  by_cases g2 : k < 0 ∨ (aSb i).length ≤ k.toNatClampNeg
  · rw [if_pos g2] at g; cases g
  rw [if_neg g2] at g
  cases g
  have hl0 := X.2.2.2.2.2.2.2.2
  refine a_callV (n := 1) (C := "java/lang/String") (σf := σf) [.int k] X Y (ms_charAt hl0 hi (fun z => g2 (Or.inl z)) (Nat.not_le.mp fun z => g2 (Or.inr z))) ⟨aLe.rf _, M9, h1, h2, by show _ ≤ fr; omega, by show _ ≤ lo; omega⟩ hlk q523 q524 q131 q525 (by decide +kernel) (a_srecv X Y hi) rfl hls hW hdg (fun v hv H locs kc ks Y => ?_) (fun k hk => by cases hk)
  cases hv
  exact kk H locs kc ks Y
theorem sEq_row {fr lo mc ms : Nat} {r : Option Nat} {v : Int32} (X : aX own p l s m args meth c cc nL x σ0) (Y : aY x σ0 s σ H locs kc ks) (h1 : mc + σ0.1 = σf.1) (h2 : ms + σ0.2.1 = σf.2.1) (M9 : aLe σ σf) (g : sEq x.sK a r = some v) (hlk : Cond.methodLink own idx ⟨"java/lang/String", "equals", "(Ljava/lang/Object;)Z"⟩ ∈ lw_all) (hf : 8 ≤ fr) (ho : 200 ≤ lo) (hls : ls.size = nL) (hW : (rest.map fun v => v.category).sum ≤ 8) (hdg : decode cc pc = .ok (.invokevirtual idx, 3))
    (kk : ∀ (H1 : Heap) (locs1 : List Loc) (kc1 ks1 : Nat), aY x σ0 s σ H1 locs1 kc1 ks1 → W p l e (aRm fr lo mc ms) s m args below meth c H1 locs1 kc1 ks1 Q (F0 m (pc + 3) ls (.int v :: rest))) : W p l e (aRm fr lo mc ms) s m args below meth c H locs kc ks Q (F0 m pc ls (va_rf r :: .ref a :: rest)) := by
  replace g := e_bind g
  obtain ⟨i, g1, g⟩ := g
  obtain ⟨hi, rfl⟩ := i_sIx g1
  by_cases g2 : r = some (x.sK i)
  rotate_left
  · rw [if_neg g2] at g; cases g
  rw [if_pos g2] at g
  cases g
  subst g2
  have hl0 := X.2.2.2.2.2.2.2.2
  refine a_callV (n := 1) (C := "java/lang/String") (σf := σf) [.ref (x.sK i)] X Y (ms_equals hl0) ⟨aLe.rf _, M9, h1, h2, by show _ ≤ fr; omega, by show _ ≤ lo; omega⟩ hlk q847 q848 q131 q849 (by decide +kernel) (a_srecv X Y hi) rfl hls hW hdg (fun v hv H locs kc ks Y => ?_) (fun k hk => by cases hk)
  cases hv
  exact kk H locs kc ks Y
end SROWS

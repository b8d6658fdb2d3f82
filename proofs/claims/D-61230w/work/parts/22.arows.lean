/-! the machine's rows -/
section AROWS
variable {own : String} {p : Program} {l : Launch} {e : Env} {R : Room} {s : State} {m : MethodId} {args : Array Value} {below : List Frame} {meth : Method} {c : Code} {H : Heap} {locs : List Loc} {kc ks : Nat} {Q : State → Prop}
variable {cc : ByteArray} {nL : Nat} {x : aP} {σ0 σ σ1 : aS} {pc : Nat} {ls : Array Slot} {rest : List Value} {idx : Nat} {a ci : Nat} {C : String} {T : u_T} {N : Nat} {ty : Nat → FieldType}
theorem a_P1 (Y : aY x σ0 s σ H locs kc ks) {q : Nat} {f : aE} (h : σ.2.2 q = some f) : va_P x.D aCl [(q, aTo x f)] H := by
  intro k r hk
  match k, hk with
  | 0, hk => cases hk; exact Y.1.2 q f h
  | n + 1, hk => simp at hk
theorem a_getV (X : aX own p l s m args meth c cc nL x σ0) (Y : aY x σ0 s σ H locs kc ks) (hC : aCls ci C T N ty) {fs : List Value} {v : Value} (hM : σ.2.2 a = some (.inr (ci, fs))) (k : Nat) (hk : k < N) (hv : fs[k]? = some v) (hl : Cond.fieldLink own idx C (T k).2.1 (T k).2.2.1 ∈ lw_all) (hdg : decode cc pc = .ok (.getfield idx, 3))
    (kk : W p l e R s m args below meth c H locs kc ks Q (F0 m (pc + 3) ls (v :: rest))) : W p l e R s m args below meth c H locs kc ks Q (F0 m pc ls (.ref a :: rest)) := by
  obtain ⟨hx, hb, hml, hown, hts, hK, -⟩ := X
  exact va_get (ref := C) (C := C) (T := T) (N := N) hx hb hts hC.2.1 hown hK.1 (a_P1 Y hM) 0 rfl hC.1 k hk (hts _ hl) (fun z h9 => by rw [hC.2.2.2.2 k hk] at h9; exact h9) hv hdg kk
theorem a_getNV (X : aX own p l s m args meth c cc nL x σ0) (Y : aY x σ0 s σ H locs kc ks) (hC : aCls ci C T N ty) {host : String} {fs : List Value} {v : Value} (hM : σ.2.2 a = some (.inr (ci, fs))) (k : Nat) (hk : k < N) (hv : fs[k]? = some v) (hl : (own, idx, C, (T k).2.1, (T k).2.2.1, host) ∈ aNF) (hdg : decode cc pc = .ok (.getfield idx, 3))
    (kk : W p l e R s m args below meth c H locs kc ks Q (F0 m (pc + 3) ls (v :: rest))) : W p l e R s m args below meth c H locs kc ks Q (F0 m pc ls (.ref a :: rest)) := by
  obtain ⟨hx, hb, hml, hown, hts, hK, -⟩ := X
  exact va_getN (ref := C) (C := C) (T := T) (N := N) (host := host) hx hb hts hC.2.1 hown hK.1 (a_P1 Y hM) 0 rfl hC.1 k hk (va_Nw.use rfl (hK.2.1 _ hl)) (fun z h9 => by rw [hC.2.2.2.2 k hk] at h9; exact h9) hv hdg kk
/-- a cell of the world changed -/
theorem aY_put (Y : aY x σ0 s σ H locs kc ks) {H1 : Heap} {e0 e1 : aE} {i : Nat} (h0 : σ.2.2 a = some e0) (z : H1.size = H.size) (oq : ∀ q : Nat, q ≠ a → H1[q]? = H[q]?) (he : va_at x.D aCl (a, aTo x e1) H1) : aY x σ0 s (σ.1, σ.2.1, va_up σ.2.2 a (some e1)) H1 (locs ++ [⟨a, i⟩]) kc ks :=
  ⟨aW_put Y.1 h0 z oq he, Y.2.1.put z oq (Y.2.2.1 a (Or.inl (by rw [h0]; rfl))), fun q h => Y.2.2.1 q (aDom_put h0 q h), Y.2.2.2.1, Y.2.2.2.2⟩
theorem aY_new (Y : aY x σ0 s σ H locs kc ks) {H1 : Heap} {e1 : aE} {n : Nat} (z : H1.size = H.size + 1) (oq : ∀ q : Nat, q < H.size → H1[q]? = H[q]?) (he : va_at x.D aCl (σ.1, aTo x e1) H1) : aY x σ0 s (σ.1 + 1, σ.2.1 + n, va_up σ.2.2 σ.1 (some e1)) H1 locs (kc + 1) (ks + n) :=
  ⟨aW_new Y.1 z oq he, ⟨Nat.le_trans Y.2.1.1 (by omega), fun q h1 h2 => (oq q (Nat.lt_of_lt_of_le h1 Y.2.1.1)).trans (Y.2.1.2.1 q h1 h2), Y.2.1.2.2⟩, fun q h => Y.2.2.1 q (aDom_new q h), by have := Y.2.2.2.1; dsimp only; omega, by have := Y.2.2.2.2; dsimp only; omega⟩
theorem a_putV (X : aX own p l s m args meth c cc nL x σ0) (Y : aY x σ0 s σ H locs kc ks) (hC : aCls ci C T N ty) {v : Value} (k : Nat) (g : pF σ a ci k v = some σ1) (hk : k < N) (hfin : (T k).2.2.2 = false) (hn : narrow (ty k) v = v) (hfit : fits (ty k) v = true) (hl : Cond.fieldLink own idx C (T k).2.1 (T k).2.2.1 ∈ lw_all) (hdg : decode cc pc = .ok (.putfield idx, 3))
    (kk : ∀ (H1 : Heap) (locs1 : List Loc), aY x σ0 s σ1 H1 locs1 kc ks → W p l e R s m args below meth c H1 locs1 kc ks Q (F0 m (pc + 3) ls rest)) : W p l e R s m args below meth c H locs kc ks Q (F0 m pc ls (v :: .ref a :: rest)) := by
  obtain ⟨fs, hM, hlen, rfl⟩ := i_pF g
  obtain ⟨hx, hb, hml, hown, hts, hK, -⟩ := X
  obtain ⟨hc, hin, hty, hnm, hT⟩ := hC
  have hap := va_apart (own := own) hts hin ty hty hnm hK.1 hc
  obtain ⟨r, h1, cell, q1, q2, q3, q4⟩ := Y.1.2 a _ hM
  have hr : r = (C, T, N) := Option.some.inj (h1.symm.trans hc)
  subst hr
  obtain ⟨hS, hfc, kC, hkC, hkind⟩ := hK.1.1 ci _ hc
  obtain ⟨cf, kf, fi, f, hi, hsl⟩ := hS k hk
  have hlay := hts _ (hin _ (u_in_lay hk))
  unfold u_lay at hlay
  rw [if_neg (by rw [hfin]; decide)] at hlay
  have hst := (u_facts hfc hkC (u_lays hts hin hk) hi).1
  have h6 := u_store hfc hkC hkind hlay hi (hty k hk) hn hfit
  refine W.putK hx hb (f := f) ⟨hown, hts _ hl, ⟨_, _, _, by rw [hT k hk] at hi; exact hi⟩, hst⟩ (by rw [q2]; exact h6) q1 q3 (by rw [hsl]; exact k2_hasslot (q4 k hk)) rfl rfl hdg fun H' e1 e2 e3 => ?_
  rw [hsl] at e1 ⊢
  exact kk H' _ (aY_put Y hM e2 e3 ⟨_, hc, t_OB.to (V := updV (vp_V fs) k v) ⟨_, e1, q2, q3, t_set q4 hap hk v⟩ (fun j _ => vp_updV_set hlen v j)⟩)
theorem a_putNV (X : aX own p l s m args meth c cc nL x σ0) (Y : aY x σ0 s σ H locs kc ks) (hC : aCls ci C T N ty) {host : String} {v : Value} (k : Nat) (g : pF σ a ci k v = some σ1) (hk : k < N) (hfin : (T k).2.2.2 = false) (hn : narrow (ty k) v = v) (hfit : fits (ty k) v = true) (hl : (own, idx, C, (T k).2.1, (T k).2.2.1, host) ∈ aNF) (hdg : decode cc pc = .ok (.putfield idx, 3))
    (kk : ∀ (H1 : Heap) (locs1 : List Loc), aY x σ0 s σ1 H1 locs1 kc ks → W p l e R s m args below meth c H1 locs1 kc ks Q (F0 m (pc + 3) ls rest)) : W p l e R s m args below meth c H locs kc ks Q (F0 m pc ls (v :: .ref a :: rest)) := by
  obtain ⟨fs, hM, hlen, rfl⟩ := i_pF g
  obtain ⟨hx, hb, hml, hown, hts, hK, -⟩ := X
  obtain ⟨hc, hin, hty, hnm, hT⟩ := hC
  have hap := va_apart (own := own) hts hin ty hty hnm hK.1 hc
  obtain ⟨r, h1, cell, q1, q2, q3, q4⟩ := Y.1.2 a _ hM
  have hr : r = (C, T, N) := Option.some.inj (h1.symm.trans hc)
  subst hr
  obtain ⟨hS, hfc, kC, hkC, hkind⟩ := hK.1.1 ci _ hc
  obtain ⟨cf, kf, fi, f, hi, hsl⟩ := hS k hk
  have hlay := hts _ (hin _ (u_in_lay hk))
  unfold u_lay at hlay
  rw [if_neg (by rw [hfin]; decide)] at hlay
  have hst := (u_facts hfc hkC (u_lays hts hin hk) hi).1
  have h6 := u_store hfc hkC hkind hlay hi (hty k hk) hn hfit
  refine va_WputK hx hb (f := f) (host := host) hown (va_Nw.use rfl (hK.2.1 _ hl)) (by rw [hT k hk] at hi; exact hi) hst (by rw [q2]; exact h6) q1 q3 (by rw [hsl]; exact k2_hasslot (q4 k hk)) rfl rfl hdg fun H' e1 e2 e3 => ?_
  rw [hsl] at e1 ⊢
  exact kk H' _ (aY_put Y hM e2 e3 ⟨_, hc, t_OB.to (V := updV (vp_V fs) k v) ⟨_, e1, q2, q3, t_set q4 hap hk v⟩ (fun j _ => vp_updV_set hlen v j)⟩)
theorem a_putFV (X : aX own p l s m args meth c cc nL x σ0) (Y : aY x σ0 s σ H locs kc ks) (hC : aCls ci C T N ty) {v : Value} (k : Nat) (g : pF σ a ci k v = some σ1) (hk : k < N) (hfin : (T k).2.2.2 = true) (hin2 : "<init>" = meth.name) (hdecl : C = own) (hn : narrow (ty k) v = v) (hfit : fits (ty k) v = true) (hl : Cond.fieldLink own idx C (T k).2.1 (T k).2.2.1 ∈ lw_all) (hdg : decode cc pc = .ok (.putfield idx, 3))
    (kk : ∀ (H1 : Heap) (locs1 : List Loc), aY x σ0 s σ1 H1 locs1 kc ks → W p l e R s m args below meth c H1 locs1 kc ks Q (F0 m (pc + 3) ls rest)) : W p l e R s m args below meth c H locs kc ks Q (F0 m pc ls (v :: .ref a :: rest)) := by
  obtain ⟨fs, hM, hlen, rfl⟩ := i_pF g
  obtain ⟨hx, hb, hml, hown, hts, hK, -⟩ := X
  obtain ⟨hc, hin, hty, hnm, hT⟩ := hC
  have hap := va_apart (own := own) hts hin ty hty hnm hK.1 hc
  obtain ⟨r, h1, cell, q1, q2, q3, q4⟩ := Y.1.2 a _ hM
  have hr : r = (C, T, N) := Option.some.inj (h1.symm.trans hc)
  subst hr
  obtain ⟨hS, hfc, kC, hkC, hkind⟩ := hK.1.1 ci _ hc
  obtain ⟨cf, kf, fi, f, hi, hsl⟩ := hS k hk
  have hlay := hts _ (hin _ (u_in_lay hk))
  unfold u_lay at hlay
  rw [if_pos hfin] at hlay
  have hst := (u_facts hfc hkC (u_lays hts hin hk) hi).1
  have hcf : m.cls = cf := by
    obtain ⟨_, _, c', _, _, _, -, -, hf', -, -, -, hown2, -⟩ := Cond.laysFinal_spec hlay
    have e1 : c' = cf := by have := hi.symm.trans hf'; simp at this; exact this.1.symm
    rw [hT k hk, hdecl] at hown2
    rw [← e1]; exact Option.some.inj (hown.symm.trans hown2)
  have h6 := u_fits hfc hkC hkind (Or.inr hlay) hi (hty k hk) hn hfit
  refine W.putFinK hx hb hown (hts _ hl) (by rw [hT k hk] at hi; exact hi) hst hcf hin2.symm (by rw [q2]; exact h6) q1 q3 (by rw [hsl]; exact k2_hasslot (q4 k hk)) rfl rfl hdg fun H' e1 e2 e3 => ?_
  rw [hsl] at e1 ⊢
  exact kk H' _ (aY_put Y hM e2 e3 ⟨_, hc, t_OB.to (V := updV (vp_V fs) k v) ⟨_, e1, q2, q3, t_set q4 hap hk v⟩ (fun j _ => vp_updV_set hlen v j)⟩)
/-! arrays -/
theorem a_iald (X : aX own p l s m args meth c cc nL x σ0) (Y : aY x σ0 s σ H locs kc ks) {i v : Int32} (g : lI σ a 1 i = some v) (hdg : decode cc pc = .ok (.iaload, 1))
    (kk : W p l e R s m args below meth c H locs kc ks Q (F0 m (pc + 1) ls (.int v :: rest))) : W p l e R s m args below meth c H locs kc ks Q (F0 m pc ls (.int i :: .ref a :: rest)) := by
  obtain ⟨n, f, hM, hin, rfl⟩ := i_lI g
  exact va_iald X.1 X.2.1 X.2.2.2.2.2.1.1 (a_P1 Y hM) 0 1 rfl (aTys_at x (by decide)) hin hdg kk
theorem a_cald (X : aX own p l s m args meth c cc nL x σ0) (Y : aY x σ0 s σ H locs kc ks) {i v : Int32} (g : lI σ a 0 i = some v) (hdg : decode cc pc = .ok (.caload, 1))
    (kk : W p l e R s m args below meth c H locs kc ks Q (F0 m (pc + 1) ls (.int v :: rest))) : W p l e R s m args below meth c H locs kc ks Q (F0 m pc ls (.int i :: .ref a :: rest)) := by
  obtain ⟨n, f, hM, hin, rfl⟩ := i_lI g
  exact va_cald X.1 X.2.1 X.2.2.2.2.2.1.1 (a_P1 Y hM) 0 0 rfl (aTys_at x (by decide)) hin hdg kk
theorem a_lald (X : aX own p l s m args meth c cc nL x σ0) (Y : aY x σ0 s σ H locs kc ks) {i : Int32} {v : Int64} (g : lL σ a i = some v) (hdg : decode cc pc = .ok (.laload, 1))
    (kk : W p l e R s m args below meth c H locs kc ks Q (F0 m (pc + 1) ls (.long v :: rest))) : W p l e R s m args below meth c H locs kc ks Q (F0 m pc ls (.int i :: .ref a :: rest)) := by
  obtain ⟨n, f, hM, hin, rfl⟩ := i_lL g
  exact va_lald X.1 X.2.1 X.2.2.2.2.2.1.1 (a_P1 Y hM) 0 3 rfl (aTys_at x (by decide)) hin hdg kk
theorem a_dald (X : aX own p l s m args meth c cc nL x σ0) (Y : aY x σ0 s σ H locs kc ks) {i : Int32} {v : UInt64} (g : lD σ a i = some v) (hdg : decode cc pc = .ok (.daload, 1))
    (kk : W p l e R s m args below meth c H locs kc ks Q (F0 m (pc + 1) ls (.double v :: rest))) : W p l e R s m args below meth c H locs kc ks Q (F0 m pc ls (.int i :: .ref a :: rest)) := by
  obtain ⟨n, f, hM, hin, rfl⟩ := i_lD g
  exact va_dald X.1 X.2.1 X.2.2.2.2.2.1.1 (a_P1 Y hM) 0 2 rfl (aTys_at x (by decide)) hin hdg kk
theorem a_aald (X : aX own p l s m args meth c cc nL x σ0) (Y : aY x σ0 s σ H locs kc ks) {t : Nat} (ht : t < 10) (hr : (aTy t).isReference = true) {i : Int32} {v : Option Nat} (g : lR σ a t i = some v) (hdg : decode cc pc = .ok (.aaload, 1))
    (kk : W p l e R s m args below meth c H locs kc ks Q (F0 m (pc + 1) ls (va_rf v :: rest))) : W p l e R s m args below meth c H locs kc ks Q (F0 m pc ls (.int i :: .ref a :: rest)) := by
  obtain ⟨n, f, hM, hin, rfl⟩ := i_lR g
  have hlt : i.toNatClampNeg < n := Nat.not_le.mp fun q => hin (Or.inr q)
  exact W.aald (v := va_rf (f i.toNatClampNeg)) (ty := aTy t) X.1 X.2.1 (Y.1.2 a _ hM) ((X.2.2.2.2.2.1.1.2 t _ (aTys_at x ht)).1 n (fun j => va_rf (f j))) hr (fun q => by cases q) (by show ¬ (i < 0 ∨ (arrV _ _ _).slots.size ≤ _); rw [arrV_size]; exact hin) (by show (arrV _ _ _).slots[_]? = _; rw [arrV_read _ _ hlt]) rfl rfl hdg kk
theorem a_alen (X : aX own p l s m args meth c cc nL x σ0) (Y : aY x σ0 s σ H locs kc ks) {v : Int32} (g : aLen σ a = some v) (hdg : decode cc pc = .ok (.arraylength, 1))
    (kk : W p l e R s m args below meth c H locs kc ks Q (F0 m (pc + 1) ls (.int v :: rest))) : W p l e R s m args below meth c H locs kc ks Q (F0 m pc ls (.ref a :: rest)) := by
  obtain ⟨A, hM, ht, hv⟩ := i_aLen g
  exact va_alen X.1 X.2.1 X.2.2.2.2.2.1.1 (a_P1 Y hM) 0 A.1 rfl (aTys_at x ht) hv hdg kk
theorem a_iast (X : aX own p l s m args meth c cc nL x σ0) (Y : aY x σ0 s σ H locs kc ks) {i v : Int32} (g : wI σ a 1 i v = some σ1) (hdg : decode cc pc = .ok (.iastore, 1))
    (kk : ∀ (H1 : Heap) (locs1 : List Loc), aY x σ0 s σ1 H1 locs1 kc ks → W p l e R s m args below meth c H1 locs1 kc ks Q (F0 m (pc + 1) ls rest)) : W p l e R s m args below meth c H locs kc ks Q (F0 m pc ls (.int v :: .int i :: .ref a :: rest)) := by
  obtain ⟨n, f, hM, hin, rfl⟩ := i_wI g
  refine W.iast X.1 X.2.1 (Y.1.2 a _ hM) ((X.2.2.2.2.2.1.1.2 1 _ (aTys_at x (by decide))).1 n (fun j => .int (f j))) (fun q => by cases q) (by show ¬ (i < 0 ∨ (arrV _ _ _).slots.size ≤ _); rw [arrV_size]; exact hin) rfl rfl hdg fun H1 e z oq => ?_
  refine kk H1 _ (aY_put Y hM z oq ?_)
  show H1[a]? = some (vp_cell _ _)
  rw [e]
  rw [vp_cell_i, vp_cell_i, arrV_store]
  congr 2
  funext q
  by_cases hq : q = i.toNatClampNeg
  · subst hq
    simp [updV, upd]
  · simp [updV, upd, hq]
theorem a_cast (X : aX own p l s m args meth c cc nL x σ0) (Y : aY x σ0 s σ H locs kc ks) {i v : Int32} (g : wI σ a 0 i (vp_nar .char v) = some σ1) (hdg : decode cc pc = .ok (.castore, 1))
    (kk : ∀ (H1 : Heap) (locs1 : List Loc), aY x σ0 s σ1 H1 locs1 kc ks → W p l e R s m args below meth c H1 locs1 kc ks Q (F0 m (pc + 1) ls rest)) : W p l e R s m args below meth c H locs kc ks Q (F0 m pc ls (.int v :: .int i :: .ref a :: rest)) := by
  obtain ⟨n, f, hM, hin, rfl⟩ := i_wI g
  refine W.cast X.1 X.2.1 (Y.1.2 a _ hM) ((X.2.2.2.2.2.1.1.2 0 _ (aTys_at x (by decide))).1 n (fun j => .int (f j))) (fun q => by cases q) (by show ¬ (i < 0 ∨ (arrV _ _ _).slots.size ≤ _); rw [arrV_size]; exact hin) rfl rfl hdg fun H1 e z oq => ?_
  refine kk H1 _ (aY_put Y hM z oq ?_)
  show H1[a]? = some (vp_cell _ _)
  rw [e]
  rw [vp_cell_i, vp_cell_i, arrV_store]
  congr 2
  funext q
  by_cases hq : q = i.toNatClampNeg
  · subst hq
    simp [updV, upd, vp_nar_char, narrow]
  · simp [updV, upd, hq]
theorem a_last (X : aX own p l s m args meth c cc nL x σ0) (Y : aY x σ0 s σ H locs kc ks) {i : Int32} {v : Int64} (g : wL σ a i v = some σ1) (hdg : decode cc pc = .ok (.lastore, 1))
    (kk : ∀ (H1 : Heap) (locs1 : List Loc), aY x σ0 s σ1 H1 locs1 kc ks → W p l e R s m args below meth c H1 locs1 kc ks Q (F0 m (pc + 1) ls rest)) : W p l e R s m args below meth c H locs kc ks Q (F0 m pc ls (.long v :: .int i :: .ref a :: rest)) := by
  obtain ⟨n, f, hM, hin, rfl⟩ := i_wL g
  refine W.last X.1 X.2.1 (Y.1.2 a _ hM) ((X.2.2.2.2.2.1.1.2 3 _ (aTys_at x (by decide))).1 n (fun j => .long (f j))) (fun q => by cases q) (by show ¬ (i < 0 ∨ (arrV _ _ _).slots.size ≤ _); rw [arrV_size]; exact hin) rfl rfl hdg fun H1 e z oq => ?_
  refine kk H1 _ (aY_put Y hM z oq ?_)
  show H1[a]? = some (vp_cell _ _)
  rw [e]
  rw [vp_cell_l, vp_cell_l, arrV_store]
  congr 2
  funext q
  by_cases hq : q = i.toNatClampNeg
  · subst hq
    simp [updV, vp_updL]
  · simp [updV, vp_updL, hq]
theorem a_dast (X : aX own p l s m args meth c cc nL x σ0) (Y : aY x σ0 s σ H locs kc ks) {i : Int32} {v : UInt64} (g : wD σ a i v = some σ1) (hdg : decode cc pc = .ok (.dastore, 1))
    (kk : ∀ (H1 : Heap) (locs1 : List Loc), aY x σ0 s σ1 H1 locs1 kc ks → W p l e R s m args below meth c H1 locs1 kc ks Q (F0 m (pc + 1) ls rest)) : W p l e R s m args below meth c H locs kc ks Q (F0 m pc ls (.double v :: .int i :: .ref a :: rest)) := by
  obtain ⟨n, f, hM, hin, rfl⟩ := i_wD g
  refine W.dast X.1 X.2.1 (Y.1.2 a _ hM) ((X.2.2.2.2.2.1.1.2 2 _ (aTys_at x (by decide))).1 n (fun j => .double (f j))) (fun q => by cases q) (by show ¬ (i < 0 ∨ (arrV _ _ _).slots.size ≤ _); rw [arrV_size]; exact hin) rfl rfl hdg fun H1 e z oq => ?_
  refine kk H1 _ (aY_put Y hM z oq ?_)
  show H1[a]? = some (vp_cell _ _)
  rw [e]
  rw [vp_cell_d, vp_cell_d, arrV_store]
  congr 2
  funext q
  by_cases hq : q = i.toNatClampNeg
  · subst hq
    simp [updV, vf_upd]
  · simp [updV, vf_upd, hq]
/-- null into an array of references -/
theorem a_aastN (X : aX own p l s m args meth c cc nL x σ0) (Y : aY x σ0 s σ H locs kc ks) {t : Nat} {C9 : String} (ht : t < 10) (hr : aTy t = .object C9) {i : Int32} (g : wR σ a t i none = some σ1) (hdg : decode cc pc = .ok (.aastore, 1))
    (kk : ∀ (H1 : Heap) (locs1 : List Loc), aY x σ0 s σ1 H1 locs1 kc ks → W p l e R s m args below meth c H1 locs1 kc ks Q (F0 m (pc + 1) ls rest)) : W p l e R s m args below meth c H locs kc ks Q (F0 m pc ls (.null :: .int i :: .ref a :: rest)) := by
  obtain ⟨n, f, hM, hin, rfl⟩ := i_wR g
  refine va_WaastN (C := C9) X.1 X.2.1 (Y.1.2 a _ hM) (by have h := (X.2.2.2.2.2.1.1.2 t _ (aTys_at x ht)).1 n (fun j => va_rf (f j)); rw [← hr]; exact h) (fun h => by cases h) (by show ¬ (i < 0 ∨ (arrV _ _ _).slots.size ≤ _); rw [arrV_size]; exact hin) rfl rfl hdg fun H1 e z oq => ?_
  refine kk H1 _ (aY_put Y hM z oq ?_)
  show H1[a]? = some (vp_cell _ _)
  rw [e]
  rw [vp_cell_q, vp_cell_q, arrV_store]
  congr 2
  funext q
  by_cases hq : q = i.toNatClampNeg
  · subst hq
    simp [updV, va_up, va_rf]
  · simp [updV, va_up, hq]
/-- an object, or a string constant, into an array of its class -/
theorem a_aastC (X : aX own p l s m args meth c cc nL x σ0) (Y : aY x σ0 s σ H locs kc ks) {t v : Nat} {C9 : String} (ht : t < 10) (hr : aTy t = .object C9) {i : Int32} (g : wR σ a t i (some v) = some σ1) (hv : ∃ cell : Cell, H[v]? = some cell ∧ cell.vm.isStatics = false ∧ s.vm.findClass C9 = some cell.cls) (hdg : decode cc pc = .ok (.aastore, 1))
    (kk : ∀ (H1 : Heap) (locs1 : List Loc), aY x σ0 s σ1 H1 locs1 kc ks → W p l e R s m args below meth c H1 locs1 kc ks Q (F0 m (pc + 1) ls rest)) : W p l e R s m args below meth c H locs kc ks Q (F0 m pc ls (.ref v :: .int i :: .ref a :: rest)) := by
  obtain ⟨n, f, hM, hin, rfl⟩ := i_wR g
  have hlt : i.toNatClampNeg < n := Nat.not_le.mp fun q => hin (Or.inr q)
  have h0 : ¬ i < 0 := fun q => hin (Or.inl q)
  obtain ⟨cellV, g1, g2, g3⟩ := hv
  have hK2 := (X.2.2.2.2.2.1.1.2 t _ (aTys_at x ht)).2
  rw [hr] at hK2
  obtain ⟨kA, comp, k1, k2, k3, -⟩ := hK2
  have hcomp : cellV.cls = comp := Option.some.inj (g3.symm.trans k3)
  obtain ⟨kC, hkC, -⟩ := Vm.findClass_spec k3
  refine W.aast X.1 X.2.1 (Y.1.2 a _ hM) (fun q h => by cases h) (fun h => by cases h) k1 k2 rfl hkC ⟨h0, by show _ < (arrV _ _ _).slots.size; rw [arrV_size]; exact hlt⟩ g1 (fun q h => by rw [h] at g2; cases g2) (by rw [hcomp]; exact hkC) (by rw [hcomp]; exact va_asg _ _) rfl rfl hdg fun H1 e z oq => ?_
  refine kk H1 _ (aY_put Y hM z oq ?_)
  show H1[a]? = some (vp_cell _ _)
  rw [e]
  rw [vp_cell_q, vp_cell_q, arrV_store]
  congr 2
  funext q
  by_cases hq : q = i.toNatClampNeg
  · subst hq
    simp [updV, va_up, va_rf]
  · simp [updV, va_up, hq]
/-- an object of the world lies in the heap, of its class -/
theorem a_recv (X : aX own p l s m args meth c cc nL x σ0) (Y : aY x σ0 s σ H locs kc ks) {ci : Nat} {fs : List Value} {r : vw_C} (hc : aCl[ci]? = some r) (hM : σ.2.2 a = some (.inr (ci, fs))) : ∃ cell : Cell, H[a]? = some cell ∧ cell.vm.isStatics = false ∧ s.vm.findClass r.1 = some cell.cls :=
  va_recv X.2.2.2.2.2.1.1 (a_P1 Y hM) hc (q0 := 0) rfl
/-- so does a string constant -/
theorem a_srecv (X : aX own p l s m args meth c cc nL x σ0) (Y : aY x σ0 s σ H locs kc ks) {i : Nat} (hi : i < 28) : ∃ cell : Cell, H[x.sK i]? = some cell ∧ cell.vm.isStatics = false ∧ s.vm.findClass "java/lang/String" = some cell.cls := by
  obtain ⟨cell, h1, h2, h3, -⟩ := (X.2.2.2.2.2.2.1.2.2.2.1 i hi).1.kept Y.2.1.2.1
  exact ⟨cell, h1, h2, h3⟩
/-! new -/
theorem a_new (X : aX own p l s m args meth c cc nL x σ0) (Y : aY x σ0 s σ H locs kc ks) (hC : aCls ci C T N ty) {fs : List Value} (g : nO σ ci fs N = some σ1) (hfs : ∀ j, j < N → defaultValue (ty j) = vp_V fs j) (hcl : Cond.classLink own idx C ∈ lw_all) (hinst : Cond.instantiable C N ∈ lw_all) (hini : Cond.initialized C ∈ lw_all) (hc1 : kc + 1 ≤ R.cells) (hs1 : ks + N ≤ R.slots) (hdg : decode cc pc = .ok (.new idx, 3))
    (kk : ∀ (H1 : Heap), aY x σ0 s σ1 H1 locs (kc + 1) (ks + N) → W p l e R s m args below meth c H1 locs (kc + 1) (ks + N) Q (F0 m (pc + 3) ls (.ref σ.1 :: rest))) : W p l e R s m args below meth c H locs kc ks Q (F0 m pc ls rest) := by
  cases g
  obtain ⟨hx, hb, hml, hown, hts, hK, -⟩ := X
  obtain ⟨hc, hin, hty, hnm, hT⟩ := hC
  have hKn := hK.1.1 ci _ hc
  refine W.newcK hx hb hown (hts _ hcl) (hts _ hinst) (hts _ hini) rfl hdg hc1 hs1 hKn.2.1 Y.1.1 fun H1 kC hkC e1 z1 o1 => ?_
  have hz : H.size = σ.1 := Y.1.1
  refine kk H1 (aY_new Y (by rw [z1, hz]) (fun q hq => o1 q (by rw [← hz]; exact hq)) ?_)
  exact ⟨_, hc, (u_born ty hts hin hKn hkC e1 hty).to hfs⟩
theorem i_nA {σ σ1 : aS} {t : Nat} {n : Int32} {A : (Nat → Int32) ⊕ (Nat → Int64) ⊕ (Nat → UInt32) ⊕ (Nat → UInt64) ⊕ (Nat → Option Nat)} (h : nA σ t n A = some σ1) : ¬ n < 0 ∧ n.toNatClampNeg ≤ 5000 ∧ σ1 = (σ.1 + 1, σ.2.1 + n.toNatClampNeg, va_up σ.2.2 σ.1 (some (.inl (t, n.toNatClampNeg, A)))) := by
  unfold nA at h
  by_cases g : n < 0 ∨ 5000 < n.toNatClampNeg
  · rw [if_pos g] at h; cases h
  · rw [if_neg g] at h
    cases h
    exact ⟨fun z => g (Or.inl z), by omega, rfl⟩
theorem a_newa (X : aX own p l s m args meth c cc nL x σ0) (Y : aY x σ0 s σ H locs kc ks) {atype : ArrayType} {t : Nat} {n : Int32} {A : (Nat → Int32) ⊕ (Nat → Int64) ⊕ (Nat → UInt32) ⊕ (Nat → UInt64) ⊕ (Nat → Option Nat)} (g : nA σ t n A = some σ1) (ht : t < 4) (hty : newarray.typeOf atype = aTy t) (hA : ∀ cA : ClassId, vp_cell cA (n.toNatClampNeg, A) = arrV cA n.toNatClampNeg (fun _ => defaultValue (aTy t))) (hb9 : componentBytes (aTy t) ≤ 8) (harr : Cond.arrayClass (newarray.typeOf atype) ∈ lw_all) (hc1 : kc + 1 ≤ R.cells) (hs1 : ks + n.toNatClampNeg ≤ R.slots) (hdg : decode cc pc = .ok (.newarray atype, 2))
    (kk : ∀ (H1 : Heap), aY x σ0 s σ1 H1 locs (kc + 1) (ks + n.toNatClampNeg) → W p l e R s m args below meth c H1 locs (kc + 1) (ks + n.toNatClampNeg) Q (F0 m (pc + 2) ls (.ref σ.1 :: rest))) : W p l e R s m args below meth c H locs kc ks Q (F0 m pc ls (.int n :: rest)) := by
  obtain ⟨hn, hN, rfl⟩ := i_nA g
  obtain ⟨hx, hb, hml, hown, hts, hK, -⟩ := X
  refine va_newaK hx hb (hts _ harr) rfl hdg rfl hn rfl (by rw [hty]; exact Nat.le_trans (Nat.mul_le_mul hN hb9) (by decide)) hc1 hs1 Y.1.1 fun H1 cA e1 z1 o1 hAr hNm => ?_
  have hz : H.size = σ.1 := Y.1.1
  refine kk H1 (aY_new Y (by rw [z1, hz]) (fun q hq => o1 q (by rw [← hz]; exact hq)) ?_)
  have hcA : cA = x.tc t := by
    have h2 := (hK.1.2 t _ (aTys_at x (by omega))).2
    rw [hty] at hNm
    have h3 : s.vm.findClass ("[" ++ (aTy t).toString) = some (x.tc t) := by
      match t, ht, h2 with
      | 0, _, h2 => exact h2
      | 1, _, h2 => exact h2
      | 2, _, h2 => exact h2
      | 3, _, h2 => exact h2
    exact Option.some.inj (hNm.symm.trans h3)
  subst hcA
  show H1[σ.1]? = some (vp_cell _ _)
  rw [hA, ← hty]
  exact e1
theorem a_newq (X : aX own p l s m args meth c cc nL x σ0) (Y : aY x σ0 s σ H locs kc ks) {t : Nat} {C9 : String} {n : Int32} (g : nA σ t n (.inr (.inr (.inr (.inr (fun _ => none))))) = some σ1) (ht : t < 10) (hr : aTy t = .object C9) (hcl : Cond.classLink own idx C9 ∈ lw_all) (hao : C9 ∈ aAO) (hc1 : kc + 1 ≤ R.cells) (hs1 : ks + n.toNatClampNeg ≤ R.slots) (hdg : decode cc pc = .ok (.anewarray idx, 3))
    (kk : ∀ (H1 : Heap), aY x σ0 s σ1 H1 locs (kc + 1) (ks + n.toNatClampNeg) → W p l e R s m args below meth c H1 locs (kc + 1) (ks + n.toNatClampNeg) Q (F0 m (pc + 3) ls (.ref σ.1 :: rest))) : W p l e R s m args below meth c H locs kc ks Q (F0 m pc ls (.int n :: rest)) := by
  obtain ⟨hn, hN, rfl⟩ := i_nA g
  obtain ⟨hx, hb, hml, hown, hts, hK, -⟩ := X
  refine W.anew hx hb hown (hts _ hcl) (va_AO.use (hK.2.2.2.2.1 _ hao)) rfl hdg rfl hn (by omega) hc1 hs1 fun cA kA comp f1 f2 f3 f4 => ?_
  generalize hH1 : H.push ({ cls := cA, slots := Array.replicate n.toNatClampNeg .null, vm := .none } : Cell) = H1
  have z1 : H1.size = H.size + 1 := by rw [← hH1, Array.size_push]
  have e1 : H1[H.size]? = some (arrV cA n.toNatClampNeg (fun _ => .null)) := by rw [← hH1, Array.getElem?_push_size, ← arrV_new]
  have o1 : ∀ q : Nat, q < H.size → H1[q]? = H[q]? := fun q hq => by rw [← hH1, Array.getElem?_push, if_neg (Nat.ne_of_lt hq)]
  have hz : H.size = σ.1 := Y.1.1
  rw [hz]
  refine kk H1 (aY_new Y z1 o1 ?_)
  have hcA : cA = x.tc t := by
    have h2 := (hK.1.2 t _ (aTys_at x ht)).2
    rw [hr] at h2
    obtain ⟨_, _, _, _, _, h3⟩ := h2
    exact Option.some.inj (f1.symm.trans h3)
  subst hcA
  show H1[σ.1]? = some (vp_cell _ _)
  rw [vp_cell_q, ← hz]
  exact e1
end AROWS

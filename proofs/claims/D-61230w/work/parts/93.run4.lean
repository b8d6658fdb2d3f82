/-! THE PURE LAW: runs of statements: LET, READ -/
theorem Dm_one {w : Nat → List UInt64} {m : Nat} (h : m < 999) : Dm w m = w (m + 1) ++ Dm w (m + 1) := by
  unfold Dm
  rw [show 999 - m = (999 - (m + 1)) + 1 by omega, List.range'_succ, List.flatMap_cons]
theorem Dm_skip {w : Nat → List UInt64} : ∀ (d m : Nat), (∀ i, m < i → i ≤ m + d → w i = []) → m + d ≤ 999 → Dm w m = Dm w (m + d)
  | 0, m, _, _ => rfl
  | d + 1, m, h, hd => by
    rw [Dm_one (by omega), h (m + 1) (by omega) (by omega), List.nil_append, Dm_skip d (m + 1) (fun i h1 h2 => h i (by omega) (by omega)) (by omega), show m + 1 + d = m + (d + 1) by omega]
theorem Dm_nx {w : Nat → List UInt64} {P : PG_} {m i : Nat} (hw : ∀ j, P j = none → w j = []) (h : nx P m = some i) : Dm w m = w i ++ Dm w i := by
  obtain ⟨i1, i2, i3, i4⟩ := nx_some h
  rw [Dm_skip (i - 1 - m) m (fun q h1 h2 => hw q (i4 q h1 (by omega))) (by omega), Dm_one (by omega), show m + (i - 1 - m) + 1 = i by omega]
theorem Dm_no {w : Nat → List UInt64} {P : PG_} {m : Nat} (hw : ∀ j, P j = none → w j = []) (h : nx P m = none) : Dm w m = [] := by
  unfold Dm
  rw [List.flatMap_eq_nil_iff]
  intro q hq
  rw [List.mem_range'_1] at hq
  exact hw q (nx_none h (by omega) (by omega))
theorem dval_ok {d : Nat × Nat × Nat} (h : dok d) : okd (dval d) := by
  unfold dval
  obtain ⟨h1, h2, h3⟩ := h
  split
  · exact f_neg (f_nu h2 h3)
  · exact f_nu h2 h3
section RUN4
variable {x Z T : Nat} {P : PG_} {w : Nat → List UInt64} {h : Nat → Option aE} {f : Nat → Value} {hp hp' : Nat → Option aE} {st st' : bS} {M F : Nat → Option Nat} {σ σ0 : aS} {V : Nat → UInt64} {n : Nat} {S : Nat → Nat} {j ln s k : Nat}
theorem WP.ok (hw : WP h st P w) {m kk : Nat} {v : UInt64} (g : (Dm w m)[kk]? = some v) : okd v := by
  have : v ∈ Dm w m := List.mem_of_getElem? g
  unfold Dm at this
  rw [List.mem_flatMap] at this
  obtain ⟨i, _, hi⟩ := this
  cases hP : P i with
  | none => rw [hw.1 i hP] at hi; exact nomatch hi
  | some e =>
    obtain ⟨w1, w2⟩ := hw.2 i e hP
    by_cases g10 : e.2.2.2 = 10
    · obtain ⟨q, ff, ds, y1, y2, y3, y4, y5, y6, y7⟩ := w2 g10
      rw [y7, List.mem_map] at hi
      obtain ⟨d, hd, rfl⟩ := hi
      obtain ⟨i', hi', hd'⟩ := List.mem_iff_getElem.mp hd
      exact dval_ok (y5 i' d (by rw [List.getElem?_eq_getElem hi', hd'])).2
    · rw [w1 g10] at hi
      exact nomatch hi
/-- the next value of DATA -/
theorem A_readS (rs : RS x Z T P w h σ st f hp M F V) {rd : Nat} (h18 : f 18 = .int (c32 rd)) {σ' : aS} (hpf : pF σ x 0 18 (.int (c32 (rd + 1))) = some σ') (hpl : ∀ q e, h q = some e → σ'.2.2 q = some e) : ∀ (d m kk fu : Nat), m + d = 1000 → 2 * d < fu → kk ≤ 144 →
    (∀ v, (Dm w m)[kk]? = some v → af_X1_read_S10 n S fu 0 σ x (c32 kk) (lnk P (nx P m)) = some (σ', .inl v)) ∧ ((Dm w m)[kk]? = none → af_X1_read_S10 n S fu 0 σ x (c32 kk) (lnk P (nx P m)) = some (aTh σ, .inr 2)) := by
  intro d
  induction d using Nat.strongRecOn with
  | ind d ih =>
    intro m kk fu hm hfu hkk
    have hpg := rs.1.2.1
    have hw := rs.1.2.2.2.1
    cases hx : nx P m with
    | none =>
      obtain ⟨fu, rfl⟩ : ∃ m, fu = m + 1 := ⟨fu - 1, by omega⟩
      rw [Dm_no hw.1 hx]
      exact ⟨fun v z => (by rw [List.getElem?_nil] at z; exact nomatch z), fun _ => rfl⟩
    | some i =>
      obtain ⟨fu, rfl⟩ : ∃ m, fu = m + 2 := ⟨fu - 2, by have := nx_some hx; omega⟩
      obtain ⟨i1, i2, ⟨⟨ln', s', k', so⟩, i3⟩, i4⟩ := nx_some hx
      have hline := rs.pl i _ i3
      obtain ⟨z1, z2, z3⟩ := hpg.2.2 i _ i3
      have z2 : so < 17 := z2
      have z3 : STM h s' so (AV st k') (RV st k') := z3
      obtain ⟨fs, hfs⟩ := stm_cls z3 z2
      have hcs := rs.cell hfs
      have hl : lnk P (some i) = some ln' := lnk_some i3
      have nA1 : ∀ q, af_X1_read_S10 n S (fu + 1) 1 σ x (c32 q) (some ln') = af_X1_read_S10 n S fu 0 σ x (c32 q) (lnk P (nx P i)) := fun q => by
        rw [af_X1_read_S10, if_neg (by decide), af_X1_read_B63]
        rw [ob (show some ln' = some ln' from rfl), ob (gR_of (v := lnk P (nx P i)) hline rfl)]
      have hrec := fun q hq => ih (1000 - i) (by omega) i q fu (by omega) (by omega) hq
      rw [Dm_nx hw.1 hx, hl]
      by_cases g10 : so = 10
      · subst g10
        obtain ⟨q, ff, ds, y1, y2, y3, y4, y5, y6, y7⟩ := (hw.2 i _ i3).2 rfl
        have hc21 := rs.cell y1
        have hca := rs.cell y2
        have ev : af_X22_values n S σ s' = some (σ, some q) := by unfold af_X22_values; rw [ob (gR_of (v := some q) hc21 rfl)]
        have hlen : (w i).length = ds.length := by rw [y7, List.length_map]
        have hA0 : af_X1_read_S10 n S (fu + 2) 0 σ x (c32 kk) (some ln') = if c32 ds.length ≤ c32 kk then af_X1_read_S10 n S (fu + 1) 1 σ x (c32 kk - c32 ds.length) (some ln') else (lD σ' q (c32 kk)).bind fun v_19 => some (σ', .inl v_19) := by
          rw [af_X1_read_S10, if_pos rfl, af_X1_read_B10]
          have e1 : c32 rd + (1 : Int32) = c32 (rd + 1) := c_add rd 1
          rw [if_neg (fun z => nomatch z), ob (show some ln' = some ln' from rfl), ob (gR_of (v := some s') hline rfl), ob (iO_ (so := 10) (ci := 21) hcs (by omega)), if_pos (show cls 10 = 21 from rfl), if_neg n10, ob (gR_of (v := some s') hline rfl), ob (show some s' = some s' from rfl), ob (gC_of hc21), ob (gC_of hc21), oc ev, ob (show some q = some q from rfl), ob (aLen_ hca (by omega)), ob (aLen_ hca (by omega)), ob (rs.gI h18), e1, ob hpf]
          rfl
        rw [hA0]
        by_cases gk : ds.length ≤ kk
        · rw [if_pos ((c_le (by omega) (by omega)).mpr gk), c_sub gk, nA1, List.getElem?_append_right (by omega), hlen]
          exact hrec (kk - ds.length) (by omega)
        · rw [if_neg (fun z => gk ((c_le (by omega) (by omega)).mp z)), List.getElem?_append_left (by omega)]
          have hca' := hpl _ _ y2
          have e1 : lD σ' q (c32 kk) = some (ff kk) := lD_of hca' (by omega) (by omega)
          rw [ob e1, y7, List.getElem?_map, List.getElem?_eq_getElem (show kk < ds.length by omega)]
          have := (y5 kk _ (List.getElem?_eq_getElem (show kk < ds.length by omega))).1
          refine ⟨fun v hv => ?_, fun z => nomatch z⟩
          cases hv
          rw [this]
      · have h21 : ¬ cls so = 21 := by unfold cls; split <;> omega
        have hA0 : af_X1_read_S10 n S (fu + 2) 0 σ x (c32 kk) (some ln') = af_X1_read_S10 n S (fu + 1) 1 σ x (c32 kk) (some ln') := by
          rw [af_X1_read_S10, if_pos rfl, af_X1_read_B10]
          rw [if_neg (fun z => nomatch z), ob (show some ln' = some ln' from rfl), ob (gR_of (v := some s') hline rfl), ob (iO_ (ci := 21) hcs z2), if_neg h21, if_pos rfl]
        rw [hA0, nA1, (hw.2 i _ i3).1 g10, List.nil_append]
        exact hrec kk hkk
/-- READ's value, both -/
theorem AB_read (hn : 3000 ≤ n) (rs : RS x Z T P w h σ st f hp M F V) : (∃ v σ' rd, okd v ∧ st.1 19 = c32 rd ∧ ¬ st.1 19 = st.1 20 ∧ af_X1_read n S σ x = some (σ', .inl v) ∧ ldD st 31 (st.1 19) = some v ∧ σ'.1 = σ.1 ∧ σ'.2.1 = σ.2.1 ∧ RS x Z T P w h σ' (sI st 19 (st.1 19 + 1)) (va_up f 18 (.int (c32 (rd + 1)))) hp M F V) ∨ (st.1 19 = st.1 20 ∧ af_X1_read n S σ x = some (aTh σ, .inr 2)) := by
  obtain ⟨⟨ec, pg, h3, wp, ⟨d1, d2, d3, rd, d4, d5, d6⟩, rest⟩, ⟨CR, CO, es⟩, vv, h27, hz⟩ := id rs
  obtain ⟨σ', e1, s1, s2, es1⟩ := es.fld_ (k := 18) (v := .int (c32 (rd + 1)))
  have hpl : ∀ q e, h q = some e → σ'.2.2 q = some e := fun q e he => es1.cell (f := va_up f 18 (.int (c32 (rd + 1)))) ec he
  have hA : af_X1_read n S σ x = af_X1_read_S10 n S n 0 σ x (c32 rd) (lnk P (nx P 0)) := by
    unfold af_X1_read
    rw [ob (rs.gI d5), ob (rs.gR h3)]
  obtain ⟨a1, a2⟩ := A_readS (n := n) (S := S) rs d5 e1 hpl 1000 0 rd n (by omega) (by omega) (by omega)
  rw [hA]
  by_cases g : rd < (Dm w 0).length
  · have hg := List.getElem?_eq_getElem g
    have eadd : st.1 19 + 1 = c32 (rd + 1) := by rw [d6]; exact c_add rd 1
    refine Or.inl ⟨_, σ', rd, wp.ok hg, d6, ?_, a1 _ hg, ?_, s1, s2, ?_⟩
    · rw [d6, d1]
      exact n_c (by omega) (by omega) (by omega)
    · rw [d6, ld_D (show rd < 144 by omega), d3 _ _ hg]
    · rw [eadd]
      exact ⟨⟨ec, pg, h3, wp, ⟨d1, d2, d3, rd + 1, by omega, rfl, rfl⟩, rest⟩, ⟨CR, CO, es1⟩, vv, h27, by omega⟩
  · refine Or.inr ⟨?_, a2 (List.getElem?_eq_none (by omega))⟩
    rw [d6, d1, show rd = (Dm w 0).length by omega]
/-! places -/
/-- the place of an element is set -/
theorem MB.set {q R K i jj : Nat} {G : Nat → Nat → UInt64} {v : UInt64} (b : MB hp q R K G) (hi : i < 6) : MB (va_up hp (q + 2 + i) (some (.inl (2, 6, dA (vf_upd (G i) jj v))))) q R K (fun a => if a = i then vf_upd (G i) jj v else G a) := by
  obtain ⟨b1, b2, b3⟩ := b
  refine ⟨(va_ne_ (by omega)).trans b1, (va_ne_ (by omega)).trans b2, fun a ha => ?_⟩
  show _ = some (Sum.inl (2, 6, dA (if a = i then vf_upd (G i) jj v else G a)))
  by_cases g : a = i
  · subst g
    rw [va_at_, if_pos rfl]
  · rw [va_ne_ (by omega), if_neg g]
    exact b3 a ha
theorem RC.mset {m q R K i jj : Nat} {G : Nat → Nat → UInt64} {v : UInt64} (rc : RC x Z T P w h f hp st M F) (hm : m < 3) (hM : M m = some q) (hb : MB hp q R K G) (hR : R ≤ 6) (hK : K ≤ 6) (hR1 : 1 ≤ R) (hK1 : 1 ≤ K) (e38 : st.2.1 38 m = c32 R) (e39 : st.2.1 39 m = c32 K) (hG : ∀ a b, a < R → b < K → G a b = st.2.2 35 (36 * m + 6 * a + b) ∧ okd (G a b)) (hi : i < R) (hj : jj < K) (hv : okd v) :
    RC x Z T P w h f (va_up hp (q + 2 + i) (some (.inl (2, 6, dA (vf_upd (G i) jj v))))) (sD st 35 (36 * m + 6 * i + jj) v) M F := by
  obtain ⟨⟨c1, c2, c3, c4, c5, c6, c7⟩, pg, h3, wp, dat, ⟨sr, sB, s1, s2, s3, s4, s5⟩, ⟨l, L, l1, l2, l3, l4, l5, l6⟩, ⟨p, Gp, g1, g2, g3, g4, g5⟩, ⟨sp, m1, m2, m3, m4⟩, ⟨⟨tl, Tc, t1, t2, t3, t4, t5⟩, ot⟩, hz1, hz2⟩ := rc
  obtain ⟨bq1, bq2, bq3, _⟩ := (m3 m hm q hM).1
  have hbk : ∀ q', BK x Z h hp q' → (q' = q ∨ far q q') → BK x Z h (va_up hp (q + 2 + i) (some (.inl (2, 6, dA (vf_upd (G i) jj v))))) q' := fun q' b hq' => by
    rcases hq' with rfl | hq'
    · exact ⟨b.1, b.2.1, b.2.2.1, R, K, _, hb.set (by omega)⟩
    · exact b.of (fun i' hi' => va_ne_ (by unfold far at hq'; omega))
  have e35 : ∀ c, c ≠ 36 * m + 6 * i + jj → (sD st 35 (36 * m + 6 * i + jj) v).2.2 35 c = st.2.2 35 c := fun c hc => by rw [sD_at, if_pos rfl, if_neg hc]
  refine ⟨⟨c1, fun q' e' he => (va_ne_ (fun z => ?_)).trans (c2 q' e' he), c3, (va_ne_ (by omega)).trans c4, (va_ne_ (by omega)).trans c5, fun m' hm' => ⟨?_, (c6 m' hm').2⟩, c7⟩, pg, h3, wp, dat, ⟨sr, sB, s1, s2, s3, (va_ne_ (by omega)).trans s4, s5⟩, ⟨l, L, l1, l2, l3, (va_ne_ (by omega)).trans l4, l5, l6⟩, ⟨p, Gp, g1, g2, g3, (va_ne_ (by omega)).trans g4, g5⟩, ⟨sp, m1, fun q' hq' => hbk q' (m2 q' hq') (Or.inr ((m3 m hm q hM).2 q' hq')), fun m' hm' q' hq' => ⟨hbk q' (m3 m' hm' q' hq').1 ?_, (m3 m' hm' q' hq').2⟩, m4⟩, ⟨⟨tl, Tc, t1, t2, t3, (va_ne_ (by omega)).trans t4, t5⟩, ot⟩, hz1, hz2⟩
  · have := bq3 (2 + i) (by omega)
    rw [← Nat.add_assoc, ← z, he] at this
    exact nomatch this
  · by_cases gm : m' = m
    · subst gm
      rw [hM]
      refine ⟨R, K, _, hb.set (by omega), hR1, hR, hK1, hK, e38, e39, fun a b ha hb' => ?_⟩
      by_cases ga : a = i
      · subst ga
        rw [if_pos rfl]
        by_cases gb : b = jj
        · subst gb
          rw [vf_at, sD_at, if_pos rfl, if_pos rfl]
          exact ⟨rfl, hv⟩
        · rw [vf_ne gb, e35 _ (by omega)]
          exact hG a b ha hb'
      · rw [if_neg ga, e35 _ (by omega)]
        exact hG a b ha hb'
    · have h6 := (c6 m' hm').1
      cases hM' : M m' with
      | none => rw [hM'] at h6; exact h6
      | some q' =>
        rw [hM'] at h6
        obtain ⟨R', K', G', y1, y2, y3, y4, y5, y6, y7, y8⟩ := h6
        refine ⟨R', K', G', y1.of (fun i' hi' => va_ne_ (by have := m4 m m' hm hm' (fun z => gm z.symm) q q' hM hM'; unfold far at this; omega)), y2, y3, y4, y5, y6, y7, fun a b ha hb' => ?_⟩
        rw [e35 _ (by omega)]
        exact y8 a b ha hb'
  · by_cases gm : m' = m
    · subst gm
      rw [hM] at hq'
      cases hq'
      exact Or.inl rfl
    · exact Or.inr (m4 m m' hm hm' (fun z => gm z.symm) q q' hM hq')
/-- where a value is to be put -/
def PF (x : Nat) (h hp : Nat → Option aE) (M : Nat → Option Nat) (st2 : bS) (p : Nat) (found : Int64) (v3 x4 : Int32) : Prop :=
  (∃ u a, h p = some (.inr (4, [.ref u, .null])) ∧ h u = some (.inr (8, [.int (c32 a)])) ∧ a < 26 ∧ v3 = c32 a) ∨
  (∃ e m q i jj ei ej R K G, h p = some (.inr (4, [.null, .ref e])) ∧ h e = some (.inr (10, [.int (c32 m), .ref ei, .ref ej])) ∧ m < 3 ∧ M m = some q ∧ MB hp q R K G ∧ R ≤ 6 ∧ K ≤ 6 ∧ st2.2.1 38 m = c32 R ∧ st2.2.1 39 m = c32 K ∧ (∀ a b, a < R → b < K → G a b = st2.2.2 35 (36 * m + 6 * a + b) ∧ okd (G a b)) ∧ i < R ∧ jj < K ∧ found = c64 (8 * (i + 1) + (jj + 1)) ∧ v3 = c32 (26 + m) ∧ x4 = c32 (36 * m + 6 * i + jj))
theorem AB_find {p : Nat} {z : Int32} (hn : 300000000 ≤ n) (rs : RS x Z T P w h σ st f hp M F V) (hk : k < 24) (hP : PLC h p (AV st k) (RV st k)) :
    (∃ found σ2 st2 v3 x4, af_X5_find n S σ p (some x) = some (σ2, .inl found) ∧ bf_assign n st (c32 k) z = bf_assign_L81 n st2 (c32 k) z v3 x4 ∧ RS x Z T P w h σ2 st2 f hp M F V ∧ VF st st2 ∧ σ2.1 = σ.1 ∧ σ2.2.1 = σ.2.1 ∧ PF x h hp M st2 p found v3 x4) ∨
    (∃ code σ' st', af_X5_find n S σ p (some x) = some (σ', .inr code) ∧ bf_assign n st (c32 k) z = some (st', ()) ∧ RN x Z T P w h σ' st' f hp M F V code ∧ σ'.1 = σ.1 + 1 ∧ σ'.2.1 = σ.2.1 + 6) := by
  unfold af_X5_find bf_assign
  rw [ob (ld_av0 hk)]
  rcases hP with ⟨u, a, g1, g2, g3, g4⟩ | ⟨e, m, ei, ej, g1, g2, g3, g4, g5, g6⟩
  · have hc := rs.cell g1
    rw [ob (gR_of (v := none) hc rfl), if_pos rfl, g4, if_pos (show c32 a ≤ (25 : Int32) from (c_le (b := 25) (by omega) (by omega)).mpr (by omega))]
    exact Or.inl ⟨_, σ, st, _, _, rfl, rfl, rs, VF.rfl_, rfl, rfl, Or.inl ⟨u, a, g1, g2, g3, rfl⟩⟩
  · have hc := rs.cell g1
    have he := rs.cell g2
    have e1 : af_X11_i n S σ e = some (σ, some ei) := by unfold af_X11_i; rw [ob (gR_of (v := some ei) he rfl)]
    rw [ob (gR_of (v := some e) hc rfl), if_neg (fun z => nomatch z), ob (gR_of (v := some e) hc rfl), ob (show some e = some e from rfl), ob (gC_of he), oc e1, ob (show some ei = some ei from rfl), g4, if_neg (fun z => by have := (c_le (a := 26 + m) (b := 25) (by omega) (by omega)).mp z; omega), ob (ld_ex0 hk)]
    rcases R_val (n := n) (S := S) hn rs hk (by omega) g5 with ⟨vi, σ1, st1, q1, q2, q3, q4, q5, rs1, q6⟩ | ⟨code, σ1, st1, u, q1, q2, q3, q4, rn, q5⟩
    · have hc1 := rs1.cell g1
      have he1 := rs1.cell g2
      have e2 : af_X11_j n S σ1 e = some (σ1, some ej) := by unfold af_X11_j; rw [ob (gR_of (v := some ej) he1 rfl)]
      have el : ldA st1 13 ((c32 k * (4 : Int32)) + (1 : Int32)) = some (st1.2.1 13 (4 * k + 1)) := ld_ex (i := 1) hk (by omega)
      rw [ox q1, oc (show af_X1_whole n S σ1 vi = some (σ1, FP.d2l vi) from rfl), ob (gR_of (v := some e) hc1 rfl), ob (show some e = some e from rfl), ob (gC_of he1), oc e2, ob (show some ej = some ej from rfl), ob q5]
      dsimp only
      rw [if_pos rs1.2.2.2.1, ob el]
      rcases R_val (n := n) (S := S) hn rs1 hk (by omega) (g6.vf q6) with ⟨vj, σ2, st2, p1, p2, p3, p4, p5, rs2, p6⟩ | ⟨code, σ2, st2, u, p1, p2, p3, p4, rn, p5⟩
      · have hc2 := rs2.cell g1
        have he2 := rs2.cell g2
        have e3 : af_X11_matrix n S σ2 e = some (σ2, c32 m) := by unfold af_X11_matrix; rw [ob (gI_of he2 rfl)]
        have e26 : c32 (26 + m) - (26 : Int32) = c32 m := by
          show c32 (26 + m) - c32 26 = _
          rw [c_sub (by omega), Nat.add_sub_cancel_left]
        rw [ox p1, oc (show af_X1_whole n S σ2 vj = some (σ2, FP.d2l vj) from rfl), ob (gR_of (v := some e) hc2 rfl), ob (show some e = some e from rfl), ob (gC_of he2), oc e3, ob (show some x = some x from rfl), ob rs2.cls, ob p5]
        dsimp only
        unfold bf_assign_L58
        rw [if_pos rs2.2.2.2.1, e26]
        obtain ⟨rc2, ⟨CR, CO, es2⟩, vv2, h27, hz⟩ := id rs2
        obtain ⟨hMR, hMq⟩ := rc2.1.2.2.2.2.2.1 m g3
        cases hMm : M m with
        | none =>
          rw [hMm] at hMR
          have h38 : st2.2.1 38 m = c32 0 := hMR
          rw [oxr (A_matrix_none es2 rc2.1 g3 hMm), ob (B_place_f (R := 0) (K := 0) g3 h38 (fun z => absurd rfl z) (by omega) (by omega) (fun ⟨i, j, hi, _⟩ => by omega))]
          dsimp only
          unfold bf_assign_L81
          rw [if_neg (show ¬ (sI st2 27 5).1 27 = 0 from n_c (a := 5) (b := 0) (by omega) (by omega) (by omega))]
          exact Or.inr ⟨4, _, _, rfl, rfl, rs2.tw (code := 4) (by omega), by show σ2.1 + 1 = _; omega, by show σ2.2.1 + 6 = _; omega⟩
        | some q =>
          rw [hMm] at hMR
          obtain ⟨R, K, G, y1, y2, y3, y4, y5, y6, y7, y8⟩ := hMR
          have hmb := es2.mb (hMq q hMm) y1
          rw [ox (A_matrix_some es2 rc2.1 g3 hMm), ob (show some q = some q from rfl), ob (gC_of hmb.1)]
          by_cases hpl : plc R K (FP.d2l vi) (FP.d2l vj)
          · obtain ⟨i, jj, i1, i2, i3, i4⟩ := id hpl
            rw [ox (A_check_t hmb.1 (by omega) (by omega) hpl), ob (B_place_t g3 y6 y7 y3 y5 i1 i2 i3 i4)]
            refine Or.inl ⟨_, σ2, st2, _, _, rfl, rfl, rs2, q6.trans p6, by omega, by omega, Or.inr ⟨e, m, q, i, jj, ei, ej, R, K, G, g1, g2, g3, hMm, y1, y3, y5, y6, y7, y8, i1, i2, ?_, rfl, rfl⟩⟩
            rw [i3, i4]
            show c64 8 * c64 (i + 1) + c64 (jj + 1) = _
            rw [e_mul, e_add]
          · rw [oxr (A_check_f hmb.1 (by omega) (by omega) hpl), ob (B_place_f g3 y6 (fun _ => y7) y3 y5 hpl)]
            dsimp only
            unfold bf_assign_L81
            rw [if_neg (show ¬ (sI st2 27 5).1 27 = 0 from n_c (a := 5) (b := 0) (by omega) (by omega) (by omega))]
            exact Or.inr ⟨4, _, _, rfl, rfl, rs2.tw (code := 4) (by omega), by show σ2.1 + 1 = _; omega, by show σ2.2.1 + 6 = _; omega⟩
      · rw [oxr p1, ob p4]
        dsimp only
        unfold bf_assign_L58 bf_assign_L81
        rw [if_neg rn.ne, if_neg rn.ne]
        exact Or.inr ⟨code, σ2, st2, rfl, rfl, rn, by omega, by omega⟩
    · rw [oxr q1, ob q4]
      dsimp only
      unfold bf_assign_L58 bf_assign_L81
      rw [if_neg rn.ne, if_neg rn.ne, if_neg rn.ne]
      exact Or.inr ⟨code, σ1, st1, rfl, rfl, rn, q2, q3⟩
/-- a value is put -/
theorem e_div {i jj : Nat} (hi : i < 6) (hj : jj < 6) : (c64 (8 * (i + 1) + (jj + 1)) / (8 : Int64)).toInt32 - (1 : Int32) = c32 i ∧ (c64 (8 * (i + 1) + (jj + 1)) - c64 (8 * (i + 1) + (jj + 1)) / (8 : Int64) * (8 : Int64)).toInt32 - (1 : Int32) = c32 jj := by
  have : ∀ (a b : Fin 6), (c64 (8 * (a.val + 1) + (b.val + 1)) / (8 : Int64)).toInt32 - (1 : Int32) = c32 a.val ∧ (c64 (8 * (a.val + 1) + (b.val + 1)) - c64 (8 * (a.val + 1) + (b.val + 1)) / (8 : Int64) * (8 : Int64)).toInt32 - (1 : Int32) = c32 b.val := by decide +kernel
  exact this ⟨i, hi⟩ ⟨jj, hj⟩
theorem AB_put {p : Nat} {found : Int64} {v3 x4 : Int32} {v : UInt64} (rs : RS x Z T P w h σ st f hp M F V) (pf : PF x h hp M st p found v3 x4) (hv : okd v) :
    ∃ σ' st' hp' V', af_X5_put n S σ p (some x) found v = some (σ', ()) ∧ bf_assign_L155 n st v3 x4 v = some (st', ()) ∧ RS x Z T P w h σ' st' f hp' M F V' ∧ σ'.1 = σ.1 ∧ σ'.2.1 = σ.2.1 := by
  obtain ⟨rc, ⟨CR, CO, es⟩, vv, h27, hz⟩ := id rs
  unfold af_X5_put bf_assign_L155
  rw [if_pos h27]
  rcases pf with ⟨u, a, g1, g2, g3, rfl⟩ | ⟨e, m, q, i, jj, ei, ej, R, K, G, g1, g2, g3, hM, y1, y3, y5, y6, y7, y8, i1, i2, rfl, rfl, rfl⟩
  · have hc := rs.cell g1
    have hu := rs.cell g2
    obtain ⟨σ1, w1, w2, w3, es1⟩ := es.sv (s := a) (v := v) g3
    have e1 : af_X9_s n S σ u = some (σ, c32 a) := by unfold af_X9_s; rw [ob (gI_of hu rfl)]
    refine ⟨σ1, sD st 29 a v, hp, vf_upd V a v, ?_, ?_, ⟨rc.vf (VF.rfl_.d (by omega)), ⟨CR, CO, es1⟩, fun i' hi' => ?_, h27, by omega⟩, w2, w3⟩
    · rw [ob (gR_of (v := none) hc rfl), if_pos rfl, ob (show some x = some x from rfl), ob (rs.gR (v := some (x + 2)) rc.1.1.2.1), ob (gR_of (v := some u) hc rfl), ob (show some u = some u from rfl), ob (gC_of hu), oc e1, ob (show some (x + 2) = some (x + 2) from rfl), ob w1]
    · rw [if_pos (show c32 a ≤ (25 : Int32) from (c_le (b := 25) (by omega) (by omega)).mpr (by omega)), ob (st_D (show a < 26 from g3))]
    · rw [sD_at, if_pos rfl]
      by_cases gi : i' = a
      · rw [if_pos gi, gi, vf_at]; exact ⟨rfl, hv⟩
      · rw [if_neg gi, vf_ne gi]; exact vv i' hi'
  · have hc := rs.cell g1
    have he := rs.cell g2
    have hMq := (rc.1.2.2.2.2.2.1 m g3).2 q hM
    have hmb := es.mb hMq y1
    have e1 : af_X11_matrix n S σ e = some (σ, c32 m) := by unfold af_X11_matrix; rw [ob (gI_of he rfl)]
    obtain ⟨d1, d2⟩ := e_div (i := i) (jj := jj) (by omega) (by omega)
    have e9 : lR σ (q + 1) 9 (c32 i) = some (some (q + 2 + i)) := by rw [lR_of hmb.2.1 (by omega) (by omega), if_pos (by omega)]
    have es1 := es.cw (q := q + 2 + i) (e := .inl (2, 6, dA (vf_upd (G i) jj v))) (by omega) (by omega) (by omega) (by omega)
    refine ⟨_, sD st 35 (36 * m + 6 * i + jj) v, _, V, ?_, ?_, ⟨rc.mset g3 hM y1 y3 y5 (by omega) (by omega) y6 y7 y8 i1 i2 hv, ⟨CR, CO, es1⟩, vv, h27, hz⟩, rfl, rfl⟩
    · rw [ob (gR_of (v := some e) hc rfl), if_neg (fun z => nomatch z), ob (show some x = some x from rfl), ob (es.f6 rc.1.1), ob (gR_of (v := some e) hc rfl), ob (show some e = some e from rfl), ob (gC_of he), oc e1, ob (show some (x + 3) = some (x + 3) from rfl), ob (es.ms rc.1 g3), hM, ob (show some q = some q from rfl), ob (gR_of (v := some (q + 1)) hmb.1 rfl), ob (show some (q + 1) = some (q + 1) from rfl), d1, ob e9, ob (show some (q + 2 + i) = some (q + 2 + i) from rfl), d2, ob (wD_of (hmb.2.2 i (by omega)) (by omega) (by omega))]
    · rw [if_neg (fun z => by have := (c_le (a := 26 + m) (b := 25) (by omega) (by omega)).mp z; omega), ob (st_D (show 36 * m + 6 * i + jj < 108 by omega))]
theorem PF.vf {p : Nat} {found : Int64} {v3 x4 : Int32} (pf : PF x h hp M st p found v3 x4) (e38 : st'.2.1 38 = st.2.1 38) (e39 : st'.2.1 39 = st.2.1 39) (e35 : st'.2.2 35 = st.2.2 35) : PF x h hp M st' p found v3 x4 := by
  rcases pf with g | ⟨e, m, q, i, jj, ei, ej, R, K, G, g1, g2, g3, hM, y1, y3, y5, y6, y7, y8, rest⟩
  · exact Or.inl g
  · exact Or.inr ⟨e, m, q, i, jj, ei, ej, R, K, G, g1, g2, g3, hM, y1, y3, y5, by rw [e38]; exact y6, by rw [e39]; exact y7, by rw [e35]; exact y8, rest⟩
theorem R_0 (hn : 300000000 ≤ n) (rs : RS x Z T P w h σ st f hp M F V) (h20 : f 20 = .int 0) (hj : P j = some (ln, s, k, 0)) : SO x (T + 1) P w j h σ (af_run n S σ s (some x) (some ln)) (bf_step n st (c32 k)) := by
  obtain ⟨p, e, g1, g2, g3⟩ : STM h s 0 (AV st k) (RV st k) := (rs.1.2.1.2.2 j _ hj).2.2
  have hk : k < 24 := (rs.1.2.1.2.1.1 j _ hj).2.2.1
  have hc := rs.cell g1
  have hA : af_run n S σ s (some x) (some ln) = af_X12_run n S σ s (some x) (some ln) := r_11 hc
  have hB : bf_step n st (c32 k) = (bf_assign n st (c32 k) 0).bind fun q_1 => some (q_1.1, slk P (nx P j)) := by
    have := B_step (n := n) (by omega) rs.1.2.1 hj
    rw [if_pos (show (c32 0 : Int32) = 0 from rfl)] at this
    rw [show bf_step n st (c32 k) = _ from this]
    rfl
  have hpc : ∃ fs, σ.2.2 p = some (.inr (4, fs)) := by
    rcases g2 with ⟨u, a, y1, _⟩ | ⟨e', m, ei, ej, y1, _⟩
    · exact ⟨_, rs.cell y1⟩
    · exact ⟨_, rs.cell y1⟩
  obtain ⟨fs, hpc⟩ := hpc
  rw [hA, hB]
  unfold af_X12_run
  rw [ob (gR_of (v := some p) hc rfl), ob (show some p = some p from rfl), ob (gC_of hpc)]
  rcases AB_find (n := n) (S := S) (z := 0) hn rs hk g2 with ⟨found, σ2, st2, v3, x4, a1, a2, rs2, vf2, s1, s2, pf⟩ | ⟨code, σ', st', a1, a2, rn, s1, s2⟩
  · have hc2 := rs2.cell g1
    rw [ox a1, a2, ob (gR_of (v := some p) hc2 rfl), ob (gR_of (v := some e) hc2 rfl), ob (show some e = some e from rfl)]
    unfold bf_assign_L81
    have el : ldA st2 13 ((c32 k * (4 : Int32)) + (2 : Int32)) = some (st2.2.1 13 (4 * k + 2)) := ld_ex (i := 2) hk (by omega)
    rw [if_pos rs2.2.2.2.1, if_pos rfl, ob el]
    rcases R_val (n := n) (S := S) hn rs2 hk (by omega) (g3.vf vf2) with ⟨v, σ3, st3, p1, p2, p3, p4, p5, rs3, p6⟩ | ⟨code, σ3, st3, u, p1, p2, p3, p4, rn, p5⟩
    · obtain ⟨σ4, st4, hp4, V4, b1, b2, rs4, b3, b4⟩ := AB_put (n := n) (S := S) (v := v) rs3 (pf.vf (p6.2.1 38 (by decide) (by decide)) (p6.2.1 39 (by decide) (by decide)) (p6.2.2 35 (by decide) (by decide) (by decide))) p2
      have hpc3 : ∃ fs, σ3.2.2 p = some (.inr (4, fs)) := by
        rcases g2 with ⟨u, a, y1, _⟩ | ⟨e', m, ei, ej, y1, _⟩
        · exact ⟨_, rs3.cell y1⟩
        · exact ⟨_, rs3.cell y1⟩
      obtain ⟨fs3, hpc3⟩ := hpc3
      rw [ox p1, ob (show some p = some p from rfl), ob (gC_of hpc3), oc b1, ob p5]
      dsimp only
      rw [b2]
      exact SY.none_ rs4.1.2.1.2.1 (rs4.t (by omega)) h20 rfl rfl (by omega) (by omega)
    · rw [oxr p1, ob p4]
      dsimp only
      unfold bf_assign_L155
      rw [if_neg rn.ne]
      exact SN.of (rn.t (by omega)) rfl rfl (gr.ft s1 s2 p2 p3)
  · rw [oxr a1, a2]
    exact SN.of (rn.t (by omega)) rfl rfl (gr.ft rfl rfl s1 s2)
theorem R_9 (hn : 300000000 ≤ n) (rs : RS x Z T P w h σ st f hp M F V) (h20 : f 20 = .int 0) (hj : P j = some (ln, s, k, 9)) : SO x (T + 1) P w j h σ (af_run n S σ s (some x) (some ln)) (bf_step n st (c32 k)) := by
  obtain ⟨p, g1, g2⟩ : STM h s 9 (AV st k) (RV st k) := (rs.1.2.1.2.2 j _ hj).2.2
  have hk : k < 24 := (rs.1.2.1.2.1.1 j _ hj).2.2.1
  have hc := rs.cell g1
  have hA : af_run n S σ s (some x) (some ln) = af_X21_run n S σ s (some x) (some ln) := r_20 hc
  have hB : bf_step n st (c32 k) = (bf_assign n st (c32 k) 1).bind fun q_1 => some (q_1.1, slk P (nx P j)) := by
    have := B_step (n := n) (by omega) rs.1.2.1 hj
    rw [if_neg (show ¬ (c32 9 : Int32) = 0 by decide), if_pos (show (c32 9 : Int32) = 9 from rfl)] at this
    rw [show bf_step n st (c32 k) = _ from this]
    rfl
  have hpcs : ∀ {τ : aS} {st1 f1 hp1 V1}, RS x Z T P w h τ st1 f1 hp1 M F V1 → ∃ fs, τ.2.2 p = some (.inr (4, fs)) := fun r => by
    rcases g2 with ⟨u, a, y1, _⟩ | ⟨e', m, ei, ej, y1, _⟩
    · exact ⟨_, r.cell y1⟩
    · exact ⟨_, r.cell y1⟩
  obtain ⟨fs, hpc⟩ := hpcs rs
  rw [hA, hB]
  unfold af_X21_run
  rw [ob (gR_of (v := some p) hc rfl), ob (show some p = some p from rfl), ob (gC_of hpc)]
  rcases AB_find (n := n) (S := S) (z := 1) hn rs hk g2 with ⟨found, σ2, st2, v3, x4, a1, a2, rs2, vf2, s1, s2, pf⟩ | ⟨code, σ', st', a1, a2, rn, s1, s2⟩
  · have hc2 := rs2.cell g1
    rw [ox a1, a2, ob (gR_of (v := some p) hc2 rfl), ob (show some x = some x from rfl), ob rs2.cls]
    unfold bf_assign_L81
    rw [if_pos rs2.2.2.2.1, if_neg n10]
    rcases AB_read (n := n) (S := S) (by omega) rs2 with ⟨v, σ3, rd, r1, r2, r3, r4, r5, r6, r7, rs3⟩ | ⟨r1, r2⟩
    · obtain ⟨σ4, st4, hp4, V4, b1, b2, rs4, b3, b4⟩ := AB_put (n := n) (S := S) (v := v) rs3 (pf.vf rfl rfl rfl) r1
      obtain ⟨fs3, hpc3⟩ := hpcs rs3
      rw [ox r4, ob (show some p = some p from rfl), ob (gC_of hpc3), oc b1, if_neg r3, ob r5, ob (show ptI st2 19 (st2.1 19 + 1) = some (sI st2 19 (st2.1 19 + 1)) from rfl), b2]
      exact SY.none_ rs4.1.2.1.2.1 (rs4.t (by omega)) h20 rfl rfl (by omega) (by omega)
    · rw [oxr r2, if_pos r1, ob (show ptI st2 27 (3 : Int32) = some (sI st2 27 (c32 3)) from rfl)]
      unfold bf_assign_L155
      rw [if_neg (show ¬ (sI st2 27 (c32 3)).1 27 = 0 from n_c (a := 3) (b := 0) (by omega) (by omega) (by omega))]
      exact SN.of ((rs2.tw (code := 2) (by omega)).t (by omega)) rfl rfl (gr.th s1 s2)
  · rw [oxr a1, a2]
    exact SN.of (rn.t (by omega)) rfl rfl (gr.ft rfl rfl s1 s2)
end RUN4

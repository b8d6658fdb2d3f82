/-! THE PURE LAW: working out -/
def CODE (st0 : bS) (pc : Nat) (l : List Nat) : Prop := ∀ j v, l[j]? = some v → st0.2.1 14 (pc + j) = c32 v
theorem CODE.l {st0 : bS} {pc : Nat} {a b : List Nat} (h : CODE st0 pc (a ++ b)) : CODE st0 pc a := fun j v hj => h j v (by
  rw [List.getElem?_append_left (List.getElem?_eq_some_iff.mp hj).1]
  exact hj)
theorem CODE.r {st0 : bS} {pc : Nat} {a b : List Nat} (h : CODE st0 pc (a ++ b)) : CODE st0 (pc + a.length) b := fun j v hj => by
  rw [Nat.add_assoc]
  refine h (a.length + j) v ?_
  rw [List.getElem?_append_right (by omega), Nat.add_sub_cancel_left]
  exact hj
theorem CODE.h {st0 : bS} {pc v : Nat} {b : List Nat} (h : CODE st0 pc (v :: b)) : st0.2.1 14 pc = c32 v := h 0 v rfl
theorem CODE.t {st0 : bS} {pc v : Nat} {b : List Nat} (h : CODE st0 pc (v :: b)) : CODE st0 (pc + 1) b := CODE.r (a := [v]) h
/-- k steps of the model's loop -/
def ST (n : Nat) (st : bS) (p : Int32) (k : Nat) (st' : bS) (p' : Int32) : Prop := ∀ fu, bf_work_S12 n (fu + k) st p = bf_work_S12 n fu st' p'
theorem ST.trans {n k1 k2 : Nat} {a b c : bS} {p q r : Int32} (h : ST n a p k1 b q) (g : ST n b q k2 c r) : ST n a p (k1 + k2) c r := fun fu => by
  rw [show fu + (k1 + k2) = (fu + k2) + k1 by omega, h, g]
def Wk : Nat → Nat
  | 0 => 1
  | r + 1 => 2 + 131 * Wk r
theorem Wk_pos (r : Nat) : 1 ≤ Wk r := by cases r with
  | zero => exact Nat.le_refl _
  | succ r => show 1 ≤ 2 + 131 * Wk r; omega
def EvY (x : Nat) (f : Nat → Value) (hp : Nat → Option aE) (σ : aS) (zA : Option (aS × (UInt64 ⊕ Nat))) (st0 st : bS) (V : Nat → UInt64) (CR : Nat → Int32) (CO : Nat → UInt64) (c t pc len W n : Nat) : Prop :=
  ∃ v σ' CR' CO' st' k, zA = some (σ', .inl v) ∧ okd v ∧ σ'.1 = σ.1 ∧ σ'.2.1 = σ.2.1 ∧ ES x f hp σ' c V CR' CO' ∧ (∀ i, i < c → CR' i = CR i ∧ CO' i = CO i) ∧ k ≤ len * W ∧ ST n st (c32 pc) k st' (c32 (pc + len)) ∧ SB st0 st' c (t + 1) V CR CO ∧ st'.2.2 30 t = v ∧ (∀ i, i < t → st'.2.2 30 i = st.2.2 30 i) ∧ ∀ i, i < c → st'.2.1 43 i = st.2.1 43 i
def EvN {α : Type} (x : Nat) (f : Nat → Value) (hp : Nat → Option aE) (σ : aS) (zA : Option (aS × (α ⊕ Nat))) (st0 st : bS) (V : Nat → UInt64) (CR : Nat → Int32) (CO : Nat → UInt64) (c pc K n : Nat) : Prop :=
  ∃ code σ' c' V' CR' CO' st' k pc', zA = some (σ', .inr code) ∧ code < 6 ∧ σ'.1 = σ.1 + 1 ∧ σ'.2.1 = σ.2.1 + 6 ∧ ES x f hp σ' c' V' CR' CO' ∧ c' ≤ 3 ∧ (∀ i, i < c' → ∃ s, s < 26 ∧ CR' i = c32 s) ∧ (∀ i, i < 26 → UV c' V' CR' CO' i = UV c V CR CO i) ∧ k ≤ K ∧ ST n st (c32 pc) k st' pc' ∧ FB st0 st' (code + 1) (UV c V CR CO)
theorem FB.cong {st0 st : bS} {cd : Nat} {U U' : Nat → UInt64} (h : FB st0 st cd U) (g : ∀ i, i < 26 → U i = U' i) : FB st0 st cd U' := by
  obtain ⟨h1, h2, c, h3, h4, h5, h6⟩ := h
  exact ⟨h1, h2, c, h3, h4, h5, fun i hi => (h6 i hi).trans (g i hi)⟩
theorem EvN.tr {α β : Type} {x : Nat} {f : Nat → Value} {hp : Nat → Option aE} {σ σ1 : aS} {zA : Option (aS × (α ⊕ Nat))} {zA' : Option (aS × (β ⊕ Nat))} {st0 st st1 : bS} {V V1 : Nat → UInt64} {CR CR1 : Nat → Int32} {CO CO1 : Nat → UInt64} {c c1 pc pc1 K K1 n k0 : Nat} (h : EvN x f hp σ1 zA st0 st1 V1 CR1 CO1 c1 pc1 K1 n) (hz : ∀ σ' code, zA = some (σ', .inr code) → zA' = some (σ', .inr code)) (h1 : σ1.1 = σ.1) (h2 : σ1.2.1 = σ.2.1) (hs : ST n st (c32 pc) k0 st1 (c32 pc1)) (hk : k0 + K1 ≤ K) (hU : ∀ i, i < 26 → UV c1 V1 CR1 CO1 i = UV c V CR CO i) : EvN x f hp σ zA' st0 st V CR CO c pc K n := by
  obtain ⟨code, σ', c', V', CR', CO', st', k, pc', g1, g2, g3, g4, g5, g6, g7, g8, g9, g10, g11⟩ := h
  exact ⟨code, σ', c', V', CR', CO', st', k0 + k, pc', hz _ _ g1, g2, by omega, by omega, g5, g6, g7, fun i hi => (g8 i hi).trans (hU i hi), by omega, hs.trans g10, g11.cong hU⟩
section EVAL
variable {x : Nat} {f : Nat → Value} {hp h : Nat → Option aE} {st0 : bS} {M F : Nat → Option Nat} {n : Nat} {S : Nat → Nat}
theorem aCi_of {σ : aS} {a ci : Nat} {fs : List Value} (g : σ.2.2 a = some (.inr (ci, fs))) : aCi σ a = some ci := by
  unfold aCi
  rw [g]
theorem v_5 {σ : aS} {a d : Nat} {fs : List Value} {r : Option Nat} (g : σ.2.2 a = some (.inr (5, fs))) : af_value n S (d + 1) σ a r = af_X6_value n S (af_value n S d) σ a r := by
  show ((aCi σ a).bind _) = _
  rw [ob (aCi_of g)]
  rfl
theorem v_6 {σ : aS} {a d : Nat} {fs : List Value} {r : Option Nat} (g : σ.2.2 a = some (.inr (6, fs))) : af_value n S (d + 1) σ a r = af_X7_value n S (af_value n S d) σ a r := by
  show ((aCi σ a).bind _) = _
  rw [ob (aCi_of g)]
  rfl
theorem v_7 {σ : aS} {a d : Nat} {fs : List Value} {r : Option Nat} (g : σ.2.2 a = some (.inr (7, fs))) : af_value n S (d + 1) σ a r = af_X8_value n S (af_value n S d) σ a r := by
  show ((aCi σ a).bind _) = _
  rw [ob (aCi_of g)]
  rfl
theorem v_8 {σ : aS} {a d : Nat} {fs : List Value} {r : Option Nat} (g : σ.2.2 a = some (.inr (8, fs))) : af_value n S (d + 1) σ a r = af_X9_value n S (af_value n S d) σ a r := by
  show ((aCi σ a).bind _) = _
  rw [ob (aCi_of g)]
  rfl
theorem v_9 {σ : aS} {a d : Nat} {fs : List Value} {r : Option Nat} (g : σ.2.2 a = some (.inr (9, fs))) : af_value n S (d + 1) σ a r = af_X10_value n S (af_value n S d) σ a r := by
  show ((aCi σ a).bind _) = _
  rw [ob (aCi_of g)]
  rfl
theorem v_10 {σ : aS} {a d : Nat} {fs : List Value} {r : Option Nat} (g : σ.2.2 a = some (.inr (10, fs))) : af_value n S (d + 1) σ a r = af_X11_value n S (af_value n S d) σ a r := by
  show ((aCi σ a).bind _) = _
  rw [ob (aCi_of g)]
  rfl
theorem ex_len : ∀ (d a : Nat) (l : List Nat), ex d h a l → 2 ≤ l.length := by
  intro d
  induction d with
  | zero => intro a l g; exact g.elim
  | succ d ih =>
    intro a l g
    rcases g with ⟨w, pl, g1, g2, g3, rfl⟩ | ⟨s, g1, g2, rfl⟩ | ⟨m, i, j, li, lj, g1, g2, g3, g4, rfl⟩ | ⟨o, y, z, ly, lz, g1, g2, g3, g4, g5, rfl⟩ | ⟨o, y, ly, g1, g2, g3, g4, rfl⟩ | ⟨o, y, ly, g1, g2, g3, rfl⟩
    · exact Nat.le_of_ble_eq_true rfl
    · exact Nat.le_refl 2
    · have := ih _ _ g3
      rw [List.length_append]
      omega
    · have := ih _ _ g4
      rw [List.length_append]
      omega
    · have := ih _ _ g4
      rw [List.length_append]
      omega
    · show 2 ≤ (ly ++ [13, o]).length + 1 + 1
      omega
/-- the whole: at c calls, r more are allowed -/
def EVS (x : Nat) (f : Nat → Value) (hp h : Nat → Option aE) (st0 : bS) (n : Nat) (S : Nat → Nat) (r c d : Nat) : Prop :=
  ∀ (a : Nat) (l : List Nat), ex d h a l → l.length ≤ 121 → ∀ (dd : Nat) (σ : aS) (st : bS) (V : Nat → UInt64) (CR : Nat → Int32) (CO : Nat → UInt64) (t pc : Nat), d + 61 * r < dd → ES x f hp σ c V CR CO → SB st0 st c t V CR CO → (∀ i, i < 26 → okd (V i)) → (∀ i, i < c → ∃ s, s < 26 ∧ CR i = c32 s) → CODE st0 pc l → pc + l.length < 4000 → 3 * t + l.length ≤ 121 * (c + 1) →
    EvY x f hp σ (af_value n S dd σ a (some x)) st0 st V CR CO c t pc l.length (Wk r) n ∨ EvN x f hp σ (af_value n S dd σ a (some x)) st0 st V CR CO c pc (l.length * Wk r) n
theorem EV_num (hn : 1000 ≤ n) (ec : EC x f hp h st0 M F) {r c d a w pl : Nat} (g1 : h a = some (.inr (5, [.double (nuV w pl)]))) (g2 : w < 1000000000) (g3 : pl < 4) {σ : aS} {st : bS} {V : Nat → UInt64} {CR : Nat → Int32} {CO : Nat → UInt64} {t pc : Nat} (hs : ES x f hp σ c V CR CO) (hb : SB st0 st c t V CR CO) (hcd : CODE st0 pc [0, w, pl]) (hpc : pc + 3 < 4000) (ht : t < 200) : EvY x f hp σ (af_value n S (d + 1) σ a (some x)) st0 st V CR CO c t pc 3 (Wk r) n := by
  have hc := hs.cell ec g1
  have hW := Wk_pos r
  have e14 : st.2.1 14 pc = c32 0 := by rw [hb.1.2.1 14 (by decide) (by decide)]; exact hcd.h
  refine ⟨nuV w pl, σ, CR, CO, pu st t (nuV w pl), 1, ?_, f_nu g2 g3, rfl, rfl, hs, fun _ _ => ⟨rfl, rfl⟩, by omega, fun fu => ?_, hb.pu, pu_at, fun i hi => pu_ne hi, fun _ _ => rfl⟩
  · rw [v_5 hc]
    unfold af_X6_value
    rw [ob (gD_of hc rfl)]
  · exact w_step hb.2.2.2.1 e14 (by omega) (by omega) (o_0 hn hb hpc ht hcd.t.h hcd.t.t.h g2 g3)
theorem EV_var (ec : EC x f hp h st0 M F) {r c d a s : Nat} (g1 : h a = some (.inr (8, [.int (c32 s)]))) (g2 : s < 26) {σ : aS} {st : bS} {V : Nat → UInt64} {CR : Nat → Int32} {CO : Nat → UInt64} {t pc : Nat} (hs : ES x f hp σ c V CR CO) (hb : SB st0 st c t V CR CO) (hV : ∀ i, i < 26 → okd (V i)) (hcd : CODE st0 pc [1, s]) (hpc : pc + 2 < 4000) (ht : t < 200) : EvY x f hp σ (af_value n S (d + 1) σ a (some x)) st0 st V CR CO c t pc 2 (Wk r) n := by
  have hc := hs.cell ec g1
  have hW := Wk_pos r
  have e14 : st.2.1 14 pc = c32 1 := by rw [hb.1.2.1 14 (by decide) (by decide)]; exact hcd.h
  refine ⟨V s, σ, CR, CO, pu st t (V s), 1, ?_, hV s g2, rfl, rfl, hs, fun _ _ => ⟨rfl, rfl⟩, by omega, fun fu => ?_, hb.pu, pu_at, fun i hi => pu_ne hi, fun _ _ => rfl⟩
  · rw [v_8 hc]
    unfold af_X9_value
    rw [ob (show some x = some x from rfl), ob (hs.f5 ec.1), ob (gI_of hc rfl), ob (show some (x + 2) = some (x + 2) from rfl), ob (lD_of hs.2.1 g2 (by omega))]
  · exact w_step hb.2.2.2.1 e14 (by omega) (by omega) (o_1 hb hpc ht hcd.t.h g2)
theorem EV_one (ec : EC x f hp h st0 M F) {r c d a o y : Nat} {ly : List Nat} (ih : EVS x f hp h st0 n S r c d) (g1 : h a = some (.inr (6, [.int (c32 (usg o)), .ref y]))) (g2 : 8 ≤ o) (g3 : o ≤ 11) (g4 : ex d h y ly) (hl : (ly ++ [o]).length ≤ 121) {dd : Nat} (hd : d + 61 * r < dd) {σ : aS} {st : bS} {V : Nat → UInt64} {CR : Nat → Int32} {CO : Nat → UInt64} {t pc : Nat} (hs : ES x f hp σ c V CR CO) (hb : SB st0 st c t V CR CO) (hV : ∀ i, i < 26 → okd (V i)) (hCR : ∀ i, i < c → ∃ s, s < 26 ∧ CR i = c32 s) (hcd : CODE st0 pc (ly ++ [o])) (hpc : pc + (ly ++ [o]).length < 4000) (ht : 3 * t + (ly ++ [o]).length ≤ 121 * (c + 1)) (ht2 : t < 200) :
    EvY x f hp σ (af_value n S (dd + 1) σ a (some x)) st0 st V CR CO c t pc (ly ++ [o]).length (Wk r) n ∨ EvN x f hp σ (af_value n S (dd + 1) σ a (some x)) st0 st V CR CO c pc ((ly ++ [o]).length * Wk r) n := by
  have hc := hs.cell ec g1
  have hW := Wk_pos r
  have hlen : (ly ++ [o]).length = ly.length + 1 := by rw [List.length_append]; rfl
  rw [hlen] at hl hpc ht ⊢
  have hmul : (ly.length + 1) * Wk r = ly.length * Wk r + Wk r := by rw [Nat.add_mul, Nat.one_mul]
  rw [v_6 hc]
  unfold af_X7_value
  rw [ob (gR_of (v := some y) hc rfl), ob (show some y = some y from rfl)]
  rcases ih y ly g4 (by omega) dd σ st V CR CO t pc hd hs hb hV hCR hcd.l (by omega) (by omega) with ⟨v, σ1, CR1, CO1, st1, k1, q1, q2, q3, q4, q5, q6, q7, q8, q9, q10, q11, q12⟩ | hN
  · have hc1 := q5.cell ec g1
    have e14 : st1.2.1 14 (pc + ly.length) = c32 o := by rw [q9.1.2.1 14 (by decide) (by decide)]; exact hcd.r.h
    have hone := o_one (n := n) ⟨g2, g3⟩ q9 (pc := pc + ly.length) (by omega) (by omega) (by rw [q10]; exact q2)
    rw [q10] at hone
    refine Or.inl ⟨op1 o v, σ1, CR1, CO1, sD st1 30 t (op1 o v), k1 + 1, ?_, op1_ok q2, q3, q4, q5, q6, by omega, ?_, q9.val, by rw [sD_at, if_pos rfl, if_pos rfl], fun i hi => ?_, q12⟩
    · rw [ox q1, ob (gI_of hc1 rfl)]
      exact A_one ⟨g2, g3⟩ q2
    · exact q8.trans (fun fu => w_step q9.2.2.2.1 e14 (by omega) (by omega) hone)
    · rw [sD_at, if_pos rfl, if_neg (by omega)]
      exact q11 i hi
  · refine Or.inr (hN.tr (k0 := 0) (fun σ' code e => ?_) rfl rfl (fun fu => rfl) (by omega) (fun _ _ => rfl))
    rw [oxr e]
theorem EV_two (hn : 1000 ≤ n) (ec : EC x f hp h st0 M F) {r c d a o y z : Nat} {ly lz : List Nat} (ih : EVS x f hp h st0 n S r c d) (g1 : h a = some (.inr (9, [.int (c32 (osg o)), .ref y, .ref z]))) (g2 : 3 ≤ o) (g3 : o ≤ 7) (g4 : ex d h y ly) (g5 : ex d h z lz) (hl : (ly ++ (lz ++ [o])).length ≤ 121) {dd : Nat} (hd : d + 61 * r < dd) {σ : aS} {st : bS} {V : Nat → UInt64} {CR : Nat → Int32} {CO : Nat → UInt64} {t pc : Nat} (hc3 : c ≤ 3) (hs : ES x f hp σ c V CR CO) (hb : SB st0 st c t V CR CO) (hV : ∀ i, i < 26 → okd (V i)) (hCR : ∀ i, i < c → ∃ s, s < 26 ∧ CR i = c32 s) (hcd : CODE st0 pc (ly ++ (lz ++ [o]))) (hpc : pc + (ly ++ (lz ++ [o])).length < 4000) (ht : 3 * t + (ly ++ (lz ++ [o])).length ≤ 121 * (c + 1)) (ht2 : t + 1 < 200) :
    EvY x f hp σ (af_value n S (dd + 1) σ a (some x)) st0 st V CR CO c t pc (ly ++ (lz ++ [o])).length (Wk r) n ∨ EvN x f hp σ (af_value n S (dd + 1) σ a (some x)) st0 st V CR CO c pc ((ly ++ (lz ++ [o])).length * Wk r) n := by
  have hc := hs.cell ec g1
  have hW := Wk_pos r
  have hy2 := ex_len _ _ _ g4
  have hlen : (ly ++ (lz ++ [o])).length = ly.length + lz.length + 1 := by rw [List.length_append, List.length_append]; show _ + (_ + 1) = _; omega
  rw [hlen] at hl hpc ht ⊢
  have hmul : (ly.length + lz.length + 1) * Wk r = ly.length * Wk r + lz.length * Wk r + Wk r := by rw [Nat.add_mul, Nat.add_mul, Nat.one_mul]
  rw [v_9 hc]
  unfold af_X10_value
  rw [ob (gR_of (v := some y) hc rfl), ob (show some y = some y from rfl)]
  rcases ih y ly g4 (by omega) dd σ st V CR CO t pc hd hs hb hV hCR hcd.l (by omega) (by omega) with ⟨v, σ1, CR1, CO1, st1, k1, q1, q2, q3, q4, q5, q6, q7, q8, q9, q10, q11, q12⟩ | hN
  · have hc1 := q5.cell ec g1
    rw [ox q1, ob (gR_of (v := some z) hc1 rfl), ob (show some z = some z from rfl)]
    have hCR1 : ∀ i, i < c → ∃ s, s < 26 ∧ CR1 i = c32 s := fun i hi => by
      obtain ⟨s, s1, s2⟩ := hCR i hi
      exact ⟨s, s1, (q6 i hi).1.trans s2⟩
    rcases ih z lz g5 (by omega) dd σ1 st1 V CR1 CO1 (t + 1) (pc + ly.length) hd q5 (q9.cong q6) hV hCR1 hcd.r.l (by omega) (by omega) with ⟨w, σ2, CR2, CO2, st2, k2, p1, p2, p3, p4, p5, p6, p7, p8, p9, p10, p11, p12⟩ | hN
    · have hc2 := p5.cell ec g1
      have p9' : SB st0 st2 c (t + 2) V CR CO := p9.cong (fun i hi => ⟨(q6 i hi).1.symm, (q6 i hi).2.symm⟩)
      have e14 : st2.2.1 14 (pc + ly.length + lz.length) = c32 o := by rw [p9.1.2.1 14 (by decide) (by decide)]; exact hcd.r.r.h
      have ev : st2.2.2 30 t = v := (p11 t (by omega)).trans q10
      have htwo := o_two (n := n) hn ⟨g2, g3⟩ p9' (pc := pc + ly.length + lz.length) (by omega) (by omega) (by rw [ev]; exact q2) (by rw [p10]; exact p2)
      rw [ev, p10] at htwo
      rw [ox p1, ob (gI_of hc2 rfl)]
      have eA := A_two (n := n) (S := S) (σ := σ2) (a0 := a) (rv := af_value n S dd) ⟨g2, g3⟩ q2 p2 (by omega)
      have hpp : pc + (ly.length + lz.length + 1) = pc + ly.length + lz.length + 1 := by omega
      cases hop : op2 o v w with
      | some u =>
        rw [hop] at eA
        refine Or.inl ⟨u, σ2, CR2, CO2, sD (sI st2 25 (c32 (t + 1))) 30 t u, k1 + k2 + 1, eA, op2_ok q2 p2 hop, p3.trans q3, p4.trans q4, p5, fun i hi => ⟨(p6 i hi).1.trans (q6 i hi).1, (p6 i hi).2.trans (q6 i hi).2⟩, by omega, ?_, p9'.top.val, by rw [sD_at, if_pos rfl, if_pos rfl], fun i hi => ?_, fun i hi => (p12 i hi).trans (q12 i hi)⟩
        · rw [hpp]
          exact (q8.trans p8).trans (fun fu => w_step p9.2.2.2.1 e14 (by omega) (by omega) (htwo.1 u hop))
        · rw [sD_at, if_pos rfl, if_neg (by omega)]
          exact (p11 i (by omega)).trans (q11 i hi)
      | none =>
        rw [hop] at eA
        obtain ⟨w', ew⟩ := htwo.2 hop
        have hfb : FB st0 (sI (sI st2 25 (c32 (t + 1))) 27 (c32 4)) 4 (UV c V CR CO) := p9'.fb hc3 hCR
        have hfb2 : FB st0 (sD (sI (sI st2 25 (c32 (t + 1))) 27 4) 30 t w') 4 (UV c V CR CO) := by
          obtain ⟨b1, b2, cc, b3, b4, b5, b6⟩ := hfb
          refine ⟨VF.d (st := sI (sI st2 25 (c32 (t + 1))) 27 4) b1 (by omega), b2, cc, b3, b4, b5, fun i hi => ?_⟩
          rw [sD_ne _ (by decide), sD_ne _ (by decide)]
          exact b6 i hi
        exact Or.inr ⟨3, aTh σ2, c, V, CR2, CO2, _, k1 + k2 + 1, _, eA, by omega, by show σ2.1 + 1 = _; omega, by show σ2.2.1 + 6 = _; omega, p5.th, hc3, fun i hi => by
          obtain ⟨s, s1, s2⟩ := hCR1 i hi
          exact ⟨s, s1, (p6 i hi).1.trans s2⟩, UV_ext c _ _ _ _ _ _ (fun _ _ => rfl) (fun i hi => (p6 i hi).1.trans (q6 i hi).1) (fun i hi => (p6 i hi).2.trans (q6 i hi).2), by omega, (q8.trans p8).trans (fun fu => w_step p9.2.2.2.1 e14 (by omega) (by omega) ew), hfb2⟩
    · refine Or.inr (hN.tr (k0 := k1) (fun σ' code e => ?_) q3 q4 q8 (by omega) (UV_ext c _ _ _ _ _ _ (fun _ _ => rfl) (fun i hi => (q6 i hi).1) (fun i hi => (q6 i hi).2)))
      rw [oxr e]
  · refine Or.inr (hN.tr (k0 := 0) (fun σ' code e => ?_) rfl rfl (fun fu => rfl) (by omega) (fun _ _ => rfl))
    rw [oxr e]
end EVAL

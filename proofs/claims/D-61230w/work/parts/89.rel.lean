/-! THE PURE LAW: the relation amid a run -/
abbrev PG_ : Type := Nat → Option (Nat × Nat × Nat × Nat)
/-- values of DATA lines behind line m -/
def Dm (w : Nat → List UInt64) (m : Nat) : List UInt64 := (List.range' (m + 1) (999 - m)).flatMap w
/-- arguments of slot k -/
def AV (st : bS) (k : Nat) : Nat → Int32 := fun i => st.2.1 12 (8 * k + i)
def PGM (h : Nat → Option aE) (st : bS) (P : PG_) : Prop :=
  PL h P ∧ PN (st.2.1 10) P ∧ ∀ j e, P j = some e → st.2.1 11 e.2.2.1 = c32 e.2.2.2 ∧ e.2.2.2 < 17 ∧ STM h e.2.1 e.2.2.2 (AV st e.2.2.1) (RV st e.2.2.1)
/-- what DATA lines hold -/
def WD (h : Nat → Option aE) (st : bS) (s k : Nat) (l : List UInt64) : Prop := ∃ q f, ∃ ds : List (Nat × Nat × Nat), h s = some (.inr (21, [.ref q])) ∧ h q = some (.inl (2, ds.length, dA f)) ∧ ds.length ≤ 6 ∧ AV st k 0 = c32 ds.length ∧ (∀ i d, ds[i]? = some d → f i = dval d ∧ dok d) ∧ RV st k 0 (ds.flatMap dcode) ∧ l = ds.map dval
def WP (h : Nat → Option aE) (st : bS) (P : PG_) (w : Nat → List UInt64) : Prop :=
  (∀ j, P j = none → w j = []) ∧ ∀ j e, P j = some e → (e.2.2.2 ≠ 10 → w j = []) ∧ (e.2.2.2 = 10 → WD h st e.2.1 e.2.2.1 (w j))
/-- a matrix's block at q: 8 cells behind the machine, none of them static -/
def BK (x Z : Nat) (h hp : Nat → Option aE) (q : Nat) : Prop := x + 9 < q ∧ q + 8 ≤ Z ∧ (∀ i, i < 8 → h (q + i) = none) ∧ ∃ R K G, MB hp q R K G
def far (q q' : Nat) : Prop := q + 8 ≤ q' ∨ q' + 8 ≤ q
def MX (x Z : Nat) (h hp : Nat → Option aE) (f : Nat → Value) (M : Nat → Option Nat) : Prop :=
  ∃ sp, f 7 = va_rf sp ∧ (∀ q, sp = some q → BK x Z h hp q) ∧ (∀ m, m < 3 → ∀ q, M m = some q → BK x Z h hp q ∧ ∀ q', sp = some q' → far q q') ∧ ∀ m m', m < 3 → m' < 3 → m ≠ m' → ∀ q q', M m = some q → M m' = some q' → far q q'
/-- what READ has read -/
def DAT (w : Nat → List UInt64) (f : Nat → Value) (st : bS) : Prop :=
  st.1 20 = c32 (Dm w 0).length ∧ (Dm w 0).length ≤ 144 ∧ (∀ i v, (Dm w 0)[i]? = some v → st.2.2 31 i = v) ∧ ∃ rd, rd ≤ (Dm w 0).length ∧ f 18 = .int (c32 rd) ∧ st.1 19 = c32 rd
/-- subroutines under way -/
def SUB (x : Nat) (P : PG_) (f : Nat → Value) (hp : Nat → Option aE) (st : bS) : Prop :=
  ∃ r B, r ≤ 8 ∧ f 13 = .int (c32 r) ∧ st.1 22 = c32 r ∧ hp (x + 7) = some (.inl (6, 8, rA B)) ∧ ∀ i, i < r → ∃ j e, P j = some e ∧ B i = some e.1 ∧ st.2.1 40 i = slk P (nx P j)
/-- one loop -/
def LP1 (P : PG_) (h : Nat → Option aE) (st : bS) (i : Nat) (a : Option Nat) : Prop :=
  ∃ q s b c j e, a = some q ∧ h q = some (.inr (28, [.int (c32 s), .double b, .double c, .ref e.1])) ∧ P j = some e ∧ s < 26 ∧ st.2.1 41 i = c32 s ∧ st.2.1 42 i = c32 e.2.2.1 ∧ st.2.2 32 i = b ∧ st.2.2 33 i = c ∧ okd b ∧ okd c
/-- loops under way -/
def LOP (x : Nat) (P : PG_) (h : Nat → Option aE) (f : Nat → Value) (hp : Nat → Option aE) (st : bS) : Prop :=
  ∃ l L, l ≤ 6 ∧ f 15 = .int (c32 l) ∧ st.1 23 = c32 l ∧ hp (x + 8) = some (.inl (7, 6, rA L)) ∧ (∀ i, i < l → LP1 P h st i (L i)) ∧ ∀ i i', i < l → i' < l → st.2.1 41 i = st.2.1 41 i' → i = i'
/-- what has been printed -/
def PRT (x T : Nat) (f : Nat → Value) (hp : Nat → Option aE) (st : bS) : Prop :=
  ∃ p G, p ≤ T ∧ f 17 = .int (c32 p) ∧ st.1 18 = c32 p ∧ hp (x + 9) = some (.inl (2, 40, dA G)) ∧ ∀ i, i < p → i < 40 → G i = st.2.2 28 i ∧ okd (G i)
/-- all else -/
def OT (x : Nat) (f : Nat → Value) (hp : Nat → Option aE) (st : bS) : Prop :=
  (∃ tl Tc, tl ≤ 60 ∧ f 1 = .int (c32 tl) ∧ st.1 1 = c32 tl ∧ hp (x + 1) = some (.inl (0, 60, .inl Tc)) ∧ ∀ i, i < tl → Tc i = st.2.1 8 i ∧ ∃ c, c < 128 ∧ Tc i = c32 c) ∧ f 2 = .int (st.1 3) ∧ f 4 = .int (c32 (cnt (st.2.1 10) 24)) ∧ f 19 = .int (st.1 21) ∧ f 23 = .int (st.1 26) ∧ f 21 = .int (st.1 16) ∧ f 22 = .int (st.1 17)
def RC (x Z T : Nat) (P : PG_) (w : Nat → List UInt64) (h : Nat → Option aE) (f : Nat → Value) (hp : Nat → Option aE) (st : bS) (M F : Nat → Option Nat) : Prop :=
  EC x f hp h st M F ∧ PGM h st P ∧ f 3 = va_rf (lnk P (nx P 0)) ∧ WP h st P w ∧ DAT w f st ∧ SUB x P f hp st ∧ LOP x P h f hp st ∧ PRT x T f hp st ∧ MX x Z h hp f M ∧ OT x f hp st ∧ (∀ q, Z ≤ q → h q = none) ∧ x + 10 ≤ Z
/-- what a relation does not look at is wiped -/
def nrm (st : bS) : bS := (fun k => if k = 0 then 0 else if k = 2 then 0 else if k = 4 then 0 else if k = 5 then 0 else if k = 6 then 0 else if k = 7 then 0 else if k = 24 then 0 else if k = 25 then 0 else if k = 27 then 0 else st.1 k, fun k => if k = 9 then fun _ => 0 else if k = 15 then fun _ => 0 else if k = 43 then fun _ => 0 else if k = 44 then fun _ => 0 else st.2.1 k, fun k => if k = 29 then fun _ => 0 else if k = 30 then fun _ => 0 else if k = 34 then fun _ => 0 else if k = 36 then fun _ => 0 else st.2.2 k)
theorem nrm_of {a b : bS} (h1 : ∀ k, k ≠ 0 → k ≠ 2 → k ≠ 4 → k ≠ 5 → k ≠ 6 → k ≠ 7 → k ≠ 24 → k ≠ 25 → k ≠ 27 → b.1 k = a.1 k) (h2 : ∀ k, k ≠ 9 → k ≠ 15 → k ≠ 43 → k ≠ 44 → b.2.1 k = a.2.1 k) (h3 : ∀ k, k ≠ 29 → k ≠ 30 → k ≠ 34 → k ≠ 36 → b.2.2 k = a.2.2 k) : nrm a = nrm b := by
  unfold nrm
  refine Prod.ext ?_ (Prod.ext ?_ ?_)
  · funext k
    show (if _ then _ else _) = (if _ then _ else _)
    repeat' split
    all_goals first | rfl | exact (h1 k (by assumption) (by assumption) (by assumption) (by assumption) (by assumption) (by assumption) (by assumption) (by assumption) (by assumption)).symm
  · funext k
    show (if _ then _ else _) = (if _ then _ else _)
    repeat' split
    all_goals first | rfl | exact (h2 k (by assumption) (by assumption) (by assumption) (by assumption)).symm
  · funext k
    show (if _ then _ else _) = (if _ then _ else _)
    repeat' split
    all_goals first | rfl | exact (h3 k (by assumption) (by assumption) (by assumption) (by assumption)).symm
theorem VF.n {a b : bS} (h : VF a b) : nrm a = nrm b :=
  nrm_of (fun k _ _ _ _ _ _ g1 g2 g3 => h.1 k g1 g2 g3) (fun k _ _ g1 g2 => h.2.1 k g1 g2) (fun k g1 g2 g3 _ => h.2.2 k g1 g2 g3)
section REL
variable {x Z T : Nat} {P : PG_} {w : Nat → List UInt64} {h : Nat → Option aE} {f : Nat → Value} {hp : Nat → Option aE} {st st' : bS} {M F : Nat → Option Nat} {σ : aS} {V : Nat → UInt64} {n : Nat} {S : Nat → Nat}
theorem RC.nr (r : RC x Z T P w h f hp st M F) (e : nrm st = nrm st') : RC x Z T P w h f hp st' M F := by
  have h1 : RC x Z T P w h f hp (nrm st) M F := r
  rw [e] at h1
  exact h1
theorem RC.vf (r : RC x Z T P w h f hp st M F) (e : VF st st') : RC x Z T P w h f hp st' M F := r.nr e.n
theorem BK.z {Z' q : Nat} (b : BK x Z h hp q) (hz : Z ≤ Z') : BK x Z' h hp q := ⟨b.1, Nat.le_trans b.2.1 hz, b.2.2⟩
theorem RC.z {Z' : Nat} (r : RC x Z T P w h f hp st M F) (hz : Z ≤ Z') : RC x Z' T P w h f hp st M F := by
  obtain ⟨ec, pg, h3, wp, dat, sub, lop, prt, ⟨sp, m1, m2, m3, m4⟩, ot, hz1, hz2⟩ := r
  exact ⟨ec, pg, h3, wp, dat, sub, lop, prt, ⟨sp, m1, fun q hq => (m2 q hq).z hz, fun m hm q hq => ⟨(m3 m hm q hq).1.z hz, (m3 m hm q hq).2⟩, m4⟩, ot, fun q hq => hz1 q (by omega), by omega⟩
theorem RC.t {T' : Nat} (r : RC x Z T P w h f hp st M F) (ht : T ≤ T') : RC x Z T' P w h f hp st M F := by
  obtain ⟨ec, pg, h3, wp, dat, sub, lop, ⟨p, G, p1, p2⟩, mx, rest⟩ := r
  exact ⟨ec, pg, h3, wp, dat, sub, lop, ⟨p, G, by omega, p2⟩, mx, rest⟩
/-- the variables -/
def VV (V : Nat → UInt64) (st : bS) : Prop := ∀ i, i < 26 → st.2.2 29 i = V i ∧ okd (V i)
/-- both machines between statements -/
def RS (x Z T : Nat) (P : PG_) (w : Nat → List UInt64) (h : Nat → Option aE) (σ : aS) (st : bS) (f : Nat → Value) (hp : Nat → Option aE) (M F : Nat → Option Nat) (V : Nat → UInt64) : Prop :=
  RC x Z T P w h f hp st M F ∧ (∃ CR CO, ES x f hp σ 0 V CR CO) ∧ VV V st ∧ st.1 27 = 0 ∧ Z ≤ σ.1
/-- .. and behind a fault -/
def RN (x Z T : Nat) (P : PG_) (w : Nat → List UInt64) (h : Nat → Option aE) (σ' : aS) (st' : bS) (f : Nat → Value) (hp : Nat → Option aE) (M F : Nat → Option Nat) (V : Nat → UInt64) (code : Nat) : Prop :=
  code < 6 ∧ RC x Z T P w h f hp st' M F ∧ FA x f hp V σ' ∧ VV V st' ∧ st'.1 27 = c32 (code + 1) ∧ Z ≤ σ'.1
def gr (σ σ' : aS) : Prop := σ.1 ≤ σ'.1 ∧ σ'.1 ≤ σ.1 + 9 ∧ σ.2.1 ≤ σ'.2.1 ∧ σ'.2.1 ≤ σ.2.1 + 51
def due (P : PG_) (j : Nat) (f' : Nat → Value) (r : Option Nat) (k' : Int32) : Prop :=
  ∃ d, k' = slk P d ∧ (∀ i, d = some i → ∃ e, P i = some e) ∧ ((r = lnk P d ∧ d ≠ none ∧ f' 20 = .int 0) ∨ (r = none ∧ d = none ∧ f' 20 = .int 1) ∨ (r = none ∧ d = nx P j ∧ f' 20 = .int 0))
/-- a statement's end -/
def SY (x T : Nat) (P : PG_) (w : Nat → List UInt64) (j : Nat) (h0 : Nat → Option aE) (σ : aS) (zA : Option (aS × (Option Nat ⊕ Nat))) (zB : Option (bS × Int32)) : Prop :=
  ∃ σ' r st' k' Z' h' f' hp' M' F' V', zA = some (σ', .inl r) ∧ zB = some (st', k') ∧ RS x Z' T P w h' σ' st' f' hp' M' F' V' ∧ hle h0 h' ∧ gr σ σ' ∧ due P j f' r k'
def SN (x T : Nat) (P : PG_) (w : Nat → List UInt64) (h0 : Nat → Option aE) (σ : aS) (zA : Option (aS × (Option Nat ⊕ Nat))) (zB : Option (bS × Int32)) : Prop :=
  ∃ code σ' st' k' Z' h' f' hp' M' F' V', zA = some (σ', .inr code) ∧ zB = some (st', k') ∧ RN x Z' T P w h' σ' st' f' hp' M' F' V' code ∧ hle h0 h' ∧ gr σ σ'
def SO (x T : Nat) (P : PG_) (w : Nat → List UInt64) (j : Nat) (h0 : Nat → Option aE) (σ : aS) (zA : Option (aS × (Option Nat ⊕ Nat))) (zB : Option (bS × Int32)) : Prop := SY x T P w j h0 σ zA zB ∨ SN x T P w h0 σ zA zB
theorem hle.rfl_ : hle h h := fun _ _ z => z
theorem gr.rfl_ : gr σ σ := ⟨Nat.le_refl _, by omega, Nat.le_refl _, by omega⟩
theorem gr.th {σ1 : aS} (h1 : σ1.1 = σ.1) (h2 : σ1.2.1 = σ.2.1) : gr σ (aTh σ1) := ⟨by show _ ≤ σ1.1 + 1; omega, by show σ1.1 + 1 ≤ _; omega, by show _ ≤ σ1.2.1 + 6; omega, by show σ1.2.1 + 6 ≤ _; omega⟩
theorem gr.eq {σ1 : aS} (h1 : σ1.1 = σ.1) (h2 : σ1.2.1 = σ.2.1) : gr σ σ1 := ⟨by omega, by omega, by omega, by omega⟩
/-- an expression of a statement -/
theorem R_val (hn : 300000000 ≤ n) (rs : RS x Z T P w h σ st f hp M F V) {e k i : Nat} (hk : k < 24) (hi4 : i < 4) (he : EXP h e i (RV st k)) :
    (∃ v σ' st', af_value n S dV σ e (some x) = some (σ', .inl v) ∧ okd v ∧ σ'.1 = σ.1 ∧ σ'.2.1 = σ.2.1 ∧ bf_work n st (st.2.1 13 (4 * k + i)) = some (st', v) ∧ RS x Z T P w h σ' st' f hp M F V ∧ VF st st') ∨
    (∃ code σ' st' u, af_value n S dV σ e (some x) = some (σ', .inr code) ∧ σ'.1 = σ.1 + 1 ∧ σ'.2.1 = σ.2.1 + 6 ∧ bf_work n st (st.2.1 13 (4 * k + i)) = some (st', u) ∧ RN x Z T P w h σ' st' f hp M F V code ∧ VF st st') := by
  obtain ⟨rc, ⟨CR, CO, es⟩, vv, h27, hz⟩ := rs
  rcases W_top (n := n) (S := S) hn rc.1 hk hi4 he es h27 (fun i hi => (vv i hi).1) (fun i hi => (vv i hi).2) with ⟨v, σ', CR', CO', st', q1, q2, q3, q4, q5, q6, q7, q8, q9⟩ | ⟨code, σ', st', u, q1, q2, q3, q4, q5, q6, q7, q8, q9⟩
  · exact Or.inl ⟨v, σ', st', q1, q2, q3, q4, q6, ⟨rc.vf q7, ⟨CR', CO', q5⟩, fun i hi => ⟨q9 i hi, (vv i hi).2⟩, q8, by omega⟩, q7⟩
  · exact Or.inr ⟨code, σ', st', u, q1, q3, q4, q6, ⟨q2, rc.vf q7, q5, fun i hi => ⟨q9 i hi, (vv i hi).2⟩, q8, by omega⟩, q7⟩
theorem ES.fa {CR : Nat → Int32} {CO : Nat → UInt64} (es : ES x f hp σ 0 V CR CO) : FA x f hp V σ := ⟨0, V, CR, CO, es, by omega, fun i hi => absurd hi (by omega), fun _ _ => rfl⟩
/-- a statement's own fault -/
theorem RS.tw {code : Nat} (rs : RS x Z T P w h σ st f hp M F V) (hc : code < 6) : RN x Z T P w h (aTh σ) (sI st 27 (c32 (code + 1))) f hp M F V code := by
  obtain ⟨rc, ⟨CR, CO, es⟩, vv, h27, hz⟩ := rs
  exact ⟨hc, rc.vf (VF.rfl_.i (by omega)), es.th.fa, vv, rfl, by show Z ≤ σ.1 + 1; omega⟩
theorem RS.t {T' : Nat} (rs : RS x Z T P w h σ st f hp M F V) (ht : T ≤ T') : RS x Z T' P w h σ st f hp M F V := ⟨rs.1.t ht, rs.2⟩
theorem RN.t {T' code : Nat} (rs : RN x Z T P w h σ st f hp M F V code) (ht : T ≤ T') : RN x Z T' P w h σ st f hp M F V code := ⟨rs.1, rs.2.1.t ht, rs.2.2⟩
theorem RS.cell {q : Nat} {e : aE} (rs : RS x Z T P w h σ st f hp M F V) (g : h q = some e) : σ.2.2 q = some e := by
  obtain ⟨rc, ⟨CR, CO, es⟩, _⟩ := rs
  exact es.cell rc.1 g
theorem RS.pl (rs : RS x Z T P w h σ st f hp M F V) : PL σ.2.2 P := fun j e he => rs.cell (rs.1.2.1.1 j e he)
theorem RS.mc (rs : RS x Z T P w h σ st f hp M F V) : σ.2.2 x = some (mc (va_up f 9 (.int (c32 0)))) := by
  obtain ⟨rc, ⟨CR, CO, es⟩, _⟩ := rs
  exact es.1
theorem RS.cls (rs : RS x Z T P w h σ st f hp M F V) : gC σ x 0 = some () := m_cls rs.mc
theorem RS.gI {k : Nat} {v : Int32} (rs : RS x Z T P w h σ st f hp M F V) (g : f k = .int v) (hk : k < 24 := by decide) (h9 : k ≠ 9 := by decide) : gI σ x 0 k = some v := m_I rs.mc ((va_ne_ h9).trans g) hk
theorem RS.gR {k : Nat} {v : Option Nat} (rs : RS x Z T P w h σ st f hp M F V) (g : f k = va_rf v) (hk : k < 24 := by decide) (h9 : k ≠ 9 := by decide) : gR σ x 0 k = some v := m_R rs.mc ((va_ne_ h9).trans g) hk
theorem RS.hp_ {q : Nat} (rs : RS x Z T P w h σ st f hp M F V) (h1 : q ≠ x) (h2 : q ≠ x + 2) (h3 : q ≠ x + 5) (h4 : q ≠ x + 6) : σ.2.2 q = hp q := by
  obtain ⟨rc, ⟨CR, CO, es⟩, _⟩ := rs
  exact es.2.2.2.2 q h1 h2 h3 h4
theorem PN.b {N : Nat → Int32} (h : PN N P) : P 0 = none ∧ ∀ j, 1000 ≤ j → P j = none := by
  refine ⟨?_, fun j hj => ?_⟩
  · cases hP : P 0 with
    | none => rfl
    | some e => exact absurd rfl (h.1 0 e hP).2.1
  · cases hP : P j with
    | none => rfl
    | some e => have := (h.1 j e hP).1; omega
theorem A_line_t (hn : 2000 ≤ n) (rs : RS x Z T P w h σ st f hp M F V) {m : Nat} {e : Nat × Nat × Nat × Nat} (hP : P m = some e) : af_X1_line n S σ x (c32 m) = some (σ, .inl (some e.1)) := by
  have hb := rs.1.2.1.2.1
  unfold af_X1_line
  rw [ob rs.cls, oc (A_lon rs.mc ((va_ne_ (by decide)).trans rs.1.2.2.1) hb.b.1 rs.pl hb.b.2 hn (hb.1 m e hP).1), hP]
  rfl
theorem A_line_f (hn : 2000 ≤ n) (rs : RS x Z T P w h σ st f hp M F V) {m : Nat} (hP : P m = none) (hm : m < 1000) : af_X1_line n S σ x (c32 m) = some (aTh σ, .inr 2) := by
  have hb := rs.1.2.1.2.1
  unfold af_X1_line
  rw [ob rs.cls, oc (A_lon rs.mc ((va_ne_ (by decide)).trans rs.1.2.2.1) hb.b.1 rs.pl hb.b.2 hn hm), hP]
  rfl
theorem B_goTo_t (hn : 1000 ≤ n) (hN : PN (st.2.1 10) P) {m : Nat} {e : Nat × Nat × Nat × Nat} (hP : P m = some e) : bf_goTo n st (c32 m) = some (st, slk P (some m)) := by
  obtain ⟨h1, h2, h3, h4⟩ := hN.1 m e hP
  unfold bf_goTo
  rw [ob (b_slot hn hN h2 h1)]
  show (if 0 ≤ slk P (some m) then _ else _) = _
  rw [if_pos (by rw [slk_some hP]; exact c_0le (by omega))]
theorem B_goTo_f (hn : 1000 ≤ n) (hN : PN (st.2.1 10) P) {m : Nat} (hP : P m = none) (h2 : m ≠ 0) (h1 : m < 1000) : bf_goTo n st (c32 m) = some (sI st 27 (c32 3), -1) := by
  unfold bf_goTo
  rw [ob (b_slot hn hN h2 h1)]
  show (if 0 ≤ slk P (some m) then _ else _) = _
  rw [slk_no hP, if_neg (by decide)]
  rfl
theorem lnk_some {m : Nat} {e : Nat × Nat × Nat × Nat} (hP : P m = some e) : lnk P (some m) = some e.1 := by
  show (P m).map (·.1) = _
  rw [hP]
  rfl
/-- how the model's step begins -/
theorem B_step (hn : 1000 ≤ n) (hpg : PGM h st P) {j : Nat} {e : Nat × Nat × Nat × Nat} (hP : P j = some e) : bf_step n st (c32 e.2.2.1) = if (c32 e.2.2.2 : Int32) = 0 then bf_step_L39 n st (c32 e.2.2.1) (c32 e.2.2.2) (AV st e.2.2.1 0) (slk P (nx P j)) else if c32 e.2.2.2 = (9 : Int32) then bf_step_L39 n st (c32 e.2.2.1) (c32 e.2.2.2) (AV st e.2.2.1 0) (slk P (nx P j)) else bf_step_L55 n st (c32 e.2.2.1) (c32 e.2.2.2) (AV st e.2.2.1 0) (slk P (nx P j)) := by
  obtain ⟨_, hN, hs⟩ := hpg
  obtain ⟨h1, h2, h3, h4⟩ := hN.1 j e hP
  have e1 : ldA st 11 (c32 e.2.2.1) = some (c32 e.2.2.2) := by rw [ld_A (show e.2.2.1 < 25 by omega), (hs j e hP).1]
  have e2 : ldA st 12 (c32 e.2.2.1 * (8 : Int32)) = some (AV st e.2.2.1 0) := by
    show ldA st 12 (c32 e.2.2.1 * c32 8) = _
    rw [c_mul, ld_A (show e.2.2.1 * 8 < 200 by omega), Nat.mul_comm]
    rfl
  have e3 : ldA st 10 (c32 e.2.2.1) = some (c32 j) := by rw [ld_A (show e.2.2.1 < 25 by omega), h4]
  unfold bf_step
  rw [ob e1, ob e2, ob e3, ob (b_next hn hN h1)]
/-- arguments, expressions -/
theorem ld_av {k i : Nat} (hk : k < 24) (hi : i < 8) : ldA st 12 (c32 k * (8 : Int32) + c32 i) = some (AV st k i) := by
  show ldA st 12 (c32 k * c32 8 + c32 i) = _
  rw [c_mul, c_add, ld_A (show k * 8 + i < 200 by omega), Nat.mul_comm k]
  rfl
theorem ld_av0 {k : Nat} (hk : k < 24) : ldA st 12 (c32 k * (8 : Int32)) = some (AV st k 0) := by
  show ldA st 12 (c32 k * c32 8) = _
  rw [c_mul, ld_A (show k * 8 < 200 by omega), Nat.mul_comm k]
  rfl
theorem ld_ex {k i : Nat} (hk : k < 24) (hi : i < 4) : ldA st 13 (c32 k * (4 : Int32) + c32 i) = some (st.2.1 13 (4 * k + i)) := by
  show ldA st 13 (c32 k * c32 4 + c32 i) = _
  rw [c_mul, c_add, ld_A (show k * 4 + i < 100 by omega), Nat.mul_comm k]
theorem ld_ex0 {k : Nat} (hk : k < 24) : ldA st 13 (c32 k * (4 : Int32)) = some (st.2.1 13 (4 * k + 0)) := by
  show ldA st 13 (c32 k * c32 4) = _
  rw [c_mul, ld_A (show k * 4 < 100 by omega), Nat.mul_comm k]
  rfl
theorem AV.vf {k : Nat} (e : VF st st') : AV st' k = AV st k := by
  unfold AV
  rw [e.2.1 12 (by decide) (by decide)]
/-- the machine's fields and its arrays set -/
theorem ES.fld {c k : Nat} {v : Value} {CR : Nat → Int32} {CO : Nat → UInt64} (es : ES x f hp σ c V CR CO) (hk : k < 24 := by decide) (h9 : k ≠ 9 := by decide) : pF σ x 0 k v = some (mv σ x (mc (va_up (va_up f k v) 9 (.int (c32 c))))) ∧ ES x (va_up f k v) hp (mv σ x (mc (va_up (va_up f k v) 9 (.int (c32 c))))) c V CR CO := by
  obtain ⟨h1, h2, h3, h4, h5⟩ := es
  have e : va_up (va_up f 9 (.int (c32 c))) k v = va_up (va_up f k v) 9 (.int (c32 c)) := by
    funext i
    unfold va_up
    by_cases g : i = k
    · rw [if_pos g, if_neg (fun z => h9 (by omega)), if_pos g]
    · rw [if_neg g, if_neg g]
  refine ⟨by rw [m_put h1 hk, e], ?_, ?_, ?_, ?_, fun q g1 g2 g3 g4 => ?_⟩
  · rw [mv_at]
  · rw [mv_ne _ _ (by omega)]; exact h2
  · rw [mv_ne _ _ (by omega)]; exact h3
  · rw [mv_ne _ _ (by omega)]; exact h4
  · rw [mv_ne _ _ g1]; exact h5 q g1 g2 g3 g4
theorem ES.cw {c q : Nat} {e : aE} {CR : Nat → Int32} {CO : Nat → UInt64} (es : ES x f hp σ c V CR CO) (g1 : q ≠ x) (g2 : q ≠ x + 2) (g3 : q ≠ x + 5) (g4 : q ≠ x + 6) : ES x f (va_up hp q (some e)) (mv σ q e) c V CR CO := by
  obtain ⟨h1, h2, h3, h4, h5⟩ := es
  refine ⟨?_, ?_, ?_, ?_, fun q' k1 k2 k3 k4 => ?_⟩
  · rw [mv_ne _ _ (fun z => g1 z.symm)]; exact h1
  · rw [mv_ne _ _ (fun z => g2 z.symm)]; exact h2
  · rw [mv_ne _ _ (fun z => g3 z.symm)]; exact h3
  · rw [mv_ne _ _ (fun z => g4 z.symm)]; exact h4
  · show va_up σ.2.2 q (some e) q' = va_up hp q (some e) q'
    unfold va_up
    split
    · rfl
    · exact h5 q' k1 k2 k3 k4
end REL

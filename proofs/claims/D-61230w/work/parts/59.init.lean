/-! the records' constructors (printed by geni.py) -/
theorem i_X5 {n : Nat} {S : Nat → Nat} {σ : aS} {q : Nat} {x0 x1 : Value} {p0 : Option Nat} {p1 : Option Nat} (h : σ.2.2 q = some (.inr (4, [x0, x1])))  : af_X5_init n S σ q p0 p1 = some (mv σ q (.inr (4, [va_rf p0, va_rf p1])), ()) := by
  unfold af_X5_init af_J15_init
  rw [oc rfl]
  rw [ob (pF_of h (by show 0 < 2; omega)), ob (pF_of (mv_at _ _ _) (by show 1 < 2; omega)), mv_mv]
  rfl
theorem i_X6 {n : Nat} {S : Nat → Nat} {σ : aS} {q : Nat} {x0 : Value} {p0 : UInt64} (h : σ.2.2 q = some (.inr (5, [x0])))  : af_X6_init n S σ q p0 = some (mv σ q (.inr (5, [.double p0])), ()) := by
  unfold af_X6_init af_J15_init
  rw [oc rfl]
  rw [ob (pF_of h (by show 0 < 1; omega))]
  rfl
theorem i_X7 {n : Nat} {S : Nat → Nat} {σ : aS} {q : Nat} {x0 x1 : Value} {p0 : Int32} {p1 : Option Nat} (h : σ.2.2 q = some (.inr (6, [x0, x1]))) (hc0 : cz p0 = some p0) : af_X7_init n S σ q p0 p1 = some (mv σ q (.inr (6, [.int p0, va_rf p1])), ()) := by
  unfold af_X7_init af_J15_init
  rw [oc rfl]
  rw [ob hc0, ob (pF_of h (by show 0 < 2; omega)), ob (pF_of (mv_at _ _ _) (by show 1 < 2; omega)), mv_mv]
  rfl
theorem i_X8 {n : Nat} {S : Nat → Nat} {σ : aS} {q : Nat} {x0 x1 : Value} {p0 : Int32} {p1 : Option Nat} (h : σ.2.2 q = some (.inr (7, [x0, x1])))  : af_X8_init n S σ q p0 p1 = some (mv σ q (.inr (7, [.int p0, va_rf p1])), ()) := by
  unfold af_X8_init af_J15_init
  rw [oc rfl]
  rw [ob (pF_of h (by show 0 < 2; omega)), ob (pF_of (mv_at _ _ _) (by show 1 < 2; omega)), mv_mv]
  rfl
theorem i_X9 {n : Nat} {S : Nat → Nat} {σ : aS} {q : Nat} {x0 : Value} {p0 : Int32} (h : σ.2.2 q = some (.inr (8, [x0])))  : af_X9_init n S σ q p0 = some (mv σ q (.inr (8, [.int p0])), ()) := by
  unfold af_X9_init af_J15_init
  rw [oc rfl]
  rw [ob (pF_of h (by show 0 < 1; omega))]
  rfl
theorem i_X10 {n : Nat} {S : Nat → Nat} {σ : aS} {q : Nat} {x0 x1 x2 : Value} {p0 : Int32} {p1 : Option Nat} {p2 : Option Nat} (h : σ.2.2 q = some (.inr (9, [x0, x1, x2]))) (hc0 : cz p0 = some p0) : af_X10_init n S σ q p0 p1 p2 = some (mv σ q (.inr (9, [.int p0, va_rf p1, va_rf p2])), ()) := by
  unfold af_X10_init af_J15_init
  rw [oc rfl]
  rw [ob hc0, ob (pF_of h (by show 0 < 3; omega)), ob (pF_of (mv_at _ _ _) (by show 1 < 3; omega)), ob (pF_of (mv_at _ _ _) (by show 2 < 3; omega)), mv_mv, mv_mv]
  rfl
theorem i_X11 {n : Nat} {S : Nat → Nat} {σ : aS} {q : Nat} {x0 x1 x2 : Value} {p0 : Int32} {p1 : Option Nat} {p2 : Option Nat} (h : σ.2.2 q = some (.inr (10, [x0, x1, x2])))  : af_X11_init n S σ q p0 p1 p2 = some (mv σ q (.inr (10, [.int p0, va_rf p1, va_rf p2])), ()) := by
  unfold af_X11_init af_J15_init
  rw [oc rfl]
  rw [ob (pF_of h (by show 0 < 3; omega)), ob (pF_of (mv_at _ _ _) (by show 1 < 3; omega)), ob (pF_of (mv_at _ _ _) (by show 2 < 3; omega)), mv_mv, mv_mv]
  rfl
theorem i_X12 {n : Nat} {S : Nat → Nat} {σ : aS} {q : Nat} {x0 x1 : Value} {p0 : Option Nat} {p1 : Option Nat} (h : σ.2.2 q = some (.inr (11, [x0, x1])))  : af_X12_init n S σ q p0 p1 = some (mv σ q (.inr (11, [va_rf p0, va_rf p1])), ()) := by
  unfold af_X12_init af_J15_init
  rw [oc rfl]
  rw [ob (pF_of h (by show 0 < 2; omega)), ob (pF_of (mv_at _ _ _) (by show 1 < 2; omega)), mv_mv]
  rfl
theorem i_X13 {n : Nat} {S : Nat → Nat} {σ : aS} {q : Nat} {x0 : Value} {p0 : Option Nat} (h : σ.2.2 q = some (.inr (12, [x0])))  : af_X13_init n S σ q p0 = some (mv σ q (.inr (12, [va_rf p0])), ()) := by
  unfold af_X13_init af_J15_init
  rw [oc rfl]
  rw [ob (pF_of h (by show 0 < 1; omega))]
  rfl
theorem i_X14 {n : Nat} {S : Nat → Nat} {σ : aS} {q : Nat} {x0 x1 x2 x3 : Value} {p0 : Option Nat} {p1 : Int32} {p2 : Option Nat} {p3 : Int32} (h : σ.2.2 q = some (.inr (13, [x0, x1, x2, x3])))  : af_X14_init n S σ q p0 p1 p2 p3 = some (mv σ q (.inr (13, [va_rf p0, .int p1, va_rf p2, .int p3])), ()) := by
  unfold af_X14_init af_J15_init
  rw [oc rfl]
  rw [ob (pF_of h (by show 0 < 4; omega)), ob (pF_of (mv_at _ _ _) (by show 1 < 4; omega)), ob (pF_of (mv_at _ _ _) (by show 2 < 4; omega)), ob (pF_of (mv_at _ _ _) (by show 3 < 4; omega)), mv_mv, mv_mv, mv_mv]
  rfl
theorem i_X15 {n : Nat} {S : Nat → Nat} {σ : aS} {q : Nat} {x0 : Value} {p0 : Int32} (h : σ.2.2 q = some (.inr (14, [x0])))  : af_X15_init n S σ q p0 = some (mv σ q (.inr (14, [.int p0])), ()) := by
  unfold af_X15_init af_J15_init
  rw [oc rfl]
  rw [ob (pF_of h (by show 0 < 1; omega))]
  rfl
theorem i_X16 {n : Nat} {S : Nat → Nat} {σ : aS} {q : Nat} {x0 x1 : Value} {p0 : Option Nat} {p1 : Option Nat} (h : σ.2.2 q = some (.inr (15, [x0, x1])))  : af_X16_init n S σ q p0 p1 = some (mv σ q (.inr (15, [va_rf p0, va_rf p1])), ()) := by
  unfold af_X16_init af_J15_init
  rw [oc rfl]
  rw [ob (pF_of h (by show 0 < 2; omega)), ob (pF_of (mv_at _ _ _) (by show 1 < 2; omega)), mv_mv]
  rfl
theorem i_X17 {n : Nat} {S : Nat → Nat} {σ : aS} {q : Nat} {x0 : Value} {p0 : Int32} (h : σ.2.2 q = some (.inr (16, [x0])))  : af_X17_init n S σ q p0 = some (mv σ q (.inr (16, [.int p0])), ()) := by
  unfold af_X17_init af_J15_init
  rw [oc rfl]
  rw [ob (pF_of h (by show 0 < 1; omega))]
  rfl
theorem i_X19 {n : Nat} {S : Nat → Nat} {σ : aS} {q : Nat} {x0 x1 x2 x3 : Value} {p0 : Int32} {p1 : Option Nat} {p2 : Option Nat} {p3 : Option Nat} (h : σ.2.2 q = some (.inr (18, [x0, x1, x2, x3])))  : af_X19_init n S σ q p0 p1 p2 p3 = some (mv σ q (.inr (18, [.int p0, va_rf p1, va_rf p2, va_rf p3])), ()) := by
  unfold af_X19_init af_J15_init
  rw [oc rfl]
  rw [ob (pF_of h (by show 0 < 4; omega)), ob (pF_of (mv_at _ _ _) (by show 1 < 4; omega)), ob (pF_of (mv_at _ _ _) (by show 2 < 4; omega)), ob (pF_of (mv_at _ _ _) (by show 3 < 4; omega)), mv_mv, mv_mv, mv_mv]
  rfl
theorem i_X20 {n : Nat} {S : Nat → Nat} {σ : aS} {q : Nat} {x0 : Value} {p0 : Int32} (h : σ.2.2 q = some (.inr (19, [x0])))  : af_X20_init n S σ q p0 = some (mv σ q (.inr (19, [.int p0])), ()) := by
  unfold af_X20_init af_J15_init
  rw [oc rfl]
  rw [ob (pF_of h (by show 0 < 1; omega))]
  rfl
theorem i_X21 {n : Nat} {S : Nat → Nat} {σ : aS} {q : Nat} {x0 : Value} {p0 : Option Nat} (h : σ.2.2 q = some (.inr (20, [x0])))  : af_X21_init n S σ q p0 = some (mv σ q (.inr (20, [va_rf p0])), ()) := by
  unfold af_X21_init af_J15_init
  rw [oc rfl]
  rw [ob (pF_of h (by show 0 < 1; omega))]
  rfl
theorem i_X22 {n : Nat} {S : Nat → Nat} {σ : aS} {q : Nat} {x0 : Value} {p0 : Option Nat} (h : σ.2.2 q = some (.inr (21, [x0])))  : af_X22_init n S σ q p0 = some (mv σ q (.inr (21, [va_rf p0])), ()) := by
  unfold af_X22_init af_J15_init
  rw [oc rfl]
  rw [ob (pF_of h (by show 0 < 1; omega))]
  rfl
theorem i_X24 {n : Nat} {S : Nat → Nat} {σ : aS} {q : Nat} {x0 x1 x2 : Value} {p0 : Int32} {p1 : Int32} {p2 : Int32} (h : σ.2.2 q = some (.inr (23, [x0, x1, x2])))  : af_X24_init n S σ q p0 p1 p2 = some (mv σ q (.inr (23, [.int p0, .int p1, .int p2])), ()) := by
  unfold af_X24_init af_J15_init
  rw [oc rfl]
  rw [ob (pF_of h (by show 0 < 3; omega)), ob (pF_of (mv_at _ _ _) (by show 1 < 3; omega)), ob (pF_of (mv_at _ _ _) (by show 2 < 3; omega)), mv_mv, mv_mv]
  rfl
theorem i_X25 {n : Nat} {S : Nat → Nat} {σ : aS} {q : Nat} {x0 x1 x2 : Value} {p0 : Int32} {p1 : Int32} {p2 : Option Nat} (h : σ.2.2 q = some (.inr (24, [x0, x1, x2])))  : af_X25_init n S σ q p0 p1 p2 = some (mv σ q (.inr (24, [.int p0, .int p1, va_rf p2])), ()) := by
  unfold af_X25_init af_J15_init
  rw [oc rfl]
  rw [ob (pF_of h (by show 0 < 3; omega)), ob (pF_of (mv_at _ _ _) (by show 1 < 3; omega)), ob (pF_of (mv_at _ _ _) (by show 2 < 3; omega)), mv_mv, mv_mv]
  rfl
theorem i_X26 {n : Nat} {S : Nat → Nat} {σ : aS} {q : Nat} {x0 x1 x2 x3 x4 : Value} {p0 : Int32} {p1 : Int32} {p2 : Int32} {p3 : Int32} {p4 : Option Nat} (h : σ.2.2 q = some (.inr (25, [x0, x1, x2, x3, x4]))) (hc1 : cz p1 = some p1) : af_X26_init n S σ q p0 p1 p2 p3 p4 = some (mv σ q (.inr (25, [.int p0, .int p1, .int p2, .int p3, va_rf p4])), ()) := by
  unfold af_X26_init af_J15_init
  rw [oc rfl]
  rw [ob (pF_of h (by show 0 < 5; omega)), ob hc1, ob (pF_of (mv_at _ _ _) (by show 1 < 5; omega)), ob (pF_of (mv_at _ _ _) (by show 2 < 5; omega)), ob (pF_of (mv_at _ _ _) (by show 3 < 5; omega)), ob (pF_of (mv_at _ _ _) (by show 4 < 5; omega)), mv_mv, mv_mv, mv_mv, mv_mv]
  rfl
theorem i_X27 {n : Nat} {S : Nat → Nat} {σ : aS} {q : Nat} {x0 : Value} {p0 : Int32} (h : σ.2.2 q = some (.inr (26, [x0]))) (hb0 : bz p0 = some p0) : af_X27_init n S σ q p0 = some (mv σ q (.inr (26, [.int p0])), ()) := by
  unfold af_X27_init af_J15_init
  rw [oc rfl]
  rw [ob hb0, ob (pF_of h (by show 0 < 1; omega))]
  rfl
theorem i_X29 {n : Nat} {S : Nat → Nat} {σ : aS} {q : Nat} {x0 x1 x2 x3 : Value} {p0 : Int32} {p1 : UInt64} {p2 : UInt64} {p3 : Option Nat} (h : σ.2.2 q = some (.inr (28, [x0, x1, x2, x3])))  : af_X29_init n S σ q p0 p1 p2 p3 = some (mv σ q (.inr (28, [.int p0, .double p1, .double p2, va_rf p3])), ()) := by
  unfold af_X29_init af_J15_init
  rw [oc rfl]
  rw [ob (pF_of h (by show 0 < 4; omega)), ob (pF_of (mv_at _ _ _) (by show 1 < 4; omega)), ob (pF_of (mv_at _ _ _) (by show 2 < 4; omega)), ob (pF_of (mv_at _ _ _) (by show 3 < 4; omega)), mv_mv, mv_mv, mv_mv]
  rfl

section
/-! pure rows: ints of the machine as whole numbers, the floor of a quotient -/
theorem ih_t0 : (0 : Int32).toInt = 0 := by decide
theorem ih_t1 : (1 : Int32).toInt = 1 := by decide
theorem ih_tm1 : (-1 : Int32).toInt = -1 := by decide
theorem ih_t9 : (9 : Int32).toInt = 9 := by decide
theorem ih_tm9 : (-9 : Int32).toInt = -9 := by decide
theorem ih_t40 : (40 : Int32).toInt = 40 := by decide
theorem ih_t41 : (41 : Int32).toInt = 41 := by decide
theorem ih_tk : (1000 : Int32).toInt = 1000 := by decide
theorem ih_tmk : (-1000 : Int32).toInt = -1000 := by decide
theorem ih_lt {x y : Int32} {b : Int} (hy : y.toInt = b) : x < y ↔ x.toInt < b := by
  rw [Int32.lt_iff_toInt_lt, hy]
theorem ih_gt {x y : Int32} {b : Int} (hy : y.toInt = b) : y < x ↔ b < x.toInt := by
  rw [Int32.lt_iff_toInt_lt, hy]
theorem ih_le {x y : Int32} {b : Int} (hy : y.toInt = b) : x ≤ y ↔ x.toInt ≤ b := by
  rw [Int32.le_iff_toInt_le, hy]
theorem ih_ge {x y : Int32} {b : Int} (hy : y.toInt = b) : y ≤ x ↔ b ≤ x.toInt := by
  rw [Int32.le_iff_toInt_le, hy]
theorem ih_bm {z : Int} (h1 : -2147483648 ≤ z) (h2 : z < 2147483648) : z.bmod (2 ^ 32) = z := Int.bmod_eq_of_le (by omega) (by omega)
theorem ih_mb {a b A B : Int} (hA : 0 ≤ A) (h1 : -A ≤ a) (h2 : a ≤ A) (h3 : 0 ≤ b) (h4 : b ≤ B) : -(A * B) ≤ a * b ∧ a * b ≤ A * B := by
  have e1 : a * b ≤ A * b := Int.mul_le_mul_of_nonneg_right h2 h3
  have e2 : -A * b ≤ a * b := Int.mul_le_mul_of_nonneg_right h1 h3
  have e3 : A * b ≤ A * B := Int.mul_le_mul_of_nonneg_left h4 hA
  rw [Int.neg_mul] at e2
  exact ⟨Int.le_trans (Int.neg_le_neg e3) e2, Int.le_trans e1 e3⟩
/-- the quotient cut towards 0, mended: the floor -/
theorem ih_fd {n d : Int} (hd : 0 < d) : (n.tdiv d * d ≤ n → n.tdiv d = n / d) ∧ (¬ n.tdiv d * d ≤ n → n.tdiv d - 1 = n / d) := by
  have h1 := Int.ediv_mul_le n (Int.ne_of_gt hd)
  have h2 := Int.lt_ediv_add_one_mul_self n hd
  rw [Int.tdiv_eq_ediv, Int.sign_eq_one_of_pos hd]
  by_cases hc : 0 ≤ n ∨ d ∣ n
  · rw [if_pos hc, Int.add_zero]
    exact ⟨fun _ => rfl, fun h => absurd h1 h⟩
  · rw [if_neg hc]
    exact ⟨fun h => absurd h2 (Int.not_lt.mpr h), fun _ => by omega⟩
theorem ih_up {b r y : Int} (hb : 0 < b) : y ≤ r / b ↔ b * y ≤ r := by
  rw [Int.le_ediv_iff_mul_le hb, Int.mul_comm]
theorem ih_dn {b r y : Int} (hb : b < 0) : -(r / (-b)) ≤ y ↔ b * y ≤ r := by
  have h := Int.le_ediv_iff_mul_le (a := -y) (b := r) (c := -b) (by omega)
  rw [Int.neg_mul_neg, Int.mul_comm] at h
  rw [← h]
  omega
/-- the factors and the bound of a condition lie in range -/
def ih_bd (a b c : Int32) : Prop := -9 ≤ a.toInt ∧ a.toInt ≤ 9 ∧ -9 ≤ b.toInt ∧ b.toInt ≤ 9 ∧ -1000 ≤ c.toInt ∧ c.toInt ≤ 1000
/-- what column x holds under k conditions (none or one) -/
def ih_col (k : Nat) (a b c : Int32) (x : Nat) (lo hi : Int32) : Prop :=
  (k = 0 → lo = 0 ∧ hi = 40) ∧ (k = 1 → ∀ y : Int, 0 ≤ y → y ≤ 40 → ((lo.toInt ≤ y ∧ y ≤ hi.toInt) ↔ a.toInt * (x : Int) + b.toInt * y ≤ c.toInt))
/-- what is left for the second factor at column x -/
theorem ih_rest {a b c : Int32} {x : Nat} (hx : x < 41) (h : ih_bd a b c) : (c - a * nI x).toInt = c.toInt - a.toInt * (x : Int) ∧ -1360 ≤ c.toInt - a.toInt * (x : Int) ∧ c.toInt - a.toInt * (x : Int) ≤ 1360 := by
  obtain ⟨h1, h2, _, _, h5, h6⟩ := h
  have m := ih_mb (a := a.toInt) (b := (x : Int)) (A := 9) (B := 40) (by omega) (by omega) (by omega) (by omega) (by omega)
  have e : (a * nI x).toInt = a.toInt * (x : Int) := by
    rw [Int32.toInt_mul, nI_toInt (by omega)]
    exact ih_bm (by omega) (by omega)
  refine ⟨?_, by omega, by omega⟩
  rw [Int32.toInt_sub, e]
  exact ih_bm (by omega) (by omega)
/-- the law's own left side -/
theorem ih_dot {a b c x y : Int32} (h : ih_bd a b c) (hx : 0 ≤ x.toInt) (hx2 : x.toInt ≤ 40) (hy : 0 ≤ y.toInt) (hy2 : y.toInt ≤ 40) : (a * x + b * y).toInt = a.toInt * x.toInt + b.toInt * y.toInt := by
  obtain ⟨h1, h2, h3, h4, _, _⟩ := h
  have m := ih_mb (a := a.toInt) (b := x.toInt) (A := 9) (B := 40) (by omega) (by omega) (by omega) hx hx2
  have m' := ih_mb (a := b.toInt) (b := y.toInt) (A := 9) (B := 40) (by omega) (by omega) (by omega) hy hy2
  have e : (a * x).toInt = a.toInt * x.toInt := by
    rw [Int32.toInt_mul]
    exact ih_bm (by omega) (by omega)
  have e' : (b * y).toInt = b.toInt * y.toInt := by
    rw [Int32.toInt_mul]
    exact ih_bm (by omega) (by omega)
  rw [Int32.toInt_add, e, e']
  exact ih_bm (by omega) (by omega)
end
section
/-! the columns: floorDiv, narrow, fillColumn -/
theorem ih_floor {post : Int32 → Prop} {n d : Int32} (hn : -1360 ≤ n.toInt) (hn2 : n.toInt ≤ 1360) (hd : 1 ≤ d.toInt) (hd2 : d.toInt ≤ 9)
    (H : ∀ r : Int32, r.toInt = n.toInt / d.toInt → -1361 ≤ r.toInt → r.toInt ≤ 1360 → post r) : wpX_floorDiv post () n d := by
  have q : (n / d).toInt = n.toInt.tdiv d.toInt := Int32.toInt_div_of_ne_right n d (by intro e; rw [e, ih_tm1] at hd; omega)
  have qb := Int.natAbs_tdiv_le_natAbs n.toInt d.toInt
  have fd := ih_fd (n := n.toInt) (d := d.toInt) (by omega)
  have m := ih_mb (a := n.toInt.tdiv d.toInt) (b := d.toInt) (A := 1360) (B := 9) (by omega) (by omega) (by omega) (by omega) hd2
  have hm : (n / d * d).toInt = n.toInt.tdiv d.toInt * d.toInt := by
    rw [Int32.toInt_mul, q]
    exact ih_bm (by omega) (by omega)
  have hs : (n / d - 1).toInt = n.toInt.tdiv d.toInt - 1 := by
    rw [Int32.toInt_sub, q, ih_t1]
    exact ih_bm (by omega) (by omega)
  refine br_t ((ih_gt ih_t0).mpr (by omega)) ⟨fun e => by rw [e, ih_t0] at hd; omega, nm_e (br_c (fun z => ?_) (fun z => ?_))⟩
  · rw [Int32.le_iff_toInt_le, hm] at z
    exact H _ (by rw [q]; exact fd.1 z) (by omega) (by omega)
  · rw [Int32.le_iff_toInt_le, hm] at z
    exact H _ (by rw [hs]; exact fd.2 z) (by omega) (by omega)
theorem ih_narrow {post : St2 → Prop} {fc fr fk : Int32} {a1 a2 a3 a4 a5 a6 a7 : Nat → Int32} {x : Nat} (hx : x < 41) (hb : ih_bd (a1 0) (a2 0) (a3 0)) (h4 : a4 x = 0) (h5 : a5 x = 40)
    (H : ∀ b4 b5 : Nat → Int32, (∀ j, j ≠ x → b4 j = a4 j ∧ b5 j = a5 j) → ih_col 1 (a1 0) (a2 0) (a3 0) x (b4 x) (b5 x) → post (fc, fr, fk, a1, a2, a3, b4, b5, a6, a7)) :
    wpX_narrow post (fc, fr, fk, a1, a2, a3, a4, a5, a6, a7) (nI x) 0 := by
  obtain ⟨e, r1, r2⟩ := ih_rest hx hb
  have hb' := hb
  obtain ⟨_, _, g1, g2, _, _⟩ := hb'
  unfold wpX_narrow
  dsimp only
  rw [sb_cl0, nI_clamp (show x < 2 ^ 31 by omega)]
  have i0 : vp_in 0 8 := pk_in 0 8 (by omega)
  have ix : vp_in (nI x) 41 := pk_in x 41 hx
  refine ⟨i0, i0, nm_e ⟨i0, ?_⟩⟩
  have key : ∀ lo hi : Int32, (∀ y : Int, 0 ≤ y → y ≤ 40 → ((lo.toInt ≤ y ∧ y ≤ hi.toInt) ↔ (a2 0).toInt * y ≤ (a3 0 - a1 0 * nI x).toInt)) → ih_col 1 (a1 0) (a2 0) (a3 0) x lo hi := by
    intro lo hi h
    refine ⟨fun z => absurd z (by omega), fun _ y y0 y1 => ?_⟩
    rw [h y y0 y1, e]
    constructor <;> intro z <;> omega
  rw [← e] at r1 r2
  refine br_c (fun z => ⟨i0, br_c (fun z2 => br_c (fun z3 => ?_) (fun z3 => ⟨ix, nm_e ?_⟩)) (fun z2 => ⟨i0, ?_⟩)⟩) (fun z => ⟨i0, ?_⟩)
  · refine H a4 a5 (fun j _ => ⟨rfl, rfl⟩) (key _ _ (fun y y0 y1 => ?_))
    rw [ih_le ih_t0] at z
    rw [ih_ge ih_t0] at z2 z3
    rw [h4, h5, ih_t0, ih_t40, show (a2 0).toInt = 0 by omega, Int.zero_mul]
    constructor <;> intro _ <;> omega
  · refine H a4 _ (fun j hj => ⟨rfl, pk_un hj⟩) (key _ _ (fun y y0 y1 => ?_))
    rw [ih_le ih_t0] at z
    rw [ih_ge ih_t0] at z2 z3
    rw [h4, pk_us, ih_t0, ih_tm1, show (a2 0).toInt = 0 by omega, Int.zero_mul]
    constructor <;> intro _ <;> omega
  · rw [ih_ge ih_t0] at z2
    have eb : (-(a2 0)).toInt = -(a2 0).toInt := by
      rw [Int32.toInt_neg]
      exact ih_bm (by omega) (by omega)
    refine ih_floor r1 r2 (by omega) (by omega) (fun q hq q1 q2 => nm_e ⟨ix, ?_⟩)
    have eq : (-q).toInt = -q.toInt := by
      rw [Int32.toInt_neg]
      exact ih_bm (by omega) (by omega)
    rw [eb] at hq
    refine br_c (fun z3 => H a4 a5 (fun j _ => ⟨rfl, rfl⟩) (key _ _ (fun y y0 y1 => ?_))) (fun z3 => ⟨ix, nm_e (H _ a5 (fun j hj => ⟨pk_un hj, rfl⟩) (key _ _ (fun y y0 y1 => ?_)))⟩)
    · rw [h4, ih_le ih_t0, eq] at z3
      rw [h4, h5, ih_t0, ih_t40, ← ih_dn (show (a2 0).toInt < 0 by omega), ← hq]
      constructor <;> intro _ <;> omega
    · rw [pk_us, h5, ih_t40, eq, ← ih_dn (show (a2 0).toInt < 0 by omega), ← hq]
      constructor <;> intro _ <;> omega
  · rw [ih_le ih_t0] at z
    refine ih_floor r1 r2 (by omega) (by omega) (fun q hq q1 q2 => ⟨ix, ?_⟩)
    refine br_c (fun z3 => H a4 a5 (fun j _ => ⟨rfl, rfl⟩) (key _ _ (fun y y0 y1 => ?_))) (fun z3 => ⟨ix, nm_e (H a4 _ (fun j hj => ⟨rfl, pk_un hj⟩) (key _ _ (fun y y0 y1 => ?_)))⟩)
    · rw [h5, ih_ge ih_t40] at z3
      rw [h4, h5, ih_t0, ih_t40, ← ih_up (show 0 < (a2 0).toInt by omega), ← hq]
      constructor <;> intro _ <;> omega
    · rw [pk_us, h4, ih_t0, ← ih_up (show 0 < (a2 0).toInt by omega), ← hq]
      constructor <;> intro _ <;> omega
theorem ih_fill {post : St2 → Prop} {k : Nat} {a b c fr fk : Int32} {a1 a2 a3 a4 a5 a6 a7 : Nat → Int32} {x : Nat} (hx : x < 41) (hk : k ≤ 1) (hb : k = 1 → a1 0 = a ∧ a2 0 = b ∧ a3 0 = c ∧ ih_bd a b c)
    (H : ∀ b4 b5 : Nat → Int32, (∀ j, j ≠ x → b4 j = a4 j ∧ b5 j = a5 j) → ih_col k a b c x (b4 x) (b5 x) → post (nI k, fr, fk, a1, a2, a3, b4, b5, a6, a7)) :
    wpX_fillColumn post (nI k, fr, fk, a1, a2, a3, a4, a5, a6, a7) (nI x) := by
  have ix : vp_in (nI x) 41 := pk_in x 41 hx
  unfold wpX_fillColumn
  dsimp only
  rw [nI_clamp (show x < 2 ^ 31 by omega)]
  refine ⟨ix, nm_e ⟨ix, nm_e ?_⟩⟩
  rcases (show k = 0 ∨ k = 1 by omega) with rfl | rfl
  · exact ⟨0 + 1, pk_le 0 0 (fun _ => H _ _ (fun j hj => ⟨pk_un hj, pk_un hj⟩) ⟨fun _ => ⟨pk_us, pk_us⟩, fun z => absurd z (by omega)⟩) (fun z => absurd z (by omega))⟩
  · obtain ⟨rfl, rfl, rfl, hbd⟩ := hb rfl
    refine ⟨0 + 1 + 1, pk_le 1 0 (fun z => absurd z (by omega)) (fun _ => ?_)⟩
    refine ih_narrow hx hbd pk_us pk_us (fun b4 b5 g1 g2 => ?_)
    refine nm_r (nI_1 0) (pk_le 1 1 (fun _ => ?_) (fun z => absurd z (by omega)))
    exact H b4 b5 (fun j hj => ⟨(g1 j hj).1.trans (pk_un hj), (g1 j hj).2.trans (pk_un hj)⟩) g2
end
section
/-! the hull (only its count matters: 84 places are enough) and prepare -/
theorem ih_44 {post : St2 → Prop} {fc fr px py : Int32} {a1 a2 a3 a4 a5 a6 a7 : Nat → Int32} {b c m : Nat} (hbm : b ≤ m) (hm : m ≤ c) (hc : c ≤ 83)
    (H : ∀ (c' : Nat) (b6 b7 : Nat → Int32), b + 1 ≤ c' → c' ≤ c + 1 → post (fc, fr, nI c', a1, a2, a3, a4, a5, b6, b7)) :
    wX_addPoint_44 post px py fc fr (nI m) a1 a2 a3 a4 a5 a6 a7 :=
  ⟨pk_in m 84 (by omega), nm_e ⟨pk_in m 84 (by omega), nm_e (nm_r (nI_1 m) (H (m + 1) _ _ (by omega) (by omega)))⟩⟩
theorem ih_add0 {post : St2 → Prop} {fc fr px py : Int32} {a1 a2 a3 a4 a5 a6 a7 : Nat → Int32} {b c : Nat} (hc : c ≤ 83)
    (H : ∀ (c' : Nat) (b6 b7 : Nat → Int32), b + 1 ≤ c' → c' ≤ c + 1 → post (fc, fr, nI c', a1, a2, a3, a4, a5, b6, b7)) :
    ∀ m, b ≤ m → m ≤ c → wX_addPoint_0 post (nI b) px py fc fr a1 a2 a3 a4 a5 a6 a7 (m + 1) (nI m) := by
  intro m
  induction m with
  | zero => exact fun h1 h2 => pk_lt (0 - b) 2 (fun _ => ih_44 h1 h2 hc H) (fun z => absurd z (by omega)) (hx := pk_sub h1)
  | succ m ih =>
    intro h1 h2
    refine pk_lt (m + 1 - b) 2 (fun _ => ih_44 h1 h2 hc H) (fun z => ?_) (hx := pk_sub h1)
    have e1 : nI (m + 1) - 1 = nI m := nI_pred m
    have e2 : nI (m + 1) - 2 = nI (m - 1) := by
      have t := pk_sub (a := m + 1) (b := 2) (by omega)
      rw [show m + 1 - 2 = m - 1 by omega] at t
      exact t
    have i1 : vp_in (nI (m + 1) - 1) 84 := pk_in m 84 (by omega) e1
    have i2 : vp_in (nI (m + 1) - 2) 84 := pk_in (m - 1) 84 (by omega) e2
    exact ⟨i1, i2, i2, i1, i2, i2, br_c (fun _ => ih_44 h1 h2 hc H) (fun _ => nm_r e1 (ih (by omega) (by omega)))⟩
theorem ih_add {post : St2 → Prop} {fc fr px py : Int32} {a1 a2 a3 a4 a5 a6 a7 : Nat → Int32} (b c : Nat) (hbc : b ≤ c) (hc : c ≤ 83)
    (H : ∀ (c' : Nat) (b6 b7 : Nat → Int32), b + 1 ≤ c' → c' ≤ c + 1 → post (fc, fr, nI c', a1, a2, a3, a4, a5, b6, b7)) :
    wpX_addPoint post (fc, fr, nI c, a1, a2, a3, a4, a5, a6, a7) (nI b) px py :=
  ⟨c + 1, ih_add0 hc H c hbc (Nat.le_refl c)⟩
/-- the way back over the highest points: i columns are left -/
theorem ih_75 {post : St2 → Prop} {fc fr : Int32} {a1 a2 a3 a4 a5 : Nat → Int32} {l b : Nat} (H : ∀ (c' : Nat) (b6 b7 : Nat → Int32), post (fc, fr, nI c', a1, a2, a3, a4, a5, b6, b7)) :
    ∀ i, i ≤ 41 → ∀ (c : Nat) (a6 a7 : Nat → Int32), b + 1 ≤ c → c + i ≤ 82 → wX_prepare_75 post (nI l) (nI b) (i + 1) (nI i + (-1)) fc fr (nI c) a1 a2 a3 a4 a5 a6 a7 := by
  intro i
  induction i with
  | zero =>
    intro _ c a6 a7 h1 h2
    have e1 : nI c - 1 = nI (c - 1) := pk_sub (a := c) (b := 1) (by omega)
    refine br_t (show nI 0 + (-1) < 0 by decide) (pk_le c 1 (fun _ => H c a6 a7) (fun z => ?_))
    have i1 : vp_in (nI c - 1) 84 := pk_in (c - 1) 84 (by omega) e1
    exact ⟨i1, br_c (fun _ => ⟨i1, br_c (fun _ => nm_r e1 (H (c - 1) a6 a7)) (fun _ => H c a6 a7)⟩) (fun _ => H c a6 a7)⟩
  | succ i ih =>
    intro hi c a6 a7 h1 h2
    rw [pk_m1]
    have ix : vp_in (nI i) 41 := pk_in i 41 (by omega)
    have p : wX_prepare_107 post (wX_prepare_75 post (nI l) (nI b) (i + 1)) (nI l) (nI b) (nI i) fc fr (nI c) a1 a2 a3 a4 a5 a6 a7 :=
      ⟨ix, ih_add b c (by omega) (by omega) (fun c' b6 b7 g1 g2 => nm_e (ih (by omega) c' b6 b7 g1 (by omega)))⟩
    have s : wX_prepare_75 post (nI l) (nI b) (i + 1) (nI i + (-1)) fc fr (nI c) a1 a2 a3 a4 a5 a6 a7 := ih (by omega) c a6 a7 h1 (by omega)
    exact br_f (nI_pos (show i < 2 ^ 31 by omega)) ⟨ix, ix, br_c (fun _ => br_t rfl (nm_e s)) (fun _ => br_f (show ¬ (1 : Int32) = 0 by decide) (br_c (fun _ => ⟨ix, ix, br_c (fun _ => nm_e s) (fun _ => p)⟩) (fun _ => p)))⟩
/-- the way over the lowest points: m columns are left -/
theorem ih_22 {post : St2 → Prop} {k : Nat} {a b c fr : Int32} {a1 a2 a3 : Nat → Int32} (hk : k ≤ 1) (hb : k = 1 → a1 0 = a ∧ a2 0 = b ∧ a3 0 = c ∧ ih_bd a b c)
    (H : ∀ (n : Nat) (b4 b5 b6 b7 : Nat → Int32), (∀ j, j < 41 → ih_col k a b c j (b4 j) (b5 j)) → post (nI k, fr, nI n, a1, a2, a3, b4, b5, b6, b7)) :
    ∀ m x, x + m = 41 → ∀ (n : Nat) (la : Int32) (a4 a5 a6 a7 : Nat → Int32), n ≤ x → (la = -1 ∨ ∃ l : Nat, la = nI l ∧ l < x ∧ 1 ≤ n) → (∀ j, j < x → ih_col k a b c j (a4 j) (a5 j)) →
      wX_prepare_22 post (m + 1) la (nI x) (nI k) fr (nI n) a1 a2 a3 a4 a5 a6 a7 := by
  intro m
  induction m with
  | zero =>
    intro x hx n la a4 a5 a6 a7 hn hl hc
    refine pk_le 41 x (fun _ => ?_) (fun z => absurd z (by omega))
    have hc' : ∀ j, j < 41 → ih_col k a b c j (a4 j) (a5 j) := fun j hj => hc j (by omega)
    rcases hl with rfl | ⟨l, rfl, hl, hn1⟩
    · exact br_f (show ¬ (0 : Int32) ≤ -1 by decide) (H n a4 a5 a6 a7 hc')
    · have e1 : nI n - 1 = nI (n - 1) := pk_sub (a := n) (b := 1) hn1
      refine br_t (nI_pos' (show l < 2 ^ 31 by omega)) (nm_r e1 ?_)
      have t := ih_75 (post := post) (fc := nI k) (fr := fr) (a1 := a1) (a2 := a2) (a3 := a3) (a4 := a4) (a5 := a5) (l := l) (b := n - 1) (fun c' b6 b7 => H c' a4 a5 b6 b7 hc') (l + 1) (by omega) n a6 a7 (by omega) (by omega)
      rw [pk_m1] at t
      exact ⟨_, t⟩
  | succ m ih =>
    intro x hx n la a4 a5 a6 a7 hn hl hc
    have ix : vp_in (nI x) 41 := pk_in x 41 (by omega)
    refine pk_le 41 x (fun z => absurd z (by omega)) (fun _ => ?_)
    refine ih_fill (by omega) hk hb (fun b4 b5 g1 g2 => ?_)
    have cols : ∀ j, j < x + 1 → ih_col k a b c j (b4 j) (b5 j) := by
      intro j hj
      by_cases e : j = x
      · rw [e]; exact g2
      · rw [(g1 j e).1, (g1 j e).2]
        exact hc j (by omega)
    refine ⟨ix, ix, br_c (fun _ => br_t rfl (nm_r (nI_1 x) ?_)) (fun _ => br_f (show ¬ (1 : Int32) = 0 by decide) ⟨ix, ?_⟩)⟩
    · refine ih (x + 1) (by omega) n la b4 b5 a6 a7 (by omega) ?_ cols
      rcases hl with e | ⟨l, e, g, g'⟩
      · exact Or.inl e
      · exact Or.inr ⟨l, e, by omega, g'⟩
    · exact ih_add 0 n (by omega) (by omega) (fun c' b6 b7 q1 q2 => nm_r (nI_1 x) (ih (x + 1) (by omega) c' (nI x) b4 b5 b6 b7 (by omega) (Or.inr ⟨x, rfl, by omega, by omega⟩) cols))
theorem ih_prep {post : St2 → Prop} {k : Nat} {a b c fr fk : Int32} {a1 a2 a3 a4 a5 a6 a7 : Nat → Int32} (hk : k ≤ 1) (hb : k = 1 → a1 0 = a ∧ a2 0 = b ∧ a3 0 = c ∧ ih_bd a b c)
    (hr : ¬ fr = 0 → ∀ j, j < 41 → ih_col k a b c j (a4 j) (a5 j))
    (H : ∀ (fr' fk' : Int32) (b4 b5 b6 b7 : Nat → Int32), (∀ j, j < 41 → ih_col k a b c j (b4 j) (b5 j)) → post (nI k, fr', fk', a1, a2, a3, b4, b5, b6, b7)) :
    wpX_prepare post (nI k, fr, fk, a1, a2, a3, a4, a5, a6, a7) :=
  br_c (fun _ => ⟨41 + 1, ih_22 (post := post) hk hb (fun n b4 b5 b6 b7 h => H 1 (nI n) b4 b5 b6 b7 h) 41 0 (by omega) 0 (-1) a4 a5 a6 a7 (by omega) (Or.inl rfl) (fun j hj => absurd hj (by omega))⟩) (fun z => H fr fk a4 a5 a6 a7 (hr z))
end
section
/-! has, points -/
/-- the point lies in the square -/
def ih_in (x y : Int32) : Prop := 0 ≤ x.toInt ∧ x.toInt ≤ 40 ∧ 0 ≤ y.toInt ∧ y.toInt ≤ 40
/-- a flag -/
def ih_fl (z : Int32) (P : Prop) : Prop := (z = 1 ∧ P) ∨ (z = 0 ∧ ¬ P)
/-- what has(x, y) must answer -/
def ih_an (k : Nat) (a b c x y : Int32) : Prop := ih_in x y ∧ (k = 1 → a.toInt * x.toInt + b.toInt * y.toInt ≤ c.toInt)
theorem ih_has {post : Int32 → St2 → Prop} {k : Nat} {a b c fr fk px py : Int32} {a1 a2 a3 a4 a5 a6 a7 : Nat → Int32} (hk : k ≤ 1) (hb : k = 1 → a1 0 = a ∧ a2 0 = b ∧ a3 0 = c ∧ ih_bd a b c)
    (hr : ¬ fr = 0 → ∀ j, j < 41 → ih_col k a b c j (a4 j) (a5 j))
    (H : ∀ (r fr' fk' : Int32) (b4 b5 b6 b7 : Nat → Int32), ih_fl r (ih_an k a b c px py) → (¬ fr' = 0 → ∀ j, j < 41 → ih_col k a b c j (b4 j) (b5 j)) → post r (nI k, fr', fk', a1, a2, a3, b4, b5, b6, b7)) :
    wpX_has post (nI k, fr, fk, a1, a2, a3, a4, a5, a6, a7) px py := by
  have out : ¬ ih_in px py → post 0 (nI k, fr, fk, a1, a2, a3, a4, a5, a6, a7) := fun h => H 0 fr fk a4 a5 a6 a7 (Or.inr ⟨rfl, fun t => h t.1⟩) hr
  refine br_c (fun z => out (fun t => ?_)) (fun z => br_c (fun z2 => out (fun t => ?_)) (fun z2 => br_c (fun z3 => out (fun t => ?_)) (fun z3 => br_c (fun z4 => ?_) (fun z4 => out (fun t => ?_)))))
  · rw [ih_lt ih_t0] at z
    exact absurd t.1 (by omega)
  · rw [ih_ge ih_t41] at z2
    exact absurd t.2.1 (by omega)
  · rw [ih_lt ih_t0] at z3
    exact absurd t.2.2.1 (by omega)
  · obtain ⟨x, hx, rfl⟩ := nI_of z
    rw [ih_ge ih_t41, nI_toInt hx] at z2
    rw [ih_lt ih_t0] at z3
    rw [ih_lt ih_t41] at z4
    have hx' : x < 41 := by omega
    have ix : vp_in (nI x) 41 := pk_in x 41 hx'
    have hin : ih_in (nI x) py := ⟨by rw [nI_toInt hx]; omega, by rw [nI_toInt hx]; omega, by omega, by omega⟩
    refine ih_prep hk hb hr (fun fr' fk' b4 b5 b6 b7 hc => ?_)
    have hcx := hc x hx'
    have hv : ih_an k a b c (nI x) py ↔ ((b4 x).toInt ≤ py.toInt ∧ py.toInt ≤ (b5 x).toInt) := by
      rcases (show k = 0 ∨ k = 1 by omega) with rfl | rfl
      · obtain ⟨q1, q2⟩ := hcx.1 rfl
        rw [q1, q2, ih_t0, ih_t40]
        exact ⟨fun _ => ⟨by omega, by omega⟩, fun _ => ⟨hin, fun z => absurd z (by omega)⟩⟩
      · rw [hcx.2 rfl py.toInt (by omega) (by omega)]
        unfold ih_an
        rw [nI_toInt hx]
        exact ⟨fun h => h.2 rfl, fun h => ⟨hin, fun _ => h⟩⟩
    refine ⟨ix, ?_⟩
    rw [nI_clamp hx]
    refine br_c (fun g => ?_) (fun g => ⟨ix, br_c (fun g2 => ?_) (fun g2 => ?_)⟩)
    · rw [Int32.lt_iff_toInt_lt] at g
      exact H 0 fr' fk' b4 b5 b6 b7 (Or.inr ⟨rfl, fun t => absurd (hv.mp t).1 (by omega)⟩) (fun _ => hc)
    · rw [Int32.lt_iff_toInt_lt] at g2
      exact H 0 fr' fk' b4 b5 b6 b7 (Or.inr ⟨rfl, fun t => absurd (hv.mp t).2 (by omega)⟩) (fun _ => hc)
    · rw [Int32.lt_iff_toInt_lt] at g g2
      exact H 1 fr' fk' b4 b5 b6 b7 (Or.inl ⟨rfl, hv.mpr ⟨by omega, by omega⟩⟩) (fun _ => hc)
  · rw [ih_lt ih_t41] at z4
    exact absurd t.2.2.2 (by omega)
theorem ih_pt8 {post : Int32 → St2 → Prop} {fc fr fk : Int32} {a1 a2 a3 a4 a5 a6 a7 : Nat → Int32} (h : ∀ j, j < 41 → a4 j = 0 ∧ a5 j = 40) (H : post 1681 (fc, fr, fk, a1, a2, a3, a4, a5, a6, a7)) :
    ∀ m x, x + m = 41 → wX_points_8 post fc fr fk a1 a2 a3 a4 a5 a6 a7 (m + 1) (nI (41 * x)) (nI x) := by
  intro m
  induction m with
  | zero =>
    intro x hx
    obtain rfl : x = 41 := by omega
    exact pk_le 41 41 (fun _ => H) (fun z => absurd z (by omega))
  | succ m ih =>
    intro x hx
    have ix : vp_in (nI x) 41 := pk_in x 41 (by omega)
    obtain ⟨e4, e5⟩ := h x (by omega)
    have cl := nI_clamp (show x < 2 ^ 31 by omega)
    refine pk_le 41 x (fun z => absurd z (by omega)) (fun _ => ⟨ix, ix, br_f ?_ (br_f (show ¬ (1 : Int32) = 0 by decide) ⟨ix, ix, nm_r ?_ (nm_r (nI_1 x) (ih (x + 1) (by omega)))⟩)⟩)
    · rw [cl, e4, e5]
      decide
    · rw [cl, e4, e5, show (40 : Int32) - 0 + 1 = nI 41 by decide, nI_add]
      exact congrArg nI (by omega)
theorem ih_pts {post : Int32 → St2 → Prop} {fr fk : Int32} {a1 a2 a3 a4 a5 a6 a7 : Nat → Int32}
    (hr : ¬ fr = 0 → ∀ j, j < 41 → ih_col 0 0 0 0 j (a4 j) (a5 j)) (H : ∀ u, post 1681 u) :
    wpX_points post (nI 0, fr, fk, a1, a2, a3, a4, a5, a6, a7) :=
  ih_prep (by omega) (fun z => absurd z (by omega)) hr (fun fr' fk' b4 b5 b6 b7 hc => ⟨41 + 1, ih_pt8 (fun j hj => (hc j hj).1 rfl) (H _) 41 0 (by omega)⟩)
end
section
/-! the law, from its end to its beginning -/
/-- the object: k conditions (none or one: a, b, c); if the columns are ready, they are right -/
def ih_st (k : Nat) (a b c fc fr : Int32) (a1 a2 a3 a4 a5 : Nat → Int32) : Prop :=
  fc = nI k ∧ k ≤ 1 ∧ (k = 1 → a1 0 = a ∧ a2 0 = b ∧ a3 0 = c ∧ ih_bd a b c) ∧ (¬ fr = 0 → ∀ j, j < 41 → ih_col k a b c j (a4 j) (a5 j))
theorem ih_c0 {a b c a' b' c' lo hi : Int32} {j : Nat} (h : ih_col 0 a b c j lo hi) : ih_col 0 a' b' c' j lo hi := ⟨h.1, fun z => absurd z (by omega)⟩
theorem ih_288 {post : Int32 → St0 → Prop} {mc ms kc ks : Nat} {z0 z1 a b c fc fr fk : Int32} {a1 a2 a3 a4 a5 a6 a7 : Nat → Int32} (hp : post 1 ()) (he : z1 = z0) (hs : ih_st 0 a b c fc fr a1 a2 a3 a4 a5) :
    wL_lawOf_288 post mc ms z0 z1 kc ks fc fr fk a1 a2 a3 a4 a5 a6 a7 := by
  obtain ⟨rfl, _, _, hr⟩ := hs
  refine br_t he (ih_pts (fun z j hj => ih_c0 (hr z j hj)) (fun u => ?_))
  obtain ⟨u1, u2, u3, u4, u5, u6, u7, u8, u9, u10⟩ := u
  exact br_t rfl hp
theorem ih_267 {post : Int32 → St0 → Prop} {mc ms kc ks k : Nat} {x8 z0 z1 a b c fc fr fk : Int32} {a1 a2 a3 a4 a5 a6 a7 : Nat → Int32} (hp : post 1 ()) (he : z1 = z0) (h8 : x8 = nI k) (hs : ih_st k a b c fc fr a1 a2 a3 a4 a5) :
    wL_lawOf_267 post mc ms x8 z0 z1 kc ks fc fr fk a1 a2 a3 a4 a5 a6 a7 := by
  obtain ⟨rfl, hk, _, hr⟩ := hs
  rcases (show k = 0 ∨ k = 1 by omega) with rfl | rfl
  · exact br_t he (br_t nI_0 (br_t h8 (ih_288 (a := a) (b := b) (c := c) hp rfl ⟨rfl, hk, fun z => absurd z (by omega), hr⟩)))
  · exact br_t he (br_f (show ¬ nI 1 = 0 by decide) (nm_r (nI_pred 0) (br_f (by rw [h8]; decide) (ih_288 (a := a) (b := b) (c := c) hp nI_0 ⟨rfl, by omega, fun z => absurd z (by omega), fun z => absurd rfl z⟩))))
theorem ih_217 {post : Int32 → St0 → Prop} {mc ms kc ks k : Nat} {x0 x1 x2 x3 x4 x5 x8 x9 x10 z0 z1 fc fr fk : Int32} {a1 a2 a3 a4 a5 a6 a7 : Nat → Int32} (c : Int32) (hp : post 1 ()) (he : z1 = z0) (h8 : x8 = nI k)
    (h9 : ih_fl x9 (ih_in x3 x4)) (hc : (x10 = 0 → c = x2) ∧ (¬ x10 = 0 → c = x5)) (hs : ih_st k x0 x1 c fc fr a1 a2 a3 a4 a5) :
    wL_lawOf_217 post mc ms x0 x1 x2 x3 x4 x5 x8 x9 x10 z0 z1 kc ks fc fr fk a1 a2 a3 a4 a5 a6 a7 := by
  obtain ⟨rfl, hk, hb, hr⟩ := hs
  refine br_t he (ih_has hk hb hr (fun r fr' fk' b4 b5 b6 b7 hv hr' => ?_))
  have hs' : ih_st k x0 x1 c (nI k) fr' a1 a2 a3 b4 b5 := ⟨rfl, hk, hb, hr'⟩
  have no : ¬ ih_an k x0 x1 c x3 x4 → wL_lawOf_266 post mc ms x8 r kc ks (nI k) fr' fk' a1 a2 a3 b4 b5 b6 b7 := by
    intro h
    unfold wL_lawOf_266
    exact ih_267 hp (hv.elim (fun t => absurd t.2 h) (fun t => t.1)) h8 hs'
  have yes : ih_an k x0 x1 c x3 x4 → wL_lawOf_262 post mc ms x8 r kc ks (nI k) fr' fk' a1 a2 a3 b4 b5 b6 b7 := by
    intro h
    unfold wL_lawOf_262
    exact ih_267 hp (hv.elim (fun t => t.1) (fun t => absurd h t.2)) h8 hs'
  rcases h9 with ⟨e9, hin⟩ | ⟨e9, hin⟩
  · refine br_f (by rw [e9]; decide) ?_
    rcases (show k = 0 ∨ k = 1 by omega) with rfl | rfl
    · exact br_t h8 (yes ⟨hin, fun z => absurd z (by omega)⟩)
    · refine br_f (by rw [h8]; decide) ?_
      have ed := ih_dot (hb rfl).2.2.2 hin.1 hin.2.1 hin.2.2.1 hin.2.2.2
      have w : ∀ y : Int32, c = y → wL_lawOf_259 post mc ms x8 y (x0 * x3 + x1 * x4) r kc ks (nI 1) fr' fk' a1 a2 a3 b4 b5 b6 b7 := by
        intro y hy
        refine br_c (fun q => no (fun t => ?_)) (fun q => yes ⟨hin, fun _ => ?_⟩)
        · have t' := t.2 rfl
          rw [← hy, Int32.lt_iff_toInt_lt, ed] at q
          omega
        · rw [← hy, Int32.lt_iff_toInt_lt, ed] at q
          omega
      exact br_c (fun g => w x2 (hc.1 g)) (fun g => w x5 (hc.2 g))
  · exact br_t e9 (no (fun t => hin t.1))
theorem ih_bb {post : Int32 → Prop} {c : Int32} (hg : -1000 ≤ c.toInt ∧ c.toInt ≤ 1000 → post 0) (hb : ¬ (-1000 ≤ c.toInt ∧ c.toInt ≤ 1000) → post 1) : wpX_badBound post () c := by
  refine br_c (fun z => hb ?_) (fun z => br_c (fun z2 => hg ?_) (fun z2 => hb ?_))
  · rw [ih_lt ih_tmk] at z
    omega
  · rw [ih_lt ih_tmk] at z
    rw [ih_le ih_tk] at z2
    omega
  · rw [ih_le ih_tk] at z2
    omega
theorem ih_187 {post : Int32 → St0 → Prop} {mc ms kc ks k : Nat} {x0 x1 x2 x3 x4 x5 x8 x9 z0 fc fr fk : Int32} {a1 a2 a3 a4 a5 a6 a7 : Nat → Int32} (hp : post 1 ()) (h8 : x8 = nI k)
    (h9 : ih_fl x9 (ih_in x3 x4)) (hz : ih_fl z0 (-1000 ≤ x5.toInt ∧ x5.toInt ≤ 1000)) (hs : ih_st k x0 x1 x2 fc fr a1 a2 a3 a4 a5) :
    wL_lawOf_187 post mc ms x0 x1 x2 x3 x4 x5 x8 x9 z0 kc ks fc fr fk a1 a2 a3 a4 a5 a6 a7 := by
  obtain ⟨rfl, hk, hb, hr⟩ := hs
  unfold wL_lawOf_187
  rcases (show k = 0 ∨ k = 1 by omega) with rfl | rfl
  · refine br_f (show ¬ (0 : Int32) < 0 by decide) (br_f (show ¬ (0 : Int32) < nI 0 by decide) (br_t h8 ?_))
    by_cases hz0 : z0 = 0
    · exact ih_217 x2 hp rfl h8 h9 ⟨fun _ => rfl, fun z => absurd hz0 z⟩ ⟨rfl, hk, hb, hr⟩
    · exact ih_217 x5 hp rfl h8 h9 ⟨fun z => absurd z hz0, fun _ => rfl⟩ ⟨rfl, hk, fun z => absurd z (by omega), fun z j hj => ih_c0 (hr z j hj)⟩
  · obtain ⟨q1, q2, q3, q4⟩ := hb rfl
    have n8 : ¬ x8 = 0 := by rw [h8]; decide
    have i0 : vp_in 0 8 := pk_in 0 8 (by omega)
    refine br_f (show ¬ (0 : Int32) < 0 by decide) (br_t (show (0 : Int32) < nI 1 by decide) (ih_bb (fun g => ?_) (fun g => ?_)))
    · have nz : ¬ z0 = 0 := by
        rcases hz with ⟨e, _⟩ | ⟨_, e⟩
        · rw [e]; decide
        · exact absurd g e
      refine br_t rfl ⟨i0, nm_r (show a3 (0 : Int32).toNatClampNeg = x2 by rw [sb_cl0]; exact q3) ⟨i0, nm_r (show upd a3 (0 : Int32).toNatClampNeg x5 = upd a3 0 x5 by rw [sb_cl0]) (br_f n8 (br_f nz ?_))⟩⟩
      exact ih_217 x5 hp rfl h8 h9 ⟨fun z => absurd z nz, fun _ => rfl⟩ ⟨rfl, hk, fun _ => ⟨q1, q2, pk_us, q4.1, q4.2.1, q4.2.2.1, q4.2.2.2.1, g.1, g.2⟩, fun z => absurd rfl z⟩
    · have ez : z0 = 0 := by
        rcases hz with ⟨_, e⟩ | ⟨e, _⟩
        · exact absurd e g
        · exact e
      exact br_f (show ¬ (1 : Int32) = 0 by decide) (br_f n8 (br_t ez (ih_217 x2 hp rfl h8 h9 ⟨fun _ => rfl, fun z => absurd ez z⟩ ⟨rfl, hk, hb, hr⟩)))
theorem ih_161 {post : Int32 → St0 → Prop} {mc ms kc ks k : Nat} {x0 x1 x2 x3 x4 x5 x8 x9 z0 z1 fc fr fk : Int32} {a1 a2 a3 a4 a5 a6 a7 : Nat → Int32} (hp : post 1 ()) (he : z1 = z0) (h8 : x8 = nI k)
    (h9 : ih_fl x9 (ih_in x3 x4)) (hs : ih_st k x0 x1 x2 fc fr a1 a2 a3 a4 a5) :
    wL_lawOf_161 post mc ms x0 x1 x2 x3 x4 x5 x8 x9 z0 z1 kc ks fc fr fk a1 a2 a3 a4 a5 a6 a7 := by
  have bad : ¬ (-1000 ≤ x5.toInt ∧ x5.toInt ≤ 1000) → wL_lawOf_186 post mc ms x0 x1 x2 x3 x4 x5 x8 x9 kc ks fc fr fk a1 a2 a3 a4 a5 a6 a7 := by
    intro h
    unfold wL_lawOf_186
    exact ih_187 hp h8 h9 (Or.inr ⟨rfl, h⟩) hs
  refine br_t he (br_c (fun z => bad ?_) (fun z => br_c (fun z2 => bad ?_) (fun z2 => ih_187 hp h8 h9 (Or.inl ⟨rfl, ?_⟩) hs)))
  · rw [ih_lt ih_tmk] at z
    omega
  · rw [ih_gt ih_tk] at z2
    omega
  · rw [ih_lt ih_tmk] at z
    rw [ih_gt ih_tk] at z2
    omega
theorem ih_124 {post : Int32 → St0 → Prop} {mc ms kc ks k : Nat} {x0 x1 x2 x3 x4 x5 x8 z0 fc fr fk : Int32} {a1 a2 a3 a4 a5 a6 a7 : Nat → Int32} (hp : post 1 ()) (h8 : x8 = nI k)
    (h9 : ih_fl z0 (ih_in x3 x4)) (hs : ih_st k x0 x1 x2 fc fr a1 a2 a3 a4 a5) :
    wL_lawOf_124 post mc ms x0 x1 x2 x3 x4 x5 x8 z0 kc ks fc fr fk a1 a2 a3 a4 a5 a6 a7 := by
  obtain ⟨rfl, hk, hb, hr⟩ := hs
  unfold wL_lawOf_124
  refine ih_has hk hb hr (fun r fr' fk' b4 b5 b6 b7 hv hr' => ?_)
  have hs' : ih_st k x0 x1 x2 (nI k) fr' a1 a2 a3 b4 b5 := ⟨rfl, hk, hb, hr'⟩
  have no : ¬ ih_an k x0 x1 x2 x3 x4 → wL_lawOf_160 post mc ms x0 x1 x2 x3 x4 x5 x8 z0 r kc ks (nI k) fr' fk' a1 a2 a3 b4 b5 b6 b7 := by
    intro h
    unfold wL_lawOf_160
    exact ih_161 hp (hv.elim (fun t => absurd t.2 h) (fun t => t.1)) h8 h9 hs'
  have yes : ih_an k x0 x1 x2 x3 x4 → wL_lawOf_156 post mc ms x0 x1 x2 x3 x4 x5 x8 z0 r kc ks (nI k) fr' fk' a1 a2 a3 b4 b5 b6 b7 := by
    intro h
    unfold wL_lawOf_156
    exact ih_161 hp (hv.elim (fun t => t.1) (fun t => absurd h t.2)) h8 h9 hs'
  rcases h9 with ⟨e9, hin⟩ | ⟨e9, hin⟩
  · refine br_f (by rw [e9]; decide) ?_
    rcases (show k = 0 ∨ k = 1 by omega) with rfl | rfl
    · exact br_t h8 (yes ⟨hin, fun z => absurd z (by omega)⟩)
    · refine br_f (by rw [h8]; decide) ?_
      have ed := ih_dot (hb rfl).2.2.2 hin.1 hin.2.1 hin.2.2.1 hin.2.2.2
      refine br_c (fun q => no (fun t => ?_)) (fun q => yes ⟨hin, fun _ => ?_⟩)
      · have t' := t.2 rfl
        rw [Int32.lt_iff_toInt_lt, ed] at q
        omega
      · rw [Int32.lt_iff_toInt_lt, ed] at q
        omega
  · exact br_t e9 (no (fun t => hin t.1))
theorem ih_92 {post : Int32 → St0 → Prop} {mc ms kc ks k : Nat} {x0 x1 x2 x3 x4 x5 x8 z0 z1 fc fr fk : Int32} {a1 a2 a3 a4 a5 a6 a7 : Nat → Int32} (hp : post 1 ()) (he : z1 = z0) (h8 : x8 = nI k)
    (hs : ih_st k x0 x1 x2 fc fr a1 a2 a3 a4 a5) :
    wL_lawOf_92 post mc ms x0 x1 x2 x3 x4 x5 x8 z0 z1 kc ks fc fr fk a1 a2 a3 a4 a5 a6 a7 := by
  have out : ¬ ih_in x3 x4 → wL_lawOf_123 post mc ms x0 x1 x2 x3 x4 x5 x8 kc ks fc fr fk a1 a2 a3 a4 a5 a6 a7 := by
    intro h
    unfold wL_lawOf_123
    exact ih_124 hp h8 (Or.inr ⟨rfl, h⟩) hs
  refine br_t he (br_c (fun z => out (fun t => ?_)) (fun z => br_c (fun z2 => out (fun t => ?_)) (fun z2 => br_c (fun z3 => out (fun t => ?_)) (fun z3 => br_c (fun z4 => out (fun t => ?_)) (fun z4 => ih_124 hp h8 (Or.inl ⟨rfl, ?_⟩) hs)))))
  · rw [ih_lt ih_t0] at z
    exact absurd t.1 (by omega)
  · rw [ih_gt ih_t40] at z2
    exact absurd t.2.1 (by omega)
  · rw [ih_lt ih_t0] at z3
    exact absurd t.2.2.1 (by omega)
  · rw [ih_gt ih_t40] at z4
    exact absurd t.2.2.2 (by omega)
  · rw [ih_lt ih_t0] at z z3
    rw [ih_gt ih_t40] at z2 z4
    exact ⟨by omega, by omega, by omega, by omega⟩
end
section
/-! condition, the law's beginning, what is owed -/
/-- the factors lie in range and aren't both 0 -/
def ih_f (a b : Int32) : Prop := -9 ≤ a.toInt ∧ a.toInt ≤ 9 ∧ -9 ≤ b.toInt ∧ b.toInt ≤ 9 ∧ ¬ (a = 0 ∧ b = 0)
def ih_ok (a b c : Int32) : Prop := ih_f a b ∧ -1000 ≤ c.toInt ∧ c.toInt ≤ 1000
theorem ih_cond {post : Int32 → St2 → Prop} {p0 p1 p2 fr fk : Int32} {a1 a2 a3 a4 a5 a6 a7 : Nat → Int32} (Hb : ¬ ih_ok p0 p1 p2 → post (-1) (nI 0, fr, fk, a1, a2, a3, a4, a5, a6, a7))
    (Hg : ih_ok p0 p1 p2 → post (nI 1) (nI 1, 0, fk, upd a1 0 p0, upd a2 0 p1, upd a3 0 p2, a4, a5, a6, a7)) :
    wpX_condition post (nI 0, fr, fk, a1, a2, a3, a4, a5, a6, a7) p0 p1 p2 := by
  have g32 : ih_f p0 p1 → wX_condition_32 post p0 p1 p2 (nI 0) fr fk a1 a2 a3 a4 a5 a6 a7 := by
    intro hf
    have i0 : vp_in (nI 0) 8 := pk_in 0 8 (by omega)
    have c0 : (nI 0).toNatClampNeg = 0 := nI_clamp (by omega)
    unfold wX_condition_32
    rw [c0]
    exact ih_bb (fun g => br_t rfl (br_t (show nI 0 < 8 by decide) ⟨i0, nm_e ⟨i0, nm_e ⟨i0, nm_e (nm_r (nI_1 0) (Hg ⟨hf, g⟩))⟩⟩⟩)) (fun g => br_f (show ¬ (1 : Int32) = 0 by decide) (Hb (fun t => g t.2)))
  refine br_c (fun z => Hb (fun t => ?_)) (fun z => br_c (fun z2 => Hb (fun t => ?_)) (fun z2 => br_c (fun z3 => Hb (fun t => ?_)) (fun z3 => br_c (fun z4 => Hb (fun t => ?_)) (fun z4 => ?_))))
  · rw [ih_lt ih_tm9] at z
    exact absurd t.1.1 (by omega)
  · rw [ih_gt ih_t9] at z2
    exact absurd t.1.2.1 (by omega)
  · rw [ih_lt ih_tm9] at z3
    exact absurd t.1.2.2.1 (by omega)
  · rw [ih_gt ih_t9] at z4
    exact absurd t.1.2.2.2.1 (by omega)
  · rw [ih_lt ih_tm9] at z z3
    rw [ih_gt ih_t9] at z2 z4
    exact br_c (fun e => br_c (fun e2 => Hb (fun t => t.1.2.2.2.2 ⟨e, e2⟩)) (fun e2 => g32 ⟨by omega, by omega, by omega, by omega, fun t => e2 t.2⟩)) (fun e => g32 ⟨by omega, by omega, by omega, by omega, fun t => e t.1⟩)
theorem ih_72 {post : Int32 → St0 → Prop} {mc ms kc ks : Nat} {x0 x1 x2 x3 x4 x5 z0 fk : Int32} {a1 a2 a3 a4 a5 a6 a7 : Nat → Int32} (hp : post 1 ()) (hz : ih_fl z0 (ih_ok x0 x1 x2)) :
    wL_lawOf_72 post mc ms x0 x1 x2 x3 x4 x5 z0 kc ks (nI 0) 0 fk a1 a2 a3 a4 a5 a6 a7 := by
  unfold wL_lawOf_72
  refine ih_cond (fun h => ?_) (fun h => ?_)
  · have ez : z0 = 0 := hz.elim (fun t => absurd t.2 h) (fun t => t.1)
    exact br_t ez (ih_92 (k := 0) hp rfl ez ⟨rfl, by omega, fun z => absurd z (by omega), fun z => absurd rfl z⟩)
  · have ez : z0 = 1 := hz.elim (fun t => t.1) (fun t => absurd h t.2)
    exact br_f (by rw [ez]; decide) (ih_92 (k := 1) hp rfl ez ⟨rfl, by omega, fun _ => ⟨pk_us, pk_us, pk_us, h.1.1, h.1.2.1, h.1.2.2.1, h.1.2.2.2.1, h.2.1, h.2.2⟩, fun z => absurd rfl z⟩)
theorem ih_46 {post : Int32 → St0 → Prop} {mc ms kc ks : Nat} {x0 x1 x2 x3 x4 x5 z0 fk : Int32} {a1 a2 a3 a4 a5 a6 a7 : Nat → Int32} (hp : post 1 ()) (hz : ih_fl z0 (ih_f x0 x1)) :
    wL_lawOf_46 post mc ms x0 x1 x2 x3 x4 x5 z0 kc ks (nI 0) 0 fk a1 a2 a3 a4 a5 a6 a7 := by
  have bad : ¬ ih_ok x0 x1 x2 → wL_lawOf_71 post mc ms x0 x1 x2 x3 x4 x5 kc ks (nI 0) 0 fk a1 a2 a3 a4 a5 a6 a7 := by
    intro h
    unfold wL_lawOf_71
    exact ih_72 hp (Or.inr ⟨rfl, h⟩)
  rcases hz with ⟨e, hf⟩ | ⟨e, hf⟩
  · refine br_f (by rw [e]; decide) (br_c (fun z => bad (fun t => ?_)) (fun z => br_c (fun z2 => bad (fun t => ?_)) (fun z2 => ih_72 hp (Or.inl ⟨rfl, hf, ?_⟩))))
    · rw [ih_lt ih_tmk] at z
      exact absurd t.2.1 (by omega)
    · rw [ih_gt ih_tk] at z2
      exact absurd t.2.2 (by omega)
    · rw [ih_lt ih_tmk] at z
      rw [ih_gt ih_tk] at z2
      omega
  · exact br_t e (bad (fun t => hf t.1))
theorem ih_lawOf {post : Int32 → St0 → Prop} {p0 p1 p2 p3 p4 p5 : Int32} (hp : post 1 ()) : wpL_lawOf post 160 2544 () p0 p1 p2 p3 p4 p5 := by
  refine ⟨by decide, by decide, 100, 1000, by decide, by decide, ?_⟩
  refine ⟨by decide, by decide, by decide, by decide, by decide, by decide, by decide, by decide, by decide, by decide, by decide, by decide, by decide, by decide, ?_⟩
  have bad : ¬ ih_f p0 p1 → wL_lawOf_45 post 160 2544 p0 p1 p2 p3 p4 p5 (1 + 100) (10 + 1000) 0 0 0 (fun _ => 0) (fun _ => 0) (fun _ => 0) (fun _ => 0) (fun _ => 0) (fun _ => 0) (fun _ => 0) := by
    intro h
    unfold wL_lawOf_45
    exact ih_46 hp (Or.inr ⟨rfl, h⟩)
  have good : ih_f p0 p1 → wL_lawOf_41 post 160 2544 p0 p1 p2 p3 p4 p5 (1 + 100) (10 + 1000) 0 0 0 (fun _ => 0) (fun _ => 0) (fun _ => 0) (fun _ => 0) (fun _ => 0) (fun _ => 0) (fun _ => 0) := by
    intro h
    unfold wL_lawOf_41
    exact ih_46 hp (Or.inl ⟨rfl, h⟩)
  refine br_c (fun z => bad (fun t => ?_)) (fun z => br_c (fun z2 => bad (fun t => ?_)) (fun z2 => br_c (fun z3 => bad (fun t => ?_)) (fun z3 => br_c (fun z4 => bad (fun t => ?_)) (fun z4 => ?_))))
  · rw [ih_lt ih_tm9] at z
    exact absurd t.1 (by omega)
  · rw [ih_gt ih_t9] at z2
    exact absurd t.2.1 (by omega)
  · rw [ih_lt ih_tm9] at z3
    exact absurd t.2.2.1 (by omega)
  · rw [ih_gt ih_t9] at z4
    exact absurd t.2.2.2.1 (by omega)
  · rw [ih_lt ih_tm9] at z z3
    rw [ih_gt ih_t9] at z2 z4
    exact br_c (fun e => br_c (fun e2 => bad (fun t => t.2.2.2.2 ⟨e, e2⟩)) (fun e2 => good ⟨by omega, by omega, by omega, by omega, fun t => e2 t.2⟩)) (fun e => good ⟨by omega, by omega, by omega, by omega, fun t => e t.1⟩)
theorem ih_cell {post : Int32 → Prop} {L : Nat} {xs : Nat → Int32} (i : Nat) (hi : i < 6) (hL : L ≤ 6) (H : ∀ r, post r) : wpL_cellAt post L xs () (nI i) :=
  pk_le L i (fun _ => H _) (fun z => ⟨pk_in i L z, H _⟩)
theorem i_vc (xs : Nat → Int32) (L : Nat) (hL : L ≤ 6) : wpL_law (fun r => r = 1) L xs :=
  ih_cell 0 (by omega) hL (fun r1 => ih_cell 1 (by omega) hL (fun r2 => ih_cell 2 (by omega) hL (fun r3 => ih_cell 3 (by omega) hL (fun r4 => ih_cell 4 (by omega) hL (fun r5 => ih_cell 5 (by omega) hL (fun r6 => ⟨160, 2544, by decide, by decide, ih_lawOf rfl⟩))))))
end

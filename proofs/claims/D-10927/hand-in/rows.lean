section
/-- the matrix is the identity shifted by a, b -/
def pp_M (m : Nat → Int32) (a b : Int32) : Prop := m 0 = 1 ∧ m 1 = 0 ∧ m 2 = 0 ∧ m 3 = 1 ∧ m 4 = a ∧ m 5 = b
/-- v lies between -c and c -/
def pp_in (c v : Int32) : Prop := ¬ v < -c ∧ ¬ c < v
theorem pp_neg64 : (-(64 : Int32)).toInt = -64 := by decide
theorem pp_neg99 : (-(99 : Int32)).toInt = -99 := by decide
theorem pp_neg999 : (-(999 : Int32)).toInt = -999 := by decide
theorem pp_neg2000 : (-(2000 : Int32)).toInt = -2000 := by decide
theorem pp_pos64 : (64 : Int32).toInt = 64 := by decide
theorem pp_pos99 : (99 : Int32).toInt = 99 := by decide
theorem pp_pos999 : (999 : Int32).toInt = 999 := by decide
theorem pp_pos2000 : (2000 : Int32).toInt = 2000 := by decide
theorem pp_i64 {v : Int32} : pp_in 64 v ↔ -64 ≤ v.toInt ∧ v.toInt ≤ 64 := by
  unfold pp_in
  rw [Int32.lt_iff_toInt_lt, Int32.lt_iff_toInt_lt, pp_neg64, pp_pos64]
  omega
theorem pp_i99 {v : Int32} : pp_in 99 v ↔ -99 ≤ v.toInt ∧ v.toInt ≤ 99 := by
  unfold pp_in
  rw [Int32.lt_iff_toInt_lt, Int32.lt_iff_toInt_lt, pp_neg99, pp_pos99]
  omega
theorem pp_i999 {v : Int32} : pp_in 999 v ↔ -999 ≤ v.toInt ∧ v.toInt ≤ 999 := by
  unfold pp_in
  rw [Int32.lt_iff_toInt_lt, Int32.lt_iff_toInt_lt, pp_neg999, pp_pos999]
  omega
theorem pp_i2000 {v : Int32} : pp_in 2000 v ↔ -2000 ≤ v.toInt ∧ v.toInt ≤ 2000 := by
  unfold pp_in
  rw [Int32.lt_iff_toInt_lt, Int32.lt_iff_toInt_lt, pp_neg2000, pp_pos2000]
  omega
theorem pp_wide {v : Int32} (h : pp_in 64 v) : pp_in 999 v := by
  rw [pp_i64] at h
  rw [pp_i999]
  omega
theorem pp_sum {x a : Int32} (hx : pp_in 99 x) (ha : pp_in 64 a) : pp_in 2000 (x + a) := by
  rw [pp_i99] at hx
  rw [pp_i64] at ha
  rw [pp_i2000, Int32.toInt_add, Int.bmod_eq_of_le (by omega) (by omega)]
  omega
theorem pp_0in : pp_in 64 0 := by
  rw [pp_i64]
  decide
theorem pp_c0 : pp_in 999 0 := pp_wide pp_0in
theorem pp_c1 : pp_in 999 1 := by
  rw [pp_i999]
  decide
theorem pp_le {x y : Int32} (h : ¬ y < x) : x ≤ y := by
  rw [Int32.lt_iff_toInt_lt] at h
  rw [Int32.le_iff_toInt_le]
  omega
theorem pp_lt {x y : Int32} (h : ¬ x ≤ y) : y < x := by
  rw [Int32.le_iff_toInt_le] at h
  rw [Int32.lt_iff_toInt_lt]
  omega
/-- the law's own 'far' -/
theorem pp_far {post : Int32 → Prop} {v c : Int32} (h0 : pp_in c v → post 0) (h1 : ¬ pp_in c v → post 1) : wpL_far post () v c :=
  br_c (fun z => h1 (fun t => t.1 z)) (fun z => br_c (fun g => h0 ⟨z, fun t => absurd g (Int32.not_le.mpr t)⟩) (fun g => h1 (fun t => t.2 (pp_lt g))))
/-- the painter's 'within' -/
theorem pp_wi {post : Int32 → Prop} {a b c : Int32} (h1 : pp_in c a ∧ pp_in c b → post 1) (h0 : ¬ (pp_in c a ∧ pp_in c b) → post 0) : wpX_within post () a b c :=
  br_c (fun z => h0 (fun t => t.1.1 z)) (fun z => br_c (fun g => h0 (fun t => t.1.2 g)) (fun g => br_c (fun y => h0 (fun t => t.2.1 y)) (fun y => br_c (fun w => h0 (fun t => t.2.2 w)) (fun w => h1 ⟨⟨z, g⟩, ⟨y, w⟩⟩))))
theorem pp_cell {post : Int32 → Prop} {L : Nat} {xs : Nat → Int32} (k : Nat) {p : Int32} (hp : p = nI k) (hk : k < 2 ^ 31) (hL : L ≤ 5) (h : ∀ r, post r) : wpL_cellAt post L xs () p :=
  pk_le L k (fun _ => h _) (fun z => ⟨pk_in k L z hp (by omega), h _⟩) rfl hp (by omega) hk
section
variable {fp fc fm fs np ns cr : Int32} {a1 a2 a3 a4 a5 a6 a7 a8 a9 a10 a11 a12 a13 a14 a15 : Nat → Int32}
/-- the constructor -/
theorem pp_init {post : St2 → Prop} (H : ∀ (A3 A5 : Nat → Int32), pp_M A3 0 0 → post (0, 1, 0, 0, 0, 0, 0, (fun _ => 0), (fun _ => 0), A3, (fun _ => 0), A5, (fun _ => 0), (fun _ => 0), (fun _ => 0), (fun _ => 0), (fun _ => 0), (fun _ => 0), (fun _ => 0), (fun _ => 0), (fun _ => 0), (fun _ => 0))) : wpX_init post 15 732 (0, 0, 0, 0, 0, 0, 0) := by
  refine ⟨by decide, by decide, by decide, by decide, by decide, by decide, by decide, by decide, by decide, by decide, by decide, by decide, by decide, by decide, by decide, by decide, by decide, by decide, by decide, by decide, by decide, by decide, by decide, by decide, by decide, by decide, by decide, by decide, by decide, by decide, nm_e (nm_e ?_)⟩
  exact pk_loop (fun n i s => wX_init_145 post 15 732 15 732 0 1 0 0 0 0 0 n (nI i) (fun _ => 0) (fun _ => 0) (upd (upd (fun _ => 0) 0 1) 3 1) (fun _ => 0) s (fun _ => 0) (fun _ => 0) (fun _ => 0) (fun _ => 0) (fun _ => 0) (fun _ => 0) (fun _ => 0) (fun _ => 0) (fun _ => 0) (fun _ => 0)) (fun _ _ => True) 16 0 (fun _ => 0) (by omega) trivial
    (fun n s _ => pk_le 16 16 (fun _ => H _ s ⟨rfl, rfl, rfl, rfl, rfl, rfl⟩) (fun z => absurd z (by omega)))
    (fun n i s hi _ hw => pk_le 16 i (fun z => absurd z (by omega)) (fun _ => ⟨pk_in i 16 hi, nm_e (nm_r (nI_1 i) (hw _ trivial))⟩))
/-- the matrix is taken over -/
theorem pp_t43 {post : Int32 → St2 → Prop} (H : ∀ (A3 : Nat → Int32), (∀ k, k < 6 → A3 k = a4 k) → post 1 (fp, fc, fm, fs, np, ns, cr, a1, a2, A3, a4, a5, a6, a7, a8, a9, a10, a11, a12, a13, a14, a15)) : ∃ n, wX_takeFresh_43 post fp fc fm fs np ns cr n 0 a1 a2 a3 a4 a5 a6 a7 a8 a9 a10 a11 a12 a13 a14 a15 :=
  pk_loop (fun n i s => wX_takeFresh_43 post fp fc fm fs np ns cr n (nI i) a1 a2 s a4 a5 a6 a7 a8 a9 a10 a11 a12 a13 a14 a15) (fun i s => ∀ k, k < i → s k = a4 k) 6 0 a3 (by omega) (fun j hj => absurd hj (by omega))
    (fun n s h => pk_le 6 6 (fun _ => H s h) (fun z => absurd z (by omega)))
    (fun n i s hi h hw => pk_le 6 i (fun z => absurd z (by omega)) (fun _ => ⟨pk_in i 6 hi, pk_in i 6 hi, nm_r (by rw [nI_clamp (show i < 2 ^ 31 by omega)]) (nm_r (nI_1 i) (hw (upd s i (a4 i)) (fun k hk => by
      by_cases e : k = i
      · rw [e, pk_us]
      · rw [pk_un e]
        exact h k (by omega))))⟩))
theorem pp_take {post : Int32 → St2 → Prop} (hb : ∀ k, k < 6 → pp_in 999 (a4 k)) (H : ∀ (A3 : Nat → Int32), (∀ k, k < 6 → A3 k = a4 k) → post 1 (fp, fc, fm, fs, np, ns, cr, a1, a2, A3, a4, a5, a6, a7, a8, a9, a10, a11, a12, a13, a14, a15)) : wpX_takeFresh post (fp, fc, fm, fs, np, ns, cr, a1, a2, a3, a4, a5, a6, a7, a8, a9, a10, a11, a12, a13, a14, a15) :=
  pk_loop (σ := Unit) (fun n i _ => wX_takeFresh_2 post fp fc fm fs np ns cr a1 a2 a3 a4 a5 a6 a7 a8 a9 a10 a11 a12 a13 a14 a15 n (nI i)) (fun _ _ => True) 6 0 () (by omega) trivial
    (fun n _ _ => pk_le 6 6 (fun _ => pp_t43 H) (fun z => absurd z (by omega)))
    (fun n i _ hi _ hw => pk_le 6 i (fun z => absurd z (by omega)) (fun _ => ⟨pk_in i 6 hi, br_f (by rw [nI_clamp (show i < 2 ^ 31 by omega)]; exact (hb i hi).1) ⟨pk_in i 6 hi, br_t (by rw [nI_clamp (show i < 2 ^ 31 by omega)]; exact pp_le (hb i hi).2) (nm_r (nI_1 i) (hw () trivial))⟩⟩))
theorem pp_six {P : Nat → Prop} (h0 : P 0) (h1 : P 1) (h2 : P 2) (h3 : P 3) (h4 : P 4) (h5 : P 5) : ∀ k, k < 6 → P k := by
  intro k hk
  match k, hk with
  | 0, _ => exact h0
  | 1, _ => exact h1
  | 2, _ => exact h2
  | 3, _ => exact h3
  | 4, _ => exact h4
  | 5, _ => exact h5
theorem pp_e4 {m0 m2 m4 a b : Int32} (e0 : m0 = 1) (e2 : m2 = 0) (e4 : m4 = 0) : m0 * a + m2 * b + m4 = a := by
  subst e0 e2 e4
  grind
theorem pp_e5 {m1 m3 m5 a b : Int32} (e1 : m1 = 0) (e3 : m3 = 1) (e5 : m5 = 0) : m1 * a + m3 * b + m5 = b := by
  subst e1 e3 e5
  grind
/-- the six places of 'fresh' as shift leaves them -/
theorem pp_fresh (f : Nat → Int32) (p0 p1 p2 p3 q4 q5 p4 p5 : Int32) : (upd (upd (upd (upd (upd (upd (upd (upd f 0 p0) 1 p1) 2 p2) 3 p3) 4 q4) 5 q5) 4 p4) 5 p5) 0 = p0 ∧ (upd (upd (upd (upd (upd (upd (upd (upd f 0 p0) 1 p1) 2 p2) 3 p3) 4 q4) 5 q5) 4 p4) 5 p5) 1 = p1 ∧ (upd (upd (upd (upd (upd (upd (upd (upd f 0 p0) 1 p1) 2 p2) 3 p3) 4 q4) 5 q5) 4 p4) 5 p5) 2 = p2 ∧ (upd (upd (upd (upd (upd (upd (upd (upd f 0 p0) 1 p1) 2 p2) 3 p3) 4 q4) 5 q5) 4 p4) 5 p5) 3 = p3 ∧ (upd (upd (upd (upd (upd (upd (upd (upd f 0 p0) 1 p1) 2 p2) 3 p3) 4 q4) 5 q5) 4 p4) 5 p5) 4 = p4 ∧ (upd (upd (upd (upd (upd (upd (upd (upd f 0 p0) 1 p1) 2 p2) 3 p3) 4 q4) 5 q5) 4 p4) 5 p5) 5 = p5 := ⟨rfl, rfl, rfl, rfl, rfl, rfl⟩
/-- shift: refused -/
theorem pp_shift0 {post : Int32 → St2 → Prop} {a b : Int32} (h : ¬ (pp_in 64 a ∧ pp_in 64 b)) (H : post (-1) (fp, fc, fm, fs, np, ns, cr, a1, a2, a3, a4, a5, a6, a7, a8, a9, a10, a11, a12, a13, a14, a15)) : wpX_shift post (fp, fc, fm, fs, np, ns, cr, a1, a2, a3, a4, a5, a6, a7, a8, a9, a10, a11, a12, a13, a14, a15) a b := by
  unfold wpX_shift
  exact pp_wi (fun z => absurd z h) (fun _ => br_t rfl H)
/-- shift: taken, over the identity -/
theorem pp_shift1 {post : Int32 → St2 → Prop} {a b : Int32} (hm : pp_M a3 0 0) (h : pp_in 64 a ∧ pp_in 64 b) (H : ∀ (A3 A4 : Nat → Int32), pp_M A3 a b → post 1 (fp, fc, fm, fs, np, ns, cr, a1, a2, A3, A4, a5, a6, a7, a8, a9, a10, a11, a12, a13, a14, a15)) : wpX_shift post (fp, fc, fm, fs, np, ns, cr, a1, a2, a3, a4, a5, a6, a7, a8, a9, a10, a11, a12, a13, a14, a15) a b := by
  obtain ⟨m0, m1, m2, m3, m4, m5⟩ := hm
  unfold wpX_shift
  refine pp_wi (fun _ => br_f (by decide) ?_) (fun z => absurd h z)
  unfold wpX_setFresh
  refine nm_e (nm_e (nm_e (nm_e (nm_e (nm_e ?_)))))
  refine nm_e (nm_e ?_)
  obtain ⟨f0, f1, f2, f3, f4, f5⟩ := pp_fresh a4 (a3 0) (a3 1) (a3 2) (a3 3) (a3 4) (a3 5) (a3 0 * a + a3 2 * b + a3 4) (a3 1 * a + a3 3 * b + a3 5)
  replace f0 := f0.trans m0
  replace f1 := f1.trans m1
  replace f2 := f2.trans m2
  replace f3 := f3.trans m3
  replace f4 := f4.trans (pp_e4 m0 m2 m4)
  replace f5 := f5.trans (pp_e5 m1 m3 m5)
  refine pp_take (pp_six ?_ ?_ ?_ ?_ ?_ ?_) (fun A3 hA => H A3 _ ⟨?_, ?_, ?_, ?_, ?_, ?_⟩)
  · rw [f0]
    exact pp_c1
  · rw [f1]
    exact pp_c0
  · rw [f2]
    exact pp_c0
  · rw [f3]
    exact pp_c1
  · rw [f4]
    exact pp_wide h.1
  · rw [f5]
    exact pp_wide h.2
  · rw [hA 0 (by omega)]
    exact f0
  · rw [hA 1 (by omega)]
    exact f1
  · rw [hA 2 (by omega)]
    exact f2
  · rw [hA 3 (by omega)]
    exact f3
  · rw [hA 4 (by omega)]
    exact f4
  · rw [hA 5 (by omega)]
    exact f5
/-- matrix: off the ends -/
theorem pp_mat0 {post : Int32 → Prop} {k : Int32} (h : k < 0 ∨ ¬ k ≤ 5) (H : post (-1000)) : wpX_matrix post (fp, fc, fm, fs, np, ns, cr, a1, a2, a3, a4, a5, a6, a7, a8, a9, a10, a11, a12, a13, a14, a15) k :=
  br_c (fun _ => H) (fun z => br_f (h.resolve_left z) H)
/-- matrix: a place -/
theorem pp_mat1 {post : Int32 → Prop} {k : Int32} (j : Nat) (hk : k = nI j) (hj : j < 6) (H : post (a3 j)) : wpX_matrix post (fp, fc, fm, fs, np, ns, cr, a1, a2, a3, a4, a5, a6, a7, a8, a9, a10, a11, a12, a13, a14, a15) k := by
  subst hk
  refine br_f (nI_pos (by omega)) (pk_le j 5 (fun _ => ⟨pk_in j 6 hj, ?_⟩) (fun z => absurd z (by omega)))
  rw [nI_clamp (by omega)]
  exact H
/-- line, no subpath begun -/
theorem pp_line {post : Int32 → St2 → Prop} {x y : Int32} (H1 : pp_in 99 x ∧ pp_in 99 y → post (-3) (fp, fc, fm, fs, np, 0, cr, a1, a2, a3, a4, a5, a6, a7, a8, a9, a10, a11, a12, a13, a14, a15)) (H0 : ¬ (pp_in 99 x ∧ pp_in 99 y) → post (-1) (fp, fc, fm, fs, np, 0, cr, a1, a2, a3, a4, a5, a6, a7, a8, a9, a10, a11, a12, a13, a14, a15)) : wpX_line post (fp, fc, fm, fs, np, 0, cr, a1, a2, a3, a4, a5, a6, a7, a8, a9, a10, a11, a12, a13, a14, a15) x y := by
  unfold wpX_line
  exact pp_wi (fun z => br_f (by decide) (br_t rfl (H1 z))) (fun z => br_t rfl (H0 z))
theorem pp_u {m0 m2 m4 a x y : Int32} (e0 : m0 = 1) (e2 : m2 = 0) (e4 : m4 = a) : m0 * x + m2 * y + m4 = x + a := by
  subst e0 e2 e4
  grind
theorem pp_v {m1 m3 m5 b x y : Int32} (e1 : m1 = 0) (e3 : m3 = 1) (e5 : m5 = b) : m1 * x + m3 * y + m5 = y + b := by
  subst e1 e3 e5
  grind
/-- addPoint on an empty path -/
theorem pp_add {post : Int32 → St2 → Prop} {a b x y : Int32} (hm : pp_M a3 a b) (ha : pp_in 64 a ∧ pp_in 64 b) (hx : pp_in 99 x ∧ pp_in 99 y) (H : post 1 (fp, fc, fm, fs, 1, ns, cr, a1, a2, a3, a4, a5, a6, a7, a8, a9, (upd a10 0 (x + a)), (upd a11 0 (y + b)), a12, a13, a14, a15)) : wpX_addPoint post (fp, fc, fm, fs, 0, ns, cr, a1, a2, a3, a4, a5, a6, a7, a8, a9, a10, a11, a12, a13, a14, a15) x y := by
  obtain ⟨m0, m1, m2, m3, m4, m5⟩ := hm
  unfold wpX_addPoint wpX_turnedX wpX_turnedY
  dsimp only
  rw [pp_u m0 m2 m4, pp_v m1 m3 m5]
  exact pp_wi (fun _ => br_f (by decide) ⟨pk_in 0 16 (by omega), nm_e ⟨pk_in 0 16 (by omega), nm_e (nm_r (e' := 1) (by decide) H)⟩⟩) (fun z => absurd ⟨pp_sum hx.1 ha.1, pp_sum hx.2 ha.2⟩ z)
/-- move on an empty path: taken -/
theorem pp_move1 {post : Int32 → St2 → Prop} {a b x y : Int32} (hm : pp_M a3 a b) (ha : pp_in 64 a ∧ pp_in 64 b) (hx : pp_in 99 x ∧ pp_in 99 y) (H : ∀ (A12 A13 : Nat → Int32), post 1 (fp, fc, fm, fs, 1, 1, cr, a1, a2, a3, a4, a5, a6, a7, a8, a9, (upd a10 0 (x + a)), (upd a11 0 (y + b)), A12, A13, a14, a15)) : wpX_move post (fp, fc, fm, fs, 0, 0, cr, a1, a2, a3, a4, a5, a6, a7, a8, a9, a10, a11, a12, a13, a14, a15) x y := by
  unfold wpX_move
  refine pp_wi (fun _ => br_f (by decide) (br_t (by decide) ?_)) (fun z => absurd hx z)
  refine pp_add hm ha hx ?_
  exact br_f (by decide) ⟨pk_in 0 16 (by omega), nm_e ⟨pk_in 0 16 (by omega), nm_e (nm_r (e' := 1) (by decide) (H _ _))⟩⟩
/-- move: refused -/
theorem pp_move0 {post : Int32 → St2 → Prop} {x y : Int32} (hx : ¬ (pp_in 99 x ∧ pp_in 99 y)) (H : post (-1) (fp, fc, fm, fs, np, ns, cr, a1, a2, a3, a4, a5, a6, a7, a8, a9, a10, a11, a12, a13, a14, a15)) : wpX_move post (fp, fc, fm, fs, np, ns, cr, a1, a2, a3, a4, a5, a6, a7, a8, a9, a10, a11, a12, a13, a14, a15) x y := by
  unfold wpX_move
  exact pp_wi (fun z => absurd z hx) (fun _ => br_t rfl H)
end
end
section
section
variable {fp fc fm fs np ns cr : Int32} {a1 a2 a3 a4 a5 a6 a7 a8 a9 a10 a11 a12 a13 a14 a15 : Nat → Int32}
variable {post : Int32 → St0 → Prop} {mc ms kc ks : Nat} {x0 x1 x2 x3 x4 x6 : Int32}
/-- what the law holds of the shift: x6 says whether it was taken; a, b is the shift that stands -/
def pp_R (x6 x0 x1 a b : Int32) : Prop := (x6 = 1 ∧ a = x0 ∧ b = x1) ∨ (x6 = 0 ∧ a = 0 ∧ b = 0)
/-- the last check, a point added -/
theorem pp_281g (hp : post 1 ()) {z : Int32} : wL_lawOf_281 post mc ms 1 z z kc ks fp fc fm fs 1 ns cr a1 a2 a3 a4 a5 a6 a7 a8 a9 a10 a11 a12 a13 a14 a15 :=
  br_t rfl (br_f (by decide) (br_t rfl hp))
/-- the last check, none added -/
theorem pp_281b (hp : post 1 ()) {z : Int32} : wL_lawOf_281 post mc ms 0 z z kc ks fp fc fm fs 0 ns cr a1 a2 a3 a4 a5 a6 a7 a8 a9 a10 a11 a12 a13 a14 a15 :=
  br_t rfl (br_t rfl (br_t rfl hp))
theorem pp_not0 {k : Int32} (h : k < 0) : ¬ k = 0 := fun e => absurd (e ▸ h : (0 : Int32) < 0) (by decide)
theorem pp_is0 {k : Int32} (h : ¬ k < 0) (h1 : k < 1) : k = 0 := by
  obtain ⟨j, hj, rfl⟩ := nI_of h
  have g : j < 1 := (nI_ltI hj (by omega)).mp h1
  have e : j = 0 := by omega
  rw [e]
  rfl
theorem pp_pos0 {k : Int32} (h : ¬ k < 1) : ¬ k = 0 := fun e => absurd (show k < 1 by rw [e]; decide) h
theorem pp_241g (hp : post 1 ()) {u v : Int32} (hu : a10 0 = u) (hv : a11 0 = v) : wL_lawOf_241 post mc ms x4 1 u v kc ks fp fc fm fs 1 ns cr a1 a2 a3 a4 a5 a6 a7 a8 a9 a10 a11 a12 a13 a14 a15 := by
  refine br_c (fun z => br_f (by decide) (br_f (pp_not0 z) (pp_281g hp))) (fun z => br_c (fun w => ?_) (fun w => br_f (by decide) (br_f (pp_pos0 w) (pp_281g hp))))
  have e : x4 = 0 := pp_is0 z w
  subst e hu hv
  exact ⟨pk_in 0 16 (by omega), pk_in 0 16 (by omega), br_f (by decide) (br_t rfl (pp_281g hp))⟩
theorem pp_241b (hp : post 1 ()) {u v : Int32} : wL_lawOf_241 post mc ms x4 0 u v kc ks fp fc fm fs 0 ns cr a1 a2 a3 a4 a5 a6 a7 a8 a9 a10 a11 a12 a13 a14 a15 :=
  br_c (fun z => br_t rfl (pp_281b hp)) (fun z => br_f z (br_t rfl (pp_281b hp)))
/-- the shift that the law adds is the one that stands -/
theorem pp_210g (hp : post 1 ()) {a b : Int32} (hr : pp_R x6 x0 x1 a b) (hu : a10 0 = x2 + a) (hv : a11 0 = x3 + b) : wL_lawOf_210 post mc ms x0 x1 x2 x3 x4 x6 1 1 1 kc ks fp fc fm fs 1 ns cr a1 a2 a3 a4 a5 a6 a7 a8 a9 a10 a11 a12 a13 a14 a15 := by
  rcases hr with ⟨rfl, rfl, rfl⟩ | ⟨rfl, rfl, rfl⟩
  · exact br_t rfl (br_f (by decide) (br_f (by decide) (pp_241g hp hu hv)))
  · rw [Int32.add_zero] at hu hv
    exact br_t rfl (br_t rfl (br_t rfl (pp_241g hp hu hv)))
theorem pp_210b (hp : post 1 ()) : wL_lawOf_210 post mc ms x0 x1 x2 x3 x4 x6 0 (-1) (-1) kc ks fp fc fm fs 0 ns cr a1 a2 a3 a4 a5 a6 a7 a8 a9 a10 a11 a12 a13 a14 a15 :=
  br_t rfl (br_c (fun z => br_t z (pp_241b hp)) (fun z => br_f z (pp_241b hp)))
theorem pp_191g (hp : post 1 ()) {a b : Int32} (hm : pp_M a3 a b) (ha : pp_in 64 a ∧ pp_in 64 b) (hr : pp_R x6 x0 x1 a b) (hx : pp_in 99 x2 ∧ pp_in 99 x3) : wL_lawOf_191 post mc ms x0 x1 x2 x3 x4 x6 1 kc ks fp fc fm fs 0 0 cr a1 a2 a3 a4 a5 a6 a7 a8 a9 a10 a11 a12 a13 a14 a15 :=
  pp_move1 hm ha hx (fun A12 A13 => br_f (by decide) (pp_210g hp hr pk_us pk_us))
theorem pp_191b (hp : post 1 ()) (hx : ¬ (pp_in 99 x2 ∧ pp_in 99 x3)) : wL_lawOf_191 post mc ms x0 x1 x2 x3 x4 x6 0 kc ks fp fc fm fs 0 ns cr a1 a2 a3 a4 a5 a6 a7 a8 a9 a10 a11 a12 a13 a14 a15 :=
  pp_move0 hx (br_t rfl (pp_210b hp))
theorem pp_163 (hp : post 1 ()) {a b z : Int32} (hm : pp_M a3 a b) (ha : pp_in 64 a ∧ pp_in 64 b) (hr : pp_R x6 x0 x1 a b) : wL_lawOf_163 post mc ms x0 x1 x2 x3 x4 x6 z z kc ks fp fc fm fs 0 0 cr a1 a2 a3 a4 a5 a6 a7 a8 a9 a10 a11 a12 a13 a14 a15 :=
  br_t rfl (pp_far (fun h2 => br_t rfl (pp_far (fun h3 => br_t rfl (pp_191g hp hm ha hr ⟨h2, h3⟩)) (fun h3 => br_f (by decide) (pp_191b hp (fun t => h3 t.2))))) (fun h2 => br_f (by decide) (pp_191b hp (fun t => h2 t.1))))
theorem pp_118 (hp : post 1 ()) {a b z : Int32} (hm : pp_M a3 a b) (ha : pp_in 64 a ∧ pp_in 64 b) (hr : pp_R x6 x0 x1 a b)
    (hz : ∀ ψ : Int32 → Prop, ψ z → wpX_matrix ψ (fp, fc, fm, fs, 0, 0, cr, a1, a2, a3, a4, a5, a6, a7, a8, a9, a10, a11, a12, a13, a14, a15) x4) : wL_lawOf_118 post mc ms x0 x1 x2 x3 x4 x6 z kc ks fp fc fm fs 0 0 cr a1 a2 a3 a4 a5 a6 a7 a8 a9 a10 a11 a12 a13 a14 a15 := by
  refine hz _ (br_t rfl (pp_line (fun h => ?_) (fun h => ?_)))
  · exact pp_far (fun h2 => br_t rfl (pp_far (fun h3 => br_t rfl (pp_163 hp hm ha hr)) (fun h3 => absurd h.2 h3))) (fun h2 => absurd h.1 h2)
  · exact pp_far (fun h2 => br_t rfl (pp_far (fun h3 => absurd ⟨h2, h3⟩ h) (fun h3 => br_f (by decide) (pp_163 hp hm ha hr)))) (fun h2 => br_f (by decide) (pp_163 hp hm ha hr))
theorem pp_51 (hp : post 1 ()) {a b z : Int32} (hm : pp_M a3 a b) (ha : pp_in 64 a ∧ pp_in 64 b) (hr : pp_R x6 x0 x1 a b) : wL_lawOf_51 post mc ms x0 x1 x2 x3 x4 x6 z z kc ks fp fc fm fs 0 0 cr a1 a2 a3 a4 a5 a6 a7 a8 a9 a10 a11 a12 a13 a14 a15 := by
  have hm' := hm
  obtain ⟨m0, m1, m2, m3, m4, m5⟩ := hm'
  refine br_t rfl (br_c (fun g => pp_118 hp hm ha hr (fun ψ h => pp_mat0 (Or.inl g) h)) (fun g => br_c (fun w => ?_) (fun w => pp_118 hp hm ha hr (fun ψ h => pp_mat0 (Or.inr w) h))))
  obtain ⟨j, hj, rfl⟩ := nI_of2 (n := 5) (by decide) g w
  refine pk_eq j 0 (fun e => ?_) (fun n0 => pk_eq j 3 (fun e => ?_) (fun n3 => ?_))
  · subst e
    exact pp_118 hp hm ha hr (fun ψ h => pp_mat1 0 rfl (by omega) (by rw [m0]; exact h))
  · subst e
    exact pp_118 hp hm ha hr (fun ψ h => pp_mat1 3 rfl (by omega) (by rw [m3]; exact h))
  · have hz : j = 1 ∨ j = 2 → a3 j = 0 := by
      intro t
      rcases t with e | e
      · rw [e, m1]
      · rw [e, m2]
    have hr' := hr
    rcases hr' with ⟨e6, ea, eb⟩ | ⟨e6, ea, eb⟩
    · refine br_f (by rw [e6]; decide) (pk_eq j 4 (fun e => ?_) (fun n4 => pk_eq j 5 (fun e => ?_) (fun n5 => ?_)))
      · subst e
        exact pp_118 hp hm ha hr (fun ψ h => pp_mat1 4 rfl (by omega) (by rw [m4, ea]; exact h))
      · subst e
        exact pp_118 hp hm ha hr (fun ψ h => pp_mat1 5 rfl (by omega) (by rw [m5, eb]; exact h))
      · exact pp_118 hp hm ha hr (fun ψ h => pp_mat1 j rfl (by omega) (by rw [hz (by omega)]; exact h))
    · refine br_t e6 (pp_118 hp hm ha hr (fun ψ h => pp_mat1 j rfl (by omega) ?_))
      have hj0 : a3 j = 0 := by
        by_cases e4 : j = 4
        · rw [e4, m4, ea]
        · by_cases e5 : j = 5
          · rw [e5, m5, eb]
          · exact hz (by omega)
      rw [hj0]
      exact h
theorem pp_32g (hp : post 1 ()) (hm : pp_M a3 0 0) (h : pp_in 64 x0 ∧ pp_in 64 x1) : wL_lawOf_32 post mc ms x0 x1 x2 x3 x4 1 kc ks fp fc fm fs 0 0 cr a1 a2 a3 a4 a5 a6 a7 a8 a9 a10 a11 a12 a13 a14 a15 :=
  pp_shift1 hm h (fun A3 A4 hA => br_f (by decide) (pp_51 hp hA h (Or.inl ⟨rfl, rfl, rfl⟩)))
theorem pp_32b (hp : post 1 ()) (hm : pp_M a3 0 0) (h : ¬ (pp_in 64 x0 ∧ pp_in 64 x1)) : wL_lawOf_32 post mc ms x0 x1 x2 x3 x4 0 kc ks fp fc fm fs 0 0 cr a1 a2 a3 a4 a5 a6 a7 a8 a9 a10 a11 a12 a13 a14 a15 :=
  pp_shift0 h (br_t rfl (pp_51 hp hm ⟨pp_0in, pp_0in⟩ (Or.inr ⟨rfl, rfl, rfl⟩)))
theorem pp_lawOf (hp : post 1 ()) : wpL_lawOf post 16 754 () x0 x1 x2 x3 x4 := by
  refine ⟨by decide, by decide, 15, 732, by decide, by decide, pp_init (fun A3 A5 hA => ?_)⟩
  exact pp_far (fun h0 => br_t rfl (pp_far (fun h1 => br_t rfl (pp_32g hp hA ⟨h0, h1⟩)) (fun h1 => br_f (by decide) (pp_32b hp hA (fun t => h1 t.2))))) (fun h0 => br_f (by decide) (pp_32b hp hA (fun t => h0 t.1)))
end
end
section
theorem i_vc (xs : Nat → Int32) (L : Nat) (hL : L ≤ 5) : wpL_law (fun r => r = 1) L xs :=
  pp_cell 0 rfl (by decide) hL (fun r1 => pp_cell 1 rfl (by decide) hL (fun r2 => pp_cell 2 rfl (by decide) hL (fun r3 => pp_cell 3 rfl (by decide) hL (fun r4 => pp_cell 4 rfl (by decide) hL (fun r5 => ⟨16, 754, by decide, by decide, pp_lawOf rfl⟩)))))
end

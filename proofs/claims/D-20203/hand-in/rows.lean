section
/-- the exact place of the walk behind k steps -/
def fs_ex (x y : Int32) (k : Nat) : Int64 := x.toInt64 + lN k * y.toInt64
/-- the same place as an int: it wraps -/
def fs_no (x y : Int32) (k : Nat) : Int32 := x + nI k * y
/-- how many of the first k places fit an int -/
def fs_fit (x y : Int32) : Nat → Int32
  | 0 => 0
  | k + 1 => if 2147483647 < fs_ex x y k then fs_fit x y k else fs_fit x y k + 1
/-- how many of the first k steps went down -/
def fs_wr (x y : Int32) : Nat → Int32
  | 0 => 0
  | k + 1 => if fs_no x y k ≤ fs_no x y (k + 1) then fs_wr x y k else fs_wr x y k + 1
theorem fs_ex0 (x y : Int32) : fs_ex x y 0 = x.toInt64 := by
  unfold fs_ex
  rw [show lN 0 = 0 from rfl]
  grind
theorem fs_exS (x y : Int32) (k : Nat) : fs_ex x y k + y.toInt64 = fs_ex x y (k + 1) := by
  unfold fs_ex
  rw [← lN_1 k]
  grind
theorem fs_no0 (x y : Int32) : fs_no x y 0 = x := by
  unfold fs_no
  rw [nI_0]
  grind
theorem fs_noS (x y : Int32) (k : Nat) : fs_no x y k + y = fs_no x y (k + 1) := by
  unfold fs_no
  rw [← nI_1 k]
  grind
theorem fs_exN (x y : Int32) (k : Nat) : (fs_ex x y k).toInt32 = fs_no x y k := by
  unfold fs_ex fs_no
  rw [Int64.toInt32_add, Int64.toInt32_mul, Int32.toInt32_toInt64, Int32.toInt32_toInt64, lN_i]
theorem fs_exT (x y : Int32) {k : Nat} (hk : k ≤ 6) : (fs_ex x y k).toInt = x.toInt + (k : Int) * y.toInt := by
  unfold fs_ex
  rw [Int64.toInt_add, Int64.toInt_mul, Int32.toInt_toInt64, Int32.toInt_toInt64, lN_toInt (by omega)]
  have h1 := Int32.toInt_lt x
  have h2 := Int32.le_toInt x
  have h3 := Int32.toInt_lt y
  have h4 := Int32.le_toInt y
  generalize x.toInt = a at *
  generalize y.toInt = b at *
  have hm : ∀ c : Int, -(2 ^ 40) ≤ c → c < 2 ^ 40 → c.bmod (2 ^ 64) = c := fun c p q => Int.bmod_eq_of_le (by omega) (by omega)
  have hc : k = 0 ∨ k = 1 ∨ k = 2 ∨ k = 3 ∨ k = 4 ∨ k = 5 ∨ k = 6 := by omega
  have hb : -(2 ^ 34) ≤ (k : Int) * b ∧ (k : Int) * b < 2 ^ 34 := by
    rcases hc with e | e | e | e | e | e | e <;> subst e <;> constructor <;> omega
  rw [hm ((k : Int) * b) (by omega) (by omega), hm (a + (k : Int) * b) (by omega) (by omega)]
theorem fs_gt (x y : Int32) {k : Nat} (hk : k ≤ 6) : 2147483647 < fs_ex x y k ↔ 2147483647 < x.toInt + (k : Int) * y.toInt := by
  rw [Int64.lt_iff_toInt_lt, fs_exT x y hk]
  exact Iff.rfl
/-- behind the first place that doesn't fit none fits -/
theorem fs_up (x y : Int32) {i j : Nat} (hij : i ≤ j) (hj : j ≤ 6) (h : 2147483647 < fs_ex x y i) : 2147483647 < fs_ex x y j := by
  rw [fs_gt x y (by omega)] at h
  rw [fs_gt x y hj]
  have h1 := Int32.toInt_lt x
  have hy : 0 ≤ y.toInt := by
    rcases Int.lt_or_le y.toInt 0 with z | z
    · have : (i : Int) * y.toInt ≤ 0 := Int.mul_nonpos_of_nonneg_of_nonpos (by omega) (by omega)
      omega
    · exact z
  have : (i : Int) * y.toInt ≤ (j : Int) * y.toInt := Int.mul_le_mul_of_nonneg_right (by omega) hy
  omega
theorem fs_fitA (x y : Int32) {i : Nat} (h : ∀ j, j < i → ¬ 2147483647 < fs_ex x y j) : fs_fit x y i = nI i := by
  induction i with
  | zero => rfl
  | succ i ih =>
    show (if 2147483647 < fs_ex x y i then fs_fit x y i else fs_fit x y i + 1) = nI (i + 1)
    rw [if_neg (h i (by omega)), ih (fun j hj => h j (by omega)), nI_1]
theorem fs_fitB (x y : Int32) {i : Nat} (h : 2147483647 < fs_ex x y i) (d : Nat) (hd : i + d ≤ 6) : fs_fit x y (i + d) = fs_fit x y i := by
  induction d with
  | zero => rfl
  | succ d ih =>
    show (if 2147483647 < fs_ex x y (i + d) then fs_fit x y (i + d) else fs_fit x y (i + d) + 1) = fs_fit x y i
    rw [if_pos (fs_up x y (by omega) (by omega) h), ih (by omega)]
theorem fs_fit6 (x y : Int32) {i : Nat} (hi : i ≤ 6) (h : ∀ j, j < i → ¬ 2147483647 < fs_ex x y j) (h2 : 2147483647 < fs_ex x y i) : fs_fit x y 6 = nI i := by
  have e := fs_fitB x y h2 (6 - i) (by omega)
  rw [show i + (6 - i) = 6 by omega] at e
  rw [e, fs_fitA x y h]
end
section
/-- the class's second loop: it counts the steps that went down -/
theorem fs_38 {post : Int32 → Prop} (x y n : Int32) (H : post (n * 10 + fs_wr x y 6)) : ∃ f, wX0_stepsAndWraps_38 post y n f x 0 0 := by
  refine pk_loop (fun f i (s : Int32 × Int32) => wX0_stepsAndWraps_38 post y n f s.1 s.2 (nI i)) (fun i s => s.1 = fs_no x y i ∧ s.2 = fs_wr x y i) 6 0 (x, 0) (by omega) ⟨(fs_no0 x y).symm, rfl⟩ ?_ ?_
  · intro f s h
    obtain ⟨a, b⟩ := s
    obtain ⟨h1, h2⟩ := h
    dsimp only at h1 h2
    subst h1 h2
    exact pk_le 6 6 (fun _ => H) (fun z => absurd z (by omega))
  · intro f i s hi h hw
    obtain ⟨a, b⟩ := s
    obtain ⟨h1, h2⟩ := h
    dsimp only at h1 h2
    subst h1 h2
    refine pk_le 6 i (fun z => absurd z (by omega)) (fun _ => br_c (fun c => ?_) (fun c => ?_))
    · exact nm_r (fs_noS x y i) (nm_r (nI_1 i) (hw (_, _) ⟨rfl, by
        rw [fs_noS] at c
        show _ = (if fs_no x y i ≤ fs_no x y (i + 1) then fs_wr x y i else fs_wr x y i + 1)
        rw [if_pos c]⟩))
    · exact nm_e (nm_r (fs_noS x y i) (nm_r (nI_1 i) (hw (_, _) ⟨rfl, by
        rw [fs_noS] at c
        show _ = (if fs_no x y i ≤ fs_no x y (i + 1) then fs_wr x y i else fs_wr x y i + 1)
        rw [if_neg c]⟩)))
/-- the class's method -/
theorem fs_X0 {post : Int32 → Prop} (x y : Int32) (H : post (fs_fit x y 6 * 10 + fs_wr x y 6)) : wpX0_stepsAndWraps post () x y := by
  unfold wpX0_stepsAndWraps
  refine pk_loop (fun f i (s : Int64) => wX0_stepsAndWraps_5 post x y f (nI i) s) (fun i s => s = fs_ex x y i ∧ ∀ j, j < i → ¬ 2147483647 < fs_ex x y j) 6 0 x.toInt64 (by omega) ⟨(fs_ex0 x y).symm, fun j hj => absurd hj (by omega)⟩ ?_ ?_
  · intro f s h
    obtain ⟨h1, h2⟩ := h
    subst h1
    have e : fs_fit x y 6 = nI 6 := fs_fitA x y h2
    rw [e] at H
    exact br_c (fun _ => fs_38 x y (nI 6) H) (fun _ => pk_le 6 6 (fun _ => fs_38 x y (nI 6) H) (fun z => absurd z (by omega)))
  · intro f i s hi h hw
    obtain ⟨h1, h2⟩ := h
    subst h1
    refine br_c (fun c => ?_) (fun c => pk_le 6 i (fun z => absurd z (by omega)) (fun _ => ?_))
    · have e : fs_fit x y 6 = nI i := fs_fit6 x y (by omega) h2 c
      rw [e] at H
      exact fs_38 x y (nI i) H
    · exact nm_r (nI_1 i) (nm_r (fs_exS x y i) (hw _ ⟨rfl, lt_s h2 c⟩))
/-- the twin's method -/
theorem fs_37 {post : Int32 → Prop} {J : Int32 → Int32 → Int32 → Prop} (x y n : Int32) (i : Nat) (H : J n (fs_wr x y (i + 1)) (nI (i + 1))) : wX1_stepsAndWraps_37 post J x y n (fs_wr x y i) (nI i) (fs_ex x y i) := by
  unfold wX1_stepsAndWraps_37
  rw [fs_exS, fs_exN, fs_exN]
  refine nm_e (br_c (fun c => ?_) (fun c => ?_))
  · have e : fs_wr x y (i + 1) = fs_wr x y i := if_pos c
    rw [e] at H
    exact nm_r (nI_1 i) H
  · have e : fs_wr x y (i + 1) = fs_wr x y i + 1 := if_neg c
    rw [e] at H
    exact nm_e (nm_r (nI_1 i) H)
theorem fs_X1 {post : Int32 → Prop} (x y : Int32) (H : post (10 * fs_fit x y 6 + fs_wr x y 6)) : wpX1_stepsAndWraps post () x y := by
  unfold wpX1_stepsAndWraps
  refine pk_loop (fun f i (s : Int32 × Int32) => wX1_stepsAndWraps_7 post x y f s.1 s.2 (nI i)) (fun i s => s.1 = fs_fit x y i ∧ s.2 = fs_wr x y i) 6 0 (0, 0) (by omega) ⟨rfl, rfl⟩ ?_ ?_
  · intro f s h
    obtain ⟨a, b⟩ := s
    obtain ⟨h1, h2⟩ := h
    dsimp only at h1 h2
    subst h1 h2
    exact pk_le 6 6 (fun _ => H) (fun z => absurd z (by omega))
  · intro f i s hi h hw
    obtain ⟨a, b⟩ := s
    obtain ⟨h1, h2⟩ := h
    dsimp only at h1 h2
    subst h1 h2
    have ee : x.toInt64 + (nI i).toInt64 * y.toInt64 = fs_ex x y i := by
      rw [nI_l (show i < 2 ^ 31 by omega)]
      rfl
    refine pk_le 6 i (fun z => absurd z (by omega)) (fun _ => nm_r ee (br_c (fun c => ?_) (fun c => ?_)))
    · have e : fs_fit x y (i + 1) = fs_fit x y i := if_pos c
      exact fs_37 x y _ i (hw (_, _) ⟨e.symm, rfl⟩)
    · have e : fs_fit x y (i + 1) = fs_fit x y i + 1 := if_neg c
      exact nm_e (fs_37 x y _ i (hw (_, _) ⟨e.symm, rfl⟩))
theorem fs_65 (x y : Int32) : wL_lawOf_65 (fun r => r = 1) x y := by
  unfold wL_lawOf_65
  refine fs_X0 x y (fs_X1 x y (br_t ?_ rfl))
  grind
theorem fs_33 (a b z : Int32) : wL_lawOf_33 (fun r => r = 1) a b z :=
  br_c (fun _ => fs_65 _ _) (fun _ => br_c (fun _ => fs_65 _ _) (fun _ => fs_65 _ _))
theorem fs_lawOf (a b c : Int32) : wpL_lawOf (fun r => r = 1) () a b c :=
  br_c (fun _ => fs_33 _ _ _) (fun _ => br_c (fun _ => fs_33 _ _ _) (fun _ => fs_33 _ _ _))
/-- a cell of the script, or 0 -/
theorem fs_cell {post : Int32 → Prop} (xs : Nat → Int32) (L k : Nat) (hL : L ≤ 3) (hk : k < 3) (H : ∀ r, post r) : wpL_cellAt post L xs () (nI k) :=
  pk_le L k (fun _ => H _) (fun z => ⟨vp_in_nI z (by omega), H _⟩)
end
section
theorem i_vc (xs : Nat → Int32) (L : Nat) (hL : L ≤ 3) : wpL_law (fun r => r = 1) L xs :=
  fs_cell xs L 0 hL (by omega) (fun a => fs_cell xs L 1 hL (by omega) (fun b => fs_cell xs L 2 hL (by omega) (fun c => fs_lawOf a b c)))
end

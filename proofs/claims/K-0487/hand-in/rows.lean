section
/-! the pure side: greatest of two longs, a node from its sons, the reference's scan; no program in sight -/
def mz_mx (a b : Int64) : Int64 := if b ≤ a then a else b
theorem mz_mx_toInt (a b : Int64) : (mz_mx a b).toInt = max a.toInt b.toInt := by
  unfold mz_mx
  by_cases h : b ≤ a
  · rw [if_pos h]
    rw [Int64.le_iff_toInt_le] at h
    omega
  · rw [if_neg h]
    rw [Int64.le_iff_toInt_le] at h
    omega
/-- a branch on which of two is the greater, as one walk at the greater -/
theorem mz_br {A : Int64 → Prop} {a b : Int64} (h : A (mz_mx a b)) : (b ≤ a → A a) ∧ (¬ b ≤ a → A b) := by
  unfold mz_mx at h
  refine ⟨fun z => ?_, fun z => ?_⟩
  · rw [if_pos z] at h; exact h
  · rw [if_neg z] at h; exact h
/-- bounded by B either way -/
def mz_bd (B : Int) (x : Int64) : Prop := -B ≤ x.toInt ∧ x.toInt ≤ B
theorem mz_add {B : Int} {x y : Int64} (hB : B ≤ 1099511627776) (hx : mz_bd B x) (hy : mz_bd B y) : (x + y).toInt = x.toInt + y.toInt := by
  obtain ⟨h1, h2⟩ := hx
  obtain ⟨h3, h4⟩ := hy
  exact Jvm.Kit.i64_add (by omega) (by omega)
/-- node m is what its sons l and r make it -/
def mz_law (T P S I : Nat → Int64) (m l r : Nat) : Prop :=
  T m = T l + T r ∧ P m = mz_mx (P l) (T l + P r) ∧ S m = mz_mx (S r) (T r + S l) ∧ I m = mz_mx (mz_mx (I l) (I r)) (S l + P r)
/-- all four values of node m are bounded by B -/
def mz_N (B : Int) (T P S I : Nat → Int64) (m : Nat) : Prop := mz_bd B (T m) ∧ mz_bd B (P m) ∧ mz_bd B (S m) ∧ mz_bd B (I m)
/-- the same law over the integers -/
def mz_il (t p s b t1 p1 s1 b1 t2 p2 s2 b2 : Int) : Prop :=
  t = t1 + t2 ∧ p = max p1 (t1 + p2) ∧ s = max s2 (t2 + s1) ∧ b = max (max b1 b2) (s1 + p2)
theorem mz_node {B : Int} {T P S I : Nat → Int64} {m l r : Nat} (h0 : 0 ≤ B) (hB : B ≤ 1099511627776) (L : mz_law T P S I m l r) (hl : mz_N B T P S I l) (hr : mz_N B T P S I r) :
    mz_N (2 * B) T P S I m ∧ mz_il (T m).toInt (P m).toInt (S m).toInt (I m).toInt (T l).toInt (P l).toInt (S l).toInt (I l).toInt (T r).toInt (P r).toInt (S r).toInt (I r).toInt := by
  obtain ⟨e1, e2, e3, e4⟩ := L
  obtain ⟨a1, a2, a3, a4⟩ := hl
  obtain ⟨b1, b2, b3, b4⟩ := hr
  have f1 : (T m).toInt = (T l).toInt + (T r).toInt := by rw [e1]; exact mz_add hB a1 b1
  have f2 : (P m).toInt = max (P l).toInt ((T l).toInt + (P r).toInt) := by rw [e2, mz_mx_toInt, mz_add hB a1 b2]
  have f3 : (S m).toInt = max (S r).toInt ((T r).toInt + (S l).toInt) := by rw [e3, mz_mx_toInt, mz_add hB b1 a3]
  have f4 : (I m).toInt = max (max (I l).toInt (I r).toInt) ((S l).toInt + (P r).toInt) := by rw [e4, mz_mx_toInt, mz_mx_toInt, mz_add hB a3 b2]
  unfold mz_N mz_il
  refine ⟨⟨?_, ?_, ?_, ?_⟩, f1, f2, f3, f4⟩
  · unfold mz_bd at *; clear f2 f3 f4 e1 e2 e3 e4; omega
  · unfold mz_bd at *; clear f1 f3 f4 e1 e2 e3 e4; omega
  · unfold mz_bd at *; clear f1 f2 f4 e1 e2 e3 e4; omega
  · unfold mz_bd at *; clear f1 f2 f3 e1 e2 e3 e4; omega
/-! joining: a scan that takes a whole segment in at one step -/
theorem mz_eq {x y : Int} (h : ∀ z, x ≤ z ↔ y ≤ z) : x = y := Int.le_antisymm ((h y).mpr (Int.le_refl y)) ((h x).mp (Int.le_refl x))
theorem mz_le (a b z : Int) : max a b ≤ z ↔ a ≤ z ∧ b ≤ z := by omega
theorem mz_le1 (a b x z : Int) : max a b + x ≤ z ↔ a + x ≤ z ∧ b + x ≤ z := by omega
theorem mz_le2 (a b x z : Int) : x + max a b ≤ z ↔ x + a ≤ z ∧ x + b ≤ z := by omega
/-- taking in A and then B is taking in their join -/
theorem mz_ab {r k r1 k1 r2 k2 t p s b ta pa sa ba tb pb sb bb : Int} (L : mz_il t p s b ta pa sa ba tb pb sb bb)
    (h1 : r1 = max sa (r + ta)) (h2 : k1 = max k (max ba (r + pa))) (h3 : r2 = max sb (r1 + tb)) (h4 : k2 = max k1 (max bb (r1 + pb))) :
    r2 = max s (r + t) ∧ k2 = max k (max b (r + p)) := by
  obtain ⟨e1, e2, e3, e4⟩ := L
  subst h4 h3 h2 h1 e1 e2 e3 e4
  refine ⟨mz_eq fun z => ?_, mz_eq fun z => ?_⟩
  · simp only [mz_le, mz_le1, mz_le2]
    omega
  · simp only [mz_le, mz_le1, mz_le2]
    omega
/-- a scan that has taken in A alone, and then takes in B -/
theorem mz_ab0 {r1 k1 t p s b ta pa sa ba tb pb sb bb : Int} (L : mz_il t p s b ta pa sa ba tb pb sb bb)
    (h1 : r1 = max sb (sa + tb)) (h2 : k1 = max ba (max bb (sa + pb))) : r1 = s ∧ k1 = b := by
  obtain ⟨e1, e2, e3, e4⟩ := L
  subst h2 h1 e1 e2 e3 e4
  refine ⟨mz_eq fun z => ?_, mz_eq fun z => ?_⟩
  · simp only [mz_le, mz_le1, mz_le2]
    omega
  · simp only [mz_le, mz_le1, mz_le2]
    omega
theorem mz_eight {x0 x1 x2 x3 x4 x5 x6 x7 t1 p1 s1 b1 t2 p2 s2 b2 t3 p3 s3 b3 t4 p4 s4 b4 t5 p5 s5 b5 t6 p6 s6 b6 t7 p7 s7 b7 : Int}
    {r1 r2 r3 r4 r5 r6 r7 k1 k2 k3 k4 k5 k6 k7 : Int}
    (L4 : mz_il t4 p4 s4 b4 x0 x0 x0 x0 x1 x1 x1 x1) (L5 : mz_il t5 p5 s5 b5 x2 x2 x2 x2 x3 x3 x3 x3)
    (L6 : mz_il t6 p6 s6 b6 x4 x4 x4 x4 x5 x5 x5 x5) (L7 : mz_il t7 p7 s7 b7 x6 x6 x6 x6 x7 x7 x7 x7)
    (L2 : mz_il t2 p2 s2 b2 t4 p4 s4 b4 t5 p5 s5 b5) (L3 : mz_il t3 p3 s3 b3 t6 p6 s6 b6 t7 p7 s7 b7)
    (L1 : mz_il t1 p1 s1 b1 t2 p2 s2 b2 t3 p3 s3 b3)
    (hr1 : r1 = max x1 (x0 + x1)) (hk1 : k1 = max x0 (max x1 (x0 + x1)))
    (hr2 : r2 = max x2 (r1 + x2)) (hk2 : k2 = max k1 (max x2 (r1 + x2)))
    (hr3 : r3 = max x3 (r2 + x3)) (hk3 : k3 = max k2 (max x3 (r2 + x3)))
    (hr4 : r4 = max x4 (r3 + x4)) (hk4 : k4 = max k3 (max x4 (r3 + x4)))
    (hr5 : r5 = max x5 (r4 + x5)) (hk5 : k5 = max k4 (max x5 (r4 + x5)))
    (hr6 : r6 = max x6 (r5 + x6)) (hk6 : k6 = max k5 (max x6 (r5 + x6)))
    (hr7 : r7 = max x7 (r6 + x7)) (hk7 : k7 = max k6 (max x7 (r6 + x7))) : k7 = b1 := by
  obtain ⟨q1, q2⟩ := mz_ab0 L4 hr1 hk1
  obtain ⟨q3, q4⟩ := mz_ab L5 hr2 hk2 hr3 hk3
  rw [q1] at q3 q4
  rw [q2] at q4
  obtain ⟨q5, q6⟩ := mz_ab0 L2 q3 q4
  obtain ⟨q7, q8⟩ := mz_ab L6 hr4 hk4 hr5 hk5
  obtain ⟨q9, q10⟩ := mz_ab L7 hr6 hk6 hr7 hk7
  obtain ⟨q11, q12⟩ := mz_ab L3 q7 q8 q9 q10
  rw [q5] at q11 q12
  rw [q6] at q12
  exact (mz_ab0 L1 q11 q12).2
/-! the reference's scan -/
def mz_rn (c : Nat → Int64) : Nat → Int64
  | 0 => c 0
  | i + 1 => if mz_rn c i ≤ 0 then c (i + 1) else mz_rn c i + c (i + 1)
def mz_tp (c : Nat → Int64) : Nat → Int64
  | 0 => c 0
  | i + 1 => mz_mx (mz_tp c i) (mz_rn c (i + 1))
def mz_sm (c : Nat → Int64) : Nat → Int64
  | 0 => c 0
  | i + 1 => mz_sm c i + c (i + 1)
theorem mz_rnI {c : Nat → Int64} {i : Nat} (hb : mz_bd 1099511627776 (mz_rn c i)) (hc : mz_bd 1099511627776 (c (i + 1))) :
    (mz_rn c (i + 1)).toInt = max (c (i + 1)).toInt ((mz_rn c i).toInt + (c (i + 1)).toInt) := by
  have e : mz_rn c (i + 1) = if mz_rn c i ≤ 0 then c (i + 1) else mz_rn c i + c (i + 1) := rfl
  have z0 : (0 : Int64).toInt = 0 := by decide
  rw [e]
  by_cases h : mz_rn c i ≤ 0
  · rw [if_pos h]
    rw [Int64.le_iff_toInt_le, z0] at h
    omega
  · rw [if_neg h, mz_add (Int.le_refl _) hb hc]
    rw [Int64.le_iff_toInt_le, z0] at h
    omega
theorem mz_tpI {c : Nat → Int64} {i : Nat} (h : (mz_rn c (i + 1)).toInt = max (c (i + 1)).toInt ((mz_rn c i).toInt + (c (i + 1)).toInt)) :
    (mz_tp c (i + 1)).toInt = max (mz_tp c i).toInt (max (c (i + 1)).toInt ((mz_rn c i).toInt + (c (i + 1)).toInt)) := by
  have e : mz_tp c (i + 1) = mz_mx (mz_tp c i) (mz_rn c (i + 1)) := rfl
  rw [e, mz_mx_toInt, h]
theorem mz_rnB {c : Nat → Int64} (hc : ∀ i, i < 8 → mz_bd 2147483648 (c i)) : ∀ i : Nat, i < 8 → mz_bd (((i : Int) + 1) * 2147483648) (mz_rn c i) := by
  intro i
  induction i with
  | zero =>
    intro h
    have a := hc 0 h
    have e : mz_rn c 0 = c 0 := rfl
    unfold mz_bd at *
    rw [e]
    omega
  | succ i ih =>
    intro h
    have a := ih (by omega)
    have b := hc (i + 1) h
    have e := mz_rnI (c := c) (i := i) (by unfold mz_bd at *; omega) (by unfold mz_bd at *; omega)
    unfold mz_bd at *
    omega
theorem mz_stp {c : Nat → Int64} (hc : ∀ i, i < 8 → mz_bd 2147483648 (c i)) (i : Nat) (hi : i + 1 < 8) :
    (mz_rn c (i + 1)).toInt = max (c (i + 1)).toInt ((mz_rn c i).toInt + (c (i + 1)).toInt) ∧
    (mz_tp c (i + 1)).toInt = max (mz_tp c i).toInt (max (c (i + 1)).toInt ((mz_rn c i).toInt + (c (i + 1)).toInt)) := by
  have a := mz_rnB hc i (by omega)
  have b := hc (i + 1) hi
  have e := mz_rnI (c := c) (i := i) (by unfold mz_bd at *; omega) (by unfold mz_bd at *; omega)
  exact ⟨e, mz_tpI e⟩
/-- the leaves hold the cells, and a cell is an int -/
def mz_lf (T P S I c : Nat → Int64) : Prop := ∀ i, i < 8 → T (8 + i) = c i ∧ P (8 + i) = c i ∧ S (8 + i) = c i ∧ I (8 + i) = c i ∧ mz_bd 2147483648 (c i)
theorem mz_lfN {T P S I c : Nat → Int64} (h : mz_lf T P S I c) (i : Nat) (hi : i < 8) : mz_N 2147483648 T P S I (8 + i) := by
  obtain ⟨a1, a2, a3, a4, a5⟩ := h i hi
  unfold mz_N
  rw [a1, a2, a3, a4]
  exact ⟨a5, a5, a5, a5⟩
/-- a node over two leaves -/
theorem mz_low {T P S I c : Nat → Int64} (h : mz_lf T P S I c) (m i : Nat) (hi : i + 1 < 8) (L : mz_law T P S I m (8 + i) (8 + (i + 1))) :
    mz_N (2 * 2147483648) T P S I m ∧ mz_il (T m).toInt (P m).toInt (S m).toInt (I m).toInt (c i).toInt (c i).toInt (c i).toInt (c i).toInt (c (i + 1)).toInt (c (i + 1)).toInt (c (i + 1)).toInt (c (i + 1)).toInt := by
  have q := mz_node (by decide) (by decide) L (mz_lfN h i (by omega)) (mz_lfN h (i + 1) hi)
  obtain ⟨a1, a2, a3, a4, a5⟩ := h i (by omega)
  obtain ⟨b1, b2, b3, b4, b5⟩ := h (i + 1) hi
  rw [a1, a2, a3, a4, b1, b2, b3, b4] at q
  exact q
theorem mz_best {T P S I c : Nat → Int64} (h : mz_lf T P S I c) (hL : ∀ m, 1 ≤ m → m < 8 → mz_law T P S I m (2 * m) (2 * m + 1)) : mz_tp c 7 = I 1 := by
  have hc : ∀ i, i < 8 → mz_bd 2147483648 (c i) := fun i hi => (h i hi).2.2.2.2
  obtain ⟨n4, l4⟩ := mz_low h 4 0 (by decide) (hL 4 (by decide) (by decide))
  obtain ⟨n5, l5⟩ := mz_low h 5 2 (by decide) (hL 5 (by decide) (by decide))
  obtain ⟨n6, l6⟩ := mz_low h 6 4 (by decide) (hL 6 (by decide) (by decide))
  obtain ⟨n7, l7⟩ := mz_low h 7 6 (by decide) (hL 7 (by decide) (by decide))
  obtain ⟨n2, l2⟩ := mz_node (m := 2) (l := 4) (r := 5) (by decide) (by decide) (hL 2 (by decide) (by decide)) n4 n5
  obtain ⟨n3, l3⟩ := mz_node (m := 3) (l := 6) (r := 7) (by decide) (by decide) (hL 3 (by decide) (by decide)) n6 n7
  obtain ⟨n1, l1⟩ := mz_node (m := 1) (l := 2) (r := 3) (by decide) (by decide) (hL 1 (by decide) (by decide)) n2 n3
  obtain ⟨r1, k1⟩ := mz_stp hc 0 (by decide)
  obtain ⟨r2, k2⟩ := mz_stp hc 1 (by decide)
  obtain ⟨r3, k3⟩ := mz_stp hc 2 (by decide)
  obtain ⟨r4, k4⟩ := mz_stp hc 3 (by decide)
  obtain ⟨r5, k5⟩ := mz_stp hc 4 (by decide)
  obtain ⟨r6, k6⟩ := mz_stp hc 5 (by decide)
  obtain ⟨r7, k7⟩ := mz_stp hc 6 (by decide)
  exact Int64.toInt_inj.mp (mz_eight l4 l5 l6 l7 l2 l3 l1 r1 k1 r2 k2 r3 k3 r4 k4 r5 k5 r6 k6 r7 k7)
theorem mz_total {T P S I c : Nat → Int64} (h : mz_lf T P S I c) (hL : ∀ m, 1 ≤ m → m < 8 → mz_law T P S I m (2 * m) (2 * m + 1)) : mz_sm c 7 = T 1 := by
  have e1 : T 1 = T 2 + T 3 := (hL 1 (by decide) (by decide)).1
  have e2 : T 2 = T 4 + T 5 := (hL 2 (by decide) (by decide)).1
  have e3 : T 3 = T 6 + T 7 := (hL 3 (by decide) (by decide)).1
  have e4 : T 4 = T 8 + T 9 := (hL 4 (by decide) (by decide)).1
  have e5 : T 5 = T 10 + T 11 := (hL 5 (by decide) (by decide)).1
  have e6 : T 6 = T 12 + T 13 := (hL 6 (by decide) (by decide)).1
  have e7 : T 7 = T 14 + T 15 := (hL 7 (by decide) (by decide)).1
  have g0 : T 8 = c 0 := (h 0 (by decide)).1
  have g1 : T 9 = c 1 := (h 1 (by decide)).1
  have g2 : T 10 = c 2 := (h 2 (by decide)).1
  have g3 : T 11 = c 3 := (h 3 (by decide)).1
  have g4 : T 12 = c 4 := (h 4 (by decide)).1
  have g5 : T 13 = c 5 := (h 5 (by decide)).1
  have g6 : T 14 = c 6 := (h 6 (by decide)).1
  have g7 : T 15 = c 7 := (h 7 (by decide)).1
  have e : mz_sm c 7 = c 0 + c 1 + c 2 + c 3 + c 4 + c 5 + c 6 + c 7 := rfl
  rw [e, e1, e2, e3, e4, e5, e6, e7, g0, g1, g2, g3, g4, g5, g6, g7]
  simp only [Int64.add_assoc]
end
section
/-! rows of kit/rows/PURE-ROWS (pasted) -/
theorem pk_uLs {f : Nat → Int64} {k : Nat} {x : Int64} : vp_updL f k x k = x := if_pos rfl
theorem pk_uLn {f : Nat → Int64} {k j : Nat} {x : Int64} (h : j ≠ k) : vp_updL f k x j = f j := if_neg h
theorem pk_mul (a b : Nat) : nI a * nI b = nI (a * b) := (Int32.ofNat_mul a b).symm
theorem pk_shr (a s : Int32) (k : Nat) (hs : (s.toBitVec.smod 32).toNat = k) : (a >>> s).toInt = a.toInt >>> k := by
  show (a.toBitVec.sshiftRight (s.toBitVec.smod 32).toNat).toInt = _
  rw [hs, BitVec.toInt_sshiftRight]
  rfl
theorem pk_shrN {n : Nat} (h : n < 2 ^ 31) (s : Int32) (k : Nat) (hs : (s.toBitVec.smod 32).toNat = k) : nI n >>> s = nI (n / 2 ^ k) := by
  apply Int32.toInt_inj.mp
  have h2 : n / 2 ^ k ≤ n := Nat.div_le_self _ _
  rw [pk_shr _ _ k hs, nI_toInt h, nI_toInt (by omega), Int.shiftRight_eq_div_pow]
  rfl
/-! rows of our own: halving, and the component's loop -/
theorem mz_half {n : Nat} (h : n < 2 ^ 31) : nI n >>> ((1 : Int32) &&& 31) = nI (n / 2) := pk_shrN h ((1 : Int32) &&& 31) 1 (by decide)
/-- one turn of the component's loop -/
theorem mz_step {post : Int32 → SX → Prop} {f n : Nat} {T P S I : Nat → Int64} (h1 : 1 ≤ n) (h7 : n < 8)
    (K : wX_set_57 post f (nI (n / 2)) (vp_updL T n (T (2 * n) + T (2 * n + 1))) (vp_updL P n (mz_mx (P (2 * n)) (T (2 * n) + P (2 * n + 1))))
      (vp_updL S n (mz_mx (S (2 * n + 1)) (T (2 * n + 1) + S (2 * n)))) (vp_updL I n (mz_mx (mz_mx (I (2 * n)) (I (2 * n + 1))) (S (2 * n) + P (2 * n + 1))))) :
    wX_set_57 post (f + 1) (nI n) T P S I := by
  have hx : ¬ nI n < 1 := nI_nlt (b := 1) h1 (by omega)
  have im : vp_in (nI n) 16 := vp_in_nI (by omega) (by omega)
  have il : vp_in (nI (2 * n)) 16 := vp_in_nI (by omega) (by omega)
  have ir : vp_in (nI (2 * n + 1)) 16 := vp_in_nI (by omega) (by omega)
  have cm : (nI n).toNatClampNeg = n := nI_clamp (by omega)
  have cl : (nI (2 * n)).toNatClampNeg = 2 * n := nI_clamp (by omega)
  have cr : (nI (2 * n + 1)).toNatClampNeg = 2 * n + 1 := nI_clamp (by omega)
  have el : (2 : Int32) * nI n = nI (2 * n) := pk_mul 2 n
  have er : (2 : Int32) * nI n + 1 = nI (2 * n + 1) := by rw [el, nI_1]
  have eh : nI n >>> ((1 : Int32) &&& 31) = nI (n / 2) := mz_half (by omega)
  have nl : 2 * n ≠ n := by omega
  have nr : 2 * n + 1 ≠ n := by omega
  rw [wX_set_57]
  refine br_f hx ?_
  intro x6 e6 x7 e7
  rw [er] at e7
  rw [el] at e6
  subst e6 e7
  refine ⟨il, ir, im, ?_⟩
  intro T' eT
  rw [cm, cl, cr] at eT
  subst eT
  refine ⟨il, ?_⟩
  intro x8 e8
  rw [cl] at e8
  subst e8
  refine ⟨il, ir, ?_⟩
  intro x10 e10
  rw [cl, cr, pk_uLn nl] at e10
  subst e10
  refine mz_br (A := fun z => wX_set_133 post (wX_set_57 post f) (nI n) (nI (2 * n)) (nI (2 * n + 1)) z (vp_updL T n (T (2 * n) + T (2 * n + 1))) P S I) ?_
  unfold wX_set_133
  refine ⟨im, ?_⟩
  intro P' eP
  rw [cm] at eP
  subst eP
  refine ⟨ir, ?_⟩
  intro x12 e12
  rw [cr] at e12
  subst e12
  refine ⟨ir, il, ?_⟩
  intro x14 e14
  rw [cr, cl, pk_uLn nr] at e14
  subst e14
  refine mz_br (A := fun z => wX_set_179 post (wX_set_57 post f) (nI n) (nI (2 * n)) (nI (2 * n + 1)) z (vp_updL T n (T (2 * n) + T (2 * n + 1))) (vp_updL P n (mz_mx (P (2 * n)) (T (2 * n) + P (2 * n + 1)))) S I) ?_
  unfold wX_set_179
  refine ⟨im, ?_⟩
  intro S' eS
  rw [cm] at eS
  subst eS
  refine ⟨il, ?_⟩
  intro x16 e16
  rw [cl] at e16
  subst e16
  refine ⟨ir, ?_⟩
  rw [cr]
  have key : wX_set_218 post (wX_set_57 post f) (nI n) (nI (2 * n)) (nI (2 * n + 1)) (mz_mx (I (2 * n)) (I (2 * n + 1))) (vp_updL T n (T (2 * n) + T (2 * n + 1)))
      (vp_updL P n (mz_mx (P (2 * n)) (T (2 * n) + P (2 * n + 1)))) (vp_updL S n (mz_mx (S (2 * n + 1)) (T (2 * n + 1) + S (2 * n)))) I := by
    unfold wX_set_218
    refine ⟨il, ir, ?_⟩
    intro x18 e18
    rw [cl, cr, pk_uLn nl, pk_uLn nr] at e18
    subst e18
    refine mz_br (A := fun z => wX_set_247 post (wX_set_57 post f) (nI n) z (vp_updL T n (T (2 * n) + T (2 * n + 1)))
      (vp_updL P n (mz_mx (P (2 * n)) (T (2 * n) + P (2 * n + 1)))) (vp_updL S n (mz_mx (S (2 * n + 1)) (T (2 * n + 1) + S (2 * n)))) I) ?_
    unfold wX_set_247
    refine ⟨im, ?_⟩
    intro I' eI
    rw [cm] at eI
    subst eI
    intro y ey
    rw [eh] at ey
    subst ey
    exact K
  obtain ⟨ka, kb⟩ := mz_br (A := fun z => wX_set_218 post (wX_set_57 post f) (nI n) (nI (2 * n)) (nI (2 * n + 1)) z (vp_updL T n (T (2 * n) + T (2 * n + 1)))
      (vp_updL P n (mz_mx (P (2 * n)) (T (2 * n) + P (2 * n + 1)))) (vp_updL S n (mz_mx (S (2 * n + 1)) (T (2 * n + 1) + S (2 * n)))) I) key
  refine ⟨ka, fun z => ⟨ir, fun w ew => ?_⟩⟩
  subst ew
  exact kb z
/-- a write at n leaves the laws of the nodes that don't see n -/
theorem mz_keep {T P S I : Nat → Int64} {n m l r : Nat} {a b c d : Int64} (hm : m ≠ n) (hl : l ≠ n) (hr : r ≠ n) (h : mz_law T P S I m l r) :
    mz_law (vp_updL T n a) (vp_updL P n b) (vp_updL S n c) (vp_updL I n d) m l r := by
  unfold mz_law at *
  simp only [pk_uLn hm, pk_uLn hl, pk_uLn hr]
  exact h
/-- and the loop's write makes the law at n -/
theorem mz_made {T P S I : Nat → Int64} {n l r : Nat} (hl : l ≠ n) (hr : r ≠ n) :
    mz_law (vp_updL T n (T l + T r)) (vp_updL P n (mz_mx (P l) (T l + P r))) (vp_updL S n (mz_mx (S r) (T r + S l))) (vp_updL I n (mz_mx (mz_mx (I l) (I r)) (S l + P r))) n l r := by
  unfold mz_law
  refine ⟨?_, ?_, ?_, ?_⟩ <;> (rw [pk_uLs]; simp only [pk_uLn hl, pk_uLn hr])
/-- the component's loop: all nodes but n obey their laws; at its end all do -/
theorem mz_loop {post : Int32 → SX → Prop} {c : Nat → Int64}
    (hp : ∀ T P S I : Nat → Int64, mz_lf T P S I c → (∀ m, 1 ≤ m → m < 8 → mz_law T P S I m (2 * m) (2 * m + 1)) → post 0 (T, P, S, I)) :
    ∀ (f n : Nat) (T P S I : Nat → Int64), n < f → n < 8 → mz_lf T P S I c → (∀ m, 1 ≤ m → m < 8 → m ≠ n → mz_law T P S I m (2 * m) (2 * m + 1)) → wX_set_57 post f (nI n) T P S I := by
  intro f
  induction f with
  | zero => intro n T P S I h; omega
  | succ f ih =>
    intro n T P S I hf h8 hl hm
    by_cases h0 : n = 0
    · subst h0
      rw [wX_set_57]
      exact br_t (nI_lt (a := 0) (b := 1) (by omega) (by omega)) (hp T P S I hl (fun m a b => hm m a b (by omega)))
    · refine mz_step (by omega) h8 (ih (n / 2) _ _ _ _ (by omega) (by omega) ?_ ?_)
      · intro i hi
        have hne : 8 + i ≠ n := by omega
        rw [pk_uLn hne, pk_uLn hne, pk_uLn hne, pk_uLn hne]
        exact hl i hi
      · intro m m1 m8 mn
        by_cases e : m = n
        · subst e
          exact mz_made (by omega) (by omega)
        · exact mz_keep e (by omega) (by omega) (hm m m1 m8 e)
/-! the reference's scan -/
theorem mz_yst {post : Int64 → Prop} {x1 : Int32} {c : Nat → Int64} {f : Nat} (i : Nat) (hi : i + 1 < 8)
    (K : wY_scan_26 post x1 c f (mz_sm c (i + 1)) (mz_rn c (i + 1)) (mz_tp c (i + 1)) (nI (i + 2))) :
    wY_scan_26 post x1 c (f + 1) (mz_sm c i) (mz_rn c i) (mz_tp c i) (nI (i + 1)) := by
  have h8 : ¬ (8 : Int32) ≤ nI (i + 1) := nI_ge (b := 8) hi (by decide)
  have ii : vp_in (nI (i + 1)) 8 := vp_in_nI hi (by decide)
  have ci : (nI (i + 1)).toNatClampNeg = i + 1 := nI_clamp (by omega)
  have en : nI (i + 1) + 1 = nI (i + 2) := nI_1 (i + 1)
  have key : wY_scan_64 post (wY_scan_26 post x1 c f) x1 (mz_sm c (i + 1)) (mz_tp c i) (nI (i + 1)) (mz_rn c (i + 1)) c := by
    unfold wY_scan_64
    rw [en]
    have q := mz_br (A := fun z => wY_scan_26 post x1 c f (mz_sm c (i + 1)) (mz_rn c (i + 1)) z (nI (i + 2))) (a := mz_tp c i) (b := mz_rn c (i + 1)) K
    exact ⟨fun z => nm_e (q.1 z), fun z => nm_e (q.2 z)⟩
  have er : mz_rn c (i + 1) = if mz_rn c i ≤ 0 then c (i + 1) else mz_rn c i + c (i + 1) := rfl
  rw [wY_scan_26]
  refine br_f h8 ⟨ii, ?_⟩
  intro v ev
  rw [ci] at ev
  subst ev
  intro s es
  have es' : s = mz_sm c (i + 1) := es
  subst es'
  refine ⟨fun z => ?_, fun z => ?_⟩
  · rw [if_pos z] at er
    rw [← er]
    exact key
  · rw [if_neg z] at er
    rw [← er]
    exact key
theorem mz_scan {post : Int64 → Prop} {c : Nat → Int64} {x1 : Int32} (h : (x1 = 0 → post (mz_tp c 7)) ∧ (¬ x1 = 0 → post (mz_sm c 7))) : wpY_scan post c x1 := by
  unfold wpY_scan
  intro a ea b eb d ed
  subst ea eb ed
  have h8 : (8 : Int32) ≤ nI 8 := by decide
  have e8 : wY_scan_26 post x1 c (0 + 1) (mz_sm c 7) (mz_rn c 7) (mz_tp c 7) (nI 8) := by
    rw [wY_scan_26]
    exact br_t h8 h
  have q := mz_yst 0 (by decide) (mz_yst 1 (by decide) (mz_yst 2 (by decide) (mz_yst 3 (by decide) (mz_yst 4 (by decide) (mz_yst 5 (by decide) (mz_yst 6 (by decide) e8))))))
  exact ⟨_, q⟩
end
section
/-- the leaves of the component hold the reference's cells, each an int; every inner node obeys its law -/
def i_Rel (k : Nat) (u : SX) (v : SY) : Prop := mz_lf u.1 u.2.1 u.2.2.1 u.2.2.2 v ∧ ∀ m, 1 ≤ m → m < 8 → mz_law u.1 u.2.1 u.2.2.1 u.2.2.2 m (2 * m) (2 * m + 1)
theorem i_up {k : Nat} {u : SX} {v : SY} (h : i_Rel k u v) : i_Rel (k + 3) u v := h
theorem mz_z1 : (0 : Int64) = 0 + 0 := by decide
theorem mz_z2 : (0 : Int64) = mz_mx 0 (0 + 0) := by decide
theorem mz_z4 : (0 : Int64) = mz_mx (mz_mx 0 0) (0 + 0) := by decide
theorem mz_zb : mz_bd 2147483648 0 := by unfold mz_bd; decide
theorem i_vc0 : wpX_init (fun u => wpY_init (fun v => i_Rel 0 u v)) := by
  unfold wpX_init wpY_init i_Rel
  refine ⟨fun i hi => ⟨rfl, rfl, rfl, rfl, mz_zb⟩, fun m h1 h8 => ?_⟩
  exact And.intro mz_z1 (And.intro mz_z2 (And.intro mz_z2 mz_z4))
theorem mz_int (x : Int32) : mz_bd 2147483648 x.toInt64 := by
  unfold mz_bd
  rw [Int32.toInt_toInt64]
  have h1 := x.le_toInt
  have h2 := x.toInt_lt
  omega
theorem i_vc_set {k : Nat} {u : SX} {v : SY} (I : i_Rel k u v) (hk : k + 3 ≤ 1536) (v1 : Int32) (v2 : Int32) : wpX_set (fun r u' => wpY_set (fun r' v' => r' = r ∧ i_Rel (k + 3) u' v') v v1 v2) u v1 v2 := by
  obtain ⟨T, P, S, J⟩ := u
  have I' := I
  obtain ⟨hl, hm⟩ := I'
  by_cases h0 : v1 < 0
  · exact br_t h0 (br_t h0 ⟨rfl, I⟩)
  · by_cases h7 : v1 ≤ 7
    · obtain ⟨j, hj, rfl⟩ := nI_of2 (x := v1) (M := 7) (n := 7) (by decide) h0 h7
      have ex : (8 : Int32) + nI j = nI (8 + j) := nI_add 8 j
      have ix : vp_in (nI (8 + j)) 16 := vp_in_nI (by omega) (by omega)
      have cx : (nI (8 + j)).toNatClampNeg = 8 + j := nI_clamp (by omega)
      have eh : nI (8 + j) >>> ((1 : Int32) &&& 31) = nI ((8 + j) / 2) := mz_half (by omega)
      have ij : vp_in (nI j) 8 := vp_in_nI (by omega) (by omega)
      have cj : (nI j).toNatClampNeg = j := nI_clamp (by omega)
      unfold wpX_set
      dsimp only
      refine br_f h0 (br_t h7 ?_)
      intro x3 e3
      rw [ex] at e3
      subst e3
      refine ⟨ix, ?_⟩
      intro T' eT
      refine ⟨ix, ?_⟩
      intro P' eP
      refine ⟨ix, ?_⟩
      intro S' eS
      refine ⟨ix, ?_⟩
      intro J' eJ x4 e4
      rw [cx] at eT eP eS eJ
      rw [eh] at e4
      subst eT eP eS eJ e4
      refine ⟨8, mz_loop (c := vp_updL v j v2.toInt64) ?_ 8 ((8 + j) / 2) _ _ _ _ (by omega) (by omega) ?_ ?_⟩
      · intro T1 P1 S1 J1 gl gm
        refine br_f h0 (br_t h7 ⟨ij, ?_⟩)
        intro c ec
        rw [cj] at ec
        subst ec
        exact ⟨rfl, And.intro gl gm⟩
      · intro i hi
        by_cases e : i = j
        · subst e
          rw [pk_uLs, pk_uLs, pk_uLs, pk_uLs, pk_uLs]
          exact ⟨rfl, rfl, rfl, rfl, mz_int v2⟩
        · have hne : 8 + i ≠ 8 + j := by omega
          rw [pk_uLn hne, pk_uLn hne, pk_uLn hne, pk_uLn hne, pk_uLn e]
          exact hl i hi
      · intro m m1 m8 mn
        exact mz_keep (by omega) (by omega) (by omega) (hm m m1 m8)
    · exact br_f h0 (br_f h7 (br_f h0 (br_f h7 ⟨rfl, I⟩)))
theorem i_vc_best {k : Nat} {u : SX} {v : SY} (I : i_Rel k u v) (hk : k + 3 ≤ 1536) : wpX_best (fun r => wpY_best (fun r' => r' = r ∧ i_Rel (k + 3) u v) v) u := by
  obtain ⟨T, P, S, J⟩ := u
  have I' := I
  obtain ⟨hl, hm⟩ := I'
  unfold wpX_best wpY_best
  dsimp only
  exact mz_scan (br_t rfl ⟨mz_best hl hm, I⟩)
theorem i_vc_total {k : Nat} {u : SX} {v : SY} (I : i_Rel k u v) (hk : k + 3 ≤ 1536) : wpX_total (fun r => wpY_total (fun r' => r' = r ∧ i_Rel (k + 3) u v) v) u := by
  obtain ⟨T, P, S, J⟩ := u
  have I' := I
  obtain ⟨hl, hm⟩ := I'
  unfold wpX_total wpY_total
  dsimp only
  exact mz_scan (br_f (by decide) ⟨mz_total hl hm, I⟩)
end

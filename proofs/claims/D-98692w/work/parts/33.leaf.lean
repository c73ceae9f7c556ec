/-! PURE SIDE: leaves of the class -/
set_option maxRecDepth 100000
theorem lc_lt (x y : Int64) : lg_cmp x y < 0 ↔ x < y := by
  unfold lg_cmp
  by_cases h : x > y
  · rw [if_pos h]
    have h2 : ¬ x < y := by have := Int64.lt_iff_toInt_lt.mp h; intro q; have := Int64.lt_iff_toInt_lt.mp q; omega
    simp only [h2, iff_false]; decide
  · rw [if_neg h]
    by_cases e : x = y
    · subst e
      rw [if_pos rfl]
      have h2 : ¬ x < x := by intro q; have := Int64.lt_iff_toInt_lt.mp q; omega
      simp only [h2, iff_false]; decide
    · rw [if_neg e]
      have h2 : x < y := by
        refine Int64.lt_iff_toInt_lt.mpr ?_
        have h3 : ¬ y.toInt < x.toInt := fun q => h (Int64.lt_iff_toInt_lt.mpr q)
        have h4 : x.toInt ≠ y.toInt := fun q => e (Int64.toInt_inj.mp q)
        omega
      simp only [h2, iff_true]; decide
theorem lc_gt (x y : Int64) : 0 < lg_cmp x y ↔ y < x := by
  unfold lg_cmp
  by_cases h : x > y
  · rw [if_pos h]
    have h2 : y < x := h
    simp only [h2, iff_true]; decide
  · rw [if_neg h]
    have h2 : ¬ y < x := h
    by_cases e : x = y
    · rw [if_pos e]; simp only [h2, iff_false]; decide
    · rw [if_neg e]; simp only [h2, iff_false]; decide
theorem lc_eq (x y : Int64) : lg_cmp x y = 0 ↔ x = y := by
  unfold lg_cmp
  by_cases h : x > y
  · rw [if_pos h]
    have h2 : ¬ x = y := by intro q; subst q; have := Int64.lt_iff_toInt_lt.mp h; omega
    simp only [h2, iff_false]; decide
  · rw [if_neg h]
    by_cases e : x = y
    · rw [if_pos e]; simp only [e]
    · rw [if_neg e]; simp only [e, iff_false]; decide
theorem lc_le (x y : Int64) : lg_cmp x y ≤ 0 ↔ ¬ y < x := by
  rw [← lc_gt x y]
  constructor
  · intro a b; have := Int32.le_iff_toInt_le.mp a; have := Int32.lt_iff_toInt_lt.mp b; omega
  · intro a; refine Int32.le_iff_toInt_le.mpr ?_
    have : ¬ (0 : Int32).toInt < (lg_cmp x y).toInt := fun q => a (Int32.lt_iff_toInt_lt.mpr q)
    omega
theorem lc_ge (x y : Int64) : 0 ≤ lg_cmp x y ↔ ¬ x < y := by
  rw [← lc_lt x y]
  constructor
  · intro a b; have := Int32.le_iff_toInt_le.mp a; have := Int32.lt_iff_toInt_lt.mp b; omega
  · intro a; refine Int32.le_iff_toInt_le.mpr ?_
    have : ¬ (lg_cmp x y).toInt < (0 : Int32).toInt := fun q => a (Int32.lt_iff_toInt_lt.mpr q)
    omega
theorem i64_lt (x y : Int32) : x.toInt64 < y.toInt64 ↔ x < y := by
  rw [Int64.lt_iff_toInt_lt, Int32.lt_iff_toInt_lt, Int32.toInt_toInt64, Int32.toInt_toInt64]
/-- whether x lies between a and b, as a word -/
def zin (x a b : Int32) : Int32 := if x < a then 0 else if b < x then 0 else 1
theorem c_isIn_z (V : hx_V) (x a b : Int32) (h : hx_S) : c_X0_isIn V x.toInt64 a.toInt64 b.toInt64 h = some (zin x a b) := by
  unfold c_X0_isIn c_X0_isIn_b17 zin
  simp only [lc_lt, lc_gt, i64_lt]
  by_cases h1 : x < a
  · rw [if_pos h1, if_pos h1]
  · rw [if_neg h1, if_neg h1]
    by_cases h2 : b < x
    · rw [if_pos h2, if_pos h2]
    · rw [if_neg h2, if_neg h2]
theorem m_is_z (x a b : Int32) : m_is x a b = some (zin x a b) := by
  unfold m_is m_is_b14 zin
  by_cases h1 : x < a
  · rw [if_pos h1, if_pos h1]
  · rw [if_neg h1, if_neg h1]
    by_cases h2 : b < x
    · rw [if_pos h2, if_pos h2]
    · rw [if_neg h2, if_neg h2]
theorem zin_bit (x a b : Int32) : hx_bit (zin x a b) = true := by
  unfold zin hx_bit
  split
  · decide
  · split <;> decide
/-- the k-th bit, as a word -/
def zbit (x k : Int32) : Int32 := if ((x >>> (k &&& 31)) &&& (1 : Int32)) = (1 : Int32) then 1 else 0
theorem m_has2_z (x k : Int32) : m_has2 x k = some (zbit x k) := by
  unfold m_has2 zbit
  split <;> rfl
theorem zbit_bit (x k : Int32) : hx_bit (zbit x k) = true := by
  unfold zbit hx_bit
  split <;> decide
/-- the shape of the state: how many, their numbers, the lists -/
def ZS (W : zW) : Prop :=
  W.2.2.2.1 0 ≤ 6 ∧ W.2.2.2.1 1 ≤ 8 ∧ W.2.1 21 0 2 = nI (W.2.2.2.1 0) ∧ W.2.1 23 0 2 = nI (W.2.2.2.1 1) ∧
  (W.2.2.2.1 0 ≤ W.2.2.2.1 22 ∧ W.2.2.2.1 22 < 1000) ∧ (W.2.2.2.1 1 ≤ W.2.2.2.1 24 ∧ W.2.2.2.1 24 < 1000) ∧
  (∀ b, b < W.2.2.2.1 0 → W.2.1 25 b 1 = nI b) ∧ (∀ k, k < W.2.2.2.1 1 → W.2.1 29 k 1 = nI k)
section LF
variable {V : hx_V} {h : hx_S} {W T : zW} {g : Nat → Option hx_C}
theorem c_ck {i n : Nat} (hi : i < n) (hn : n < 2 ^ 31) : c_J9_checkIndex V (nI i) (nI n) h = some (nI i) := by
  unfold c_J9_checkIndex c_J6_checkIndex
  rw [if_neg (nI_pos (by omega)), if_pos (nI_lt hi hn)]
  rfl
theorem CS.getB (C : CS V h W T g) (S : ZS W) {b : Nat} (hb : b < W.2.2.2.1 0) : c_J2_get V (W.1 21 0) (nI b) h = some (some (W.1 25 b)) := by
  obtain ⟨s1, s2, s3, s4, ⟨s5, s6⟩, s7, -⟩ := S
  unfold c_J2_get c_J2_elementData
  have e : hgQ h (W.1 22 0) (nI b) = some (some (W.1 25 b)) := by
    obtain ⟨f, C⟩ := C
    refine CR.gQ (W := zmix W T f) (k := 22) (j := 0) C ?_ ?_ (show 105 ≤ 105 ∧ 105 < 109 from by decide) (show b < W.2.2.2.1 22 by omega) (show W.2.2.2.1 22 < 2 ^ 31 by omega)
    · show 0 < (if W.2.2.2.1 22 = 0 then 0 else 1)
      rw [if_neg (by omega)]; decide
    · show va_rf (if b < W.2.2.2.1 0 then some (W.1 25 b) else none) = _
      rw [if_pos hb]
  simp only [C.l_beasts_size, C.l_beasts_data, C.k_beasts, s3, c_ck hb (show W.2.2.2.1 0 < 2 ^ 31 by omega), e, Option.bind_some, if_true]
theorem CS.getG (C : CS V h W T g) (S : ZS W) {b : Nat} (hb : b < W.2.2.2.1 1) : c_J2_get V (W.1 23 0) (nI b) h = some (some (W.1 29 b)) := by
  obtain ⟨s1, s2, s3, s4, -, ⟨s5, s6⟩, -⟩ := S
  unfold c_J2_get c_J2_elementData
  have e : hgQ h (W.1 24 0) (nI b) = some (some (W.1 29 b)) := by
    obtain ⟨f, C⟩ := C
    refine CR.gQ (W := zmix W T f) (k := 24) (j := 0) C ?_ ?_ (show 105 ≤ 105 ∧ 105 < 109 from by decide) (show b < W.2.2.2.1 24 by omega) (show W.2.2.2.1 24 < 2 ^ 31 by omega)
    · show 0 < (if W.2.2.2.1 24 = 0 then 0 else 1)
      rw [if_neg (by omega)]; decide
    · show va_rf (if b < W.2.2.2.1 1 then some (W.1 29 b) else none) = _
      rw [if_pos hb]
  simp only [C.l_guests_size, C.l_guests_data, C.k_guests, s4, c_ck hb (show W.2.2.2.1 1 < 2 ^ 31 by omega), e, Option.bind_some, if_true]
theorem CS.sizeB (C : CS V h W T g) (S : ZS W) : c_J2_size V (W.1 21 0) h = some (nI (W.2.2.2.1 0)) := by
  unfold c_J2_size
  simp only [C.l_beasts_size, S.2.2.1, Option.bind_some]
theorem CS.sizeG (C : CS V h W T g) (S : ZS W) : c_J2_size V (W.1 23 0) h = some (nI (W.2.2.2.1 1)) := by
  unfold c_J2_size
  simp only [C.l_guests_size, S.2.2.2.1, Option.bind_some]
/-- a number from 0 on below n, or none -/
def zof (n : Nat) (x : Int32) : Option Nat := if zin x 0 (nI n - 1) = 0 then none else some x.toNatClampNeg
theorem zof_lt {n : Nat} {x : Int32} {k : Nat} (hn : n < 2 ^ 30) (h : zof n x = some k) : k < n ∧ x = nI k := by
  unfold zof zin at h
  by_cases h1 : x < 0
  · rw [if_pos h1, if_pos rfl] at h; cases h
  · rw [if_neg h1] at h
    by_cases h2 : nI n - 1 < x
    · rw [if_pos h2, if_pos rfl] at h; cases h
    · rw [if_neg h2, if_neg (by decide)] at h
      cases h
      obtain ⟨j, hj, rfl⟩ := nI_of h1
      rw [nI_clamp hj]
      refine ⟨?_, rfl⟩
      have h3 : ¬ (nI n - 1).toInt < (nI j).toInt := fun q => h2 (Int32.lt_iff_toInt_lt.mpr q)
      rw [show (1 : Int32) = nI 1 from rfl, pk_sub_toInt hn (by decide), nI_toInt hj] at h3
      omega
theorem zof_pos {n : Nat} {x : Int32} (hn : n < 2 ^ 30) (h : zof n x = none) : zin x 0 (nI n - 1) = 0 ∧ (x < 0 ∨ nI n ≤ x) := by
  unfold zof at h
  by_cases e : zin x 0 (nI n - 1) = 0
  · refine ⟨e, ?_⟩
    unfold zin at e
    by_cases h1 : x < 0
    · exact Or.inl h1
    · rw [if_neg h1] at e
      by_cases h2 : nI n - 1 < x
      · refine Or.inr (Int32.le_iff_toInt_le.mpr ?_)
        have h3 := Int32.lt_iff_toInt_lt.mp h2
        rw [show (1 : Int32) = nI 1 from rfl, pk_sub_toInt hn (by decide)] at h3
        rw [nI_toInt (by omega)]
        omega
      · rw [if_neg h2] at e
        exact absurd e (by decide)
  · rw [if_neg e] at h; cases h
theorem zof_some {n : Nat} {x : Int32} {k : Nat} (h : zof n x = some k) : ¬ zin x 0 (nI n - 1) = 0 := by
  intro e
  unfold zof at h
  rw [if_pos e] at h; cases h
theorem CS.beastOf (C : CS V h W T g) (S : ZS W) (x : Int32) : c_X0_beastOf V (W.1 0 0) x h = some ((zof (W.2.2.2.1 0) x).map (W.1 25)) := by
  have S' := S
  obtain ⟨s1, s2, -⟩ := S'
  unfold c_X0_beastOf c_X0_of
  simp only [C.x_park, C.z_beasts, C.k_beasts, C.sizeB S, Option.bind_some, if_true]
  rw [show ((0 : Int64)) = (0 : Int32).toInt64 from rfl, c_isIn_z]
  cases e : zof (W.2.2.2.1 0) x with
  | none =>
    rw [Option.bind_some, if_pos (zof_pos (by omega) e).1]
    rfl
  | some k =>
    obtain ⟨e1, e2⟩ := zof_lt (by omega) e
    rw [Option.bind_some, if_neg (zof_some e), e2, C.getB S e1]
    simp only [Option.bind_some]
    have hc : hck h (some (W.1 25 k)) [8] = true := C.k_b e1 rfl
    rw [hc]
    rfl
theorem CS.guestOf (C : CS V h W T g) (S : ZS W) (x : Int32) : c_X0_guestOf V (W.1 0 0) x h = some ((zof (W.2.2.2.1 1) x).map (W.1 29)) := by
  have S' := S
  obtain ⟨s1, s2, -⟩ := S'
  unfold c_X0_guestOf c_X0_of
  simp only [C.x_park, C.z_guests, C.k_guests, C.sizeG S, Option.bind_some, if_true]
  rw [show ((0 : Int64)) = (0 : Int32).toInt64 from rfl, c_isIn_z]
  cases e : zof (W.2.2.2.1 1) x with
  | none =>
    rw [Option.bind_some, if_pos (zof_pos (by omega) e).1]
    rfl
  | some k =>
    obtain ⟨e1, e2⟩ := zof_lt (by omega) e
    rw [Option.bind_some, if_neg (zof_some e), e2, C.getG S e1]
    simp only [Option.bind_some]
    have hc : hck h (some (W.1 29 k)) [9] = true := C.k_g e1 rfl
    rw [hc]
    rfl
theorem CS.thereB (C : CS V h W T g) {b : Nat} (hb : b < W.2.2.2.1 0) (x : Int32) : c_X7_isThere V (W.1 25 b) x h = some (zin x (W.2.1 25 b 2) (W.2.1 25 b 3)) := by
  unfold c_X7_isThere
  simp only [C.b_from hb (ts := [8, 9]) rfl, C.b_to hb (ts := [8, 9]) rfl, Option.bind_some, c_isIn_z, zin_bit, if_true]
theorem CS.thereG (C : CS V h W T g) {b : Nat} (hb : b < W.2.2.2.1 1) (x : Int32) : c_X7_isThere V (W.1 29 b) x h = some (zin x (W.2.1 29 b 2) (W.2.1 29 b 3)) := by
  unfold c_X7_isThere
  simp only [C.g_from hb (ts := [8, 9]) rfl, C.g_to hb (ts := [8, 9]) rfl, Option.bind_some, c_isIn_z, zin_bit, if_true]
theorem CS.isBack (C : CS V h W T g) (S : ZS W) {b k : Nat} (hb : b < W.2.2.2.1 0) (hk : k < W.2.2.2.1 1) : c_X9_isBack V (W.1 29 k) (some (W.1 25 b)) h = some (zbit (W.2.1 29 k 6) (nI b)) := by
  unfold c_X9_isBack zbit
  simp only [C.g_back hk (ts := [9]) rfl, C.b_number hb (ts := [8]) rfl, Option.bind_some, S.2.2.2.2.2.2.1 b hb]
  split <;> rfl
theorem CS.fears (C : CS V h W T g) (S : ZS W) {b k : Nat} (hb : b < W.2.2.2.1 0) (hk : k < W.2.2.2.1 1) : c_X9_fears V (W.1 29 k) (some (W.1 25 b)) h = some (zbit (W.2.1 29 k 5) (nI b)) := by
  unfold c_X9_fears zbit
  simp only [C.g_fears hk (ts := [9]) rfl, C.b_number hb (ts := [8]) rfl, Option.bind_some, S.2.2.2.2.2.2.1 b hb]
  split <;> rfl
/-- how a guest suits a beast -/
def zsuit (W : zW) (b k : Nat) : Int32 := pl_s3 (fun i => W.2.1 26 b i * W.2.1 30 k i) 3
theorem CS.suits (C : CS V h W T g) {b k : Nat} (hb : b < W.2.2.2.1 0) (hk : k < W.2.2.2.1 1) : c_X8_suits V (W.1 25 b) (some (W.1 29 k)) h = some (zsuit W b k) := by
  unfold c_X8_suits
  refine pl_loop (fun i => (pl_s3 (fun i => W.2.1 26 b i * W.2.1 30 k i) i, nI i)) 3 _ (fun j hj => ?_) ?_ (by decide)
  · unfold c_X8_suits_s4
    simp only [C.b_taste hb (ts := [8]) rfl, C.tasteOf hb hj, C.g_traits hk (ts := [9]) rfl, C.traitsOf hk hj, Option.bind_some]
    rw [if_neg (by simp only [pl_lit]; exact nI_ge hj (by omega))]
    simp only [pl_lit, nI_add, pl_s3]
  · unfold c_X8_suits_s4
    rw [if_pos (by simp only [pl_lit]; exact nI_le (Nat.le_refl _) (by omega))]
    rfl
/-- whether a guest can come to a beast -/
def zcan (W : zW) (b k : Nat) : Int32 := if zin (W.2.1 0 0 7) (W.2.1 29 k 2) (W.2.1 29 k 3) = 0 then 0 else if zbit (W.2.1 29 k 6) (nI b) = 0 then (if W.2.1 29 k 7 = -1 then 1 else 0) else 0
theorem zenc_none {W : zW} {t : Nat} {v : Int32} : zenc W t v = none ↔ v = -1 := by
  unfold zenc
  by_cases e : v = -1
  · rw [if_pos e]; simp [e]
  · rw [if_neg e]; simp [e]
theorem CS.canCome (C : CS V h W T g) (S : ZS W) {b k : Nat} (hb : b < W.2.2.2.1 0) (hk : k < W.2.2.2.1 1) : c_X0_canCome V (W.1 0 0) (some (W.1 25 b)) (some (W.1 29 k)) h = some (zcan W b k) := by
  unfold c_X0_canCome c_X0_canCome_b30 zcan
  simp only [C.x_hour, C.k_g hk (ts := [9]) rfl, C.thereG hk, C.isBack S hb hk, C.g_by hk (ts := [9]) rfl, Option.bind_some, if_true, zenc_none]
  split
  · rfl
  · split
    · split <;> rfl
    · rfl
end LF

/-! PURE SIDE: leaves of the reference -/
set_option maxRecDepth 100000
/-- the zoo in force, in the reference's bank bk -/
def MP (ms : mx_S) (W : zW) (bk : Nat) : Prop :=
  bk < 2 ∧ ms.1 13 = nI bk ∧ ms.2.2.1 1 bk = nI (W.2.2.2.1 0) ∧ ms.2.2.1 6 bk = nI (W.2.2.2.1 1) ∧
  (∀ b, b < W.2.2.2.1 0 → ms.2.2.1 2 (6 * bk + b) = W.2.1 25 b 2 ∧ ms.2.2.1 3 (6 * bk + b) = W.2.1 25 b 3 ∧ ms.2.2.1 4 (6 * bk + b) = W.2.1 25 b 4) ∧
  (∀ k, k < W.2.2.2.1 1 → ms.2.2.1 8 (8 * bk + k) = W.2.1 29 k 2 ∧ ms.2.2.1 9 (8 * bk + k) = W.2.1 29 k 3 ∧ ms.2.2.1 10 (8 * bk + k) = W.2.1 29 k 5) ∧
  (∀ k, k < 5 → ms.2.2.1 11 (5 * bk + k) = W.2.1 20 0 k)
/-- what is now, in the reference's layer v -/
def MR (ms : mx_S) (v : Nat) (W : zW) : Prop :=
  v < 22 ∧ (∀ k, k < W.2.2.2.1 1 → ∀ i, i < 3 → ms.2.2.1 28 (24 * v + 3 * k + i) = W.2.1 30 k i) ∧
  (∀ k, k < W.2.2.2.1 1 → ms.2.2.1 29 (8 * v + k) = W.2.1 29 k 7 ∧ ms.2.2.1 30 (8 * v + k) = W.2.1 29 k 6) ∧
  (∀ b, b < W.2.2.2.1 0 → ∀ i, i < 3 → ms.2.2.1 31 (18 * v + 3 * b + i) = W.2.1 26 b i) ∧
  (∀ b, b < W.2.2.2.1 0 → ∀ k, k < W.2.2.2.1 1 → ms.2.2.1 32 (48 * v + 8 * b + k) = W.2.1 27 b k ∧ ms.2.2.1 33 (48 * v + 8 * b + k) = W.2.1 28 b k) ∧
  ms.2.2.1 27 v = W.2.1 0 0 8 ∧ ∃ d t, W.2.1 0 0 6 = nI d ∧ W.2.1 0 0 7 = nI t ∧ t < 24 ∧ d < 2000 ∧ ms.2.2.1 26 v = nI (24 * d + t)
/-- only what is asked, and the reckoning's stack, are other -/
def msc (ms ms' : mx_S) : Prop := ms'.1 = ms.1 ∧ ms'.2.1 = ms.2.1 ∧ (∀ a i, a ≠ 37 → ms'.2.2.1 a i = ms.2.2.1 a i) ∧ ∀ a i, a ≠ 36 → ms'.2.2.2 a i = ms.2.2.2 a i
theorem msc.refl (ms : mx_S) : msc ms ms := ⟨rfl, rfl, fun _ _ _ => rfl, fun _ _ _ => rfl⟩
theorem msc.trans {a b c : mx_S} (h : msc a b) (k : msc b c) : msc a c := ⟨k.1.trans h.1, k.2.1.trans h.2.1, fun x i hx => (k.2.2.1 x i hx).trans (h.2.2.1 x i hx), fun x i hx => (k.2.2.2 x i hx).trans (h.2.2.2 x i hx)⟩
theorem msc.A37 (ms : mx_S) (i : Nat) (v : Int32) : msc ms (mx_A ms 37 i v) := ⟨rfl, rfl, fun a b h => by simp [mx_A, h], fun _ _ _ => rfl⟩
theorem MP.sc {ms ms' : mx_S} {W : zW} {bk : Nat} (M : MP ms W bk) (h : msc ms ms') : MP ms' W bk := by
  obtain ⟨h1, h2, h3, h4⟩ := h
  simp only [MP, h1, h3 1 _ (by decide), h3 2 _ (by decide), h3 3 _ (by decide), h3 4 _ (by decide), h3 6 _ (by decide), h3 8 _ (by decide), h3 9 _ (by decide), h3 10 _ (by decide), h3 11 _ (by decide)]
  exact M
theorem MR.sc {ms ms' : mx_S} {W : zW} {v : Nat} (M : MR ms v W) (h : msc ms ms') : MR ms' v W := by
  obtain ⟨h1, h2, h3, h4⟩ := h
  simp only [MR, h3 26 _ (by decide), h3 27 _ (by decide), h3 28 _ (by decide), h3 29 _ (by decide), h3 30 _ (by decide), h3 31 _ (by decide), h3 32 _ (by decide), h3 33 _ (by decide)]
  exact M
section ML
variable {ms : mx_S} {W : zW} {bk v : Nat}
theorem ml_hour (R : MR ms v W) : m_hourIn (nI v) ms = some (W.2.1 0 0 7) := by
  obtain ⟨r0, -, -, -, -, -, d, t, r1, r2, r3, r4, r5⟩ := R
  unfold m_hourIn
  rw [if_pos (pl_in r0 (by decide)), pl_cl (by omega), r5, show (24 : Int32) = nI 24 from rfl, pk_rem (by omega) (by decide) (by decide), r2]
  rw [show (24 * d + t) % 24 = t by omega]
theorem ml_told (P : MP ms W bk) {k : Nat} (hk : k < 5) : m_toldOf (nI k) ms = some (W.2.1 20 0 k) := by
  obtain ⟨p0, p1, -, -, -, -, p2⟩ := P
  unfold m_toldOf
  have e : (5 : Int32) * ms.1 13 + nI k = nI (5 * bk + k) := by rw [p1]; simp only [pl_lit, pk_mul, nI_add]
  rw [e, if_pos (pl_in (by omega) (by decide)), pl_cl (by omega), p2 k hk]
theorem ml_there (P : MP ms W bk) (R : MR ms v W) {k : Nat} (hk : k < W.2.2.2.1 1) (h8 : W.2.2.2.1 1 ≤ 8) : m_isThere (nI v) (nI k) ms = some (zin (W.2.1 0 0 7) (W.2.1 29 k 2) (W.2.1 29 k 3)) := by
  obtain ⟨p0, p1, -, -, -, p2, -⟩ := P
  obtain ⟨q1, q2, q3⟩ := p2 k hk
  unfold m_isThere
  have e : (8 : Int32) * ms.1 13 + nI k = nI (8 * bk + k) := by rw [p1]; simp only [pl_lit, pk_mul, nI_add]
  rw [ml_hour R, e, Option.bind_some, if_pos (pl_in (by omega) (by decide)), if_pos (pl_in (by omega) (by decide)), pl_cl (by omega), q1, q2, m_is_z, Option.bind_some, if_pos (zin_bit _ _ _)]
theorem ml_awake (P : MP ms W bk) (R : MR ms v W) {b : Nat} (hb : b < W.2.2.2.1 0) (h6 : W.2.2.2.1 0 ≤ 6) : m_isAwake (nI v) (nI b) ms = some (zin (W.2.1 0 0 7) (W.2.1 25 b 2) (W.2.1 25 b 3)) := by
  obtain ⟨p0, p1, -, -, p2, -, -⟩ := P
  obtain ⟨q1, q2, q3⟩ := p2 b hb
  unfold m_isAwake
  have e : (6 : Int32) * ms.1 13 + nI b = nI (6 * bk + b) := by rw [p1]; simp only [pl_lit, pk_mul, nI_add]
  rw [ml_hour R, e, Option.bind_some, if_pos (pl_in (by omega) (by decide)), if_pos (pl_in (by omega) (by decide)), pl_cl (by omega), q1, q2, m_is_z, Option.bind_some, if_pos (zin_bit _ _ _)]
theorem ml_feared (P : MP ms W bk) {b k : Nat} (hk : k < W.2.2.2.1 1) (h8 : W.2.2.2.1 1 ≤ 8) : m_isFeared (nI k) (nI b) ms = some (zbit (W.2.1 29 k 5) (nI b)) := by
  obtain ⟨p0, p1, -, -, -, p2, -⟩ := P
  obtain ⟨q1, q2, q3⟩ := p2 k hk
  unfold m_isFeared
  have e : (8 : Int32) * ms.1 13 + nI k = nI (8 * bk + k) := by rw [p1]; simp only [pl_lit, pk_mul, nI_add]
  rw [e, if_pos (pl_in (by omega) (by decide)), pl_cl (by omega), q3, m_has2_z, Option.bind_some, if_pos (zbit_bit _ _)]
theorem ml_open (P : MP ms W bk) (R : MR ms v W) {b k : Nat} (hk : k < W.2.2.2.1 1) (h8 : W.2.2.2.1 1 ≤ 8) : m_isOpenTo (nI v) (nI b) (nI k) ms = some (zcan W b k) := by
  have R' := R
  obtain ⟨r0, -, r1, -⟩ := R'
  obtain ⟨q1, q2⟩ := r1 k hk
  unfold m_isOpenTo m_isOpenTo_b46 zcan
  have e : (8 : Int32) * nI v + nI k = nI (8 * v + k) := by simp only [pl_lit, pk_mul, nI_add]
  rw [ml_there P R hk h8, Option.bind_some, e, if_pos (pl_in (by omega) (by decide)), if_pos (pl_in (by omega) (by decide)), pl_cl (by omega), q1, q2, m_has2_z, Option.bind_some]
  split
  · rfl
  · split
    · split <;> rfl
    · rfl
theorem ml_suit (R : MR ms v W) {b k : Nat} (hb : b < W.2.2.2.1 0) (hk : k < W.2.2.2.1 1) (h6 : W.2.2.2.1 0 ≤ 6) (h8 : W.2.2.2.1 1 ≤ 8) : m_suiting (nI v) (nI b) (nI k) ms = some (zsuit W b k) := by
  obtain ⟨r0, r1, -, r2, -⟩ := R
  rw [pl_suiting r0 (by omega) (by omega)]
  simp only [zsuit, pl_s3, r1 k hk 0 (by decide), r1 k hk 1 (by decide), r1 k hk 2 (by decide), r2 b hb 0 (by decide), r2 b hb 1 (by decide), r2 b hb 2 (by decide), Int32.mul_comm]
theorem ml_look (R : MR ms v W) {k i : Nat} (hk : k < W.2.2.2.1 1) (h8 : W.2.2.2.1 1 ≤ 8) (hi : i < 3) : m_look (nI v) (nI k) (nI i) ms = some (W.2.1 30 k i) := by
  rw [pl_look R.1 (by omega) hi, R.2.1 k hk i hi]
theorem ml_taste (R : MR ms v W) {k i : Nat} (hk : k < W.2.2.2.1 0) (h8 : W.2.2.2.1 0 ≤ 6) (hi : i < 3) : m_tasteIn (nI v) (nI k) (nI i) ms = some (W.2.1 26 k i) := by
  rw [pl_tasteIn R.1 (by omega) hi, R.2.2.2.1 k hk i hi]
theorem ml_pair (b k : Nat) : m_pair (nI v) (nI b) (nI k) ms = some (nI (48 * v + 8 * b + k)) := by
  unfold m_pair
  simp only [pl_lit, pk_mul, nI_add]
/-- what a sum is told of a beast and a guest -/
def zenv (W : zW) (b k : Nat) : Nat → Int64 := fun i => match i with
  | 0 => (zsuit W b k).toInt64 | 1 => (W.2.1 27 b k).toInt64 | 2 => (W.2.1 0 0 7).toInt64 | 3 => (W.2.1 30 k 0).toInt64 | 4 => (W.2.1 30 k 1).toInt64 | _ => (W.2.1 30 k 2).toInt64
theorem ml_tells (R : MR ms v W) {b k : Nat} (hb : b < W.2.2.2.1 0) (hk : k < W.2.2.2.1 1) (h6 : W.2.2.2.1 0 ≤ 6) (h8 : W.2.2.2.1 1 ≤ 8) : yes (m_tells (nI v) (nI b) (nI k) ms) (fun ms' => msc ms ms' ∧ (∀ i, i < 6 → (ms'.2.2.1 37 (i + 1)).toInt64 = zenv W b k i) ∧ ∀ i, 7 ≤ i → ms'.2.2.1 37 i = ms.2.2.1 37 i) := by
  have hs := R.2.2.2.2.1 b hb k hk
  have hv := R.1
  unfold m_tells
  rw [ml_suit R hb hk h6 h8, Option.bind_some, if_pos (by decide)]
  have R1 := R.sc (msc.A37 ms (1 : Int32).toNatClampNeg (zsuit W b k))
  rw [ml_pair, Option.bind_some, if_pos (pl_in (by omega) (by decide)), if_pos (by decide), pl_cl (by omega)]
  have e1 : (mx_A ms 37 (1 : Int32).toNatClampNeg (zsuit W b k)).2.2.1 32 (48 * v + 8 * b + k) = W.2.1 27 b k := hs.1
  rw [e1]
  have s2 := (msc.A37 ms (1 : Int32).toNatClampNeg (zsuit W b k)).trans (msc.A37 _ (2 : Int32).toNatClampNeg (W.2.1 27 b k))
  rw [ml_hour (R.sc s2), Option.bind_some, if_pos (by decide)]
  have s3 := s2.trans (msc.A37 _ (3 : Int32).toNatClampNeg (W.2.1 0 0 7))
  rw [show (0 : Int32) = nI 0 from rfl, ml_look (R.sc s3) hk h8 (by decide), Option.bind_some, if_pos (by decide)]
  have s4 := s3.trans (msc.A37 _ (4 : Int32).toNatClampNeg (W.2.1 30 k 0))
  rw [show (1 : Int32) = nI 1 from rfl] at s4 ⊢
  rw [ml_look (R.sc s4) hk h8 (by decide), Option.bind_some, if_pos (by decide)]
  have s5 := s4.trans (msc.A37 _ (5 : Int32).toNatClampNeg (W.2.1 30 k 1))
  rw [show (2 : Int32) = nI 2 from rfl] at s5 ⊢
  rw [ml_look (R.sc s5) hk h8 (by decide), Option.bind_some, if_pos (by decide)]
  have s6 := s5.trans (msc.A37 _ (6 : Int32).toNatClampNeg (W.2.1 30 k 2))
  refine yes.ret ⟨s6, fun i hi => ?_, fun i hi => ?_⟩
  · have c1 : (nI 1).toNatClampNeg = 1 := rfl
    have c2 : (nI 2).toNatClampNeg = 2 := rfl
    have c3 : (3 : Int32).toNatClampNeg = 3 := rfl
    have c4 : (4 : Int32).toNatClampNeg = 4 := rfl
    have c5 : (5 : Int32).toNatClampNeg = 5 := rfl
    have c6 : (6 : Int32).toNatClampNeg = 6 := rfl
    have hi' : i = 0 ∨ i = 1 ∨ i = 2 ∨ i = 3 ∨ i = 4 ∨ i = 5 := by omega
    rcases hi' with rfl | rfl | rfl | rfl | rfl | rfl <;> simp [mx_A, zenv, c1, c2, c3, c4, c5, c6]
  · have c1 : (nI 1).toNatClampNeg = 1 := rfl
    have c2 : (nI 2).toNatClampNeg = 2 := rfl
    have c3 : (3 : Int32).toNatClampNeg = 3 := rfl
    have c4 : (4 : Int32).toNatClampNeg = 4 := rfl
    have c5 : (5 : Int32).toNatClampNeg = 5 := rfl
    have c6 : (6 : Int32).toNatClampNeg = 6 := rfl
    have n1 : i ≠ 1 := by omega
    have n2 : i ≠ 2 := by omega
    have n3 : i ≠ 3 := by omega
    have n4 : i ≠ 4 := by omega
    have n5 : i ≠ 5 := by omega
    have n6 : i ≠ 6 := by omega
    simp [mx_A, c1, c2, c3, c4, c5, c6, n1, n2, n3, n4, n5, n6]
end ML

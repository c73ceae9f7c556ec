/-! PURE SIDE: the call torn -/
set_option maxRecDepth 100000
section TO
variable {V : hx_V} {h : hx_S} {W X T : zW} {G gt : Nat → Option hx_C} {ms : mx_S} {bk : Nat} {lk my : zL} {L : List (Nat → Int32)} {As : List zU}
theorem CS.areTorn (C : CS V h W T G) (Z : ZI W) {m : Nat} (hm : m ≤ 16) :
    ((∀ j, j < m → zpr W 0 1 j) → hx_wh (c_X0_areTorn_s22 V (W.1 0 0) (nI (2 * m)) h) hx_FU ((0 : Int32)) = some 1) ∧ ((∃ j, j < m ∧ ¬ zpr W 0 1 j) → hx_wh (c_X0_areTorn_s22 V (W.1 0 0) (nI (2 * m)) h) hx_FU ((0 : Int32)) = some 0) := by
  have key : ∀ j, j < m → c_X0_areTorn_s22 V (W.1 0 0) (nI (2 * m)) h (nI (2 * j)) = if zof (W.2.2.2.1 0) (W.2.1 1 0 (2 * j)) = none then some (.inr 0) else if zof (W.2.2.2.1 1) (W.2.1 1 0 (2 * j + 1)) = none then some (.inr 0) else some (.inl (nI (2 * (j + 1)))) := by
    intro j hj
    unfold c_X0_areTorn_s22
    rw [if_neg (nI_ge (by omega) (by omega)), C.x_tape, Option.bind_some, Option.bind_some, C.tapeAt (by omega), Option.bind_some, if_pos C.k_x, C.beastOf Z.1, Option.bind_some, Option.bind_some, Option.bind_some, nI_1, C.tapeAt (by omega), Option.bind_some, if_pos C.k_x, C.guestOf Z.1, Option.bind_some, show nI (2 * j) + (2 : Int32) = nI (2 * (j + 1)) from nI_add _ 2]
    cases zof (W.2.2.2.1 0) (W.2.1 1 0 (2 * j)) <;> cases zof (W.2.2.2.1 1) (W.2.1 1 0 (2 * j + 1)) <;> simp
  refine wh_pairs (fun j hj hp => ?_) (fun j hj hp => ?_) ?_ (by omega)
  · rw [key j hj, if_neg hp.1, if_neg hp.2]
  · rw [key j hj]
    by_cases q1 : zof (W.2.2.2.1 0) (W.2.1 1 0 (2 * j)) = none
    · rw [if_pos q1]
    · rw [if_neg q1, if_pos]
      exact Classical.byContradiction fun q3 => hp ⟨q1, q3⟩
  · unfold c_X0_areTorn_s22
    rw [if_pos (nI_le (Nat.le_refl _) (by omega))]
theorem ml_areTorn (P : MP ms W bk) (h6 : W.2.2.2.1 0 ≤ 6) (h8 : W.2.2.2.1 1 ≤ 8) (ht : ∀ i, i < 1600 → ms.2.2.1 0 i = W.2.1 1 0 i) {m : Nat} (hm : m ≤ 16) :
    ((∀ j, j < m → zpr W 0 1 j) → m_torn_b31 (nI (2 * m)) 1 ms = m_torn_b83 (nI (2 * m)) 1 ms) ∧ ((∃ j, j < m ∧ ¬ zpr W 0 1 j) → m_torn_b31 (nI (2 * m)) 1 ms = m_torn_b83 (nI (2 * m)) 0 ms) := by
  have key : ∀ j, j < m → m_torn_s34 (nI (2 * m)) ms (1, nI (2 * j)) = if zof (W.2.2.2.1 0) (W.2.1 1 0 (2 * j)) = none then some (.inl (0, nI (2 * (j + 1)))) else if zof (W.2.2.2.1 1) (W.2.1 1 0 (2 * j + 1)) = none then some (.inl (0, nI (2 * (j + 1)))) else some (.inl (1, nI (2 * (j + 1)))) := by
    intro j hj
    unfold m_torn_s34 m_torn_b75
    have i1 : hx_in (nI (2 * j)) 1800 = true := pl_in (by omega) (by decide)
    have i2 : hx_in (nI (2 * j + 1)) 1800 = true := pl_in (by omega) (by decide)
    simp only
    rw [if_neg (nI_ge (by omega) (by omega)), if_neg (by decide), nI_1]
    simp only [if_pos i1, if_pos i2]
    rw [pl_cl (by omega), pl_cl (by omega), ht _ (by omega), ht _ (by omega), ml_isBeast P h6, Option.bind_some, ml_isGuest P h8, Option.bind_some, show nI (2 * j) + (2 : Int32) = nI (2 * (j + 1)) from nI_add _ 2]
    cases zof (W.2.2.2.1 0) (W.2.1 1 0 (2 * j)) <;> cases zof (W.2.2.2.1 1) (W.2.1 1 0 (2 * j + 1)) <;> simp
  unfold m_torn_b31
  refine wh_pairs2 (t := fun c => m_torn_b83 (nI (2 * m)) c ms) (fun j hj hp => ?_) (fun j hj hp => ?_) ?_ (fun x => ?_) (by omega)
  · rw [key j hj, if_neg hp.1, if_neg hp.2]
  · rw [key j hj]
    by_cases q1 : zof (W.2.2.2.1 0) (W.2.1 1 0 (2 * j)) = none
    · rw [if_pos q1]
    · rw [if_neg q1, if_pos]
      exact Classical.byContradiction fun q3 => hp ⟨q1, q3⟩
  · unfold m_torn_s34
    rw [if_pos (nI_le (Nat.le_refl _) (by omega))]
  · unfold m_torn_s34
    simp only
    split
    · rfl
    · rw [if_pos trivial]
/-- whether beast k asks just as the tape tells at a -/
abbrev ztn (X : zW) (a k : Nat) : Prop := X.2.1 7 0 k ≠ -1 ∧ X.2.1 8 0 k ≠ 0 ∧ X.2.1 1 0 (2 * a) = nI k ∧ X.2.1 1 0 (2 * a + 1) = X.2.1 7 0 k
/-- how far the tape is torn, beasts below k having asked -/
def ztf (X : zW) (m a : Nat) : Nat → Nat
  | 0 => a
  | k + 1 => if ztf X m a k < m ∧ ztn X (ztf X m a k) k then ztf X m a k + 1 else ztf X m a k
theorem ztf_le (m a : Nat) (ha : a ≤ m) (k : Nat) : ztf X m a k ≤ m := by
  induction k with
  | zero => exact ha
  | succ k ih =>
    unfold ztf
    split
    · rename_i q; have := q.1; omega
    · exact ih
theorem ztf_end (m a : Nat) {k : Nat} (hk : ztf X m a k = m) (d : Nat) : ztf X m a (k + d) = m := by
  induction d with
  | zero => exact hk
  | succ d ih =>
    have e : ztf X m a (k + d + 1) = if ztf X m a (k + d) < m ∧ ztn X (ztf X m a (k + d)) (k + d) then ztf X m a (k + d) + 1 else ztf X m a (k + d) := rfl
    rw [show k + (d + 1) = k + d + 1 from rfl, e, if_neg (by omega)]
    exact ih
theorem CS.tornRow (C : CS V h X T G) (Z : ZI X) (h7 : ∀ b, b < X.2.2.2.1 0 → X.2.1 7 0 b = -1 ∨ ∃ k, k < X.2.2.2.1 1 ∧ X.2.1 7 0 b = nI k) {m a : Nat} (hm : m ≤ 16) (ha : a < m) (x3 : Int32) (x4 : Option Nat) : hx_wh (c_X0_torn_s61 V (X.1 0 0) (nI (2 * m)) x3 x4 h) hx_FU (nI (2 * a), (0 : Int32)) = c_X0_torn_b142 V (X.1 0 0) (nI (2 * m)) (nI (2 * ztf X m a (X.2.2.2.1 0))) x3 x4 h := by
  have h6 := Z.1.1
  have h8 := Z.1.2.1
  have key : ∀ k, k < X.2.2.2.1 0 → ztf X m a k < m → c_X0_torn_s61 V (X.1 0 0) (nI (2 * m)) x3 x4 h (nI (2 * ztf X m a k), nI k) = some (.inl (nI (2 * ztf X m a (k + 1)), nI (k + 1))) := by
    intro k hk hlt
    rw [show ztf X m a (k + 1) = if ztf X m a k < m ∧ ztn X (ztf X m a k) k then ztf X m a k + 1 else ztf X m a k from rfl]
    generalize ztf X m a k = u at *
    unfold c_X0_torn_s61
    simp only
    rw [C.x_park, Option.bind_some, Option.bind_some, C.z_beasts, Option.bind_some, Option.bind_some, if_pos C.k_beasts, C.sizeB Z.1, Option.bind_some, if_neg (nI_ge hk (by omega)), if_neg (nI_ge (by omega) (by omega)), C.x_askedFor, Option.bind_some, Option.bind_some, C.gQ7 (by omega), Option.bind_some, nI_1]
    by_cases hm1 : X.2.1 7 0 k = -1
    · rw [if_pos (zenc_none.mpr hm1), if_neg (fun q => q.2.1 hm1)]
    · rw [if_neg (fun q => hm1 (zenc_none.mp q)), C.x_became, Option.bind_some, Option.bind_some, C.becameAt (by omega), Option.bind_some]
      by_cases h0 : X.2.1 8 0 k = 0
      · rw [if_pos h0, if_neg (fun q => q.2.2.1 h0)]
      · rw [if_neg h0, C.x_tape, Option.bind_some, Option.bind_some, C.tapeAt (by omega), Option.bind_some]
        by_cases ht : X.2.1 1 0 (2 * u) = nI k
        · obtain ⟨g0, hg0, eg⟩ := (h7 k hk).resolve_left hm1
          have ze : zenc X 29 (X.2.1 7 0 k) = some (X.1 29 g0) := by rw [eg, zenc_nI (by omega)]
          have gn : hgI h (X.1 29 g0) [9] 1 = some (nI g0) := by
            have := C.g_number (j := g0) hg0 (ts := [9]) rfl
            rw [Z.1.2.2.2.2.2.2.2 g0 hg0] at this
            exact this
          rw [if_pos ht, Option.bind_some, Option.bind_some, nI_1, C.tapeAt (by omega), Option.bind_some, Option.bind_some, Option.bind_some, C.gQ7 (by omega), Option.bind_some, ze, Option.bind_some, gn, Option.bind_some]
          by_cases ht2 : X.2.1 1 0 (2 * u + 1) = nI g0
          · rw [if_pos ht2, if_pos ⟨hlt, hm1, h0, ht, by rw [ht2, eg]⟩, show nI (2 * u) + (2 : Int32) = nI (2 * (u + 1)) from nI_add _ 2]
          · rw [if_neg ht2, if_neg (fun q => ht2 (by rw [q.2.2.2.2, eg]))]
        · rw [if_neg ht, if_neg (fun q => ht q.2.2.2.1)]
  have ex : ∀ k, k ≤ X.2.2.2.1 0 → (k = X.2.2.2.1 0 ∨ ztf X m a k = m) → c_X0_torn_s61 V (X.1 0 0) (nI (2 * m)) x3 x4 h (nI (2 * ztf X m a k), nI k) = (c_X0_torn_b142 V (X.1 0 0) (nI (2 * m)) (nI (2 * ztf X m a k)) x3 x4 h).map .inr := by
    intro k hk he
    have hle := ztf_le (X := X) m a (by omega) k
    unfold c_X0_torn_s61
    simp only
    rw [C.x_park, Option.bind_some, Option.bind_some, C.z_beasts, Option.bind_some, Option.bind_some, if_pos C.k_beasts, C.sizeB Z.1, Option.bind_some]
    by_cases hkn : k = X.2.2.2.1 0
    · rw [if_pos (by rw [hkn]; exact nI_le (Nat.le_refl _) (by omega))]
    · rw [if_neg (nI_ge (by omega) (by omega)), if_pos (by rw [he.resolve_left hkn]; exact nI_le (Nat.le_refl _) (by omega))]
  rcases zfirst (fun k => ztf X m a k < m) (X.2.2.2.1 0) with q | ⟨k, q1, q2, q3⟩
  · exact pl_loop (fun k => (nI (2 * ztf X m a k), nI k)) (X.2.2.2.1 0) _ (fun k hk => key k hk (q k hk)) (ex _ (Nat.le_refl _) (Or.inl rfl)) (by omega)
  · have hle := ztf_le (X := X) m a (by omega) k
    have e := ztf_end (X := X) m a (k := k) (by omega) (X.2.2.2.1 0 - k)
    rw [show k + (X.2.2.2.1 0 - k) = X.2.2.2.1 0 by omega] at e
    have := pl_loop (fun k => (nI (2 * ztf X m a k), nI k)) k _ (fun i hi => key i (by omega) (q3 i hi)) (ex k (by omega) (Or.inr (by omega))) (by omega)
    rw [show ztf X m a k = m by omega] at this
    rw [e]
    exact this
theorem ml_tornRow (P : MP ms X bk) (Z : ZI X) (Q : MAq ms X (X.2.2.2.1 0)) (ht : ∀ i, i < 1600 → ms.2.2.1 0 i = X.2.1 1 0 i) {m a : Nat} (hm : m ≤ 16) (ha : a < m) (x4 : Int32) : hx_wh (m_torn_s125 (nI (2 * m)) x4 ms) hx_FU (nI (2 * a), (0 : Int32)) = m_torn_b203 (nI (2 * m)) (nI (2 * ztf X m a (X.2.2.2.1 0))) x4 ms := by
  have h6 := Z.1.1
  have key : ∀ k, k < X.2.2.2.1 0 → ztf X m a k < m → m_torn_s125 (nI (2 * m)) x4 ms (nI (2 * ztf X m a k), nI k) = some (.inl (nI (2 * ztf X m a (k + 1)), nI (k + 1))) := by
    intro k hk hlt
    rw [show ztf X m a (k + 1) = if ztf X m a k < m ∧ ztn X (ztf X m a k) k then ztf X m a k + 1 else ztf X m a k from rfl]
    generalize ztf X m a k = u at *
    unfold m_torn_s125
    have i6 : hx_in (nI k) 6 = true := pl_in (by omega) (by decide)
    have i1 : hx_in (nI (2 * u)) 1800 = true := pl_in (by omega) (by decide)
    have i2 : hx_in (nI (2 * u + 1)) 1800 = true := pl_in (by omega) (by decide)
    simp only
    rw [P.2.1, if_pos (pl_in P.1 (by decide)), pl_cl (by have := P.1; omega), P.2.2.1, if_neg (nI_ge hk (by omega)), if_neg (nI_ge (by omega) (by omega)), nI_1, nI_1]
    simp only [if_pos i6, if_pos i1, if_pos i2]
    rw [pl_cl (by omega), pl_cl (by omega), pl_cl (by omega), (Q k hk).1, ht _ (by omega), ht _ (by omega)]
    by_cases hm1 : X.2.1 7 0 k = -1
    · rw [if_pos hm1, if_neg (fun q => q.2.1 hm1)]
    · rw [if_neg hm1, (Q k hk).2 hm1]
      by_cases h0 : X.2.1 8 0 k = 0
      · rw [if_pos h0, if_neg (fun q => q.2.2.1 h0)]
      · rw [if_neg h0]
        by_cases ht1 : X.2.1 1 0 (2 * u) = nI k
        · rw [if_pos ht1]
          by_cases ht2 : X.2.1 1 0 (2 * u + 1) = X.2.1 7 0 k
          · rw [if_pos ht2, if_pos ⟨hlt, hm1, h0, ht1, ht2⟩, show nI (2 * u) + (2 : Int32) = nI (2 * (u + 1)) from nI_add _ 2]
          · rw [if_neg ht2, if_neg (fun q => ht2 q.2.2.2.2)]
        · rw [if_neg ht1, if_neg (fun q => ht1 q.2.2.2.1)]
  have ex : ∀ k, k ≤ X.2.2.2.1 0 → (k = X.2.2.2.1 0 ∨ ztf X m a k = m) → m_torn_s125 (nI (2 * m)) x4 ms (nI (2 * ztf X m a k), nI k) = (m_torn_b203 (nI (2 * m)) (nI (2 * ztf X m a k)) x4 ms).map .inr := by
    intro k hk he
    unfold m_torn_s125
    simp only
    rw [P.2.1, if_pos (pl_in P.1 (by decide)), pl_cl (by have := P.1; omega), P.2.2.1]
    by_cases hkn : k = X.2.2.2.1 0
    · rw [if_pos (by rw [hkn]; exact nI_le (Nat.le_refl _) (by omega))]
    · rw [if_neg (nI_ge (by omega) (by omega)), if_pos (by rw [he.resolve_left hkn]; exact nI_le (Nat.le_refl _) (by omega))]
  rcases zfirst (fun k => ztf X m a k < m) (X.2.2.2.1 0) with q | ⟨k, q1, q2, q3⟩
  · exact pl_loop (fun k => (nI (2 * ztf X m a k), nI k)) (X.2.2.2.1 0) _ (fun k hk => key k hk (q k hk)) (ex _ (Nat.le_refl _) (Or.inl rfl)) (by omega)
  · have hle := ztf_le (X := X) m a (by omega) k
    have e := ztf_end (X := X) m a (k := k) (by omega) (X.2.2.2.1 0 - k)
    rw [show k + (X.2.2.2.1 0 - k) = X.2.2.2.1 0 by omega] at e
    have := pl_loop (fun k => (nI (2 * ztf X m a k), nI k)) k _ (fun i hi => key i (by omega) (q3 i hi)) (ex k (by omega) (Or.inr (by omega))) (by omega)
    rw [show ztf X m a k = m by omega] at this
    rw [e]
    exact this
theorem op_torn (S : SIM V h W T G gt ms bk lk my L As) (hr : RM V h W T) : OP V h W T G (c_X0_torn V (W.1 0 0) h) (m_torn ms) := by
  obtain ⟨⟨n, hn, o1, o1'⟩, o2, -⟩ := S.O
  obtain ⟨h2, e2, S1, r1, r1'⟩ := S.untape
  have z0 := zpc_0 (W := W)
  have fin : ∀ {co : Option (Int32 × hx_S)} {mo : Option (Int32 × mx_S)}, OP V h2 (zA W 0 0 1 0) T G co mo → OP V h W T G co mo := fun O => O.from r1 r1' rfl (by omega) (by omega)
  have x00 : (zA W 0 0 1 0).1 = W.1 := rfl
  unfold c_X0_torn m_torn
  rw [S.1.x_taped, Option.bind_some, e2, Option.bind_some, o1, o1', ← x00]
  obtain ⟨hr1, hr2⟩ := hr
  replace hr1 : h2.1 + 9000 ≤ V.2.2.1 := by omega
  replace hr2 : h2.2.1 + zpot T + 100000 ≤ V.2.2.2.1 := by omega
  refine fin ?_
  clear fin o2 o1 o1' e2 r1 r1' x00
  generalize zA W 0 0 1 0 = W1 at *
  generalize mx_F ms 1 0 = ms1 at *
  have C1 := S1.1
  have Z1 := S1.2.2.2.2.1
  have P1 := S1.2.2.2.2.2.2.2.1.1
  have h6 : W1.2.2.2.1 0 ≤ 6 := Z1.1.1
  have h8 : W1.2.2.2.1 1 ≤ 8 := Z1.1.2.1
  have kx : hk h2 (W1.1 0 0) [0] = true := C1.k_x
  rw [if_pos kx]
  have rf : OP V h2 W1 T G (if hk h2 (W1.1 0 0) [0] = true then (c_X0_refused V (W1.1 0 0) (5 : Int32) h2).bind fun q16_ => some (q16_.1, q16_.2) else none) (m_torn_b83 (nI n) 0 ms1) := by
    unfold m_torn_b83
    rw [if_pos kx, if_pos rfl]
    exact OP.ref2 S1 (k := 5) (by decide) (ob_id _) (ob_id _)
  have b30 : m_torn_b30 (nI n) ms1 = m_torn_b83 (nI n) 0 ms1 := by
    unfold m_torn_b30 m_torn_b31
    refine wh_now ?_
    unfold m_torn_s34
    simp only
    split
    · rfl
    · rw [if_pos trivial]
  have rm : nI n - nI n / (2 : Int32) * (2 : Int32) = nI (n % 2) := pk_rem (d := 2) (by omega) (by decide) (by decide)
  have dv : nI n / (2 : Int32) = nI (n / 2) := pk_div (d := 2) (by omega) (by decide) (by decide)
  unfold c_X0_areTorn
  by_cases hn0 : n = 0
  · rw [if_pos (show nI n = 0 by rw [hn0]; rfl), Option.bind_some, if_pos rfl, if_pos (show nI n ≤ 0 by rw [hn0]; decide), b30]
    exact rf
  · rw [if_neg (show ¬ nI n = 0 from fun q => hn0 ((nI_eq (by omega) (by decide)).mp (show nI n = nI 0 from q))), if_neg (show ¬ nI n ≤ 0 from nI_ge (a := 0) (by omega) (by omega)), rm, dv]
    by_cases h2' : n % 2 = 0
    · obtain ⟨m, rfl⟩ : ∃ m, n = 2 * m := ⟨n / 2, by omega⟩
      rw [if_pos (show nI (2 * m % 2) = 0 by rw [h2']; rfl), if_pos (show nI (2 * m % 2) = 0 by rw [h2']; rfl), show 2 * m / 2 = m by omega]
      by_cases h16 : m ≤ 16
      · rw [if_pos (show nI m ≤ (16 : Int32) from nI_le (b := 16) h16 (by decide)), if_neg (show ¬ (32 : Int32) < nI (2 * m) from nI_nlt (a := 32) (by omega) (by decide))]
        have t1 : ∀ i, i < 1600 → ms1.2.2.1 0 i = W1.2.1 1 0 i := fun i hi => (S1.O.2.1 i hi).1
        obtain ⟨ca, cb⟩ := C1.areTorn Z1 h16
        obtain ⟨ma, mb⟩ := ml_areTorn P1 h6 h8 t1 h16
        by_cases hall : ∀ j, j < m → zpr W1 0 1 j
        · rw [ca hall, Option.bind_some, if_neg (by decide), ma hall]
          unfold m_torn_b83
          rw [if_pos kx, if_neg (show ¬ (1 : Int32) = 0 by decide)]
          obtain ⟨n0, hn0, hh, e26⟩ := S1.hr
          obtain ⟨k1, G1, c, ms2, a1, a2, Q, gl1, g1, sp, a3, a4, f1⟩ := S1.thinks (by omega) (by omega)
          rw [a1, Option.bind_some, a2, Option.bind_some]
          have key : yes2 (hx_wh (c_X0_torn_s34 V (W1.1 0 0) (nI (2 * m)) (some h2.1)) hx_FU ((0 : Int32), (0 : Int32), k1)) (hx_wh (m_torn_s104 (nI (2 * m))) hx_FU ((0 : Int32), (1 : Int32), ms2)) (fun r r' => r.1 = r'.1 ∧ ∃ W', SIM V r.2 W' T G1 gt r'.2 bk lk my L As ∧ W'.1 = W1.1 ∧ zeq W1 W' ∧ r.2.1 = h2.1 + 1 ∧ r.2.2.1 = h2.2.1 + 157) := by
            -- the end
            have fin : ∀ (hx : hx_S) (Y : zW) (mx : mx_S) (u j : Nat), u ≤ m → CS V hx Y T G1 → ZI Y → GEg V G1 → znow (zA W1 0 0 13 1) Y → mfr 1 ms1 mx → hx.1 = h2.1 + 1 → hx.2.1 = h2.2.1 + 157 → ∃ hy, c_X0_torn_b152 V (W1.1 0 0) (nI (2 * m)) (nI (2 * u)) (nI j) (some h2.1) hx = some ((if u = m then nI j else -1), hy) ∧ ∃ W', SIM V hy W' T G1 gt mx bk lk my L As ∧ W'.1 = W1.1 ∧ zeq W1 W' ∧ hy.1 = h2.1 + 1 ∧ hy.2.1 = h2.2.1 + 157 := by
              intro hx Y mx u j hu Dx ZX GX nX fX q1 q2
              obtain ⟨h3, W', c1, c2, c3, c4, c5, c6⟩ := TQ.done S1 Dx ZX GX nX gl1 g1 sp fX
              have kx := Dx.k_x
              rw [nX.1] at kx
              refine ⟨h3, ?_, W', c2, c3, c4, by omega, by omega⟩
              unfold c_X0_torn_b152
              rw [if_pos (show hk hx (W1.1 0 0) [0] = true from kx), c1, Option.bind_some]
              by_cases q : u = m
              · rw [if_pos q, if_pos (by rw [q]; exact nI_le (Nat.le_refl _) (by omega))]
              · rw [if_neg q, if_neg (nI_ge (by omega) (by omega))]
            refine yes2.whA (I := fun d s s' => ∃ j X u, d = 100 - j ∧ j ≤ 100 ∧ u < m ∧ s.1 = nI (2 * u) ∧ s'.1 = nI (2 * u) ∧ s.2.1 = nI j ∧ s'.2.1 = nI (j + 1) ∧ TQ V s.2.2 X T G1 s'.2.2 bk lk my ∧ znow (zA W1 0 0 13 1) X ∧ zhr X (n0 + j) ∧ mfr 1 ms1 s'.2.2 ∧ s.2.2.1 = h2.1 + 1 ∧ s.2.2.2.1 = h2.2.1 + 157) (n := 100) ⟨0, _, 0, rfl, by decide, by omega, rfl, rfl, rfl, rfl, Q, znow.refl _, hh, f1, a3, a4⟩ (by decide) ?_
            rintro d ⟨y1, y2, hx⟩ ⟨z1, z2, mx⟩ ⟨j, X, u, rfl, hj, hu, e1, e2, e3, e4, Qx, nX, hX, fX, q1, q2⟩
            simp only at e1 e2 e3 e4 Qx fX q1 q2
            subst e1 e2 e3 e4
            have x0 : X.1 = W1.1 := nX.1
            have e26' : mx.2.2.1 26 0 = nI n0 := by
              rw [fX.2.2.1 26 0 (by decide) (fun _ _ => by decide)]; exact e26
            have ha := ml_isAhead (ms := mx) (lo := 1) (hi := 100) (k := j + 1) e26' (by omega) (by omega)
            have zj : zin (nI (j + 1)) 1 100 = if j < 100 then 1 else 0 := by
              unfold zin
              rw [if_neg (show ¬ nI (j + 1) < (1 : Int32) from nI_nlt (b := 1) (by omega) (by omega))]
              by_cases q : j < 100
              · rw [if_neg (show ¬ (100 : Int32) < nI (j + 1) from nI_nlt (a := 100) (by omega) (by decide)), if_pos q]
              · rw [if_pos (show (100 : Int32) < nI (j + 1) from nI_lt (a := 100) (by omega) (by omega)), if_neg q]
            obtain ⟨-, ZX, -, -, GX, -⟩ := id Qx
            have kx := Qx.1.k_x
            have ia := Qx.1.isAhead (k := 1) hX (by omega) (by decide)
            rw [x0] at kx ia
            have eM : m_torn_s104 (nI (2 * m)) (nI (2 * u), nI (j + 1), mx) = if (if (if j < 100 then (1 : Int32) else 0) = 0 then 0 else zah n0 (j + 1)) = 0 then some (.inr ((-1 : Int32), mx)) else (m_asking (1 : Int32) mx).bind fun q7_ => hx_wh (m_torn_s125 (nI (2 * m)) (nI (j + 1)) q7_.2) hx_FU (nI (2 * u), (0 : Int32)) := by
              unfold m_torn_s104
              simp only
              rw [ha, Option.bind_some, zj]
            have eC : c_X0_torn_s34 V (W1.1 0 0) (nI (2 * m)) (some h2.1) (nI (2 * u), nI j, hx) = if (100 : Int32) ≤ nI j then (c_X0_torn_b152 V (W1.1 0 0) (nI (2 * m)) (nI (2 * u)) (nI j) (some h2.1) hx).map Sum.inr else if zah (n0 + j) 1 = 0 then (c_X0_torn_b152 V (W1.1 0 0) (nI (2 * m)) (nI (2 * u)) (nI j) (some h2.1) hx).map Sum.inr else (c_X0_askings V (W1.1 0 0) hx).bind fun q17_ => hx_wh (c_X0_torn_s61 V (W1.1 0 0) (nI (2 * m)) (nI j) (some h2.1) q17_.2) hx_FU (nI (2 * u), (0 : Int32)) := by
              unfold c_X0_torn_s34
              simp only
              rw [if_neg (nI_ge (by omega) (by omega)), if_pos kx, (show c_X0_isAhead V (W1.1 0 0) (1 : Int32) hx = _ from ia), Option.bind_some, if_pos kx]
            obtain ⟨hy, w1, W', w2, w3, w4, w5, w6⟩ := fin hx X mx u j (by omega) Qx.1 ZX GX nX fX q1 q2
            rw [if_neg (by omega)] at w1
            by_cases h100 : j < 100
            · rw [if_neg (show ¬ (100 : Int32) ≤ nI j from nI_ge (b := 100) h100 (by decide))] at eC
              rw [if_pos h100, if_neg (show ¬ (1 : Int32) = 0 by decide)] at eM
              unfold zah at eC eM
              by_cases hd : n0 + j + 1 ≤ 23999
              · rw [if_pos hd, if_neg (show ¬ (1 : Int32) = 0 by decide)] at eC
                rw [if_pos (show n0 + (j + 1) ≤ 23999 by omega), if_neg (show ¬ (1 : Int32) = 0 by decide)] at eM
                obtain ⟨r, h3, ms3, b1, b2, b3, b4, b5, b6, b7⟩ := Qx.ask
                have y0 : (zaskd lk my X).1 = W1.1 := (zaskd_now ZX).1.trans x0
                have hX' : zhr (zaskd lk my X) (n0 + j) := zaskd_hr ZX hX
                have hnu : (zaskd lk my X).2.2.2.1 = X.2.2.2.1 := by rw [(zaskd_now (lk := lk) (my := my) ZX).2.1]
                have nY : znow (zA W1 0 0 13 1) (zaskd lk my X) := nX.trans (zaskd_now ZX)
                have fY : mfr 1 ms1 ms3 := fX.trans b6
                have cr := b3.1.tornRow b3.2.1 (fun b hb => by
                  have := zask_7 (th := 1) (lk := lk) (my := my) (L := []) ZX (X.2.2.2.1 0) (Nat.le_refl _) b (by rw [hnu] at hb; exact hb)
                  rw [hnu]; exact this) h16 hu (nI j) (some h2.1)
                have mr := ml_tornRow b3.2.2.2.2.2.1 b3.2.1 (by rw [hnu]; exact b7) (fun i hi => by
                  rw [fY.2.2.1 0 i (by decide) (fun q => absurd q (by decide)), t1 i hi, nY.2.2 1 0 i rfl]
                  simp [zA, zset]) h16 hu (nI (j + 1))
                have hle := ztf_le (X := zaskd lk my X) m u (by omega) ((zaskd lk my X).2.2.2.1 0)
                obtain ⟨h4, ms4, c1, c2, c3, c4, c5, c6, c7, c8⟩ := b3.end hX' (by omega)
                have k2 := b3.1.k_x
                rw [x0] at b1
                rw [y0] at k2 cr c1
                rw [b1, Option.bind_some, cr] at eC
                rw [b2, Option.bind_some, mr] at eM
                generalize ztf (zaskd lk my X) m u ((zaskd lk my X).2.2.2.1 0) = u' at *
                unfold c_X0_torn_b142 at eC
                unfold m_torn_b203 at eM
                rw [if_pos k2, c1, Option.bind_some] at eC
                by_cases hum : u' = m
                · subst hum
                  rw [if_pos rfl] at eM
                  obtain ⟨hy2, v1, W2, v2, v3, v4, v5, v6⟩ := fin h4 _ ms3 u' (j + 1) (by omega) c3.1 c3.2.1 GX (nY.trans (zend_now _)) fY (by omega) (by omega)
                  rw [if_pos rfl] at v1
                  refine Or.inr ⟨(nI (j + 1), hy2), (nI (j + 1), ms3), Or.inr ⟨_, eC, ?_⟩, eM, rfl, W2, v2, v3, v4, v5, v6⟩
                  unfold c_X0_torn_s34
                  simp only
                  rw [if_pos (nI_le (Nat.le_refl _) (by omega)), nI_1, v1]
                  rfl
                · rw [if_neg (fun q => hum (by have := (nI_eq (by omega) (by omega)).mp q; omega)), c2, Option.bind_some] at eM
                  exact Or.inl ⟨_, _, eC, eM, 100 - (j + 1), by omega, j + 1, _, u', rfl, by omega, by omega, rfl, rfl, nI_1 j, nI_1 (j + 1), c3, nY.trans (zend_now _), c7, fY.trans c6, by dsimp only; omega, by dsimp only; omega⟩
              · rw [if_neg hd, if_pos rfl, w1] at eC
                rw [if_neg (show ¬ n0 + (j + 1) ≤ 23999 by omega), if_pos rfl] at eM
                exact Or.inr ⟨(-1, hy), (-1, mx), Or.inl eC, eM, rfl, W', w2, w3, w4, w5, w6⟩
            · rw [if_pos (show (100 : Int32) ≤ nI j from nI_le (a := 100) (by omega) (by omega)), w1] at eC
              rw [if_neg h100, if_pos rfl, if_pos rfl] at eM
              exact Or.inr ⟨(-1, hy), (-1, mx), Or.inl eC, eM, rfl, W', w2, w3, w4, w5, w6⟩
          obtain ⟨⟨r, h'⟩, ⟨r', ms'⟩, d1, d2, d3, W', d4, d5, d6, d7, d8⟩ := key
          simp only at d3 d4 d7 d8
          subst d3
          have zp := zpc_eq d6
          exact ⟨r, h', ms', W', T, G1, gt, bk, lk, my, L, As, d1, d2, d4, by rw [d5], gl1, by omega, by rw [zp.1]; omega, by rw [zp.2]; omega⟩
        · have hex : ∃ j, j < m ∧ ¬ zpr W1 0 1 j := by
            rcases zfirst (fun j => zpr W1 0 1 j) m with q | ⟨j, q1, q2, -⟩
            · exact absurd q hall
            · exact ⟨j, q1, q2⟩
          rw [cb hex, Option.bind_some, if_pos rfl, mb hex]
          exact rf
      · rw [if_neg (show ¬ nI m ≤ (16 : Int32) from nI_ge (a := 16) (by omega) (by omega)), Option.bind_some, if_pos rfl, if_pos (show (32 : Int32) < nI (2 * m) from nI_lt (a := 32) (by omega) (by omega)), b30]
        exact rf
    · have h1 : n % 2 = 1 := by omega
      rw [h1, if_neg (show ¬ nI 1 = 0 by decide), if_neg (show ¬ nI 1 = 0 by decide), Option.bind_some, if_pos rfl, b30]
      exact rf
end TO

/-! PURE SIDE: the calls asks, alone -/
set_option maxRecDepth 100000
def zpc (W : zW) : Nat := 30 * (W.2.1 0 0 1).toNatClampNeg
def zps (W : zW) : Nat := 300 * (W.2.1 0 0 1).toNatClampNeg
/-- there is room for one call -/
def RM (V : hx_V) (h : hx_S) (W T : zW) : Prop := h.1 + zpc W + 9000 ≤ V.2.2.1 ∧ h.2.1 + zpot T + zps W + 100000 ≤ V.2.2.2.1
/-- both answer alike, and are side by side again -/
def OP (V : hx_V) (h : hx_S) (W T : zW) (G : Nat → Option hx_C) (co : Option (Int32 × hx_S)) (mo : Option (Int32 × mx_S)) : Prop :=
  ∃ r h' ms' W' T' G' gt' bk' lk' my' L' As', co = some (r, h') ∧ mo = some (r, ms') ∧ SIM V h' W' T' G' gt' ms' bk' lk' my' L' As' ∧ W'.1 0 0 = W.1 0 0 ∧ gle G G' ∧ h.1 ≤ h'.1 ∧ h'.1 + zpc W' ≤ h.1 + zpc W + 9000 ∧ h'.2.1 + zpot T' + zps W' ≤ h.2.1 + zpot T + zps W + 100000
section AS
variable {V : hx_V} {h : hx_S} {W X T : zW} {G gt : Nat → Option hx_C} {ms : mx_S} {bk : Nat} {lk my : zL} {L : List (Nat → Int32)} {As : List (zW × List (Nat → Int32))}
theorem OP.same (S : SIM V h W T G gt ms bk lk my L As) (r : Int32) : OP V h W T G (some (r, h)) (some (r, ms)) :=
  ⟨r, h, ms, W, T, G, gt, bk, lk, my, L, As, rfl, rfl, S, rfl, gle.refl G, by omega, by omega, by omega⟩
theorem ml_isBeast (P : MP ms W bk) (h6 : W.2.2.2.1 0 ≤ 6) (x : Int32) : m_isBeast x ms = some (if zof (W.2.2.2.1 0) x = none then 0 else 1) := by
  unfold m_isBeast m_isBeast_b21
  rw [P.2.1, if_pos (pl_in P.1 (by decide)), pl_cl (by have := P.1; omega), P.2.2.1]
  cases e : zof (W.2.2.2.1 0) x with
  | none =>
    rw [if_pos rfl]
    rcases (zof_pos (by omega) e).2 with q | q
    · rw [if_pos q]
    · by_cases q2 : x < 0
      · rw [if_pos q2]
      · rw [if_neg q2, if_pos q]
  | some k =>
    obtain ⟨k1, rfl⟩ := zof_lt (by omega) e
    rw [if_neg (nI_pos (by omega)), if_neg (nI_ge k1 (by omega)), if_neg (by simp)]
theorem ml_isGuest (P : MP ms W bk) (h8 : W.2.2.2.1 1 ≤ 8) (x : Int32) : m_isGuest x ms = some (if zof (W.2.2.2.1 1) x = none then 0 else 1) := by
  unfold m_isGuest m_isGuest_b21
  rw [P.2.1, if_pos (pl_in P.1 (by decide)), pl_cl (by have := P.1; omega), P.2.2.2.1]
  cases e : zof (W.2.2.2.1 1) x with
  | none =>
    rw [if_pos rfl]
    rcases (zof_pos (by omega) e).2 with q | q
    · rw [if_pos q]
    · by_cases q2 : x < 0
      · rw [if_pos q2]
      · rw [if_neg q2, if_pos q]
  | some k =>
    obtain ⟨k1, rfl⟩ := zof_lt (by omega) e
    rw [if_neg (nI_pos (by omega)), if_neg (nI_ge k1 (by omega)), if_neg (by simp)]
theorem zin_is {x : Int32} {a b : Nat} (hz : ¬ zin x (nI a) (nI b) = 0) (ha : a < 1000) (hb : b < 1000) : ∃ k, a ≤ k ∧ k ≤ b ∧ x = nI k := by
  unfold zin at hz
  by_cases h1 : x < nI a
  · rw [if_pos h1] at hz; exact absurd rfl hz
  · rw [if_neg h1] at hz
    by_cases h2 : nI b < x
    · rw [if_pos h2] at hz; exact absurd rfl hz
    · have h0 : ¬ x < 0 := by
        intro q
        apply h1
        refine Int32.lt_iff_toInt_lt.mpr ?_
        have q' := Int32.lt_iff_toInt_lt.mp q
        rw [nI_toInt (by omega)]
        have : (0 : Int32).toInt = 0 := rfl
        omega
      obtain ⟨k, hk, rfl⟩ := nI_of h0
      rw [nI_ltI hk (by omega)] at h1
      rw [nI_ltI (by omega) hk] at h2
      exact ⟨k, by omega, by omega, rfl⟩
/-- so many hours: whether n more can be -/
def zah (n k : Nat) : Int32 := if n + k ≤ 23999 then 1 else 0
theorem CS.isAhead (C : CS V h W T G) {n k : Nat} (hh : zhr W n) (hn : n < 40000) (hk : k < 1000) : c_X0_isAhead V (W.1 0 0) (nI k) h = some (zah n k) := by
  obtain ⟨d, t, h1, h2, h3, h4⟩ := hh
  unfold c_X0_isAhead zah
  rw [C.x_day, Option.bind_some, C.x_hour, Option.bind_some, h1, h2, show (24 : Int32) * nI d + nI t + nI k = nI (n + k) by simp only [pl_lit, pk_mul, nI_add]; rw [h4]]
  by_cases q : n + k ≤ 23999
  · rw [if_neg (show ¬ (23999 : Int32) < nI (n + k) from nI_nlt (a := 23999) q (by decide)), if_pos q]
  · rw [if_pos (show (23999 : Int32) < nI (n + k) from nI_lt (a := 23999) (by omega) (by omega)), if_neg q]
theorem ml_isAhead {n k : Nat} {lo hi : Int32} (e : ms.2.2.1 26 0 = nI n) (hn : n < 40000) (hk : k < 1000) : m_isAhead (nI k) lo hi ms = some (if zin (nI k) lo hi = 0 then 0 else zah n k) := by
  unfold m_isAhead m_isAhead_b27 zah
  rw [m_is_z, Option.bind_some, if_pos (show hx_in (0 : Int32) 22 = true by decide), show (0 : Int32).toNatClampNeg = 0 from rfl, e, show (23999 : Int32) - nI k = nI (23999 - k) from pk_sub (a := 23999) (by omega)]
  by_cases q : zin (nI k) lo hi = 0
  · rw [if_pos q, if_pos q]
  · rw [if_neg q, if_neg q]
    by_cases q2 : n + k ≤ 23999
    · rw [if_neg (nI_nlt (by omega) (by omega)), if_pos q2]
    · rw [if_pos (nI_lt (by omega) (by omega)), if_neg q2]
theorem SIM.hr (S : SIM V h W T G gt ms bk lk my L As) : ∃ n, n ≤ 23999 ∧ zhr W n ∧ ms.2.2.1 26 0 = nI n := by
  obtain ⟨C, gl, G0, E, Z, h13, Zt, ⟨P, R, M, Em, O⟩, ⟨d, t, b1, b2, b3, b4⟩, A⟩ := S
  obtain ⟨-, -, -, -, -, -, d', t', c1, c2, c3, c4, c5⟩ := R
  refine ⟨24 * d + t, b4, ⟨d, t, b1, b2, b3, rfl⟩, ?_⟩
  rw [b1, nI_eq (by omega) (by omega)] at c1
  rw [b2, nI_eq (by omega) (by omega)] at c2
  rw [c5, ← c1, ← c2]
theorem zpc_eq {W W' : zW} (h : zeq W W') : zpc W' = zpc W ∧ zps W' = zps W := by
  unfold zpc zps
  rw [h.2.2 0 0 1 (by simp [zrel])]
  exact ⟨rfl, rfl⟩
/-- an hour goes, in thought -/
theorem TQ.goes (Q : TQ V h X T G ms bk lk my) {n : Nat} (hh : zhr X n) (hn : n < 40000) : ∃ r h' ms1 ms', c_X0_hourGoes V (X.1 0 0) h = some (r, h') ∧ m_asking (1 : Int32) ms = some (r, ms1) ∧ m_isOver (1 : Int32) ms1 = some ms' ∧ TQ V h' (zend (zaskd lk my X)) T G ms' bk lk my ∧ h'.1 = h.1 ∧ h'.2.1 = h.2.1 ∧ mfr 1 ms ms' ∧ zhr (zend (zaskd lk my X)) (n + 1) ∧ znow X (zend (zaskd lk my X)) := by
  obtain ⟨r, h1, ms1, a1, a2, a3, a4, a5, a6, a7⟩ := Q.ask
  have Z := Q.2.1
  obtain ⟨h2, ms2, b1, b2, b3, b4, b5, b6, b7, b8⟩ := a3.end (zaskd_hr Z hh) hn
  have e0 : (zaskd lk my X).1 = X.1 := (zaskd_now Z).1
  refine ⟨r, h2, ms1, ms2, ?_, a2, b2, b3, by omega, by omega, a6.trans b6, b7, (zaskd_now Z).trans (zend_now _)⟩
  unfold c_X0_hourGoes
  have k2 := a3.1.k_x
  rw [e0] at b1 k2
  rw [if_pos Q.1.k_x, a1, Option.bind_some, if_pos k2, b1, Option.bind_some]
theorem zask_7 {th : Int32} (Z : ZI W) (n : Nat) (hn : n ≤ W.2.2.2.1 0) : ∀ b, b < n → (zask th lk my W L n).2.2.1.2.1 7 0 b = -1 ∨ ∃ k, k < W.2.2.2.1 1 ∧ (zask th lk my W L n).2.2.1.2.1 7 0 b = nI k := by
  induction n with
  | zero => intro b hb; omega
  | succ n ih =>
    intro b hb
    have ih := ih (by omega)
    obtain ⟨i1, i2, -⟩ := zask_inv (th := th) (lk := lk) (my := my) (L := L) Z n (by omega)
    have nu : (zask th lk my W L n).2.2.1.2.2.2.1 = W.2.2.2.1 := by rw [i2.2.1]
    show (zstep th lk my n (zask th lk my W L n)).2.2.1.2.1 7 0 b = -1 ∨ ∃ k, k < W.2.2.2.1 1 ∧ (zstep th lk my n (zask th lk my W L n)).2.2.1.2.1 7 0 b = nI k
    generalize zask th lk my W L n = s at *
    unfold zstep
    split
    · show (if 7 = 7 ∧ 0 = 0 ∧ b = n then (-1 : Int32) else s.2.2.1.2.1 7 0 b) = -1 ∨ ∃ k, k < W.2.2.2.1 1 ∧ (if 7 = 7 ∧ 0 = 0 ∧ b = n then (-1 : Int32) else s.2.2.1.2.1 7 0 b) = nI k
      by_cases q : b = n
      · rw [if_pos ⟨rfl, rfl, q⟩]; exact Or.inl rfl
      · rw [if_neg (fun x => q x.2.2)]; exact ih b (by omega)
    · rename_i hs
      obtain ⟨k, hk, ek⟩ := (zsel_in lk my n s).resolve_left hs
      rw [nu] at hk
      rw [ek, nI_clamp (by have := Z.1.2.1; omega)]
      have e7 : (zgo th lk n k s).2.2.1.2.1 7 0 b = if b = n then nI k else s.2.2.1.2.1 7 0 b := by
        show (if 7 = 8 ∧ 0 = 0 ∧ b = n then (zmeets (zA s.2.2.1 7 0 n (nI k)) lk n k).1 else (zmeets (zA s.2.2.1 7 0 n (nI k)) lk n k).2.2.1 7 0 b) = _
        rw [if_neg (fun q => by have := q.1; omega), zmeets_78 _ _ _ _ _ _ _ (Or.inl rfl)]
        show (if 7 = 7 ∧ 0 = 0 ∧ b = n then nI k else s.2.2.1.2.1 7 0 b) = _
        by_cases q : b = n
        · rw [if_pos ⟨rfl, rfl, q⟩, if_pos q]
        · rw [if_neg (fun x => q x.2.2), if_neg q]
      rw [e7]
      by_cases q : b = n
      · rw [if_pos q]; exact Or.inr ⟨k, hk, rfl⟩
      · rw [if_neg q]; exact ih b (by omega)
theorem op_asks (S : SIM V h W T G gt ms bk lk my L As) (hr : RM V h W T) (x n : Int32) : OP V h W T G (c_X0_asks V (W.1 0 0) x n h) (m_asks x n ms) := by
  have S' := S
  obtain ⟨C, gl, G0, E, Z, h13, Zt, ⟨P, R, M, Em, O⟩, hb, A⟩ := S
  have h6 := Z.1.1
  have h8 := Z.1.2.1
  unfold c_X0_asks m_asks
  rw [if_pos C.k_x, C.beastOf Z.1, Option.bind_some, ml_isBeast P h6, Option.bind_some]
  cases eb : zof (W.2.2.2.1 0) x with
  | none =>
    rw [if_pos rfl, if_pos rfl]
    exact OP.same S' (-1)
  | some b =>
    obtain ⟨hb1, rfl⟩ := zof_lt (by omega) eb
    rw [if_neg (show ¬ Option.map (W.1 25) (some b) = none by simp), if_neg (show ¬ (some b : Option Nat) = none by simp), if_neg (show ¬ (1 : Int32) = 0 by decide), show (0 : Int64) = (0 : Int32).toInt64 from rfl, show (99 : Int64) = (99 : Int32).toInt64 from rfl, c_isIn_z, Option.bind_some]
    obtain ⟨n0, hn0, hh, e26⟩ := S'.hr
    by_cases hz : zin n 0 99 = 0
    · rw [if_pos hz]
      have : m_isAhead n (0 : Int32) (99 : Int32) ms = some 0 := by
        unfold m_isAhead m_isAhead_b27
        rw [m_is_z, Option.bind_some, if_pos hz]
      rw [this, Option.bind_some, if_pos rfl]
      exact OP.same S' (-1)
    · rw [if_neg hz, if_pos C.k_x]
      obtain ⟨k, -, hk, rfl⟩ := zin_is (a := 0) (b := 99) hz (by decide) (by decide)
      rw [C.isAhead hh (by omega) (by omega), ml_isAhead e26 (by omega) (by omega), if_neg hz, Option.bind_some, Option.bind_some]
      by_cases ha : zah n0 k = 0
      · rw [if_pos ha, if_pos ha]
        exact OP.same S' (-1)
      · rw [if_neg ha, if_neg ha, if_pos C.k_x]
        obtain ⟨k1, G1, c, ms1, a1, a2, Q, gl1, g1, sp, a3, a4, f1⟩ := S'.thinks (by have := hr.1; omega) (by have := hr.2; omega)
        rw [a1, Option.bind_some, a2, Option.bind_some]
        have key : yes2 (hx_wh (c_X0_asks_s38 V (W.1 0 0) (nI b) (nI k) (some h.1)) hx_FU ((0 : Int32), k1)) (hx_wh (m_asks_s29 (nI b) (nI k)) hx_FU ((0 : Int32), ms1)) (fun r r' => r.1 = r'.1 ∧ ∃ W', SIM V r.2 W' T G1 gt r'.2 bk lk my L As ∧ W'.1 = W.1 ∧ zeq W W' ∧ r.2.1 = h.1 + 1 ∧ r.2.2.1 = h.2.1 + 157) := by
          refine yes2.wh (I := fun m s s' => ∃ j X, m = k - j ∧ j ≤ k ∧ s.1 = nI j ∧ s'.1 = nI j ∧ TQ V s.2 X T G1 s'.2 bk lk my ∧ znow (zA W 0 0 13 1) X ∧ zhr X (n0 + j) ∧ mfr 1 ms s'.2 ∧ s.2.1 = h.1 + 1 ∧ s.2.2.1 = h.2.1 + 157) (n := k) ⟨0, _, by omega, by omega, rfl, rfl, Q, znow.refl _, hh, f1, a3, a4⟩ (by omega) ?_
          rintro m ⟨x1, hx⟩ ⟨x2, mx⟩ ⟨j, X, rfl, hj, e1, e2, Qx, nX, hX, fX, q1, q2⟩
          simp only at e1 e2 Qx fX q1 q2
          subst e1 e2
          have x0 : X.1 = W.1 := nX.1
          unfold c_X0_asks_s38 m_asks_s29
          simp only
          by_cases hlt : j < k
          · obtain ⟨r, h2, ms2, ms3, b1, b2, b3, b4, b5, b6, b7, b8, b9⟩ := Qx.goes hX (by omega)
            rw [x0] at b1
            have kx := Qx.1.k_x
            rw [x0] at kx
            rw [if_neg (nI_ge hlt (by omega)), if_neg (nI_ge hlt (by omega)), if_pos kx, b1, Option.bind_some, b2, Option.bind_some, b3, Option.bind_some]
            exact yes2.ret ⟨k - (j + 1), by omega, j + 1, _, rfl, by omega, nI_1 j, nI_1 j, b4, nX.trans b9, b8, fX.trans b7, by dsimp only; omega, by dsimp only; omega⟩
          · have hje : j = k := by omega
            subst hje
            rw [if_pos (nI_le (Nat.le_refl _) (by omega)), if_pos (nI_le (Nat.le_refl _) (by omega))]
            unfold c_X0_asks_b55 m_asks_b51
            obtain ⟨r, h2, ms2, b1, b2, b3, b4, b5, b6, b7⟩ := Qx.ask
            have ZX := Qx.2.1
            have y0 : (zaskd lk my X).1 = W.1 := (zaskd_now ZX).1.trans x0
            have yn : (zaskd lk my X).2.2.2.1 = W.2.2.2.1 := by
              have e1 := (zaskd_now (lk := lk) (my := my) ZX).2.1
              have e2 := nX.2.1
              rw [e1, e2]; rfl
            have xn : X.2.2.2.1 = W.2.2.2.1 := by rw [nX.2.1]; rfl
            have kx := Qx.1.k_x
            have k3 := b3.1.k_x
            have k4 := b3.1.x_askedFor
            rw [x0] at kx b1
            rw [y0] at k3 k4
            have k5 : hgQ h2 (W.1 7 0) (nI b) = some (zenc W 29 ((zaskd lk my X).2.1 7 0 b)) := by
              obtain ⟨f, D⟩ := b3.1
              have := CR.gQ (W := zmix (zaskd lk my X) T f) (k := 7) (j := 0) (i := b) (r := zenc W 29 ((zaskd lk my X).2.1 7 0 b)) D (show 0 < 1 from Nat.zero_lt_one) (by
                show va_rf (zenc (zmix (zaskd lk my X) T f) 29 ((zaskd lk my X).2.1 7 0 b)) = _
                unfold zenc
                rw [zmix_at (k := 29) rfl, y0]) (by decide) (show b < 6 by omega) (show 6 < 2 ^ 31 by decide)
              rw [zmix_at (k := 7) rfl, y0] at this
              exact this
            obtain ⟨h3, W', c1, c2, c3, c4, c5, c6⟩ := TQ.done S' b3.1 b3.2.1 b3.2.2.2.2.1 (nX.trans (zaskd_now ZX)) gl1 g1 sp (fX.trans b6)
            rw [if_pos kx, b1, Option.bind_some, k4, Option.bind_some, Option.bind_some, k5, Option.bind_some, if_pos k3, c1, Option.bind_some, b2, Option.bind_some, if_pos (pl_in (show b < 6 by omega) (by decide)), pl_cl (by omega)]
            have hq : ms2.2.2.1 38 b = (zaskd lk my X).2.1 7 0 b := (b7 b (by rw [xn]; exact hb1)).1
            rw [hq]
            simp only
            by_cases hm : (zaskd lk my X).2.1 7 0 b = -1
            · rw [if_pos (zenc_none.mpr hm)]
              exact yes2.ret ⟨hm.symm, W', c2, c3, c4, by dsimp only; omega, by dsimp only; omega⟩
            · rw [if_neg (fun q => hm (zenc_none.mp q))]
              obtain ⟨g0, hg0, eg⟩ := (zask_7 (th := 1) (lk := lk) (my := my) (L := []) ZX (X.2.2.2.1 0) (Nat.le_refl _) b (by rw [xn]; exact hb1)).resolve_left hm
              rw [xn] at hg0
              replace eg : (zaskd lk my X).2.1 7 0 b = nI g0 := eg
              have hs : hgI h3 (W.1 29 g0) [9] 1 = some (nI g0) := by
                have n1 : W'.2.2.2.1 = W.2.2.2.1 := by rw [c4.2.1]
                have := c2.1.g_number (j := g0) (by rw [n1]; exact hg0) (ts := [9]) rfl
                rw [c3, c2.2.2.2.2.1.1.2.2.2.2.2.2.2 g0 (by rw [n1]; exact hg0)] at this
                exact this
              rw [eg, zenc_nI (by omega), Option.bind_some, hs, Option.bind_some]
              exact yes2.ret ⟨rfl, W', c2, c3, c4, by dsimp only; omega, by dsimp only; omega⟩
        obtain ⟨⟨r, h'⟩, ⟨r', ms'⟩, d1, d2, d3, W', d4, d5, d6, d7, d8⟩ := key
        simp only at d3 d4 d7 d8
        subst d3
        have zp := zpc_eq d6
        refine ⟨r, h', ms', W', T, G1, gt, bk, lk, my, L, As, d1, d2, d4, by rw [d5], gl1, by omega, by rw [zp.1]; omega, by rw [zp.2]; omega⟩
end AS

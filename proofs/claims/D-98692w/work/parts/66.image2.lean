/-! PURE SIDE: the call image, joined -/
set_option maxRecDepth 100000
/-- the last byte, of so many -/
def zlast (f : Nat → Int32) : Nat → Int32
  | 0 => 151
  | k + 1 => (5 * zlast f k + f k) - (5 * zlast f k + f k) / 251 * 251
theorem zlast_le {f : Nat → Int32} (n : Nat) (hf : ∀ k, k < n → zle (f k) 255) : zle (zlast f n) 250 := by
  induction n with
  | zero => exact ⟨151, by decide, rfl⟩
  | succ n ih =>
    obtain ⟨a, ha, ea⟩ := ih (fun k hk => hf k (by omega))
    obtain ⟨b, hb, eb⟩ := hf n (by omega)
    refine ⟨(5 * a + b) % 251, by omega, ?_⟩
    show (5 * zlast f n + f n) - (5 * zlast f n + f n) / 251 * 251 = _
    rw [ea, eb, show (5 : Int32) * nI a + nI b = nI (5 * a + b) by simp only [pl_lit, pk_mul, nI_add]]
    exact pk_rem (d := 251) (by omega) (by decide) (by decide)
section I2
variable {V : hx_V} {h : hx_S} {W X Y T : zW} {G G1 gt : Nat → Option hx_C} {ms : mx_S} {bk : Nat} {lk my : zL} {L : List (Nat → Int32)} {As : List zU}
theorem c_last_z {a n : Nat} {f : Nat → Int32} (hr : ∀ k, k < n → hgAI h a 101 (nI k) = some (f k)) (hn : n < 10000) : c_X0_last V (some a) (nI n) h = some (zlast f n) := by
  unfold c_X0_last
  refine pl_loop (fun k => (zlast f k, nI k)) n (some (zlast f n)) (fun k hk => ?_) ?_ (by omega)
  · unfold c_X0_last_s6
    simp only
    rw [if_neg (nI_ge hk (by omega)), Option.bind_some, hr k hk, Option.bind_some, nI_1]
    rfl
  · unfold c_X0_last_s6
    rw [if_pos (nI_le (Nat.le_refl _) (by omega))]
    rfl
theorem op_image (S : SIM V h W T G gt ms bk lk my L As) : OP V h W T G (c_X0_image V (W.1 0 0) h) (m_image ms) := by
  have S' := S
  have Z := S.2.2.2.2.1
  have h6 := Z.1.1
  have h8 := Z.1.2.1
  obtain ⟨o1, o2, o3, o4, o5, o6, o7, o8⟩ := S.O
  obtain ⟨k0, e0, C0, r0, r0'⟩ := S.1.wx (i := 20) rfl 0
  have fo : ∀ k, k ≠ 76 → (mx_F ms 76 0).1 k = ms.1 k := fun k hk => by simp [mx_F, hk]
  have sm0 : ∀ k j i, ¬ (k = 0 ∧ i = 20) → (zA W 0 0 20 0).2.1 k j i = W.2.1 k j i := fun k j i h1 => by
    show (if k = 0 ∧ j = 0 ∧ i = 20 then (0 : Int32) else W.2.1 k j i) = _
    rw [if_neg (fun q => h1 ⟨q.1, q.2.2⟩)]
  have S0 : SIM V k0 (zA W 0 0 20 0) T G gt (mx_F ms 76 0) bk lk my L As := by
    refine S.reg C0 rfl rfl (w3_A (by decide) (by simp)) ⟨fo 13 (by decide), fo 56 (by decide), fo 57 (by decide)⟩ (fun _ _ _ _ _ => rfl) ⟨?_, fun i hi => ?_, fun k hk => ?_, ?_, ?_, o6, ?_, 0, by decide, by simp [zA, zset]; rfl, by simp [mx_F]; rfl, fun k hk => by omega⟩
    · obtain ⟨m, u1, u2, u3⟩ := o1
      exact ⟨m, u1, by rw [sm0 0 0 1 (by decide)]; exact u2, by rw [fo 1 (by decide)]; exact u3⟩
    · rw [sm0 1 0 i (by simp)]; exact o2 i hi
    · rw [sm0 2 0 k (by simp)]; exact o3 k hk
    · rw [fo 10 (by decide), sm0 0 0 4 (by decide)]; exact o4
    · rw [fo 11 (by decide), sm0 0 0 5 (by decide)]; exact o5
    · obtain ⟨m, u1, u2, u3, u4⟩ := o7
      refine ⟨m, u1, by rw [sm0 0 0 18 (by decide)]; exact u2, by rw [fo 65 (by decide)]; exact u3, fun k hk => ?_⟩
      rw [sm0 14 0 _ (by simp), sm0 14 0 _ (by simp)]
      exact u4 k hk
  have Q0 : IQ V h W T G gt bk lk my L As 0 k0 (mx_F ms 76 0) := ⟨_, S0, ⟨rfl, rfl, fun k j i _ h2 => sm0 k j i h2, by simp [zA, zset]; rfl, fun i hi => by omega⟩, r0, r0'⟩
  obtain ⟨C, gl, G0, E, -, h13, Zt, ⟨P, R, M, Em, O⟩, ⟨d, t, hd, ht, t24, hdt⟩, A⟩ := S
  obtain ⟨nf, nf1, nf2⟩ := Z.2.2.1
  -- day, hour, fees
  obtain ⟨k1, m1, a1, a2, Q1⟩ := Q0.two (n := d) (by decide) (by omega)
  obtain ⟨k2, m2, b1, b2, Q2⟩ := Q1.writes (n := t) (vm := nI t) (by decide) (by omega) (chr_8 t (by omega)).2.2
  obtain ⟨k3, m3, c1, c2, Q3⟩ := Q2.two (n := nf) (by decide) (by omega)
  have g6 := C0.x_day
  rw [show (zA W 0 0 20 0).1 = W.1 from rfl, sm0 0 0 6 (by decide), hd] at g6
  have g7 : hgI k1 (W.1 0 0) [0] 7 = some (nI t) := by
    obtain ⟨X, SX, ⟨x1, x2, x3, -⟩, -⟩ := Q1
    have := SX.1.x_hour
    rw [x1, x3 0 0 7 (by decide) (by decide), ht] at this
    exact this
  have g8 : hgI k2 (W.1 0 0) [0] 8 = some (nI nf) := by
    obtain ⟨X, SX, ⟨x1, x2, x3, -⟩, -⟩ := Q2
    have := SX.1.x_fees
    rw [x1, x3 0 0 8 (by decide) (by decide), nf2] at this
    exact this
  have m26 : (mx_F ms 76 0).2.2.1 26 0 / (24 : Int32) = nI d := by
    obtain ⟨n, n1, ⟨d', t', q1, q2, q3, q4⟩, q5⟩ := S'.hr
    rw [show (mx_F ms 76 0).2.2.1 26 0 = nI n from q5, show (24 : Int32) = nI 24 from rfl, pk_div (by omega) (by decide) (by decide)]
    have : d' = d := (nI_eq (by omega) (by omega)).mp (q1.symm.trans hd)
    rw [← q4, this, show (24 * d + t') / 24 = d by omega]
  have mh : m_hourIn (0 : Int32) m1 = some (nI t) := by
    obtain ⟨X, SX, ⟨x1, x2, x3, -⟩, -⟩ := Q1
    have := ml_hour SX.2.2.2.2.2.2.2.1.2.1
    rw [x3 0 0 7 (by decide) (by decide), ht] at this
    exact this
  have m27 : m2.2.2.1 27 0 = nI nf := by
    obtain ⟨X, SX, ⟨x1, x2, x3, -⟩, -⟩ := Q2
    have := SX.2.2.2.2.2.2.2.1.2.1.2.2.2.2.2.1
    rw [x3 0 0 8 (by decide) (by decide), nf2] at this
    exact this
  unfold c_X0_image m_image
  rw [e0, Option.bind_some, g6, Option.bind_some, if_pos Q0.k, a1, Option.bind_some, g7, Option.bind_some, if_pos Q1.k, b1, Option.bind_some, g8, Option.bind_some, if_pos Q2.k, c1, Option.bind_some, if_pos (show hx_in (0 : Int32) 22 = true by decide), show (0 : Int32).toNatClampNeg = 0 from rfl, m26, a2, Option.bind_some, mh, Option.bind_some, b2, Option.bind_some, if_pos (show hx_in (0 : Int32) 22 = true by decide), m27, c2, Option.bind_some]
  -- the end
  have last : ∀ (hx : hx_S) (mx : mx_S) (p : Nat), p < 160 → IQ V h W T G gt bk lk my L As p hx mx → yes2 (c_X0_image_b223 V (W.1 0 0) hx) (m_image_b202 mx) (fun r r' => r.1 = r'.1 ∧ ∃ p, IQ V h W T G gt bk lk my L As p r.2 r'.2) := by
    intro hx mx p hp Q
    have Q' := Q
    obtain ⟨X, SX, ⟨x1, x2, x3, x4, x5⟩, n1, n2⟩ := Q
    obtain ⟨p', y1, y2, y3, y4⟩ := SX.O.2.2.2.2.2.2.2
    have hpp : p' = p := (nI_eq (by omega) (by omega)).mp (y2.symm.trans x4)
    subst hpp
    have ki := SX.1.x_image
    have kd := SX.1.x_imaged
    rw [x1] at ki kd
    have cl := c_last_z (V := V) (h := hx) (a := W.1 15 0) (n := p') (f := X.2.1 15 0) (fun k hk => by
      have := SX.1.imageAt (i := k) (by omega)
      rw [x1] at this
      exact this) (by omega)
    obtain ⟨nl, nl1, nl2⟩ := zlast_le p' x5
    obtain ⟨k5, m5, u1, u2, Q5⟩ := Q'.writes (n := nl) (vm := nI nl) hp (by omega) (chr_8 nl (by omega)).2.2
    have mw : m_image_b202 mx = m_image_b237 (nI nl) mx := by
      unfold m_image_b202
      refine pl_loop (fun k => (zlast (X.2.1 15 0) k, nI k)) p' _ (fun k hk => ?_) ?_ (by omega)
      · unfold m_image_s208
        simp only
        rw [y3, if_neg (nI_ge hk (by omega)), if_pos (pl_in (by omega) (by decide)), pl_cl (by omega), y4 k hk, nI_1]
        rfl
      · unfold m_image_s208
        simp only
        rw [y3, if_pos (nI_le (Nat.le_refl _) (by omega)), nl2]
    have k20 : hgI k5 (W.1 0 0) [0] 20 = some (nI (p' + 1)) ∧ m5.1 76 = nI (p' + 1) := by
      obtain ⟨X5, S5, ⟨v1, v2, v3, v4, v5⟩, -⟩ := Q5
      have := S5.1.x_imaged
      rw [v1, v4] at this
      obtain ⟨q, w1, w2, w3, w4⟩ := S5.O.2.2.2.2.2.2.2
      exact ⟨this, by rw [w3, ← w2, v4]⟩
    unfold c_X0_image_b223
    rw [ki, Option.bind_some, kd, Option.bind_some, x4, cl, Option.bind_some, if_pos Q'.k, nl2, u1, Option.bind_some, k20.1, Option.bind_some, mw]
    unfold m_image_b237
    rw [u2, Option.bind_some, k20.2]
    exact yes2.ret ⟨rfl, p' + 1, Q5⟩
  -- beasts
  have beasts : ∀ (hx : hx_S) (mx : mx_S), IQ V h W T G gt bk lk my L As (5 + 5 * W.2.2.2.1 1) hx mx → yes2 (c_X0_image_b121 V (W.1 0 0) hx) (m_image_b104 mx) (fun r r' => r.1 = r'.1 ∧ ∃ p, IQ V h W T G gt bk lk my L As p r.2 r'.2) := by
    intro hx mx Q
    unfold c_X0_image_b121 m_image_b104
    refine yes2.wh (I := fun n s s' => ∃ b, n = W.2.2.2.1 0 - b ∧ b ≤ W.2.2.2.1 0 ∧ s.1 = nI b ∧ s'.1 = nI b ∧ IQ V h W T G gt bk lk my L As (5 + 5 * W.2.2.2.1 1 + b * (3 + 2 * W.2.2.2.1 1)) s.2 s'.2) (n := W.2.2.2.1 0) ⟨0, by omega, by omega, rfl, rfl, by rw [Nat.zero_mul]; exact Q⟩ (by omega) ?_
    rintro n ⟨q1, hx⟩ ⟨q2, mx⟩ ⟨b, rfl, hb, e1, e2, Qb⟩
    simp only at e1 e2 Qb
    subst e1 e2
    have hmul : b * (3 + 2 * W.2.2.2.1 1) ≤ b * 19 := Nat.mul_le_mul (Nat.le_refl _) (by omega)
    have Qb' := Qb
    obtain ⟨X, SX, ⟨x1, x2, x3, x4, x5⟩, n1, n2⟩ := Qb
    have ZX := SX.2.2.2.2.1
    have PX := SX.2.2.2.2.2.2.2.1.1
    have nu : X.2.2.2.1 = W.2.2.2.1 := by rw [x2]
    have kp := SX.1.x_park
    have kz := SX.1.z_beasts
    have kk := SX.1.k_beasts
    have ks := SX.1.sizeB ZX.1
    rw [x1] at kp kz kk ks
    rw [nu] at ks
    unfold c_X0_image_s123 m_image_s106
    simp only
    rw [kp, Option.bind_some, Option.bind_some, kz, Option.bind_some, Option.bind_some, if_pos kk, ks, Option.bind_some, PX.2.1, if_pos (pl_in PX.1 (by decide)), pl_cl (by have := PX.1; omega), PX.2.2.1, nu]
    by_cases hlt : b < W.2.2.2.1 0
    · have hbX : b < X.2.2.2.1 0 := by rw [nu]; exact hlt
      have gg := SX.1.getB ZX.1 hbX
      have hc : hck hx (some (X.1 25 b)) [8] = true := SX.1.k_b hbX rfl
      rw [x1] at gg hc
      have hmul2 : (b + 1) * (3 + 2 * W.2.2.2.1 1) = b * (3 + 2 * W.2.2.2.1 1) + (3 + 2 * W.2.2.2.1 1) := Nat.succ_mul _ _
      have hb5 : b * 19 ≤ 5 * 19 := Nat.mul_le_mul (by omega) (Nat.le_refl _)
      obtain ⟨r, r', w1, w2, h', ms', rfl, rfl, Q'⟩ := Qb'.beast Z (by omega) hlt
      rw [if_neg (nI_ge hlt (by omega)), if_neg (nI_ge hlt (by omega)), Option.bind_some, Option.bind_some, kz, Option.bind_some, Option.bind_some, if_pos kk, gg, Option.bind_some, if_pos hc, w1, w2]
      exact yes2.ret ⟨W.2.2.2.1 0 - (b + 1), by omega, b + 1, rfl, by omega, rfl, rfl, by rw [hmul2, ← Nat.add_assoc, ← Nat.add_assoc]; exact Q'⟩
    · have hbe : b = W.2.2.2.1 0 := by omega
      subst hbe
      have hb5 : W.2.2.2.1 0 * 19 ≤ 6 * 19 := Nat.mul_le_mul (by omega) (Nat.le_refl _)
      rw [if_pos (nI_le (Nat.le_refl _) (by omega)), if_pos (nI_le (Nat.le_refl _) (by omega))]
      obtain ⟨r, r', w1, w2, w3⟩ := last hx mx _ (by omega) Qb'
      rw [w1, w2]
      exact yes2.ret w3
  have key : yes2 (hx_wh (c_X0_image_s31 V (W.1 0 0)) hx_FU ((0 : Int32), k3)) (hx_wh m_image_s39 hx_FU ((0 : Int32), m3)) (fun r r' => r.1 = r'.1 ∧ ∃ p, IQ V h W T G gt bk lk my L As p r.2 r'.2) := by
    refine yes2.wh (I := fun n s s' => ∃ k, n = W.2.2.2.1 1 - k ∧ k ≤ W.2.2.2.1 1 ∧ s.1 = nI k ∧ s'.1 = nI k ∧ IQ V h W T G gt bk lk my L As (5 + 5 * k) s.2 s'.2) (n := W.2.2.2.1 1) ⟨0, by omega, by omega, rfl, rfl, Q3⟩ (by omega) ?_
    rintro n ⟨q1, hx⟩ ⟨q2, mx⟩ ⟨k, rfl, hkk, e1, e2, Qk⟩
    simp only at e1 e2 Qk
    subst e1 e2
    have Qk' := Qk
    obtain ⟨X, SX, ⟨x1, x2, x3, x4, x5⟩, n1, n2⟩ := Qk
    have ZX := SX.2.2.2.2.1
    have PX := SX.2.2.2.2.2.2.2.1.1
    have nu : X.2.2.2.1 = W.2.2.2.1 := by rw [x2]
    have kp := SX.1.x_park
    have kz := SX.1.z_guests
    have kk := SX.1.k_guests
    have ks := SX.1.sizeG ZX.1
    rw [x1] at kp kz kk ks
    rw [nu] at ks
    unfold c_X0_image_s31 m_image_s39
    simp only
    rw [kp, Option.bind_some, Option.bind_some, kz, Option.bind_some, Option.bind_some, if_pos kk, ks, Option.bind_some, PX.2.1, if_pos (pl_in PX.1 (by decide)), pl_cl (by have := PX.1; omega), PX.2.2.2.1, nu]
    by_cases hlt : k < W.2.2.2.1 1
    · have hbX : k < X.2.2.2.1 1 := by rw [nu]; exact hlt
      have gg := SX.1.getG ZX.1 hbX
      have hc : hck hx (some (X.1 29 k)) [9] = true := SX.1.k_g hbX rfl
      rw [x1] at gg hc
      obtain ⟨r, r', w1, w2, h', ms', rfl, rfl, Q'⟩ := Qk'.guest Z (by omega) hlt
      rw [if_neg (nI_ge hlt (by omega)), if_neg (nI_ge hlt (by omega)), Option.bind_some, Option.bind_some, kz, Option.bind_some, Option.bind_some, if_pos kk, gg, Option.bind_some, if_pos hc, w1, w2]
      exact yes2.ret ⟨W.2.2.2.1 1 - (k + 1), by omega, k + 1, rfl, by omega, rfl, rfl, Q'⟩
    · have hke : k = W.2.2.2.1 1 := by omega
      subst hke
      rw [if_pos (nI_le (Nat.le_refl _) (by omega)), if_pos (nI_le (Nat.le_refl _) (by omega))]
      obtain ⟨r, r', w1, w2, w3⟩ := beasts hx mx Qk'
      rw [w1, w2]
      exact yes2.ret w3
  obtain ⟨⟨r, h'⟩, ⟨r', ms'⟩, d1, d2, d3, p, X, d4, ⟨x1, x2, x3, x4, x5⟩, d7, d8⟩ := key
  simp only at d3 d4 d7 d8
  subst d3
  have zp : zpc X = zpc W ∧ zps X = zps W := by unfold zpc zps; rw [x3 0 0 1 (by decide) (by decide)]; exact ⟨rfl, rfl⟩
  exact ⟨r, h', ms', X, T, G, gt, bk, lk, my, L, As, d1, d2, d4, by rw [x1], gle.refl G, by omega, by rw [zp.1]; omega, by rw [zp.2]; omega⟩
end I2

/-! PURE SIDE: the calls hours, chance -/
set_option maxRecDepth 100000
section HO
variable {V : hx_V} {h : hx_S} {W X T : zW} {G gt : Nat → Option hx_C} {ms : mx_S} {bk : Nat} {lk my : zL} {L : List (Nat → Int32)} {As : List zU}
theorem MO.now {v : Nat} {ms ms' : mx_S} {W W' : zW} (M : MO ms W) (h : znow W W') (f : mfr v ms ms') : MO ms' W' := by
  have e : ∀ k j i, znw k i = false → W'.2.1 k j i = W.2.1 k j i := h.2.2
  have fa : ∀ a i, a = 0 ∨ a = 25 ∨ a = 42 ∨ a = 43 ∨ a = 51 → ms'.2.2.1 a i = ms.2.2.1 a i := fun a i ha => f.2.2.1 a i (by omega) (fun _ _ => by omega)
  simp only [MO, e 0 0 1 rfl, e 0 0 4 rfl, e 0 0 5 rfl, e 0 0 18 rfl, e 0 0 20 rfl, e 1 0 _ rfl, e 2 0 _ rfl, e 14 0 _ rfl, e 15 0 _ rfl, f.1, f.2.1, h.2.1, fa 0 _ (by decide), fa 25 _ (by decide), fa 42 _ (by decide), fa 43 _ (by decide), fa 51 _ (by decide)]
  exact M
theorem zpot_3 {T' : zW} (s : Tsame 3 T T') : zpot T' + zph (T.2.2.2.1 4) = zpot T + zph (T'.2.2.2.1 4) := by
  unfold zpot
  rw [(s 10 rfl (by decide) (by decide)).2.2.1]
  omega
theorem SIM.ask (S : SIM V h W T G gt ms bk lk my L As) (h1 : h.1 + 12 ≤ V.2.2.1) (h2 : h.2.1 + zpot T + 30 ≤ V.2.2.2.1) : ∃ n h' ms' T' G' L', c_X0_askings V (W.1 0 0) h = some (n, h') ∧ m_asking (0 : Int32) ms = some (n, ms') ∧ SIM V h' (zaskd lk my W) T' G' gt ms' bk lk my L' As ∧ gle G G' ∧ h.1 ≤ h'.1 ∧ h'.1 ≤ h.1 + 12 ∧ h'.2.1 + zpot T' ≤ h.2.1 + zpot T + 30 := by
  obtain ⟨C, gl, G0, E, Z, h13, Zt, ⟨P, R, M, Em, O⟩, ⟨d, t, hb⟩, A⟩ := S
  have hz : zpot T = zph (T.2.2.2.1 4) + zph (T.2.2.2.1 10) := rfl
  obtain ⟨⟨n, h'⟩, a1, a2, T', g', a3, a4, a5, a6, a7, a8, a9, a10, a11, a12⟩ := C.askings (L := L) Z (E.mono gl) G0 h13 (Or.inl rfl) (fun _ => ⟨Zt, by omega, by omega⟩)
  obtain ⟨⟨m, ms'⟩, b1, b2, b3, b4, b5, b6⟩ := ml_asking (v := 0) P R Z Em M
  simp only at a2 a3 a9 a10 a11 a12 b2 b3 b4 b5 b6
  obtain ⟨e1, e2, e3⟩ := zask_th 1 0 lk my W [] L (W.2.2.2.1 0)
  have eW : (zask 0 lk my W L (W.2.2.2.1 0)).2.2.1 = zaskd lk my W := e3.symm
  have en : m = n := by rw [a2, b2]
  subst en
  rw [eW] at a3 b3
  have nw := zaskd_now (lk := lk) (my := my) Z
  have h67 := (zask_inv (th := 1) (lk := lk) (my := my) (L := []) Z (W.2.2.2.1 0) (Nat.le_refl _)).2.2.2
  have z3 := zpot_3 a5
  have a12' := a12 trivial
  have G0' : GEg V g' := G0.mono a6
  refine ⟨m, h', ms', T', g', _, a1, b1, ⟨a3, gl.trans a6, G0', E.now nw, zaskd_I Z, (nw.2.2 0 0 13 rfl).trans h13, a4 rfl, ⟨(P.fr b5).now nw, b3, b4, Em.fr b5, O.now nw b5⟩, ⟨d, t, (h67 6 (Or.inl rfl)).trans hb.1, (h67 7 (Or.inr rfl)).trans hb.2.1, hb.2.2⟩, A.mv a5 a6 (by rw [nw.1]) (by rw [nw.2.1]; exact ⟨rfl, rfl⟩) b5 (by decide)⟩, a6, a10, a9, by omega⟩
theorem SIM.ends (S : SIM V h W T G gt ms bk lk my L As) {n : Nat} (hh : zhr W n) (hn : n < 23999) : ∃ h' ms', c_X0_hourEnds V (W.1 0 0) h = some h' ∧ m_isOver (0 : Int32) ms = some ms' ∧ SIM V h' (zend W) T G gt ms' bk lk my L As ∧ h'.1 = h.1 ∧ h'.2.1 = h.2.1 ∧ zhr (zend W) (n + 1) := by
  obtain ⟨C, gl, G0, E, Z, h13, Zt, ⟨P, R, M, Em, O⟩, hb, A⟩ := S
  obtain ⟨h', a1, a2, a3, a4⟩ := C.hourEnds Z
  have hd : zle (W.2.1 0 0 6) 1998 := by
    obtain ⟨d, t, h1, h2, h3, h4⟩ := hh
    exact ⟨d, by omega, h1⟩
  obtain ⟨ms', b1, b2, b3, b4, b5⟩ := ml_over (v := 0) R Z hd
  have nw := zend_now W
  have hr := zend_hr hh
  obtain ⟨d, t, u1, u2, u3, u4⟩ := hr
  exact ⟨h', ms', a1, b1, ⟨a2, gl, G0, E.now nw, zend_I Z, (nw.2.2 0 0 13 rfl).trans h13, Zt, ⟨(P.fr b3).now nw, b2, b4 L M, Em.fr b3, O.now nw b3⟩, ⟨d, t, u1, u2, u3, by omega⟩, A.mv (Tsame.refl 3 T) (gle.refl G) (by rw [nw.1]) (by rw [nw.2.1]; exact ⟨rfl, rfl⟩) b3 (by decide)⟩, a3, a4, zend_hr hh⟩
theorem zaskd_0 {lk my : zL} (S : SIM V h W T G gt ms bk lk my L As) : (zaskd lk my W).1 = W.1 := (zaskd_now S.2.2.2.2.1).1
theorem zp_now {W W' : zW} (h : znow W W') : zpc W' = zpc W ∧ zps W' = zps W := by
  unfold zpc zps
  rw [h.2.2 0 0 1 rfl]
  exact ⟨rfl, rfl⟩
/-- an hour goes, and is kept -/
theorem SIM.goes (S : SIM V h W T G gt ms bk lk my L As) {n : Nat} (hh : zhr W n) (hn : n < 23999) (h1 : h.1 + 12 ≤ V.2.2.1) (h2 : h.2.1 + zpot T + 30 ≤ V.2.2.2.1) : ∃ r h' ms1 ms' T' G' L', c_X0_hourGoes V (W.1 0 0) h = some (r, h') ∧ m_asking (0 : Int32) ms = some (r, ms1) ∧ m_isOver (0 : Int32) ms1 = some ms' ∧ SIM V h' (zend (zaskd lk my W)) T' G' gt ms' bk lk my L' As ∧ gle G G' ∧ h.1 ≤ h'.1 ∧ h'.1 ≤ h.1 + 12 ∧ h'.2.1 + zpot T' ≤ h.2.1 + zpot T + 30 ∧ zhr (zend (zaskd lk my W)) (n + 1) ∧ znow W (zend (zaskd lk my W)) := by
  obtain ⟨r, k1, ms1, T1, G1, L1, a1, a2, a3, a4, a5, a6, a7⟩ := S.ask h1 h2
  have Z := S.2.2.2.2.1
  obtain ⟨k2, ms2, b1, b2, b3, b4, b5, b6⟩ := a3.ends (zaskd_hr Z hh) hn
  have e0 := zaskd_0 S
  refine ⟨r, k2, ms1, ms2, T1, G1, L1, ?_, a2, b2, b3, a4, by omega, by omega, by omega, b6, (zaskd_now Z).trans (zend_now _)⟩
  unfold c_X0_hourGoes
  have k0 := a3.1.k_x
  rw [e0] at b1 k0
  rw [if_pos S.1.k_x, a1, Option.bind_some, if_pos k0, b1, Option.bind_some]
theorem OP.ref2 (S : SIM V h W T G gt ms bk lk my L As) {k : Nat} (hk : k < 6) {co : Option (Int32 × hx_S)} {mo : Option (Int32 × mx_S)} (e1 : co = c_X0_refused V (W.1 0 0) (nI k) h) (e2 : mo = m_refuses (nI k) ms) : OP V h W T G co mo := by
  rw [e1, e2]; exact OP.refused S hk
theorem ob_id {α β : Type} (o : Option (α × β)) : (o.bind fun q => some (q.1, q.2)) = o := by cases o <;> rfl
theorem op_hours (S : SIM V h W T G gt ms bk lk my L As) (hr : RM V h W T) (x : Int32) : OP V h W T G (c_X0_hours V (W.1 0 0) x h) (m_hours x ms) := by
  obtain ⟨n0, hn0, hh, e26⟩ := S.hr
  have C := S.1
  unfold c_X0_hours m_hours
  rw [show (1 : Int64) = (1 : Int32).toInt64 from rfl, show (200 : Int64) = (200 : Int32).toInt64 from rfl, c_isIn_z, Option.bind_some]
  have rf : OP V h W T G (c_X0_hours_b20 V (W.1 0 0) h) ((m_refuses (2 : Int32) ms).bind fun q7_ => some (q7_.1, q7_.2)) := by
    unfold c_X0_hours_b20
    rw [if_pos C.k_x]
    exact OP.ref2 S (k := 2) (by decide) (ob_id _) (ob_id _)
  by_cases hz : zin x 1 200 = 0
  · have : m_isAhead x (1 : Int32) (200 : Int32) ms = some 0 := by
      unfold m_isAhead m_isAhead_b27
      rw [m_is_z, Option.bind_some, if_pos hz]
    rw [if_pos hz, this, Option.bind_some, if_pos rfl]
    exact rf
  · obtain ⟨k, hk1, hk, rfl⟩ := zin_is (a := 1) (b := 200) hz (by decide) (by decide)
    rw [if_neg hz, if_pos C.k_x, C.isAhead hh (by omega) (by omega), ml_isAhead e26 (by omega) (by omega), if_neg hz, Option.bind_some, Option.bind_some]
    by_cases ha : zah n0 k = 0
    · rw [if_pos ha, if_pos ha]
      exact rf
    · have hnk : n0 + k ≤ 23999 := by
        unfold zah at ha
        by_cases q : n0 + k ≤ 23999
        · exact q
        · rw [if_neg q] at ha; exact absurd rfl ha
      rw [if_neg ha, if_neg ha, if_pos C.k_x]
      obtain ⟨hr1, hr2⟩ := hr
      obtain ⟨k1, ms1, T1, G1, a1, a2, S1, gl1, a3, a4, a5⟩ := S.keeps (by omega) (by omega)
      rw [a1, Option.bind_some, a2, Option.bind_some]
      have key : yes2 (hx_wh (c_X0_hours_s34 V (W.1 0 0) (nI k)) hx_FU ((0 : Int32), (0 : Int32), k1)) (hx_wh (m_hours_s26 (nI k)) hx_FU ((0 : Int32), (0 : Int32), ms1)) (fun r r' => r.1 = r'.1 ∧ ∃ W' T' G' L', SIM V r.2 W' T' G' gt r'.2 bk lk my L' (zacts As (W, L)) ∧ znow W W' ∧ gle G G' ∧ h.1 ≤ r.2.1 ∧ r.2.1 ≤ h.1 + 66 + 12 * k ∧ r.2.2.1 + zpot T' ≤ h.2.1 + zpot T + 670 + 30 * k) := by
        refine yes2.wh (I := fun m s s' => ∃ j X T' G' L', m = k - j ∧ j ≤ k ∧ s.1 = s'.1 ∧ s.2.1 = nI j ∧ s'.2.1 = nI j ∧ SIM V s.2.2 X T' G' gt s'.2.2 bk lk my L' (zacts As (W, L)) ∧ znow W X ∧ gle G G' ∧ zhr X (n0 + j) ∧ h.1 ≤ s.2.2.1 ∧ s.2.2.1 ≤ h.1 + 66 + 12 * j ∧ s.2.2.2.1 + zpot T' ≤ h.2.1 + zpot T + 670 + 30 * j) (n := k) ⟨0, W, T1, G1, L, by omega, by omega, rfl, rfl, rfl, S1, znow.refl _, gl1, hh, a3, by omega, by omega⟩ (by omega) ?_
        rintro m ⟨y1, x1, hx⟩ ⟨y2, x2, mx⟩ ⟨j, X, Tj, Gj, Lj, rfl, hj, e0, e1, e2, Sx, nX, gX, hX, q1, q2, q3⟩
        simp only at e0 e1 e2 Sx q1 q2 q3
        subst e0 e1 e2
        have x0 : X.1 = W.1 := nX.1
        unfold c_X0_hours_s34 m_hours_s26
        simp only
        by_cases hlt : j < k
        · obtain ⟨r, h2, ms2, ms3, T3, G3, L3, b1, b2, b3, b4, b5, b6, b7, b8, b9, b10⟩ := Sx.goes hX (by omega) (by omega) (by omega)
          have kx := Sx.1.k_x
          rw [x0] at b1 kx
          rw [if_neg (nI_ge hlt (by omega)), if_neg (nI_ge hlt (by omega)), if_pos kx, b1, Option.bind_some, b2, Option.bind_some, b3, Option.bind_some]
          exact yes2.ret ⟨k - (j + 1), by omega, j + 1, _, T3, G3, L3, rfl, by omega, rfl, nI_1 j, nI_1 j, b4, nX.trans b10, gX.trans b5, b9, by dsimp only; omega, by dsimp only; omega, by dsimp only; omega⟩
        · have hje : j = k := by omega
          subst hje
          rw [if_pos (nI_le (Nat.le_refl _) (by omega)), if_pos (nI_le (Nat.le_refl _) (by omega))]
          exact yes2.ret ⟨rfl, X, Tj, Gj, Lj, Sx, nX, gX, q1, q2, q3⟩
      obtain ⟨⟨r, h'⟩, ⟨r', ms'⟩, d1, d2, d3, W', T', G', L', d4, d5, d6, d7, d8, d9⟩ := key
      simp only at d3 d4 d7 d8 d9
      subst d3
      have zp := zp_now d5
      refine ⟨r, h', ms', W', T', G', gt, bk, lk, my, L', _, d1, d2, d4, by rw [d5.1], d6, by omega, by rw [zp.1]; omega, by rw [zp.2]; omega⟩
theorem SIM.draw (S : SIM V h W T G gt ms bk lk my L As) : ∃ r v h' ms', c_X0_drawOf V (W.1 0 0) (100 : Int32) h = some (r, h') ∧ m_draw (100 : Int32) ms = some (r, ms') ∧ SIM V h' (zB W 0 0 15 v) T G gt ms' bk lk my L As ∧ h'.1 = h.1 ∧ h'.2.1 = h.2.1 := by
  obtain ⟨o1, o2, o3, o4, o5, ⟨n, hn, s1, s2⟩, o7, o8⟩ := S.O
  have e : (1103515245 : Int64) * lN n + (12345 : Int64) - ((1103515245 : Int64) * lN n + (12345 : Int64)) / (2147483648 : Int64) * (2147483648 : Int64) = lN ((1103515245 * n + 12345) % 2147483648) := by
    rw [show (1103515245 : Int64) = lN 1103515245 from rfl, show (12345 : Int64) = lN 12345 from rfl, show (2147483648 : Int64) = lN 2147483648 from rfl, lN_mul, lN_add]
    exact pk_lRem (by omega) (by decide) (by decide)
  unfold c_X0_drawOf m_draw
  rw [if_neg (show ¬ (100 : Int32).toInt64 = 0 by decide), S.1.x_seeded, Option.bind_some, s1, s2, e]
  obtain ⟨h1, e1, C1, r1, r1'⟩ := S.1.wxL (lN ((1103515245 * n + 12345) % 2147483648))
  have sd := C1.x_seeded
  have z15 : (zB W 0 0 15 (lN ((1103515245 * n + 12345) % 2147483648))).2.2.1 0 0 15 = lN ((1103515245 * n + 12345) % 2147483648) := by simp [zB, zset]
  rw [z15] at sd
  rw [show (zB W 0 0 15 (lN ((1103515245 * n + 12345) % 2147483648))).1 = W.1 from rfl] at sd
  have m58 : (mx_L ms 58 (lN ((1103515245 * n + 12345) % 2147483648))).2.1 58 = lN ((1103515245 * n + 12345) % 2147483648) := by simp [mx_L]
  rw [e1, Option.bind_some, sd, Option.bind_some, if_neg (show ¬ (100 : Int32).toInt64 = 0 by decide), m58]
  exact ⟨_, _, h1, _, rfl, rfl, S.reg C1 rfl rfl (fun _ _ _ _ => rfl) ⟨rfl, rfl, rfl⟩ (fun _ _ _ _ _ => rfl) ⟨o1, o2, o3, o4, o5, ⟨_, by omega, z15, m58⟩, o7, o8⟩, r1, r1'⟩
theorem op_chance (S : SIM V h W T G gt ms bk lk my L As) (hr : RM V h W T) (x : Int32) : OP V h W T G (c_X0_chance V (W.1 0 0) x h) (m_chance x ms) := by
  obtain ⟨n0, hn0, hh, e26⟩ := S.hr
  have C := S.1
  unfold c_X0_chance m_chance
  rw [show (1 : Int64) = (1 : Int32).toInt64 from rfl, show (200 : Int64) = (200 : Int32).toInt64 from rfl, c_isIn_z, Option.bind_some]
  have rf : OP V h W T G (c_X0_chance_b20 V (W.1 0 0) h) ((m_refuses (2 : Int32) ms).bind fun q7_ => some (q7_.1, q7_.2)) := by
    unfold c_X0_chance_b20
    rw [if_pos C.k_x]
    exact OP.ref2 S (k := 2) (by decide) (ob_id _) (ob_id _)
  by_cases hz : zin x 1 200 = 0
  · have : m_isAhead x (1 : Int32) (200 : Int32) ms = some 0 := by
      unfold m_isAhead m_isAhead_b27
      rw [m_is_z, Option.bind_some, if_pos hz]
    rw [if_pos hz, this, Option.bind_some, if_pos rfl]
    exact rf
  · obtain ⟨k, hk1, hk, rfl⟩ := zin_is (a := 1) (b := 200) hz (by decide) (by decide)
    rw [if_neg hz, if_pos C.k_x, C.isAhead hh (by omega) (by omega), ml_isAhead e26 (by omega) (by omega), if_neg hz, Option.bind_some, Option.bind_some]
    by_cases ha : zah n0 k = 0
    · rw [if_pos ha, if_pos ha]
      exact rf
    · have hnk : n0 + k ≤ 23999 := by
        unfold zah at ha
        by_cases q : n0 + k ≤ 23999
        · exact q
        · rw [if_neg q] at ha; exact absurd rfl ha
      rw [if_neg ha, if_neg ha, if_pos C.k_x]
      obtain ⟨hr1, hr2⟩ := hr
      obtain ⟨k1, ms1, T1, G1, a1, a2, S1, gl1, a3, a4, a5⟩ := S.keeps (by omega) (by omega)
      rw [a1, Option.bind_some, a2, Option.bind_some]
      have key : yes2 (hx_wh (c_X0_chance_s34 V (W.1 0 0) (nI k)) hx_FU ((0 : Int32), (0 : Int32), k1)) (hx_wh (m_chance_s26 (nI k)) hx_FU ((0 : Int32), (0 : Int32), ms1)) (fun r r' => r.1 = r'.1 ∧ ∃ W' T' G' L', SIM V r.2 W' T' G' gt r'.2 bk lk my L' (zacts As (W, L)) ∧ (W'.1 = W.1 ∧ W'.2.1 0 0 1 = W.2.1 0 0 1) ∧ gle G G' ∧ h.1 ≤ r.2.1 ∧ r.2.1 ≤ h.1 + 66 + 12 * k ∧ r.2.2.1 + zpot T' ≤ h.2.1 + zpot T + 670 + 30 * k) := by
        refine yes2.wh (I := fun m s s' => ∃ j X T' G' L', m = k - j ∧ j ≤ k ∧ s.1 = s'.1 ∧ s.2.1 = nI j ∧ s'.2.1 = nI j ∧ SIM V s.2.2 X T' G' gt s'.2.2 bk lk my L' (zacts As (W, L)) ∧ (X.1 = W.1 ∧ X.2.1 0 0 1 = W.2.1 0 0 1) ∧ gle G G' ∧ zhr X (n0 + j) ∧ h.1 ≤ s.2.2.1 ∧ s.2.2.1 ≤ h.1 + 66 + 12 * j ∧ s.2.2.2.1 + zpot T' ≤ h.2.1 + zpot T + 670 + 30 * j) (n := k) ⟨0, W, T1, G1, L, by omega, by omega, rfl, rfl, rfl, S1, ⟨rfl, rfl⟩, gl1, hh, a3, by omega, by omega⟩ (by omega) ?_
        rintro m ⟨y1, x1, hx⟩ ⟨y2, x2, mx⟩ ⟨j, X, Tj, Gj, Lj, rfl, hj, e0, e1, e2, Sx, ⟨x0, x01⟩, gX, hX, q1, q2, q3⟩
        simp only at e0 e1 e2 Sx q1 q2 q3
        subst e0 e1 e2
        unfold c_X0_chance_s34 m_chance_s26
        simp only
        by_cases hlt : j < k
        · have kx := Sx.1.k_x
          obtain ⟨r0, v0, h5, ms5, u1, u2, Sy, u3, u4⟩ := Sx.draw
          have y0 : (zB X 0 0 15 v0).1 = W.1 := x0
          have ky := Sy.1.k_x
          have kp := Sy.1.x_park
          have kr := Sy.1.z_rain
          have mt := ml_told Sy.2.2.2.2.2.2.2.1.1 (k := 4) (by decide)
          have hY : zhr (zB X 0 0 15 v0) (n0 + j) := hX
          rw [x0] at kx u1
          rw [y0] at ky kp kr
          rw [if_neg (nI_ge hlt (by omega)), if_neg (nI_ge hlt (by omega)), if_pos kx, u1, Option.bind_some, u2, Option.bind_some, kp, Option.bind_some, Option.bind_some, kr, Option.bind_some, (show m_toldOf (4 : Int32) ms5 = _ from mt), Option.bind_some]
          simp only
          by_cases hrn : (zB X 0 0 15 v0).2.1 20 0 4 ≤ r0
          · obtain ⟨r, h2, ms2, ms3, T3, G3, L3, b1, b2, b3, b4, b5, b6, b7, b8, b9, b10⟩ := Sy.goes hY (by omega) (by omega) (by omega)
            rw [y0] at b1
            rw [if_pos hrn, if_pos hrn, if_pos ky, b1, Option.bind_some]
            unfold m_chance_b50 m_chance_b63 m_chance_b76
            rw [if_pos rfl, if_pos rfl, b2, Option.bind_some, b3, Option.bind_some]
            exact yes2.ret ⟨k - (j + 1), by omega, j + 1, _, T3, G3, L3, rfl, by omega, by simp, nI_1 j, nI_1 j, b4, ⟨b10.1.trans y0, (b10.2.2 0 0 1 rfl).trans x01⟩, gX.trans b5, b9, by dsimp only; omega, by dsimp only; omega, by dsimp only; omega⟩
          · obtain ⟨h2, ms2, b1, b2, b3, b4, b5, b6⟩ := Sy.ends hY (by omega)
            rw [y0] at b1
            rw [if_neg hrn, if_neg hrn, if_pos ky, b1, Option.bind_some]
            unfold m_chance_b50 m_chance_b63 m_chance_b76
            rw [if_neg (by decide), if_neg (by decide), b2, Option.bind_some]
            have nw := zend_now (zB X 0 0 15 v0)
            exact yes2.ret ⟨k - (j + 1), by omega, j + 1, _, Tj, Gj, Lj, rfl, by omega, rfl, nI_1 j, nI_1 j, b3, ⟨nw.1.trans y0, (nw.2.2 0 0 1 rfl).trans x01⟩, gX, b6, by dsimp only; omega, by dsimp only; omega, by dsimp only; omega⟩
        · have hje : j = k := by omega
          subst hje
          rw [if_pos (nI_le (Nat.le_refl _) (by omega)), if_pos (nI_le (Nat.le_refl _) (by omega))]
          exact yes2.ret ⟨rfl, X, Tj, Gj, Lj, Sx, ⟨x0, x01⟩, gX, q1, q2, q3⟩
      obtain ⟨⟨r, h'⟩, ⟨r', ms'⟩, d1, d2, d3, W', T', G', L', d4, d5, d6, d7, d8, d9⟩ := key
      simp only at d3 d4 d7 d8 d9
      subst d3
      have zp : zpc W' = zpc W ∧ zps W' = zps W := by unfold zpc zps; rw [d5.2]; exact ⟨rfl, rfl⟩
      refine ⟨r, h', ms', W', T', G', gt, bk, lk, my, L', _, d1, d2, d4, by rw [d5.1], d6, by omega, by rw [zp.1]; omega, by rw [zp.2]; omega⟩
end HO

/-! PURE SIDE: the call dress, all ways -/
set_option maxRecDepth 100000
section DS
variable {V : hx_V} {h : hx_S} {W X Y T : zW} {G G1 gt : Nat → Option hx_C} {ms : mx_S} {bk : Nat} {lk my : zL} {L : List (Nat → Int32)} {As : List zU}
def DC (V : hx_V) (h : hx_S) (W T : zW) (G G1 gt : Nat → Option hx_C) (ms : mx_S) (bk : Nat) (lk my : zL) (L : List (Nat → Int32)) (As : List zU) (g b wa ba : Nat) : Prop :=
  SIM V h W T G gt ms bk lk my L As ∧ gle G G1 ∧ (∃ c, G1 h.1 = some (100, 157, c) ∧ SP W c) ∧ (∃ cw, G1 wa = some (100, 3, cw) ∧ ∀ i, i < 3 → cw i = .int (W.2.1 30 g i)) ∧ G1 ba = none ∧ V.2.1.size ≤ ba ∧ g < W.2.2.2.1 1 ∧ b < W.2.2.2.1 0
variable {g b wa ba N1 N2 : Nat}
theorem DC.z (D : DC V h W T G G1 gt ms bk lk my L As g b wa ba) (x3 : Int32) {x y : Nat} (hx9 : x ≤ 9) (hy9 : y ≤ 9) {hx : hx_S} {s' : Int32 × Int32 × Int32 × mx_S} (R : DRel V W T G1 ba ms N1 N2 (100 * x + 10 * y) hx s') :
    yes (hx_wh (c_X0_dress_s119 V (W.1 0 0) (nI b) x3 (some (W.1 29 g)) (some h.1) (some wa) (some ba) (nI x) (nI y)) hx_FU ((0 : Int32), hx)) (fun r => ∃ h' s'', r = .inl (nI (y + 1), h') ∧ mit (m_dress_s38 (nI g) (nI b) x3) 10 s' = some s'' ∧ DRel V W T G1 ba ms N1 N2 (100 * x + 10 * (y + 1)) h' s'') := by
  obtain ⟨S, gl1, ⟨c, c1, c2⟩, ⟨cw, w1, w2⟩, hba, hB, hg, hb⟩ := D
  refine yes.wh (I := fun n s => ∃ z sz, n = 10 - z ∧ z ≤ 10 ∧ s.1 = nI z ∧ mit (m_dress_s38 (nI g) (nI b) x3) z s' = some sz ∧ DRel V W T G1 ba ms N1 N2 (100 * x + 10 * y + z) s.2 sz) (n := 10) ⟨0, s', rfl, by decide, rfl, rfl, R⟩ (by decide) ?_
  rintro n ⟨q, hz⟩ ⟨z, sz, rfl, hz10, e1, e2, Rz⟩
  simp only at e1 Rz
  subst e1
  by_cases h10 : z = 10
  · subst h10
    unfold c_X0_dress_s119
    simp only
    rw [if_pos (show (9 : Int32) < nI 10 by decide), nI_1]
    exact yes.ret ⟨hz, sz, rfl, e2, by rw [show 100 * x + 10 * (y + 1) = 100 * x + 10 * y + 10 by omega]; exact Rz⟩
  · obtain ⟨h', s'', a1, a2, a3⟩ := S.dress1 gl1 c1 c2 w1 w2 hba hB hg hb x3 hx9 hy9 (by omega) Rz
    rw [a1]
    exact yes.ret ⟨10 - (z + 1), by omega, z + 1, s'', rfl, by omega, rfl, mit_add e2 (mit_1 a2), a3⟩
theorem DC.y (D : DC V h W T G G1 gt ms bk lk my L As g b wa ba) (x3 : Int32) {x : Nat} (hx9 : x ≤ 9) {hx : hx_S} {s' : Int32 × Int32 × Int32 × mx_S} (R : DRel V W T G1 ba ms N1 N2 (100 * x) hx s') :
    yes (hx_wh (c_X0_dress_s109 V (W.1 0 0) (nI b) x3 (some (W.1 29 g)) (some h.1) (some wa) (some ba) (nI x)) hx_FU ((0 : Int32), hx)) (fun r => ∃ h' s'', r = .inl (nI (x + 1), h') ∧ mit (m_dress_s38 (nI g) (nI b) x3) 100 s' = some s'' ∧ DRel V W T G1 ba ms N1 N2 (100 * (x + 1)) h' s'') := by
  refine yes.wh (I := fun n s => ∃ y sz, n = 10 - y ∧ y ≤ 10 ∧ s.1 = nI y ∧ mit (m_dress_s38 (nI g) (nI b) x3) (10 * y) s' = some sz ∧ DRel V W T G1 ba ms N1 N2 (100 * x + 10 * y) s.2 sz) (n := 10) ⟨0, s', rfl, by decide, rfl, rfl, R⟩ (by decide) ?_
  rintro n ⟨q, hz⟩ ⟨y, sz, rfl, hz10, e1, e2, Rz⟩
  simp only at e1 Rz
  subst e1
  unfold c_X0_dress_s109
  simp only
  by_cases h10 : y = 10
  · subst h10
    rw [if_pos (show (9 : Int32) < nI 10 by decide), nI_1]
    exact yes.ret ⟨hz, sz, rfl, e2, by rw [show 100 * (x + 1) = 100 * x + 10 * 10 by omega]; exact Rz⟩
  · obtain ⟨r, a0, h', s'', rfl, a2, a3⟩ := D.z x3 hx9 (show y ≤ 9 by omega) Rz
    rw [if_neg (show ¬ (9 : Int32) < nI y from nI_nlt (a := 9) (by omega) (by decide)), a0]
    exact yes.ret ⟨10 - (y + 1), by omega, y + 1, s'', rfl, by omega, rfl, by rw [show 10 * (y + 1) = 10 * y + 10 by omega]; exact mit_add e2 a2, a3⟩
theorem DC.x (D : DC V h W T G G1 gt ms bk lk my L As g b wa ba) {k : Nat} (hk3 : k ≤ 3) {hx : hx_S} {s' : Int32 × Int32 × Int32 × mx_S} (R : DRel V W T G1 ba ms N1 N2 0 hx s') :
    yes (hx_wh (c_X0_dress_s99 V (W.1 0 0) (nI b) (nI k) (some (W.1 29 g)) (some h.1) (some wa) (some ba)) hx_FU ((0 : Int32), hx)) (fun r => ∃ W' G' ms', hx_wh (m_dress_s38 (nI g) (nI b) (nI k)) hx_FU s' = some (r.1, ms') ∧ SIM V r.2 W' T G' gt ms' bk lk my L As ∧ W'.1 = W.1 ∧ zeq W W' ∧ gle G G' ∧ r.2.1 = N1 ∧ r.2.2.1 = N2) := by
  refine yes.wh (I := fun n s => ∃ x sz, n = 10 - x ∧ x ≤ 10 ∧ s.1 = nI x ∧ mit (m_dress_s38 (nI g) (nI b) (nI k)) (100 * x) s' = some sz ∧ DRel V W T G1 ba ms N1 N2 (100 * x) s.2 sz) (n := 10) ⟨0, s', rfl, by decide, rfl, rfl, R⟩ (by decide) ?_
  rintro n ⟨q, hz⟩ ⟨x, sz, rfl, hz10, e1, e2, Rz⟩
  simp only at e1 Rz
  subst e1
  unfold c_X0_dress_s99
  simp only
  by_cases h10 : x = 10
  · subst h10
    rw [if_pos (show (9 : Int32) < nI 10 by decide)]
    obtain ⟨S, gl1, ⟨c, c1, c2⟩, ⟨cw, w1, w2⟩, hba, hB, hg, hb⟩ := D
    obtain ⟨X, cb, C, nX, eX, fX, ew, n1, n2, br⟩ := Rz
    obtain ⟨s1, s2, s3, mx⟩ := sz
    simp only at fX ew br
    subst ew
    have gb : gle G1 (gset G1 ba (100, 4, cb)) := gset_le hba
    have Z := S.2.2.2.2.1
    have ZX : ZI X := (Z.Ax (by decide)).eq eX
    obtain ⟨h3, W', d1, d2, d3, d4, d5, d6⟩ := TQ.done S C ZX (S.2.2.1.mono (gl1.trans gb)) nX (gl1.trans gb) (gb _ _ c1) c2 fX
    have kx := C.k_x
    rw [nX.1] at kx
    have rb : ∀ v, cb k = .int v → hgAI h3 ba 100 (nI k) = some v := fun v hv => p_gAI (d2.1.fro (gset_at _ _ _)).1 (by omega) (by decide) hv
    -- what is answered
    have ans : ∃ v, cb k = .int v ∧ m_dress_b172 (nI k) s1 s2 mx = some (v, mx) := by
      unfold m_dress_b172
      rcases br with ⟨p1, p2, p3⟩ | ⟨w, l, p1, p2, p3, p4, p5, p6, p7, p8⟩
      · exact ⟨-1, p3 k (by omega), by rw [if_pos p1]⟩
      · rw [if_neg (by rw [p3]; exact nI_nm1 (by omega)), p3, p4]
        have cs : k = 0 ∨ k = 1 ∨ k = 2 ∨ k = 3 := by omega
        rcases cs with rfl | rfl | rfl | rfl
        · exact ⟨_, p5, by rw [if_pos (show nI 0 = 0 from rfl)]⟩
        · refine ⟨_, p6, ?_⟩
          rw [if_neg (show ¬ nI 1 = 0 by decide), show nI 1 - (1 : Int32) = nI 0 from rfl, m_digit_z p1 (by decide)]
          rfl
        · refine ⟨_, p7, ?_⟩
          rw [if_neg (show ¬ nI 2 = 0 by decide), show nI 2 - (1 : Int32) = nI 1 from rfl, m_digit_z p1 (by decide)]
          rfl
        · refine ⟨_, p8, ?_⟩
          rw [if_neg (show ¬ nI 3 = 0 by decide), show nI 3 - (1 : Int32) = nI 2 from rfl, m_digit_z p1 (by decide)]
          rfl
    obtain ⟨v, v1, v2⟩ := ans
    have me : m_dress_s38 (nI g) (nI b) (nI k) (s1, s2, nI (100 * 10), mx) = (some (v, mx)).map .inr := by
      unfold m_dress_s38
      simp only
      rw [if_pos (show (1000 : Int32) ≤ nI (100 * 10) by decide), v2]
    have mw := mit_end e2 me (by decide)
    unfold c_X0_dress_b230
    rw [if_pos (show hk hz (W.1 0 0) [0] = true from kx), d1, Option.bind_some, Option.bind_some, rb v v1, Option.bind_some]
    exact yes.ret ⟨W', _, mx, mw, d2, d3, d4, gl1.trans gb, by dsimp only; omega, by dsimp only; omega⟩
  · obtain ⟨r, a0, h', s'', rfl, a2, a3⟩ := D.y (nI k) (show x ≤ 9 by omega) Rz
    rw [if_neg (show ¬ (9 : Int32) < nI x from nI_nlt (a := 9) (by omega) (by decide)), a0]
    exact yes.ret ⟨10 - (x + 1), by omega, x + 1, s'', rfl, by omega, rfl, by rw [show 100 * (x + 1) = 100 * x + 100 by omega]; exact mit_add e2 a2, a3⟩
theorem op_dress (S : SIM V h W T G gt ms bk lk my L As) (hr : RM V h W T) (x y w : Int32) : OP V h W T G (c_X0_dress V (W.1 0 0) x y w h) (m_dress x y w ms) := by
  have S' := S
  obtain ⟨C, gl, G0, E, Z, h13, Zt, ⟨P, R, M, Em, O⟩, hb, A⟩ := S
  have h6 := Z.1.1
  have h8 := Z.1.2.1
  unfold c_X0_dress m_dress
  rw [if_pos C.k_x, C.guestOf Z.1, Option.bind_some, if_pos C.k_x, C.beastOf Z.1, Option.bind_some, ml_isGuest P h8, Option.bind_some, ml_isBeast P h6, Option.bind_some]
  cases ex : zof (W.2.2.2.1 1) x with
  | none =>
    rw [Option.map_none, if_pos rfl, if_pos rfl, if_pos rfl]
    exact OP.same S' (-1)
  | some g =>
    obtain ⟨hg, rfl⟩ := zof_lt (by omega) ex
    rw [if_neg (show ¬ Option.map (W.1 29) (some g) = none by simp), if_neg (show ¬ (some g : Option Nat) = none by simp), if_neg (show ¬ (1 : Int32) = 0 by decide)]
    cases ey : zof (W.2.2.2.1 0) y with
    | none =>
      rw [Option.map_none, if_pos rfl, if_pos rfl, if_pos rfl]
      exact OP.same S' (-1)
    | some b =>
      obtain ⟨hb1, rfl⟩ := zof_lt (by omega) ey
      rw [if_neg (show ¬ Option.map (W.1 25) (some b) = none by simp), if_neg (show ¬ (some b : Option Nat) = none by simp), if_neg (show ¬ (1 : Int32) = 0 by decide), show (0 : Int64) = (0 : Int32).toInt64 from rfl, show (3 : Int64) = (3 : Int32).toInt64 from rfl, c_isIn_z, Option.bind_some, m_is_z, Option.bind_some]
      by_cases hz : zin w 0 3 = 0
      · rw [if_pos hz, if_pos hz]
        exact OP.same S' (-1)
      · obtain ⟨k, -, hk, rfl⟩ := zin_is (a := 0) (b := 3) hz (by decide) (by decide)
        rw [if_neg hz, if_neg hz, if_pos C.k_x, Option.map_some]
        obtain ⟨hr1, hr2⟩ := hr
        obtain ⟨k1, Ga, c, a1, C1, gla, c1, c2, n1, n2⟩ := C.thinks Z (by omega) (by omega)
        rw [a1, Option.bind_some]
        simp only
        have low := C1.low
        rw [(show hna V k1 100 (3 : Int32) (.int 0) = _ from p_na (n := 3) 100 (.int 0) (by omega) (by omega) (by decide)), Option.bind_some, Option.bind_some]
        have C2 := C1.push 3 (100, 3, fun _ => .int 0)
        have no1 : Ga k1.1 = none := by
          cases e : Ga k1.1 with
          | none => rfl
          | some q => exact absurd (C1.fro e).2 (by omega)
        change CS V (hx_push k1 3 (100, 3, fun _ => .int 0)) (zA W 0 0 13 1) T (gset Ga k1.1 (100, 3, fun _ => .int 0)) at C2
        have tr : ∀ (hq : hx_S) (Gq : Nat → Option hx_C), CS V hq (zA W 0 0 13 1) T Gq → hgR hq (W.1 29 g) [9] 4 = some (some (W.1 30 g)) ∧ ∀ i, i < 3 → hgAI hq (W.1 30 g) 100 (nI i) = some (W.2.1 30 g i) := fun hq Gq Cq => ⟨Cq.g_traits hg rfl, fun i hi => by
          have := Cq.traitsOf (j := g) hg hi
          rw [show (zA W 0 0 13 1).2.1 30 g i = W.2.1 30 g i by simp [zA, zset]] at this
          exact this⟩
        obtain ⟨q1, u1, D1, v1, w1⟩ := C2.fw (i := 0) (gset_at _ _ _) (by decide) (by decide) low (W.2.1 30 g 0)
        obtain ⟨q2, u2, D2, v2, w2⟩ := D1.fw (i := 1) (gset_at _ _ _) (by decide) (by decide) low (W.2.1 30 g 1)
        obtain ⟨q3, u3, D3, v3, w3⟩ := D2.fw (i := 2) (gset_at _ _ _) (by decide) (by decide) low (W.2.1 30 g 2)
        rw [gset_gset, gset_gset, gset_gset] at D3
        have pu1 : (hx_push k1 3 (100, 3, fun _ => .int 0)).1 = k1.1 + 1 := rfl
        have pu2 : (hx_push k1 3 (100, 3, fun _ => .int 0)).2.1 = k1.2.1 + 3 := rfl
        rw [(tr _ _ C2).1, Option.bind_some, Option.bind_some, (show hgAI _ (W.1 30 g) 100 (0 : Int32) = _ from (tr _ _ C2).2 0 (by decide)), Option.bind_some, (show hpA V _ k1.1 100 (0 : Int32) _ = some q1 from u1), Option.bind_some, (tr _ _ D1).1, Option.bind_some, Option.bind_some, (show hgAI _ (W.1 30 g) 100 (1 : Int32) = _ from (tr _ _ D1).2 1 (by decide)), Option.bind_some, (show hpA V _ k1.1 100 (1 : Int32) _ = some q2 from u2), Option.bind_some, (tr _ _ D2).1, Option.bind_some, Option.bind_some, (show hgAI _ (W.1 30 g) 100 (2 : Int32) = _ from (tr _ _ D2).2 2 (by decide)), Option.bind_some, (show hpA V _ k1.1 100 (2 : Int32) _ = some q3 from u3), Option.bind_some]
        rw [(show hna V q3 100 (4 : Int32) (.int 0) = _ from p_na (n := 4) 100 (.int 0) (by omega) (by omega) (by decide)), Option.bind_some]
        have C4 := D3.push 4 (100, 4, fun _ => .int 0)
        have low2 := D3.low
        generalize hGw : gset Ga k1.1 (100, 3, updV (updV (updV (fun _ => Value.int 0) 0 (.int (W.2.1 30 g 0))) 1 (.int (W.2.1 30 g 1))) 2 (.int (W.2.1 30 g 2))) = Gw at *
        have no2 : Gw q3.1 = none := by
          cases e : Gw q3.1 with
          | none => rfl
          | some q => exact absurd (D3.fro e).2 (by omega)
        change CS V (hx_push q3 4 (100, 4, fun _ => .int 0)) (zA W 0 0 13 1) T (gset Gw q3.1 (100, 4, fun _ => .int 0)) at C4
        obtain ⟨p1, o1, F1, m1, l1⟩ := C4.fw (i := 0) (gset_at _ _ _) (by decide) (by decide) low2 (-1)
        obtain ⟨p2, o2, F2, m2, l2⟩ := F1.fw (i := 1) (gset_at _ _ _) (by decide) (by decide) low2 (-1)
        obtain ⟨p3, o3, F3, m3, l3⟩ := F2.fw (i := 2) (gset_at _ _ _) (by decide) (by decide) low2 (-1)
        obtain ⟨p4, o4, F4, m4, l4⟩ := F3.fw (i := 3) (gset_at _ _ _) (by decide) (by decide) low2 (-1)
        rw [gset_gset, gset_gset, gset_gset, gset_gset] at F4
        have pv1 : (hx_push q3 4 (100, 4, fun _ => .int 0)).1 = q3.1 + 1 := rfl
        have pv2 : (hx_push q3 4 (100, 4, fun _ => .int 0)).2.1 = q3.2.1 + 4 := rfl
        rw [(show hpA V _ q3.1 100 (0 : Int32) _ = some p1 from o1), Option.bind_some, (show hpA V _ q3.1 100 (1 : Int32) _ = some p2 from o2), Option.bind_some, (show hpA V _ q3.1 100 (2 : Int32) _ = some p3 from o3), Option.bind_some, (show hpA V _ q3.1 100 (3 : Int32) _ = some p4 from o4), Option.bind_some]
        have glw : gle Ga Gw := by rw [← hGw]; exact gset_le no1
        have dc : DC V h W T G Gw gt ms bk lk my L As g b k1.1 q3.1 := by
          refine ⟨S', gla.trans glw, ⟨c, glw _ _ c1, c2⟩, ⟨_, by rw [← hGw]; exact gset_at _ _ _, fun i hi => ?_⟩, no2, low2, hg, hb1⟩
          have cs : i = 0 ∨ i = 1 ∨ i = 2 := by omega
          rcases cs with rfl | rfl | rfl <;> simp [updV]
        have d0 : DRel V W T Gw q3.1 ms p4.1 p4.2.1 0 p4 ((-1 : Int32), (100000000 : Int32), (0 : Int32), ms) := by
          refine ⟨_, _, F4, znow.refl _, zeq.refl _, mfr.refl 1 ms, rfl, rfl, rfl, Or.inl ⟨rfl, rfl, fun i hi => ?_⟩⟩
          have cs : i = 0 ∨ i = 1 ∨ i = 2 ∨ i = 3 := by omega
          rcases cs with rfl | rfl | rfl | rfl <;> simp [updV]
        obtain ⟨⟨r, h'⟩, x1, W', G', ms', x2, x3, x4, x5, x6, x7, x8⟩ := dc.x (k := k) hk d0
        simp only at x2 x3 x7 x8
        have zp := zpc_eq x5
        exact ⟨r, h', ms', W', T, G', gt, bk, lk, my, L, As, x1, x2, x3, by rw [x4], x6, by omega, by rw [zp.1]; omega, by rw [zp.2]; omega⟩
end DS

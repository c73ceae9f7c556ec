/-! PURE SIDE: the call on -/
set_option maxRecDepth 100000
section O4
variable {V : hx_V} {h : hx_S} {W X Y T : zW} {G G1 gt : Nat → Option hx_C} {ms : mx_S} {bk : Nat} {lk my : zL} {L : List (Nat → Int32)} {As : List zU} {t : Nat → Nat}
theorem CS.onAll (C : CS V h W T G) (G0 : GEg V G) (Z : ZI W) (Q : ZTP W t) {n : Nat} (ok : zokt W t n) (Zt : ZT V T G L) (Ac : ACc V T G (W.1 0 0) As) :
    yes (hx_wh (c_X0_on_s54 V (W.1 0 0)) hx_FU ((0 : Int32), h)) (fun r => r.1 = 1 ∧ ∃ X T', CS V r.2 X T' G ∧ ZI X ∧ znow W X ∧ (∀ k, k < W.2.2.2.1 1 → ODg X t k) ∧ (∀ b, b < W.2.2.2.1 0 → ODb X t (W.2.2.2.1 1) b) ∧ (∀ i, X.2.1 0 0 i = W.2.1 0 0 i) ∧ ZT V T' G [] ∧ ACc V T' G (W.1 0 0) [] ∧ zpot T' = zpot T ∧ r.2.1 = h.1 ∧ r.2.2.1 = h.2.1) := by
  have h6 := Z.1.1
  have h8 := Z.1.2.1
  have keepQ : ∀ {X : zW}, znow W X → ZTP X t := fun {X} nw i hi => by rw [nw.2.2 1 0 i rfl]; exact Q i hi
  -- the end
  have fin : ∀ (hx : hx_S) (X : zW), CS V hx X T G → X.1 = W.1 → hx.1 = h.1 → hx.2.1 = h.2.1 → ∃ h' T', c_X0_on_b304 V (W.1 0 0) hx = some ((1 : Int32), h') ∧ CS V h' X T' G ∧ ZT V T' G [] ∧ ACc V T' G (W.1 0 0) [] ∧ zpot T' = zpot T ∧ h'.1 = h.1 ∧ h'.2.1 = h.2.1 := by
    intro hx X C x0 n1 n2
    obtain ⟨k1, T1, a1, C1, Z1, s1, t1, c1, b1, b2⟩ := C.clear3 G0 Zt
    obtain ⟨w1, w2, w3, w4⟩ := s1 9 rfl (by decide) (by decide)
    obtain ⟨w5, w6, w7, w8⟩ := s1 10 rfl (by decide) (by decide)
    have Zl : ZL V T1 9 As.length := by
      obtain ⟨⟨u1, u2, u3, u4⟩, -⟩ := Ac
      exact ⟨by rw [w2]; exact u1, by rw [show T1.2.2.2.1 (9 + 1) = _ from w7]; exact u2, by rw [show T1.2.2.2.1 (9 + 1) = _ from w7]; exact u3, fun q => by rw [show T1.1 (9 + 1) 0 = _ from w5 0]; rw [show T1.2.2.2.1 (9 + 1) = _ from w7] at q; exact u4 q⟩
    obtain ⟨k2, T2, d1, C2, A2, s2, c2, e1, e2⟩ := C1.clear9 G0 Zl (by rw [w7]; exact Ac.2.2.1) (W.1 0 0)
    have kt := C.x_told
    have ka := C1.x_acts
    rw [x0] at kt ka
    refine ⟨k2, T2, ?_, C2, ?_, A2, ?_, by omega, by omega⟩
    · unfold c_X0_on_b304
      rw [kt, Option.bind_some, Option.bind_some, if_pos C.k_told, a1, Option.bind_some, ka, Option.bind_some, Option.bind_some, if_pos C1.k_acts, d1, Option.bind_some]
    · obtain ⟨y1, y2, y3, y4⟩ := s2 3 rfl (by decide) (by decide)
      obtain ⟨y5, y6, y7, y8⟩ := s2 4 rfl (by decide) (by decide)
      obtain ⟨⟨u1, u2, u3, u4⟩, u5, u6, u7⟩ := Z1
      exact ⟨⟨by rw [y2]; exact u1, by rw [show T2.2.2.2.1 (3 + 1) = _ from y7]; exact u2, by rw [show T2.2.2.2.1 (3 + 1) = _ from y7]; exact u3, fun q => by rw [show T2.1 (3 + 1) 0 = _ from y5 0]; rw [show T2.2.2.2.1 (3 + 1) = _ from y7] at q; exact u4 q⟩, u5, by rw [y7]; exact u6, fun i r hi => by simp at hi⟩
    · show zph (T2.2.2.2.1 4) + zph (T2.2.2.2.1 10) = zph (T.2.2.2.1 4) + zph (T.2.2.2.1 10)
      rw [(s2 4 rfl (by decide) (by decide)).2.2.1, c1, c2, w7]
  -- beasts
  have beasts : ∀ (hx : hx_S) (X : zW), CS V hx X T G → ZI X → znow W X → (∀ k, k < W.2.2.2.1 1 → ODg X t k) → (∀ i, X.2.1 0 0 i = W.2.1 0 0 i) → hx.1 = h.1 → hx.2.1 = h.2.1 → yes (c_X0_on_b160 V (W.1 0 0) hx) (fun r => r.1 = 1 ∧ ∃ X T', CS V r.2 X T' G ∧ ZI X ∧ znow W X ∧ (∀ k, k < W.2.2.2.1 1 → ODg X t k) ∧ (∀ b, b < W.2.2.2.1 0 → ODb X t (W.2.2.2.1 1) b) ∧ (∀ i, X.2.1 0 0 i = W.2.1 0 0 i) ∧ ZT V T' G [] ∧ ACc V T' G (W.1 0 0) [] ∧ zpot T' = zpot T ∧ r.2.1 = h.1 ∧ r.2.2.1 = h.2.1) := by
    intro hx X C Z nw hg h0 n1 n2
    unfold c_X0_on_b160
    refine yes.wh (I := fun n s => ∃ b X, n = W.2.2.2.1 0 - b ∧ b ≤ W.2.2.2.1 0 ∧ s.1 = nI b ∧ CS V s.2 X T G ∧ ZI X ∧ znow W X ∧ (∀ k, k < W.2.2.2.1 1 → ODg X t k) ∧ (∀ b', b' < b → ODb X t (W.2.2.2.1 1) b') ∧ (∀ i, X.2.1 0 0 i = W.2.1 0 0 i) ∧ s.2.1 = h.1 ∧ s.2.2.1 = h.2.1) (n := W.2.2.2.1 0) ⟨0, X, by omega, by omega, rfl, C, Z, nw, hg, fun b' hb' => by omega, h0, n1, n2⟩ (by omega) ?_
    rintro n ⟨q, hy⟩ ⟨b, Y, rfl, hb, e, CY, ZY, nY, hg, hbs, h0, n1, n2⟩
    simp only at e CY n1 n2
    subst e
    have y0 : Y.1 = W.1 := nY.1
    have nu : Y.2.2.2.1 = W.2.2.2.1 := by rw [nY.2.1]
    by_cases hlt : b < W.2.2.2.1 0
    · obtain ⟨h', X', a1, a2, a3, a4, a5, a6, a7, a8⟩ := CY.onBeast ZY (keepQ nY) (b := b) (by rw [nu]; exact hlt) (by rw [nu]; exact ok.2.2 b hlt)
      rw [y0] at a1
      rw [nu] at a5
      rw [a1]
      refine yes.ret ⟨W.2.2.2.1 0 - (b + 1), by omega, b + 1, X', rfl, by omega, rfl, a2, a3, nY.trans a4, fun k hk => ?_, fun b' hb' => ?_, fun i => ?_, by dsimp only; omega, by dsimp only; omega⟩
      · obtain ⟨d1, d2, d3⟩ := hg k hk
        exact ⟨fun i hi => by rw [a6 _ _ _ (by omega)]; exact d1 i hi, by rw [a6 _ _ _ (by omega)]; exact d2, by rw [a6 _ _ _ (by omega)]; exact d3⟩
      · by_cases e : b' = b
        · subst e; exact a5
        · obtain ⟨d1, d2⟩ := hbs b' (by omega)
          exact ⟨fun i hi => by rw [a6 _ _ _ (by omega)]; exact d1 i hi, fun k hk => ⟨by rw [a6 _ _ _ (by omega)]; exact (d2 k hk).1, by rw [a6 _ _ _ (by omega)]; exact (d2 k hk).2⟩⟩
      · rw [a6 _ _ _ (by omega)]; exact h0 i
    · have hbe : b = W.2.2.2.1 0 := by omega
      subst hbe
      have kp := CY.x_park
      have kz := CY.z_beasts
      have kg := CY.k_beasts
      have ks := CY.sizeB ZY.1
      rw [y0] at kp kz kg ks
      rw [nu] at ks
      obtain ⟨h', T', w1, w2, w3, w4, w5, w6, w7⟩ := fin hy Y CY y0 n1 n2
      unfold c_X0_on_s162
      simp only
      rw [kp, Option.bind_some, Option.bind_some, kz, Option.bind_some, Option.bind_some, if_pos kg, ks, Option.bind_some, if_pos (nI_le (Nat.le_refl _) (by omega)), w1]
      exact yes.ret ⟨rfl, Y, T', w2, ZY, nY, hg, hbs, h0, w3, w4, w5, w6, w7⟩
  refine yes.wh (I := fun n s => ∃ k X, n = W.2.2.2.1 1 - k ∧ k ≤ W.2.2.2.1 1 ∧ s.1 = nI k ∧ CS V s.2 X T G ∧ ZI X ∧ znow W X ∧ (∀ k', k' < k → ODg X t k') ∧ (∀ i, X.2.1 0 0 i = W.2.1 0 0 i) ∧ s.2.1 = h.1 ∧ s.2.2.1 = h.2.1) (n := W.2.2.2.1 1) ⟨0, W, by omega, by omega, rfl, C, Z, znow.refl W, fun b' hb' => by omega, fun _ => rfl, rfl, rfl⟩ (by omega) ?_
  rintro n ⟨q, hy⟩ ⟨k, Y, rfl, hkk, e, CY, ZY, nY, hg, h0, n1, n2⟩
  simp only at e CY n1 n2
  subst e
  have y0 : Y.1 = W.1 := nY.1
  have nu : Y.2.2.2.1 = W.2.2.2.1 := by rw [nY.2.1]
  by_cases hlt : k < W.2.2.2.1 1
  · obtain ⟨h', X', a1, a2, a3, a4, a5, a6, a7, a8⟩ := CY.onGuest ZY (keepQ nY) (k := k) (by rw [nu]; exact hlt) (by rw [nu]; exact ok.2.1 k hlt)
    rw [y0] at a1
    rw [a1]
    refine yes.ret ⟨W.2.2.2.1 1 - (k + 1), by omega, k + 1, X', rfl, by omega, rfl, a2, a3, nY.trans a4, fun k' hk' => ?_, fun i => ?_, by dsimp only; omega, by dsimp only; omega⟩
    · by_cases e : k' = k
      · subst e; exact a5
      · obtain ⟨d1, d2, d3⟩ := hg k' (by omega)
        exact ⟨fun i hi => by rw [a6 _ _ _ (by omega)]; exact d1 i hi, by rw [a6 _ _ _ (by omega)]; exact d2, by rw [a6 _ _ _ (by omega)]; exact d3⟩
    · rw [a6 _ _ _ (by omega)]; exact h0 i
  · have hke : k = W.2.2.2.1 1 := by omega
    subst hke
    have kp := CY.x_park
    have kz := CY.z_guests
    have kg := CY.k_guests
    have ks := CY.sizeG ZY.1
    rw [y0] at kp kz kg ks
    rw [nu] at ks
    obtain ⟨r, w1, w2⟩ := beasts hy Y CY ZY nY hg h0 n1 n2
    unfold c_X0_on_s54
    simp only
    rw [kp, Option.bind_some, Option.bind_some, kz, Option.bind_some, Option.bind_some, if_pos kg, ks, Option.bind_some, if_pos (nI_le (Nat.le_refl _) (by omega)), w1]
    exact yes.ret w2
theorem op_on (S : SIM V h W T G gt ms bk lk my L As) : OP V h W T G (c_X0_on V (W.1 0 0) h) (m_on ms) := by
  obtain ⟨⟨n, hn, o1, o1'⟩, o2, -⟩ := S.O
  obtain ⟨h2, e2, S1, r1, r1'⟩ := S.untape
  have z0 := zpc_0 (W := W)
  have fin : ∀ {co : Option (Int32 × hx_S)} {mo : Option (Int32 × mx_S)}, OP V h2 (zA W 0 0 1 0) T G co mo → OP V h W T G co mo := fun O => O.from r1 r1' rfl (by omega) (by omega)
  have x00 : (zA W 0 0 1 0).1 = W.1 := rfl
  have tp : ∀ i, i < 1600 → (mx_F ms 1 0).2.2.1 0 i = (zA W 0 0 1 0).2.1 1 0 i ∧ zle ((zA W 0 0 1 0).2.1 1 0 i) 255 := fun i hi => S1.O.2.1 i hi
  unfold c_X0_on m_on
  rw [S.1.x_taped, Option.bind_some, e2, Option.bind_some, o1, o1', ← x00]
  refine fin ?_
  clear fin o2 o1 o1' e2 r1 r1' x00
  generalize zA W 0 0 1 0 = W1 at *
  generalize mx_F ms 1 0 = ms1 at *
  have S1' := S1
  obtain ⟨C1, gl, G0, E, Z, h13, Zt, ⟨P, R, M, Em, O⟩, hb, A⟩ := S1
  have h6 := Z.1.1
  have h8 := Z.1.2.1
  obtain ⟨t, Q⟩ : ∃ t : Nat → Nat, ZTP W1 t := ⟨fun i => (W1.2.1 1 0 i).toNatClampNeg, fun i hi => by
    obtain ⟨n, n1, n2⟩ := (tp i hi).2
    show W1.2.1 1 0 i = nI (W1.2.1 1 0 i).toNatClampNeg ∧ (W1.2.1 1 0 i).toNatClampNeg ≤ 255
    rw [n2, pl_cl (by omega)]
    exact ⟨rfl, n1⟩⟩
  have QM : MTP ms1 bk (W1.2.2.2.1 0) (W1.2.2.2.1 1) t := ⟨fun i hi => ⟨by rw [(tp i hi).1]; exact (Q i hi).1, (Q i hi).2⟩, P.1, P.2.1, P.2.2.1, P.2.2.2.1, h6, h8⟩
  obtain ⟨it1, it2⟩ := C1.isTold_z Z Q hn
  obtain ⟨⟨rm, ms5⟩, m1, f5, m2⟩ := ml_comesOn QM M hn
  simp only at f5 m2
  rw [if_pos C1.k_x, m1, Option.bind_some]
  by_cases ok : zokt W1 t n
  · obtain ⟨rfl, -, mg, mb, m26, m27, m34⟩ : rm = 1 ∧ _ := m2.resolve_right (fun q => q.2 ok)
    rw [it1 ok, Option.bind_some, if_neg (by decide), if_neg (show ¬ (1 : Int32) = 0 by decide), if_pos C1.k_x]
    obtain ⟨⟨ol, os, od, oh, of⟩, okg, okb⟩ := id ok
    have t0 := (Q 0 (by decide)).2
    have t1 := (Q 1 (by decide)).2
    have t3 := (Q 3 (by decide)).2
    have t4 := (Q 4 (by decide)).2
    obtain ⟨k1, u1, D1, v1, v1'⟩ := C1.wx (i := 6) rfl (nI (256 * t 0 + t 1))
    obtain ⟨k2, u2, D2, v2, v2'⟩ := D1.wx (i := 7) rfl (nI (t 2))
    obtain ⟨k3, u3, D3, v3, v3'⟩ := D2.wx (i := 8) rfl (nI (256 * t 3 + t 4))
    have n1 := znow.A W1 (k := 0) (j := 0) (i := 6) (nI (256 * t 0 + t 1)) rfl
    have n2 := znow.A (zA W1 0 0 6 (nI (256 * t 0 + t 1))) (k := 0) (j := 0) (i := 7) (nI (t 2)) rfl
    have n3 := znow.A (zA (zA W1 0 0 6 (nI (256 * t 0 + t 1))) 0 0 7 (nI (t 2))) (k := 0) (j := 0) (i := 8) (nI (256 * t 3 + t 4)) rfl
    have Z1 := Z.A (k := 0) (j := 0) (i := 6) (v := nI (256 * t 0 + t 1)) rfl (by simp) (by simp) (by simp) (by simp) (by simp) (by simp) (by simp) (by simp)
    have Z2 := Z1.A (k := 0) (j := 0) (i := 7) (v := nI (t 2)) rfl (by simp) (by simp) (by simp) (by simp) (fun _ _ => ⟨_, by omega, rfl⟩) (by simp) (by simp) (by simp)
    have Z3 := Z2.A (k := 0) (j := 0) (i := 8) (v := nI (256 * t 3 + t 4)) rfl (by simp) (by simp) (by simp) (by simp) (by simp) (fun _ _ => ⟨_, of, rfl⟩) (by simp) (by simp)
    have nw := (n1.trans n2).trans n3
    have g2 : hgAI k1 (W1.1 1 0) 101 (2 : Int32) = some (nI (t 2)) := by
      have := D1.tapeAt (i := 2) (by decide)
      rw [n1.2.2 1 0 2 rfl, (Q 2 (by decide)).1] at this
      exact this
    have Q2 : ZTP (zA (zA W1 0 0 6 (nI (256 * t 0 + t 1))) 0 0 7 (nI (t 2))) t := fun i hi => by rw [(n1.trans n2).2.2 1 0 i rfl]; exact Q i hi
    have Q3 : ZTP (zA (zA (zA W1 0 0 6 (nI (256 * t 0 + t 1))) 0 0 7 (nI (t 2))) 0 0 8 (nI (256 * t 3 + t 4))) t := fun i hi => by rw [nw.2.2 1 0 i rfl]; exact Q i hi
    have w3 := D2.two_z Q2 (i := 3) (by decide)
    rw [(show c_X0_two V (W1.1 0 0) (0 : Int32) h2 = _ from C1.two_z Q (i := 0) (by decide)), Option.bind_some, (show hp V h2 (W1.1 0 0) [0] 6 _ = some k1 from u1), Option.bind_some, (show hgR k1 (W1.1 0 0) [0] 0 = some (some (W1.1 1 0)) from D1.x_tape), Option.bind_some, Option.bind_some, (show hgAI k1 _ 101 (2 : Int32) = _ from g2), Option.bind_some, (show hp V k1 (W1.1 0 0) [0] 7 _ = some k2 from u2), Option.bind_some, if_pos (show hk k2 (W1.1 0 0) [0] = true from D2.k_x), (show c_X0_two V (W1.1 0 0) (3 : Int32) k2 = _ from w3), Option.bind_some, (show hp V k2 (W1.1 0 0) [0] 8 _ = some k3 from u3), Option.bind_some]
    have v6 : (zA (zA (zA W1 0 0 6 (nI (256 * t 0 + t 1))) 0 0 7 (nI (t 2))) 0 0 8 (nI (256 * t 3 + t 4))).2.1 0 0 6 = nI (256 * t 0 + t 1) := by simp [zA_at]
    have v7 : (zA (zA (zA W1 0 0 6 (nI (256 * t 0 + t 1))) 0 0 7 (nI (t 2))) 0 0 8 (nI (256 * t 3 + t 4))).2.1 0 0 7 = nI (t 2) := by simp [zA_at]
    have v8 : (zA (zA (zA W1 0 0 6 (nI (256 * t 0 + t 1))) 0 0 7 (nI (t 2))) 0 0 8 (nI (256 * t 3 + t 4))).2.1 0 0 8 = nI (256 * t 3 + t 4) := by simp [zA_at]
    obtain ⟨⟨r, k4⟩, x1, x2, X, T', x3, x4, x5, x6, x7, x8, x9, x10, x11, x12, x13⟩ := D3.onAll G0 Z3 Q3 (n := n) ok Zt A.c
    simp only at x2 x3 x12 x13
    subst x2
    generalize hX0 : zA (zA (zA W1 0 0 6 (nI (256 * t 0 + t 1))) 0 0 7 (nI (t 2))) 0 0 8 (nI (256 * t 3 + t 4)) = X0 at *
    have X01 : X0.1 = W1.1 := nw.1
    have X02 : X0.2.2.2.1 = W1.2.2.2.1 := by rw [nw.2.1]
    rw [X01] at x1 x10
    rw [X02] at x6 x7
    rw [x1]
    have nX : znow W1 X := nw.trans x5
    have nu : X.2.2.2.1 = W1.2.2.2.1 := by rw [nX.2.1]
    -- the reference's layer 1
    have R5 : MR ms5 1 X := by
      refine ⟨by decide, fun k hk i hi => ?_, fun k hk => ?_, fun b hb i hi => ?_, fun b hb k hk => ?_, ?_, 256 * t 0 + t 1, t 2, ?_, ?_, oh, by omega, m26⟩
      · rw [nu] at hk
        rw [show 24 * 1 + 3 * k + i = 24 + 3 * k + i by omega, (mg k hk).1 i hi, (x6 k hk).1 i hi]
      · rw [nu] at hk
        rw [show 8 * 1 + k = 8 + k by omega, (mg k hk).2.1, (mg k hk).2.2, (x6 k hk).2.1, (x6 k hk).2.2]
        exact ⟨rfl, rfl⟩
      · rw [nu] at hb
        rw [show 18 * 1 + 3 * b + i = 18 + 3 * b + i by omega, (mb b hb).1 i hi, (x7 b hb).1 i hi]
      · rw [nu] at hb hk
        rw [show 48 * 1 + 8 * b + k = 48 + 8 * b + k by omega, ((mb b hb).2 k hk).1, ((mb b hb).2 k hk).2, ((x7 b hb).2 k hk).1, ((x7 b hb).2 k hk).2]
        exact ⟨rfl, rfl⟩
      · rw [m27, x8, v8]
      · rw [x8, v6]
      · rw [x8, v7]
    have M5 : MT ms5 1 [] := ⟨m34, by decide, fun i r hi => by simp at hi⟩
    obtain ⟨ms6, c1, c2⟩ := ml_copies (ms := ms5) (t := 0) (f := 1) (n := 0) (by decide) (by decide) (by decide) m34 (by decide)
    rw [(show m_copies (0 : Int32) (1 : Int32) ms5 = _ from c1), Option.bind_some]
    have f6 : mfr 0 ms5 ms6 := c2.1.fr
    have R6 : MR ms6 0 X := R5.cx c2 (by decide) x4.1.1 x4.1.2.1
    have M6 : MT ms6 0 [] := M5.cx c2
    have fo : ∀ k, k ≠ 57 → (mx_F ms6 57 0).1 k = ms1.1 k := fun k hk => by
      have : (mx_F ms6 57 0).1 k = ms6.1 k := by simp [mx_F, hk]
      rw [this, f6.1, f5.1]
    have P6 : MP (mx_F ms6 57 0) X bk := by
      have q : MP ms6 X bk := ((P.fr f5).fr f6).now nX
      simp only [MP, fo 13 (by decide)]
      simp only [MP, f6.1, f5.1] at q
      exact q
    have O6 : MO (mx_F ms6 57 0) X := by
      have q : MO ms6 X := (O.fr (zeq.refl W1) f5).now nX f6
      simp only [MO, fo 1 (by decide), fo 10 (by decide), fo 11 (by decide), fo 65 (by decide), fo 76 (by decide)]
      simp only [MO, f6.1, f5.1] at q
      exact q
    have Em6 : ELM (mx_F ms6 57 0) bk lk my := ((Em.fr f5).fr f6).mv (by rw [fo 13 (by decide), f6.1, f5.1]) (fun _ _ _ => rfl)
    have Am : ACm X (mx_F ms6 57 0) [] := by
      obtain ⟨-, uf, a2, a3, -⟩ := A.m
      exact ⟨by simp [mx_F]; rfl, uf, a2, by rw [fo 56 (by decide)]; exact a3, fun i u hi => by simp at hi⟩
    have zp := zp_now nX
    exact ⟨1, k4, _, X, T', G, gt, bk, lk, my, [], [], rfl, rfl, ⟨x3, gl, G0, E.now nX, x4, (nX.2.2 0 0 13 rfl).trans h13, x9, ⟨P6, R6, M6, Em6, O6⟩, ⟨256 * t 0 + t 1, t 2, by rw [x8, v6], by rw [x8, v7], oh, by omega⟩, AC.of (by rw [nX.1]; exact x10) Am⟩, by rw [nX.1], gle.refl G, by omega, by rw [zp.1]; omega, by rw [zp.2, x11]; omega⟩
  · obtain ⟨rfl, -⟩ : rm = 0 ∧ _ := m2.resolve_left (fun q => ok q.2.1)
    rw [it2 ok, Option.bind_some, if_pos rfl, if_pos rfl]
    exact OP.rfs (S1'.mfr1 f5) (k := 5) (by decide) rfl rfl
end O4

/-! PURE SIDE: all beasts ask: the class, the reference -/
set_option maxRecDepth 100000
theorem Tsame.refl (kk : Nat) (T : zW) : Tsame kk T T := fun _ _ _ _ => ⟨fun _ => rfl, fun _ _ => rfl, rfl, fun _ _ => rfl⟩
theorem Tsame.trans {kk : Nat} {a b c : zW} (h : Tsame kk a b) (k : Tsame kk b c) : Tsame kk a c := fun x h1 h2 h3 => ⟨fun j => ((k x h1 h2 h3).1 j).trans ((h x h1 h2 h3).1 j), fun j i => ((k x h1 h2 h3).2.1 j i).trans ((h x h1 h2 h3).2.1 j i), (k x h1 h2 h3).2.2.1.trans (h x h1 h2 h3).2.2.1, fun j i => ((k x h1 h2 h3).2.2.2 j i).trans ((h x h1 h2 h3).2.2.2 j i)⟩
/-- told, and room for m rows more -/
def ZTR (V : hx_V) (h : hx_S) (T : zW) (g : Nat → Option hx_C) (L : List (Nat → Int32)) (m : Nat) : Prop := ZT V T g L ∧ h.1 + 2 * m ≤ V.2.2.1 ∧ h.2.1 + 5 * m + zph (T.2.2.2.1 4) ≤ V.2.2.2.1
section AC
variable {V : hx_V} {h : hx_S} {W T : zW} {g : Nat → Option hx_C} {L : List (Nat → Int32)} {lk my : zL}
theorem zsub_le {x y : Int32} {n m : Nat} (hx : zle x n) (hy : y = nI m) (h : ¬ x ≤ y) (hn : n < 2 ^ 20) (hm : m < 2 ^ 20) : zle (x - y) n ∧ ¬ x - y = 0 := by
  obtain ⟨j, hj, rfl⟩ := hx
  subst hy
  rw [nI_leI (by omega) (by omega)] at h
  rw [pk_sub (by omega)]
  exact ⟨⟨j - m, by omega, rfl⟩, nI_ne0 (by omega) (by omega)⟩
theorem CS.askings {th : Int32} (C : CS V h W T g) (Z : ZI W) (E : ELC V W g lk my) (G : GEg V g) (hth : W.2.1 0 0 13 = th) (h01 : th = 0 ∨ th = 1) (hT : th = 0 → ZTR V h T g L 6) :
    yes (c_X0_askings V (W.1 0 0) h) (fun r => r.1 = (zask th lk my W L (W.2.2.2.1 0)).2.1 ∧ ∃ T' g', CS V r.2 (zask th lk my W L (W.2.2.2.1 0)).2.2.1 T' g' ∧ (th = 0 → ZT V T' g' (zask th lk my W L (W.2.2.2.1 0)).2.2.2) ∧ Tsame 3 T T' ∧ gle g g' ∧ T'.1 3 0 = T.1 3 0 ∧ (th = 1 → T' = T ∧ g' = g) ∧ r.2.1 ≤ h.1 + 12 ∧ h.1 ≤ r.2.1 ∧ (th = 1 → r.2.1 = h.1 ∧ r.2.2.1 = h.2.1) ∧ (th = 0 → r.2.2.1 + zph (T'.2.2.2.1 4) ≤ h.2.1 + 30 + zph (T.2.2.2.1 4))) := by
  have h6 := Z.1.1
  unfold c_X0_askings
  refine yes.wh (I := fun n s => ∃ b Tb gb, n = W.2.2.2.1 0 - b ∧ b ≤ W.2.2.2.1 0 ∧ s.1 = (zask th lk my W L b).1 ∧ s.2.1 = (zask th lk my W L b).2.1 ∧ s.2.2.1 = nI b ∧ CS V s.2.2.2 (zask th lk my W L b).2.2.1 Tb gb ∧ (th = 0 → ZT V Tb gb (zask th lk my W L b).2.2.2) ∧ Tsame 3 T Tb ∧ gle g gb ∧ Tb.1 3 0 = T.1 3 0 ∧ (th = 1 → Tb = T ∧ gb = g) ∧ s.2.2.2.1 ≤ h.1 + 2 * b ∧ h.1 ≤ s.2.2.2.1 ∧ (th = 1 → s.2.2.2.1 = h.1 ∧ s.2.2.2.2.1 = h.2.1) ∧ (th = 0 → s.2.2.2.2.1 + zph (Tb.2.2.2.1 4) ≤ h.2.1 + 5 * b + zph (T.2.2.2.1 4))) (n := W.2.2.2.1 0)
    ⟨0, T, g, by omega, by omega, rfl, rfl, rfl, C, fun q => (hT q).1, Tsame.refl 3 T, gle.refl g, rfl, fun _ => ⟨rfl, rfl⟩, by dsimp only; omega, by dsimp only; omega, fun _ => ⟨rfl, rfl⟩, fun _ => by dsimp only; omega⟩ (by omega) ?_
  rintro n ⟨x1, x2, x3, hx⟩ ⟨b, Tb, gb, rfl, hb, e1, e2, e3, D, Zt, Ts, gl, t3, th1, r1, r2, r3, r4⟩
  simp only at e1 e2 e3 D r1 r2 r3 r4
  subst e1 e2 e3
  obtain ⟨i1, i2, ⟨m, i3, i4⟩, i5⟩ := zask_inv (th := th) (lk := lk) (my := my) (L := L) Z b hb
  have hth' : (zask th lk my W L b).2.2.1.2.1 0 0 13 = th := (i2.2.2 0 0 13 rfl).trans hth
  have nu0 : (zask th lk my W L b).2.2.1.2.2.2.1 0 = W.2.2.2.1 0 := by rw [i2.2.1]
  have E' : ELC V (zask th lk my W L b).2.2.1 gb lk my := (E.mono gl).now i2
  have G' := G.mono gl
  by_cases hlt : b < W.2.2.2.1 0
  · have hnx : zask th lk my W L (b + 1) = zstep th lk my b (zask th lk my W L b) := rfl
    -- the next turn
    have next : ∀ (s1 s2 : Int32) (h2 : hx_S) (T2 : zW) (g2 : Nat → Option hx_C), s1 = (zstep th lk my b (zask th lk my W L b)).1 → s2 = (zstep th lk my b (zask th lk my W L b)).2.1 → CS V h2 (zstep th lk my b (zask th lk my W L b)).2.2.1 T2 g2 → (th = 0 → ZT V T2 g2 (zstep th lk my b (zask th lk my W L b)).2.2.2) → Tsame 3 Tb T2 → gle gb g2 → T2.1 3 0 = Tb.1 3 0 → (th = 1 → T2 = Tb ∧ g2 = gb) → h2.1 ≤ hx.1 + 2 → hx.1 ≤ h2.1 → (th = 1 → h2.1 = hx.1 ∧ h2.2.1 = hx.2.1) → (th = 0 → h2.2.1 + zph (T2.2.2.2.1 4) ≤ hx.2.1 + 5 + zph (Tb.2.2.2.1 4)) →
        yes (some (Sum.inl (s1, s2, nI b + (1 : Int32), h2)) : Option ((Int32 × Int32 × Int32 × hx_S) ⊕ (Int32 × hx_S))) (yes_st (fun s' => ∃ n', n' < W.2.2.2.1 0 - b ∧ ∃ b Tb gb, n' = W.2.2.2.1 0 - b ∧ b ≤ W.2.2.2.1 0 ∧ s'.1 = (zask th lk my W L b).1 ∧ s'.2.1 = (zask th lk my W L b).2.1 ∧ s'.2.2.1 = nI b ∧ CS V s'.2.2.2 (zask th lk my W L b).2.2.1 Tb gb ∧ (th = 0 → ZT V Tb gb (zask th lk my W L b).2.2.2) ∧ Tsame 3 T Tb ∧ gle g gb ∧ Tb.1 3 0 = T.1 3 0 ∧ (th = 1 → Tb = T ∧ gb = g) ∧ s'.2.2.2.1 ≤ h.1 + 2 * b ∧ h.1 ≤ s'.2.2.2.1 ∧ (th = 1 → s'.2.2.2.1 = h.1 ∧ s'.2.2.2.2.1 = h.2.1) ∧ (th = 0 → s'.2.2.2.2.1 + zph (Tb.2.2.2.1 4) ≤ h.2.1 + 5 * b + zph (T.2.2.2.1 4)))
          (fun r => r.1 = (zask th lk my W L (W.2.2.2.1 0)).2.1 ∧ ∃ T' g', CS V r.2 (zask th lk my W L (W.2.2.2.1 0)).2.2.1 T' g' ∧ (th = 0 → ZT V T' g' (zask th lk my W L (W.2.2.2.1 0)).2.2.2) ∧ Tsame 3 T T' ∧ gle g g' ∧ T'.1 3 0 = T.1 3 0 ∧ (th = 1 → T' = T ∧ g' = g) ∧ r.2.1 ≤ h.1 + 12 ∧ h.1 ≤ r.2.1 ∧ (th = 1 → r.2.1 = h.1 ∧ r.2.2.1 = h.2.1) ∧ (th = 0 → r.2.2.1 + zph (T'.2.2.2.1 4) ≤ h.2.1 + 30 + zph (T.2.2.2.1 4)))) := by
      intro s1 s2 h2 T2 g2 a1 a2 a3 a4 a5 a6 a7 a8 a9 a10 a11 a12
      refine yes.ret ⟨W.2.2.2.1 0 - (b + 1), by omega, b + 1, T2, g2, rfl, by omega, a1, a2, nI_1 b, a3, a4, Ts.trans a5, gl.trans a6, a7.trans t3, fun q => ?_, by dsimp only; omega, by dsimp only; omega, fun q => ?_, fun q => ?_⟩
      · obtain ⟨u1, u2⟩ := a8 q
        obtain ⟨v1, v2⟩ := th1 q
        exact ⟨u1.trans v1, u2.trans v2⟩
      · obtain ⟨u1, u2⟩ := a11 q
        obtain ⟨v1, v2⟩ := r3 q
        exact ⟨u1.trans v1, u2.trans v2⟩
      · have := a12 q
        have := r4 q
        dsimp only
        omega
    generalize zask th lk my W L b = s at *
    obtain ⟨sT, sN, X, sL⟩ := s
    simp only at *
    rw [← i2.1]
    have hltX : b < X.2.2.2.1 0 := by omega
    unfold c_X0_askings_s6
    simp only [D.x_park, D.z_beasts, D.k_beasts, D.sizeB i1.1, D.z_ushers, Option.bind_some, if_true]
    rw [if_neg (nI_ge hltX (by omega)), D.getB i1.1 hltX, Option.bind_some]
    have hc : hck hx (some (X.1 25 b)) [8] = true := D.k_b hltX rfl
    rw [hc, if_pos rfl]
    -- behind the choice
    have rest : ∀ (hy : hx_S), CS V hy X Tb gb → hy.1 = hx.1 → hy.2.1 = hx.2.1 → yes (c_X0_askings_b67 V (X.1 0 0) sT sN (nI b) (some (X.1 25 b)) (zenc X 29 (zsel lk my b (sT, sN, X, sL))) hy) (yes_st (fun s' => ∃ n', n' < W.2.2.2.1 0 - b ∧ ∃ b Tb gb, n' = W.2.2.2.1 0 - b ∧ b ≤ W.2.2.2.1 0 ∧ s'.1 = (zask th lk my W L b).1 ∧ s'.2.1 = (zask th lk my W L b).2.1 ∧ s'.2.2.1 = nI b ∧ CS V s'.2.2.2 (zask th lk my W L b).2.2.1 Tb gb ∧ (th = 0 → ZT V Tb gb (zask th lk my W L b).2.2.2) ∧ Tsame 3 T Tb ∧ gle g gb ∧ Tb.1 3 0 = T.1 3 0 ∧ (th = 1 → Tb = T ∧ gb = g) ∧ s'.2.2.2.1 ≤ h.1 + 2 * b ∧ h.1 ≤ s'.2.2.2.1 ∧ (th = 1 → s'.2.2.2.1 = h.1 ∧ s'.2.2.2.2.1 = h.2.1) ∧ (th = 0 → s'.2.2.2.2.1 + zph (Tb.2.2.2.1 4) ≤ h.2.1 + 5 * b + zph (T.2.2.2.1 4)))
          (fun r => r.1 = (zask th lk my W L (W.2.2.2.1 0)).2.1 ∧ ∃ T' g', CS V r.2 (zask th lk my W L (W.2.2.2.1 0)).2.2.1 T' g' ∧ (th = 0 → ZT V T' g' (zask th lk my W L (W.2.2.2.1 0)).2.2.2) ∧ Tsame 3 T T' ∧ gle g g' ∧ T'.1 3 0 = T.1 3 0 ∧ (th = 1 → T' = T ∧ g' = g) ∧ r.2.1 ≤ h.1 + 12 ∧ h.1 ≤ r.2.1 ∧ (th = 1 → r.2.1 = h.1 ∧ r.2.2.1 = h.2.1) ∧ (th = 0 → r.2.2.1 + zph (T'.2.2.2.1 4) ≤ h.2.1 + 30 + zph (T.2.2.2.1 4)))) := by
      intro hy Dy y1 y2
      unfold c_X0_askings_b67
      simp only [Dy.x_askedFor, Option.bind_some]
      have hsi := zsel_in lk my b (sT, sN, X, sL)
      obtain ⟨k1, e1, D1, q1, q2⟩ := Dy.pQ7 (i := b) (zsel lk my b (sT, sN, X, sL)) (by omega) (hsi.imp id (fun ⟨i, u1, u2⟩ => by rw [u2, nI_clamp (by have := i1.1.2.1; simp only at u1; omega)]; exact u1))
      rw [e1, Option.bind_some]
      by_cases hs : zsel lk my b (sT, sN, X, sL) = -1
      · rw [if_pos (by rw [hs]; exact zenc_m1)]
        have hst : zstep th lk my b (sT, sN, X, sL) = (sT, sN, zA X 7 0 b (-1), sL) := by unfold zstep; rw [if_pos hs]
        rw [hst] at next
        rw [hs] at D1
        exact next _ _ k1 Tb gb rfl rfl D1 Zt (Tsame.refl 3 Tb) (gle.refl gb) rfl (fun _ => ⟨rfl, rfl⟩) (by omega) (by omega) (fun _ => ⟨by omega, by omega⟩) (fun _ => by omega)
      · obtain ⟨k, hk, ek⟩ := hsi.resolve_left hs
        simp only at hk
        have hk31 : k < 2 ^ 31 := by have := i1.1.2.1; omega
        rw [ek] at D1
        rw [ek, zenc_nI hk31, if_neg (by simp), Option.bind_some]
        have i1' : ZI (zA X 7 0 b (nI k)) := i1.A rfl (by simp) (by simp) (by simp) (by simp) (by simp) (by simp) (by simp) (by simp)
        have g1 : hgI k1 (X.1 29 k) [9] 1 = some (nI k) := (D1.g_number hk (ts := [9]) rfl).trans (by rw [i1'.1.2.2.2.2.2.2.2 k hk])
        have g2 : hgR k1 (X.1 0 0) [0] 12 = some (some (X.1 8 0)) := D1.x_became
        have kx := D1.k_x
        rw [show (zA X 7 0 b (nI k)).1 = X.1 from rfl] at kx
        rw [g1, Option.bind_some, g2, Option.bind_some, if_pos kx]
        refine (D1.meets i1'.1 i1'.2.1 (E'.now (znow.A X (nI k) rfl)) hltX hk).bind fun q27 ⟨m1, D2, m2, m3⟩ => ?_
        rw [Option.bind_some]
        obtain ⟨k3, e3, D3, m4, m5⟩ := D2.wbecame (i := b) (by omega) q27.1
        have w0 : (zmeets (zA X 7 0 b (nI k)) lk b k).2.1 = X.1 := (zmeets_now _ lk b k).1
        rw [w0] at e3
        rw [e3, Option.bind_some]
        have w1 : (zA (zmeets (zA X 7 0 b (nI k)) lk b k).2 8 0 b q27.1).1 = X.1 := w0
        have g3 := D3.x_became
        have g4 := D3.becameAt (i := b) (by omega)
        have g5 := D3.k_x
        rw [w1] at g3 g4 g5
        rw [g3, Option.bind_some, Option.bind_some, g4, Option.bind_some, if_pos g5]
        have w2 : (zA (zmeets (zA X 7 0 b (nI k)) lk b k).2 8 0 b q27.1).2.1 8 0 b = q27.1 := by simp [zA, zset]
        rw [w2]
        have hst : zstep th lk my b (sT, sN, X, sL) = zgo th lk b k (sT, sN, X, sL) := by unfold zstep; rw [if_neg hs, ek, nI_clamp hk31]
        rw [hst] at next
        have nn : znow X (zA (zmeets (zA X 7 0 b (nI k)) lk b k).2 8 0 b q27.1) := ((znow.A X (nI k) rfl).trans (zmeets_now _ lk b k)).trans (znow.A _ _ rfl)
        have I3 : ZI (zA (zmeets (zA X 7 0 b (nI k)) lk b k).2 8 0 b q27.1) := (zmeets_I i1' hltX hk).A rfl (by simp) (by simp) (by simp) (by simp) (by simp) (by simp) (by simp) (by simp)
        have hthX : (zA (zmeets (zA X 7 0 b (nI k)) lk b k).2 8 0 b q27.1).2.1 0 0 13 = th := (nn.2.2 0 0 13 rfl).trans hth'
        have wA : zA (zmeets (zA X 7 0 b (nI k)) lk b k).2 8 0 b q27.1 = (zgo th lk b k (sT, sN, X, sL)).2.2.1 := by rw [m1]; rfl
        have wday : (zA (zmeets (zA X 7 0 b (nI k)) lk b k).2 8 0 b q27.1).2.1 0 0 6 = X.2.1 0 0 6 ∧ (zA (zmeets (zA X 7 0 b (nI k)) lk b k).2 8 0 b q27.1).2.1 0 0 7 = X.2.1 0 0 7 := by
          have e1 : ∀ (Y : zW) (i : Nat), i = 6 ∨ i = 7 → (zmeets Y lk b k).2.2.1 0 0 i = Y.2.1 0 0 i := by
            intro Y i hi
            unfold zmeets
            split
            · unfold zmee
              split
              · split <;> rcases hi with rfl | rfl <;> rfl
              · rcases hi with rfl | rfl <;> rfl
            · rcases hi with rfl | rfl <;> rfl
          exact ⟨e1 (zA X 7 0 b (nI k)) 6 (Or.inl rfl), e1 (zA X 7 0 b (nI k)) 7 (Or.inr rfl)⟩
        rcases h01 with rfl | rfl
        · have Zt' := Zt rfl
          have rr := r4 rfl
          have hroom := (hT rfl).2
          have hb5 : b ≤ 5 := by omega
          have hX3 : (zA (zmeets (zA X 7 0 b (nI k)) lk b k).2 8 0 b q27.1).2.2.2.1 = X.2.2.2.1 := by rw [nn.2.1]
          have kp := D3.isKept I3.1 G' Zt' hthX (b := b) (k := k) (by rw [hX3]; exact hltX) (by rw [hX3]; exact hk) q27.1 (by omega) (by omega)
          rw [w1] at kp
          refine kp.bind fun h' ⟨T', g', D', Z', s', gl', t', p1, p2, p3⟩ => ?_
          refine next _ _ h' T' g' rfl rfl (by rw [← wA]; exact D') (fun _ => ?_) s' gl' t' (fun q => absurd q (by decide)) (by omega) (by omega) (fun q => absurd q (by decide)) (fun _ => by omega)
          show ZT V T' g' (if (0 : Int32) = 0 then zkeep sL (zrow (X.2.1 0 0 6) (X.2.1 0 0 7) (nI b) (nI k) (zmeets (zA X 7 0 b (nI k)) lk b k).1) else sL)
          rw [if_pos rfl, ← m1, ← wday.1, ← wday.2]
          exact Z'
        · have kp := D3.isKept1 hthX (some (X.1 25 b)) (some (X.1 29 k)) q27.1
          rw [w1] at kp
          rw [kp, Option.bind_some]
          refine next _ _ k3 Tb gb rfl rfl (by rw [← wA]; exact D3) (fun q => absurd q (by decide)) (Tsame.refl 3 Tb) (gle.refl gb) rfl (fun _ => ⟨rfl, rfl⟩) (by omega) (by omega) (fun _ => ⟨by omega, by omega⟩) (fun q => absurd q (by decide))
    by_cases hu : X.2.1 20 0 0 ≤ sN
    · rw [if_pos hu]
      have hs : zsel lk my b (sT, sN, X, sL) = -1 := by unfold zsel; rw [if_pos hu]
      have := rest hx D rfl rfl
      rw [hs, zenc_m1] at this
      exact this
    · rw [if_neg hu, if_pos D.k_x]
      have hs : zsel lk my b (sT, sN, X, sL) = zwanted X lk my b sT (X.2.1 20 0 0 - sN) := by unfold zsel; rw [if_neg hu]
      refine (D.wanted i1.1 i1.2.1 E' hltX sT (zsub_le i1.2.2.2.1.1 i4 hu (by decide) (by omega)).1).bind fun q39 ⟨w1, D1, w2, w3⟩ => ?_
      rw [w1, ← hs]
      exact rest q39.2 D1 w2 w3
  · have hbe : b = W.2.2.2.1 0 := by omega
    subst hbe
    rw [← i2.1]
    unfold c_X0_askings_s6
    simp only [D.x_park, D.z_beasts, D.k_beasts, D.sizeB i1.1, Option.bind_some, if_true]
    rw [nu0, if_pos (nI_le (Nat.le_refl _) (by omega))]
    exact yes.ret ⟨rfl, Tb, gb, D, Zt, Ts, gl, t3, th1, by dsimp only; omega, r2, r3, fun q => by have := r4 q; dsimp only; omega⟩
end AC

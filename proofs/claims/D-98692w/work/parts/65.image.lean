/-! PURE SIDE: the call image -/
set_option maxRecDepth 100000
theorem chr_8 : ∀ n, n < 256 → (((nI n).toUInt32 % 65536).toInt32) = nI n ∧ hx_chr (nI n) = true ∧ nI n &&& (255 : Int32) = nI n := by decide +kernel
theorem and_8 {n : Nat} (h : n < 2 ^ 31) : nI n &&& (255 : Int32) = nI (n % 256) := pk_andN (by omega) 8 rfl
def IM (W X : zW) (p : Nat) : Prop := X.1 = W.1 ∧ X.2.2 = W.2.2 ∧ (∀ k j i, k ≠ 15 → ¬ (k = 0 ∧ i = 20) → X.2.1 k j i = W.2.1 k j i) ∧ X.2.1 0 0 20 = nI p ∧ ∀ i, i < p → zle (X.2.1 15 0 i) 255
section IMs
variable {V : hx_V} {h : hx_S} {W X Y T : zW} {G G1 gt : Nat → Option hx_C} {ms : mx_S} {bk : Nat} {lk my : zL} {L : List (Nat → Int32)} {As : List zU}
/-- so many bytes are written -/
def IQ (V : hx_V) (h : hx_S) (W T : zW) (G gt : Nat → Option hx_C) (bk : Nat) (lk my : zL) (L : List (Nat → Int32)) (As : List zU) (p : Nat) (hx : hx_S) (mx : mx_S) : Prop :=
  ∃ X, SIM V hx X T G gt mx bk lk my L As ∧ IM W X p ∧ hx.1 = h.1 ∧ hx.2.1 = h.2.1
theorem IQ.writes {p n : Nat} {hx : hx_S} {mx : mx_S} (Q : IQ V h W T G gt bk lk my L As p hx mx) (hp : p < 160) (hn : n < 256) {vm : Int32} (hm : vm &&& (255 : Int32) = nI n) : ∃ h' ms', c_X0_writes V (W.1 0 0) (nI n) hx = some h' ∧ m_writes vm mx = some ms' ∧ IQ V h W T G gt bk lk my L As (p + 1) h' ms' := by
  obtain ⟨X, S, ⟨x1, x2, x3, x4, x5⟩, n1, n2⟩ := Q
  obtain ⟨o1, o2, o3, o4, o5, o6, o7, q, y1, y2, y3, y4⟩ := S.O
  have hpq : p = q := (nI_eq (by omega) (by omega)).mp (x4.symm.trans y2)
  subst hpq
  obtain ⟨c1, c2, c3⟩ := chr_8 n hn
  obtain ⟨h1, e1, C1, r1, r1'⟩ := S.1.wimage hp (nI n)
  have k20 := C1.x_imaged
  have ki := S.1.x_image
  have kd := S.1.x_imaged
  rw [show (zA X 15 0 p (nI n)).2.1 0 0 20 = nI p by rw [← x4]; simp [zA, zset], show (zA X 15 0 p (nI n)).1 = X.1 from rfl, x1] at k20
  obtain ⟨h2, e2, C2, r2, r2'⟩ := C1.wx (i := 20) rfl (nI (p + 1))
  rw [x1] at ki kd e1
  rw [show (zA X 15 0 p (nI n)).1 = X.1 from rfl, x1] at e2
  unfold c_X0_writes m_writes
  have f76 : (mx_A mx 51 p (nI n)).1 76 = nI p := y3
  rw [ki, Option.bind_some, kd, Option.bind_some, Option.bind_some, c1, if_pos c2, x4, e1, Option.bind_some, k20, Option.bind_some, nI_1, e2, Option.bind_some, y3, if_pos (pl_in (by omega) (by decide)), pl_cl (by omega), hm, f76, nI_1]
  have sm : ∀ k j i, k ≠ 15 → ¬ (k = 0 ∧ i = 20) → (zA (zA X 15 0 p (nI n)) 0 0 20 (nI (p + 1))).2.1 k j i = X.2.1 k j i := fun k j i h1 h2 => by
    show (if k = 0 ∧ j = 0 ∧ i = 20 then nI (p + 1) else if k = 15 ∧ j = 0 ∧ i = p then nI n else X.2.1 k j i) = _
    rw [if_neg (fun q => h2 ⟨q.1, q.2.2⟩), if_neg (fun q => h1 q.1)]
  have s15 : ∀ i, (zA (zA X 15 0 p (nI n)) 0 0 20 (nI (p + 1))).2.1 15 0 i = if i = p then nI n else X.2.1 15 0 i := fun i => by
    show (if 15 = 0 ∧ 0 = 0 ∧ i = 20 then nI (p + 1) else if 15 = 15 ∧ 0 = 0 ∧ i = p then nI n else X.2.1 15 0 i) = _
    rw [if_neg (fun q => absurd q.1 (by decide))]
    by_cases e : i = p
    · rw [if_pos ⟨rfl, rfl, e⟩, if_pos e]
    · rw [if_neg (fun q => e q.2.2), if_neg e]
  have fo : ∀ k, k ≠ 76 → (mx_F (mx_A mx 51 p (nI n)) 76 (nI (p + 1))).1 k = mx.1 k := fun k hk => by simp [mx_F, mx_A, hk]
  have ao : ∀ a i, a ≠ 51 → (mx_F (mx_A mx 51 p (nI n)) 76 (nI (p + 1))).2.2.1 a i = mx.2.2.1 a i := fun a i ha => by simp [mx_F, mx_A, ha]
  refine ⟨h2, _, rfl, rfl, _, S.reg C2 rfl rfl (fun k j i hk => sm k j i (by omega) (by omega)) ⟨fo 13 (by decide), fo 56 (by decide), fo 57 (by decide)⟩ (fun a i h1 h2 h3 => ao a i (by omega)) ?_, ⟨x1, x2, fun k j i h1 h2 => (sm k j i h1 h2).trans (x3 k j i h1 h2), by simp [zA, zset], fun i hi => ?_⟩, by omega, by omega⟩
  · refine ⟨?_, fun i hi => ?_, fun k hk => ?_, ?_, ?_, o6, ?_, p + 1, by omega, by simp [zA, zset], by simp [mx_F], fun k hk => ?_⟩
    · obtain ⟨m, u1, u2, u3⟩ := o1
      exact ⟨m, u1, by rw [sm 0 0 1 (by decide) (by decide)]; exact u2, by rw [fo 1 (by decide)]; exact u3⟩
    · rw [ao 0 i (by decide), sm 1 0 i (by decide) (by simp)]; exact o2 i hi
    · rw [ao 25 k (by decide), sm 2 0 k (by decide) (by simp)]; exact o3 k hk
    · rw [fo 10 (by decide), sm 0 0 4 (by decide) (by decide)]; exact o4
    · rw [fo 11 (by decide), sm 0 0 5 (by decide) (by decide)]; exact o5
    · obtain ⟨m, u1, u2, u3, u4⟩ := o7
      refine ⟨m, u1, by rw [sm 0 0 18 (by decide) (by decide)]; exact u2, by rw [fo 65 (by decide)]; exact u3, fun k hk => ?_⟩
      rw [ao 42 k (by decide), ao 43 k (by decide), sm 14 0 _ (by decide) (by simp), sm 14 0 _ (by decide) (by simp)]
      exact u4 k hk
    · rw [s15]
      show (if 51 = 51 ∧ k = p then nI n else mx.2.2.1 51 k) = _
      by_cases e : k = p
      · rw [if_pos ⟨rfl, e⟩, if_pos e]
      · rw [if_neg (fun q => e q.2), if_neg e]; exact y4 k (by omega)
  · rw [s15]
    by_cases e : i = p
    · rw [if_pos e]; exact ⟨n, by omega, rfl⟩
    · rw [if_neg e]; exact x5 i (by omega)
theorem IQ.k {p : Nat} {hx : hx_S} {mx : mx_S} (Q : IQ V h W T G gt bk lk my L As p hx mx) : hk hx (W.1 0 0) [0] = true := by
  obtain ⟨X, S, ⟨x1, -⟩, -⟩ := Q
  have := S.1.k_x
  rw [x1] at this
  exact this
theorem IQ.two {p n : Nat} {hx : hx_S} {mx : mx_S} (Q : IQ V h W T G gt bk lk my L As p hx mx) (hp : p + 1 < 160) (hn : n < 65536) : ∃ h' ms', c_X0_writesTwo V (W.1 0 0) (nI n) hx = some h' ∧ m_writesTwo (nI n) mx = some ms' ∧ IQ V h W T G gt bk lk my L As (p + 2) h' ms' := by
  have s8 : nI n >>> ((8 : Int32) &&& 31) = nI (n / 256) := pk_shrN (by omega) _ 8 (by decide)
  obtain ⟨h1, m1, a1, a2, Q1⟩ := Q.writes (n := n / 256) (vm := nI n >>> ((8 : Int32) &&& 31)) (by omega) (by omega) (by rw [s8]; exact (chr_8 _ (by omega)).2.2)
  obtain ⟨h2, m2, b1, b2, Q2⟩ := Q1.writes (n := n % 256) (vm := nI n) (by omega) (by omega) (and_8 (by omega))
  unfold c_X0_writesTwo m_writesTwo
  have d : nI n / (256 : Int32) = nI (n / 256) := pk_div (d := 256) (by omega) (by decide) (by decide)
  have r : nI n - nI n / (256 : Int32) * (256 : Int32) = nI (n % 256) := pk_rem (d := 256) (by omega) (by decide) (by decide)
  rw [if_pos Q.k, r, d, a1, Option.bind_some, if_pos Q1.k, b1, Option.bind_some, a2, Option.bind_some, b2, Option.bind_some]
  exact ⟨h2, m2, rfl, rfl, Q2⟩
/-- guest k's looks -/
theorem IQ.guest {p k : Nat} {hx : hx_S} {mx : mx_S} (Z : ZI W) (Q : IQ V h W T G gt bk lk my L As p hx mx) (hp : p + 5 < 160) (hkk : k < W.2.2.2.1 1) :
    yes2 (hx_wh (c_X0_image_s62 V (W.1 0 0) (nI k) (some (W.1 29 k))) hx_FU ((0 : Int32), hx)) (hx_wh (m_image_s54 (nI k)) hx_FU ((0 : Int32), mx)) (fun r r' => ∃ h' ms', r = .inl (nI (k + 1), h') ∧ r' = .inl (nI (k + 1), ms') ∧ IQ V h W T G gt bk lk my L As (p + 5) h' ms') := by
  have h6 := Z.1.1
  have h8 := Z.1.2.1
  refine yes2.wh (I := fun n s s' => ∃ i, n = 3 - i ∧ i ≤ 3 ∧ s.1 = nI i ∧ s'.1 = nI i ∧ IQ V h W T G gt bk lk my L As (p + i) s.2 s'.2) (n := 3) ⟨0, rfl, by decide, rfl, rfl, Q⟩ (by decide) ?_
  rintro n ⟨q1, hx⟩ ⟨q2, mx⟩ ⟨i, rfl, hi, e1, e2, Qi⟩
  simp only at e1 e2 Qi
  subst e1 e2
  have Qi' := Qi
  obtain ⟨X, S, ⟨x1, x2, x3, x4, x5⟩, n1, n2⟩ := Qi
  have ZX := S.2.2.2.2.1
  have RX := S.2.2.2.2.2.2.2.1.2.1
  have nu : X.2.2.2.1 = W.2.2.2.1 := by rw [x2]
  have kX : k < X.2.2.2.1 1 := by rw [nu]; exact hkk
  unfold c_X0_image_s62 m_image_s54
  simp only
  by_cases h3 : i = 3
  · subst h3
    rw [if_pos (show (3 : Int32) ≤ nI 3 by decide), if_pos (show (3 : Int32) ≤ nI 3 by decide)]
    unfold m_image_b76
    -- by whom it is held
    have by' : ∃ n, n < 256 ∧ (X.2.1 29 k 7) + 1 = nI n ∧ ((if zenc X 25 (X.2.1 29 k 7) = none then (some (nI 0) : Option Int32) else (zenc X 25 (X.2.1 29 k 7)).bind fun a75_ => (hgI hx a75_ [8] 1).bind fun q76_ => some (q76_ + 1)) = some (nI n)) := by
      rcases (ZX.2.2.2.2.1 k kX).1 with e | ⟨b, hb, e⟩
      · exact ⟨0, by decide, by rw [e]; rfl, by rw [if_pos (zenc_none.mpr e)]⟩
      · refine ⟨b + 1, by have := ZX.1.1; omega, by rw [e, nI_1], ?_⟩
        rw [if_neg (fun q => nI_nm1 (by have := ZX.1.1; omega) (e.symm.trans (zenc_none.mp q))), e, zenc_nI (by have := ZX.1.1; omega), Option.bind_some, S.1.b_number hb (ts := [8]) rfl, ZX.1.2.2.2.2.2.2.1 b hb, Option.bind_some, nI_1]
    obtain ⟨nb, nb1, nb2, nb3⟩ := by'
    obtain ⟨nk, nk1, nk2⟩ := (ZX.2.2.2.2.1 k kX).2.1
    obtain ⟨j1, u1, a1, a2, Q1⟩ := Qi'.writes (n := nb) (vm := X.2.1 29 k 7 + 1) (by omega) nb1 (by rw [nb2]; exact (chr_8 nb nb1).2.2)
    have Q1' := Q1
    obtain ⟨X1, S1, ⟨y1, y2, y3, y4, y5⟩, n3, n4⟩ := Q1
    have nu1 : X1.2.2.2.1 = W.2.2.2.1 := by rw [y2]
    have R1 := S1.2.2.2.2.2.2.2.1.2.1
    have kX1 : k < X1.2.2.2.1 1 := by rw [nu1]; exact hkk
    have gb := S.1.g_by (j := k) kX (ts := [9]) rfl
    have gk := S1.1.g_back (j := k) kX1 (ts := [9]) rfl
    have v29 : X1.2.1 29 k 6 = nI nk := by rw [y3 29 k 6 (by decide) (by decide), ← x3 29 k 6 (by decide) (by decide)]; exact nk2
    rw [x1] at gb
    rw [y1, v29] at gk
    obtain ⟨j2, u2, b1, b2, Q2⟩ := Q1'.writes (n := nk) (vm := nI nk) (by omega) (by omega) (chr_8 nk (by omega)).2.2
    have m29 : mx.2.2.1 29 k = X.2.1 29 k 7 := by
      have := (RX.2.2.1 k kX).1
      rw [show 8 * 0 + k = k by omega] at this
      exact this
    have m30 : u1.2.2.1 30 k = nI nk := by
      have := (R1.2.2.1 k kX1).2
      rw [show 8 * 0 + k = k by omega] at this
      rw [this]; exact v29
    have ck : c_X0_image_b83 V (W.1 0 0) (nI k) (some (W.1 29 k)) hx = some (Sum.inl (nI k + (1 : Int32), j2)) := by
      have tail : ∀ v, v = nI nb → c_X0_image_b104 V (W.1 0 0) (nI k) (some (W.1 29 k)) (some (W.1 0 0)) v hx = some (Sum.inl (nI k + (1 : Int32), j2)) := by
        intro v hv
        unfold c_X0_image_b104
        rw [hv, Option.bind_some, if_pos Qi'.k, a1, Option.bind_some, Option.bind_some, gk, Option.bind_some, if_pos Q1'.k, b1, Option.bind_some]
      unfold c_X0_image_b83
      rw [Option.bind_some, gb, Option.bind_some, Option.bind_some]
      by_cases q : zenc X 25 (X.2.1 29 k 7) = none
      · rw [if_pos q] at nb3
        rw [if_pos q]
        exact tail 0 (Option.some.inj nb3)
      · rw [if_neg q] at nb3
        rw [if_neg q]
        cases hz : zenc X 25 (X.2.1 29 k 7) with
        | none => exact absurd hz q
        | some z =>
          rw [hz, Option.bind_some] at nb3
          rw [Option.bind_some]
          cases hy : hgI hx z [8] 1 with
          | none => rw [hy] at nb3; cases nb3
          | some y =>
            rw [hy, Option.bind_some] at nb3
            rw [Option.bind_some]
            exact tail (y + 1) (Option.some.inj nb3)
    have i176 : hx_in (nI k) 176 = true := pl_in (by omega) (by decide)
    simp only [if_pos i176, pl_cl (show k < 2 ^ 31 by omega), m29]
    rw [ck, a2, Option.bind_some, m30, b2, Option.bind_some, nI_1]
    exact yes2.ret ⟨j2, u2, rfl, rfl, Q2⟩
  · have gt' := S.1.g_traits (j := k) kX (ts := [9]) rfl
    have tv := S.1.traitsOf (j := k) kX (i := i) (by omega)
    have ml := ml_look RX (k := k) (i := i) kX (by rw [nu]; exact h8) (by omega)
    obtain ⟨nt, nt1, nt2⟩ := ZX.2.1.2.1 k kX i (by omega)
    rw [x1] at gt' tv
    rw [nt2] at tv ml
    obtain ⟨j1, u1, a1, a2, Q1⟩ := Qi'.writes (n := nt) (vm := nI nt) (by omega) (by omega) (chr_8 nt (by omega)).2.2
    rw [if_neg (show ¬ (3 : Int32) ≤ nI i from nI_ge (b := 3) (by omega) (by decide)), if_neg (show ¬ (3 : Int32) ≤ nI i from nI_ge (b := 3) (by omega) (by decide)), Option.bind_some, gt', Option.bind_some, Option.bind_some, tv, Option.bind_some, if_pos Qi'.k, a1, Option.bind_some, (show m_look (0 : Int32) (nI k) (nI i) mx = _ from ml), Option.bind_some, a2, Option.bind_some]
    exact yes2.ret ⟨3 - (i + 1), by omega, i + 1, rfl, by omega, nI_1 i, nI_1 i, Q1⟩
/-- beast b's tastes, and whom it saw -/
theorem IQ.beast {p b : Nat} {hx : hx_S} {mx : mx_S} (Z : ZI W) (Q : IQ V h W T G gt bk lk my L As p hx mx) (hp : p + 3 + 2 * W.2.2.2.1 1 < 160) (hb : b < W.2.2.2.1 0) :
    yes2 (hx_wh (c_X0_image_s154 V (W.1 0 0) (nI b) (some (W.1 25 b))) hx_FU ((0 : Int32), hx)) (hx_wh (m_image_s121 (nI b)) hx_FU ((0 : Int32), mx)) (fun r r' => ∃ h' ms', r = .inl (nI (b + 1), h') ∧ r' = .inl (nI (b + 1), ms') ∧ IQ V h W T G gt bk lk my L As (p + 3 + 2 * W.2.2.2.1 1) h' ms') := by
  have h6 := Z.1.1
  have h8 := Z.1.2.1
  refine yes2.wh (I := fun n s s' => ∃ i, n = 3 - i ∧ i ≤ 3 ∧ s.1 = nI i ∧ s'.1 = nI i ∧ IQ V h W T G gt bk lk my L As (p + i) s.2 s'.2) (n := 3) ⟨0, rfl, by decide, rfl, rfl, Q⟩ (by decide) ?_
  rintro n ⟨q1, hx⟩ ⟨q2, mx⟩ ⟨i, rfl, hi, e1, e2, Qi⟩
  simp only at e1 e2 Qi
  subst e1 e2
  unfold c_X0_image_s154 m_image_s121
  simp only
  by_cases h3 : i = 3
  · subst h3
    rw [if_pos (show (3 : Int32) ≤ nI 3 by decide), if_pos (show (3 : Int32) ≤ nI 3 by decide)]
    unfold c_X0_image_b175 m_image_b143
    have key : yes2 (hx_wh (c_X0_image_s177 V (W.1 0 0) (nI b) (some (W.1 25 b))) hx_FU ((0 : Int32), hx)) (hx_wh (m_image_s145 (nI b)) hx_FU ((0 : Int32), mx)) (fun r r' => ∃ h' ms', r = .inl (nI (b + 1), h') ∧ r' = .inl (nI (b + 1), ms') ∧ IQ V h W T G gt bk lk my L As (p + 3 + 2 * W.2.2.2.1 1) h' ms') := by
      refine yes2.wh (I := fun n s s' => ∃ k, n = W.2.2.2.1 1 - k ∧ k ≤ W.2.2.2.1 1 ∧ s.1 = nI k ∧ s'.1 = nI k ∧ IQ V h W T G gt bk lk my L As (p + 3 + 2 * k) s.2 s'.2) (n := W.2.2.2.1 1) ⟨0, rfl, by omega, rfl, rfl, Qi⟩ (by omega) ?_
      rintro n ⟨q1, hx⟩ ⟨q2, mx⟩ ⟨k, rfl, hk, e1, e2, Qk⟩
      simp only at e1 e2 Qk
      subst e1 e2
      have Qk' := Qk
      obtain ⟨X, S, ⟨x1, x2, x3, x4, x5⟩, n1, n2⟩ := Qk
      have ZX := S.2.2.2.2.1
      have PX := S.2.2.2.2.2.2.2.1.1
      have RX := S.2.2.2.2.2.2.2.1.2.1
      have nu : X.2.2.2.1 = W.2.2.2.1 := by rw [x2]
      have kp := S.1.x_park
      have kz := S.1.z_guests
      have kk := S.1.k_guests
      have ks := S.1.sizeG ZX.1
      rw [x1] at kp kz kk ks
      unfold c_X0_image_s177 m_image_s145
      simp only
      rw [kp, Option.bind_some, Option.bind_some, kz, Option.bind_some, Option.bind_some, if_pos kk, ks, Option.bind_some, PX.2.1, if_pos (pl_in PX.1 (by decide)), pl_cl (by have := PX.1; omega), PX.2.2.2.1, nu]
      by_cases hlt : k < W.2.2.2.1 1
      · have hbX : b < X.2.2.2.1 0 := by rw [nu]; exact hb
        have b6 := S.1.b_saw (j := b) hbX (ts := [8]) rfl
        have sv := S.1.sawOf (j := b) hbX (i := k) (by omega)
        obtain ⟨⟨ns, ns1, ns2⟩, ⟨nt, nt1, nt2⟩⟩ := ZX.2.1.2.2.1 b hbX k (by omega)
        obtain ⟨r4a, r4b⟩ := RX.2.2.2.2.1 b hbX k (by rw [nu]; exact hlt)
        rw [x1] at b6 sv
        rw [ns2] at sv r4a
        obtain ⟨j1, u1, a1, a2, Q1⟩ := Qk'.writes (n := ns) (vm := nI ns) (by omega) (by omega) (chr_8 ns (by omega)).2.2
        have Q1' := Q1
        obtain ⟨X1, S1, ⟨y1, y2, y3, y4, y5⟩, n3, n4⟩ := Q1
        have nu1 : X1.2.2.2.1 = W.2.2.2.1 := by rw [y2]
        have hbX1 : b < X1.2.2.2.1 0 := by rw [nu1]; exact hb
        have b7 := S1.1.b_today (j := b) hbX1 (ts := [8]) rfl
        have tv := S1.1.todayOf (j := b) hbX1 (i := k) (by omega)
        have v28 : X1.2.1 28 b k = nI nt := by rw [y3 28 b k (by decide) (by simp), ← x3 28 b k (by decide) (by simp)]; exact nt2
        obtain ⟨-, r4d⟩ := S1.2.2.2.2.2.2.2.1.2.1.2.2.2.2.1 b hbX1 k (by rw [nu1]; exact hlt)
        rw [y1] at b7 tv
        rw [v28] at tv r4d
        obtain ⟨j2, u2, c1, c2, Q2⟩ := Q1'.writes (n := nt) (vm := nI nt) (by omega) (by omega) (chr_8 nt (by omega)).2.2
        have ip : hx_in (nI (48 * 0 + 8 * b + k)) 1056 = true := pl_in (by omega) (by decide)
        rw [if_neg (nI_ge hlt (by omega)), if_neg (nI_ge hlt (by omega)), Option.bind_some, b6, Option.bind_some, Option.bind_some, sv, Option.bind_some, if_pos Qk'.k, a1, Option.bind_some, b7, Option.bind_some, Option.bind_some, tv, Option.bind_some, if_pos Q1'.k, c1, Option.bind_some, (show m_pair (0 : Int32) (nI b) (nI k) mx = _ from ml_pair (v := 0) b k), Option.bind_some, if_pos ip, pl_cl (by omega), r4a, a2, Option.bind_some, (show m_pair (0 : Int32) (nI b) (nI k) u1 = _ from ml_pair (v := 0) b k), Option.bind_some, if_pos ip, pl_cl (by omega), r4d, c2, Option.bind_some]
        exact yes2.ret ⟨W.2.2.2.1 1 - (k + 1), by omega, k + 1, rfl, by omega, nI_1 k, nI_1 k, by rw [show p + 3 + 2 * (k + 1) = p + 3 + 2 * k + 1 + 1 by omega]; exact Q2⟩
      · have hke : k = W.2.2.2.1 1 := by omega
        subst hke
        rw [if_pos (nI_le (Nat.le_refl _) (by omega)), if_pos (nI_le (Nat.le_refl _) (by omega)), nI_1]
        exact yes2.ret ⟨hx, mx, rfl, rfl, Qk'⟩
    obtain ⟨r, r', a1, a2, h', ms', rfl, rfl, Q'⟩ := key
    rw [a1, a2]
    exact yes2.ret ⟨h', ms', rfl, rfl, Q'⟩
  · have Qi' := Qi
    obtain ⟨X, S, ⟨x1, x2, x3, x4, x5⟩, n1, n2⟩ := Qi
    have ZX := S.2.2.2.2.1
    have RX := S.2.2.2.2.2.2.2.1.2.1
    have nu : X.2.2.2.1 = W.2.2.2.1 := by rw [x2]
    have bX : b < X.2.2.2.1 0 := by rw [nu]; exact hb
    have gt' := S.1.b_taste (j := b) bX (ts := [8]) rfl
    have tv := S.1.tasteOf (j := b) bX (i := i) (by omega)
    have ml := ml_taste RX (k := b) (i := i) bX (by rw [nu]; exact h6) (by omega)
    obtain ⟨nt, nt1, nt2⟩ := ZX.2.1.1 b bX i (by omega)
    rw [x1] at gt' tv
    rw [nt2] at tv ml
    obtain ⟨j1, u1, a1, a2, Q1⟩ := Qi'.writes (n := nt) (vm := nI nt) (by omega) (by omega) (chr_8 nt (by omega)).2.2
    rw [if_neg (show ¬ (3 : Int32) ≤ nI i from nI_ge (b := 3) (by omega) (by decide)), if_neg (show ¬ (3 : Int32) ≤ nI i from nI_ge (b := 3) (by omega) (by decide)), Option.bind_some, gt', Option.bind_some, Option.bind_some, tv, Option.bind_some, if_pos Qi'.k, a1, Option.bind_some, (show m_tasteIn (0 : Int32) (nI b) (nI i) mx = _ from ml), Option.bind_some, a2, Option.bind_some]
    exact yes2.ret ⟨3 - (i + 1), by omega, i + 1, rfl, by omega, nI_1 i, nI_1 i, Q1⟩
end IMs

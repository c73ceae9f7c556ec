/-! PURE SIDE: the calls kept, between, guest -/
set_option maxRecDepth 100000
section WH
variable {V : hx_V} {h : hx_S} {W X T : zW} {G gt : Nat → Option hx_C} {ms : mx_S} {bk : Nat} {lk my : zL} {L : List (Nat → Int32)} {As : List (zW × List (Nat → Int32))}
theorem op_kept (S : SIM V h W T G gt ms bk lk my L As) (x y : Int32) : OPV (c_X0_kept V (W.1 0 0) x y h) (m_kept x y ms) := by
  obtain ⟨C, gl, G0, E, Z, h13, Zt, ⟨P, R, M, Em, O⟩, hb, A⟩ := S
  unfold c_X0_kept m_kept c_X0_kept_b47 m_kept_b38
  obtain ⟨e, AL1, he⟩ := C.al G0 (kk := 3) (Or.inl rfl) Zt.1
  rw [C.x_told, Option.bind_some, Option.bind_some, if_pos C.k_told, AL1.size, Option.bind_some, if_pos (show hx_in (0 : Int32) 22 = true by decide), show (0 : Int32).toNatClampNeg = 0 from rfl, M.1, show (0 : Int64) = (0 : Int32).toInt64 from rfl, show (4 : Int64) = (4 : Int32).toInt64 from rfl, c_isIn_z, m_is_z]
  simp only [Option.bind_some]
  have hl := Zt.2.1
  cases ez : zof L.length x with
  | none =>
    have := (zof_pos (by omega) ez).1
    rw [if_pos this, if_pos this]; exact ⟨_, rfl, rfl⟩
  | some k =>
    obtain ⟨k1, rfl⟩ := zof_lt (by omega) ez
    have := zof_some ez
    rw [if_neg this, if_neg this, c_isIn_z, m_is_z]
    simp only [Option.bind_some]
    by_cases hz : zin y 0 4 = 0
    · rw [if_pos hz, if_pos hz]; exact ⟨_, rfl, rfl⟩
    · rw [if_neg hz, if_neg hz]
      obtain ⟨i, -, hi, rfl⟩ := zin_is (a := 0) (b := 4) hz (by decide) (by decide)
      obtain ⟨a, c, a1, a2, a3⟩ := Zt.2.2.2 k L[k] (List.getElem?_eq_getElem k1)
      have lc : L.length ≤ T.2.2.2.1 (3 + 1) := Zt.1.2.1
      have g1 : c_J2_get V (T.1 3 0) (nI k) h = some (some a) := AL1.get k1 (by rw [he k (by omega)]; exact congrArg va_rf a1)
      have g2 : hck h (some a) [100] = true := p_k (C.fro a2).1 rfl
      rw [if_pos C.k_told, g1, Option.bind_some, g2, if_pos rfl, Option.bind_some, p_gAI (C.fro a2).1 (show i < 5 by omega) (by decide) (a3 i (by omega)), Option.bind_some, show (5 : Int32) * nI k + nI i = nI (5 * k + i) by simp only [pl_lit, pk_mul, nI_add], if_pos (pl_in (by omega) (by decide)), pl_cl (by omega)]
      have := M.2.2 k L[k] (List.getElem?_eq_getElem k1) i (by omega)
      rw [show 300 * 0 + 5 * k + i = 5 * k + i by omega] at this
      rw [this]
      exact ⟨_, rfl, rfl⟩
/-- only what is scratch is other -/
theorem SIM.sc (S : SIM V h W T G gt ms bk lk my L As) {h' : hx_S} {ms' : mx_S} (C' : CS V h' W T G) (m : msc ms ms') : SIM V h' W T G gt ms' bk lk my L As := by
  have O := S.O
  refine S.reg C' rfl rfl (fun _ _ _ _ => rfl) (by rw [m.1]; exact ⟨rfl, rfl, rfl⟩) (fun a i _ _ _ => m.2.2.1 a i (by omega)) ?_
  exact O.eq (zeq.refl W) m.1 m.2.1 (fun a i ha => m.2.2.1 a i (by omega))
theorem op_between (S : SIM V h W T G gt ms bk lk my L As) (x y z : Int32) : OP V h W T G (c_X0_between V (W.1 0 0) x y z h) (m_between x y z ms) := by
  have S' := S
  obtain ⟨C, gl, G0, E, Z, h13, Zt, ⟨P, R, M, Em, O⟩, hb, A⟩ := S
  have h6 := Z.1.1
  have h8 := Z.1.2.1
  unfold c_X0_between m_between
  rw [if_pos C.k_x, C.beastOf Z.1, Option.bind_some, if_pos C.k_x, C.guestOf Z.1, Option.bind_some, ml_isBeast P h6, Option.bind_some, ml_isGuest P h8]
  cases eb : zof (W.2.2.2.1 0) x with
  | none =>
    rw [if_pos (show Option.map (W.1 25) none = none from rfl), if_pos rfl, if_pos rfl]
    exact OP.same S' (-1)
  | some b =>
    obtain ⟨hb1, rfl⟩ := zof_lt (by omega) eb
    rw [if_neg (show ¬ Option.map (W.1 25) (some b) = none by simp), if_neg (show ¬ (some b : Option Nat) = none by simp), if_neg (show ¬ (1 : Int32) = 0 by decide), Option.bind_some]
    cases eg : zof (W.2.2.2.1 1) y with
    | none =>
      rw [if_pos (show Option.map (W.1 29) none = none from rfl), if_pos rfl, if_pos rfl]
      exact OP.same S' (-1)
    | some k =>
      obtain ⟨hk1, rfl⟩ := zof_lt (by omega) eg
      rw [if_neg (show ¬ Option.map (W.1 29) (some k) = none by simp), if_neg (show ¬ (some k : Option Nat) = none by simp), if_neg (show ¬ (1 : Int32) = 0 by decide)]
      simp only [Option.map_some]
      have hs := R.2.2.2.2.1 b hb1 k hk1
      by_cases h0 : z = 0
      · subst h0
        rw [if_pos rfl, if_neg (show ¬ ((0 : Int32).toInt < 0 ∨ 3 < (0 : Int32).toInt) by decide), if_pos rfl, Option.bind_some, if_pos (C.k_b hb1 rfl)]
        show OP V h W T G ((c_X8_suits V (W.1 25 b) (some (W.1 29 k)) h).bind _) _
        rw [C.suits hb1 hk1, Option.bind_some, (show m_suiting (0 : Int32) (nI b) (nI k) ms = _ from ml_suit R hb1 hk1 h6 h8), Option.bind_some]
        exact OP.same S' _
      · rw [if_neg h0]
        by_cases h1 : z = 1
        · subst h1
          rw [if_pos rfl, if_neg (show ¬ ((1 : Int32).toInt < 0 ∨ 3 < (1 : Int32).toInt) by decide), if_neg (show ¬ (1 : Int32) = 0 by decide), if_pos rfl, if_pos C.k_x]
          obtain ⟨r, e1, l1, D, l2, l3⟩ := C.likes Z.1 Z.2.1 (E.mono gl) hb1 hk1
          obtain ⟨r', e2, m1, m2⟩ := ml_liked (v := 0) P R Z.1 Z.2.1 Em hb1 hk1
          show OP V h W T G ((c_X0_likes V (W.1 0 0) (some (W.1 25 b)) (some (W.1 29 k)) h).bind _) _
          rw [e1, Option.bind_some, (show m_liked (0 : Int32) (nI b) (nI k) ms = _ from e2), Option.bind_some, l1, m1]
          exact ⟨_, _, _, W, T, G, gt, bk, lk, my, L, As, rfl, rfl, S'.sc D m2, rfl, gle.refl G, by omega, by omega, by omega⟩
        · rw [if_neg h1]
          have hp : m_pair (0 : Int32) (nI b) (nI k) ms = some (nI (48 * 0 + 8 * b + k)) := ml_pair (v := 0) b k
          by_cases h2 : z = 2
          · subst h2
            rw [if_pos rfl, if_neg (show ¬ ((2 : Int32).toInt < 0 ∨ 3 < (2 : Int32).toInt) by decide), if_neg (show ¬ (2 : Int32) = 0 by decide), if_neg (show ¬ (2 : Int32) = 1 by decide), if_pos rfl]
            simp only [hp, Option.bind_some, C.b_saw hb1 (ts := [8]) rfl, C.sawOf hb1 (show k < 8 by omega)]
            rw [if_pos (pl_in (show 48 * 0 + 8 * b + k < 1056 by omega) (by decide)), pl_cl (by omega), hs.1]
            exact OP.same S' _
          · rw [if_neg h2]
            by_cases h3 : z = 3
            · subst h3
              rw [if_pos rfl, if_neg (show ¬ ((3 : Int32).toInt < 0 ∨ 3 < (3 : Int32).toInt) by decide), if_neg (show ¬ (3 : Int32) = 0 by decide), if_neg (show ¬ (3 : Int32) = 1 by decide), if_neg (show ¬ (3 : Int32) = 2 by decide), if_pos rfl]
              simp only [hp, Option.bind_some, C.b_today hb1 (ts := [8]) rfl, C.todayOf hb1 (show k < 8 by omega)]
              rw [if_pos (pl_in (show 48 * 0 + 8 * b + k < 1056 by omega) (by decide)), pl_cl (by omega), hs.2]
              exact OP.same S' _
            · rw [if_neg h3, if_pos]
              · exact OP.same S' (-1)
              · have q0 : z.toInt ≠ 0 := fun q => h0 (Int32.toInt_inj.mp q)
                have q1 : z.toInt ≠ 1 := fun q => h1 (Int32.toInt_inj.mp q)
                have q2 : z.toInt ≠ 2 := fun q => h2 (Int32.toInt_inj.mp q)
                have q3 : z.toInt ≠ 3 := fun q => h3 (Int32.toInt_inj.mp q)
                omega
theorem op_guest (S : SIM V h W T G gt ms bk lk my L As) (x y : Int32) : OPV (c_X0_guest V (W.1 0 0) x y h) (m_guest x y ms) := by
  obtain ⟨C, gl, G0, E, Z, h13, Zt, ⟨P, R, M, Em, O⟩, hb, A⟩ := S
  have h6 := Z.1.1
  have h8 := Z.1.2.1
  unfold c_X0_guest m_guest
  rw [if_pos C.k_x, C.guestOf Z.1, Option.bind_some, ml_isGuest P h8, Option.bind_some]
  cases eg : zof (W.2.2.2.1 1) x with
  | none =>
    rw [if_pos (show Option.map (W.1 29) none = none from rfl), if_pos rfl, if_pos rfl]
    exact ⟨_, rfl, rfl⟩
  | some k =>
    obtain ⟨hk1, rfl⟩ := zof_lt (by omega) eg
    rw [if_neg (show ¬ Option.map (W.1 29) (some k) = none by simp), if_neg (show ¬ (some k : Option Nat) = none by simp), if_neg (show ¬ (1 : Int32) = 0 by decide), show (0 : Int64) = (0 : Int32).toInt64 from rfl, show (2 : Int64) = (2 : Int32).toInt64 from rfl, c_isIn_z, Option.bind_some]
    simp only [Option.map_some]
    have e8 : (8 : Int32) * ms.1 13 + nI k = nI (8 * bk + k) := by rw [P.2.1]; simp only [pl_lit, pk_mul, nI_add]
    have hbk := P.1
    obtain ⟨p1, p2, p3⟩ := P.2.2.2.2.2.1 k hk1
    obtain ⟨r1, r2⟩ := R.2.2.1 k hk1
    by_cases hz : zin y 0 2 = 0
    · rw [if_pos hz]
      have hn : ¬ (y = 0 ∨ y = 1 ∨ y = 2) := by
        rintro (rfl | rfl | rfl) <;> exact absurd hz (by decide)
      by_cases h3 : y = 3
      · subst h3
        rw [e8]
        rw [if_neg (by decide), if_pos rfl, if_neg (by decide), if_neg (by decide), if_neg (by decide), if_neg (by decide), if_pos rfl]
        simp only [Option.bind_some, C.g_from hk1 (ts := [9]) rfl]
        rw [if_pos (pl_in (show 8 * bk + k < 16 by omega) (by decide)), pl_cl (by omega), p1]
        exact ⟨_, rfl, rfl⟩
      by_cases h4 : y = 4
      · subst h4
        rw [e8]
        rw [if_neg (by decide), if_neg (by decide), if_pos rfl, if_neg (by decide), if_neg (by decide), if_neg (by decide), if_neg (by decide), if_neg (by decide), if_pos rfl]
        simp only [Option.bind_some, C.g_to hk1 (ts := [9]) rfl]
        rw [if_pos (pl_in (show 8 * bk + k < 16 by omega) (by decide)), pl_cl (by omega), p2]
        exact ⟨_, rfl, rfl⟩
      by_cases h5 : y = 5
      · subst h5
        rw [e8]
        rw [if_neg (by decide), if_neg (by decide), if_neg (by decide), if_pos rfl, if_neg (by decide), if_neg (by decide), if_neg (by decide), if_neg (by decide), if_neg (by decide), if_neg (by decide), if_pos rfl]
        simp only [Option.bind_some, C.g_fears hk1 (ts := [9]) rfl]
        rw [if_pos (pl_in (show 8 * bk + k < 16 by omega) (by decide)), pl_cl (by omega), p3]
        exact ⟨_, rfl, rfl⟩
      by_cases h6' : y = 6
      · subst h6'
        rw [if_neg (by decide), if_neg (by decide), if_neg (by decide), if_neg (by decide), if_pos rfl, if_neg (by decide), if_neg (by decide), if_neg (by decide), if_neg (by decide), if_neg (by decide), if_neg (by decide), if_neg (by decide), if_pos rfl]
        simp only [Option.bind_some, C.g_back hk1 (ts := [9]) rfl]
        rw [if_pos (pl_in (show k < 176 by omega) (by decide)), pl_cl (by omega)]
        rw [show 8 * 0 + k = k by omega] at r2
        rw [r2]
        exact ⟨_, rfl, rfl⟩
      by_cases h7 : y = 7
      · subst h7
        rw [if_neg (by decide), if_neg (by decide), if_neg (by decide), if_neg (by decide), if_neg (by decide), if_pos rfl, if_neg (by decide), if_neg (by decide), if_neg (by decide), if_neg (by decide), if_neg (by decide), if_neg (by decide), if_neg (by decide), if_neg (by decide), if_pos rfl]
        simp only [Option.bind_some, C.g_by hk1 (ts := [9]) rfl]
        rw [if_pos (pl_in (show k < 176 by omega) (by decide)), pl_cl (by omega)]
        rw [show 8 * 0 + k = k by omega] at r1
        rw [r1]
        rcases (Z.2.2.2.2.1 k hk1).1 with q | ⟨b, hb, q⟩
        · rw [q, if_pos zenc_m1]
          exact ⟨_, rfl, rfl⟩
        · rw [q, zenc_nI (by omega), if_neg (by simp), Option.bind_some, C.b_number hb (ts := [8]) rfl, Option.bind_some, Z.1.2.2.2.2.2.2.1 b hb]
          exact ⟨_, rfl, rfl⟩
      have q : y.toInt < 0 ∨ 7 < y.toInt := by
        have a0 : y.toInt ≠ 0 := fun q => hn (Or.inl (Int32.toInt_inj.mp q))
        have a1 : y.toInt ≠ 1 := fun q => hn (Or.inr (Or.inl (Int32.toInt_inj.mp q)))
        have a2 : y.toInt ≠ 2 := fun q => hn (Or.inr (Or.inr (Int32.toInt_inj.mp q)))
        have a3 : y.toInt ≠ 3 := fun q => h3 (Int32.toInt_inj.mp q)
        have a4 : y.toInt ≠ 4 := fun q => h4 (Int32.toInt_inj.mp q)
        have a5 : y.toInt ≠ 5 := fun q => h5 (Int32.toInt_inj.mp q)
        have a6 : y.toInt ≠ 6 := fun q => h6' (Int32.toInt_inj.mp q)
        have a7 : y.toInt ≠ 7 := fun q => h7 (Int32.toInt_inj.mp q)
        omega
      rw [if_pos (show y.toInt < 3 ∨ 7 < y.toInt by omega), if_pos q]
      exact ⟨_, rfl, rfl⟩
    · rw [if_neg hz]
      obtain ⟨i, -, hi, rfl⟩ := zin_is (a := 0) (b := 2) hz (by decide) (by decide)
      have hl := ml_look (v := 0) R hk1 h8 (show i < 3 by omega)
      rw [Option.bind_some, C.g_traits hk1 (ts := [9]) rfl, Option.bind_some, Option.bind_some, C.traitsOf hk1 (show i < 3 by omega), Option.bind_some]
      have hi' : i = 0 ∨ i = 1 ∨ i = 2 := by omega
      have hr : (m_look (0 : Int32) (nI k) (nI i) ms).bind (fun q => some q) = some (W.2.1 30 k i) := by
        rw [(show m_look (0 : Int32) (nI k) (nI i) ms = _ from hl)]; rfl
      refine ⟨W.2.1 30 k i, rfl, ?_⟩
      rcases hi' with rfl | rfl | rfl
      · rw [if_neg (show ¬ ((nI 0).toInt < 0 ∨ 7 < (nI 0).toInt) by decide), if_pos (show nI 0 = (0 : Int32) from rfl)]; exact hr
      · rw [if_neg (show ¬ ((nI 1).toInt < 0 ∨ 7 < (nI 1).toInt) by decide), if_neg (show ¬ nI 1 = (0 : Int32) by decide), if_pos (show nI 1 = (1 : Int32) from rfl)]; exact hr
      · rw [if_neg (show ¬ ((nI 2).toInt < 0 ∨ 7 < (nI 2).toInt) by decide), if_neg (show ¬ nI 2 = (0 : Int32) by decide), if_neg (show ¬ nI 2 = (1 : Int32) by decide), if_pos (show nI 2 = (2 : Int32) from rfl)]; exact hr
end WH

/-! PURE SIDE: whom a beast asks for -/
set_option maxRecDepth 100000
/-- behind j guests: the best one (or -1), how much it is liked -/
def zwant (W : zW) (lk my : zL) (b : Nat) (taken free : Int32) : Nat → Int32 × Int32
  | 0 => (-1, 0)
  | j + 1 =>
    if zbit taken (nI j) = 0 then
      if zcan W b j = 0 then zwant W lk my b taken free j
      else if zlik W lk b j ≤ (zwant W lk my b taken free j).2 then zwant W lk my b taken free j
      else if zmay W my b j (zlik W lk b j) free = 0 then zwant W lk my b taken free j
      else (nI j, zlik W lk b j)
    else zwant W lk my b taken free j
def zwanted (W : zW) (lk my : zL) (b : Nat) (taken free : Int32) : Int32 := if zin (W.2.1 0 0 7) (W.2.1 25 b 2) (W.2.1 25 b 3) = 0 then -1 else (zwant W lk my b taken free (W.2.2.2.1 1)).1
theorem zwant_in (W : zW) (lk my : zL) (b : Nat) (taken free : Int32) (j : Nat) : (zwant W lk my b taken free j).1 = -1 ∨ ∃ i, i < j ∧ (zwant W lk my b taken free j).1 = nI i := by
  induction j with
  | zero => exact Or.inl rfl
  | succ j ih =>
    have ih' : (zwant W lk my b taken free j).1 = -1 ∨ ∃ i, i < j + 1 ∧ (zwant W lk my b taken free j).1 = nI i := ih.imp id (fun ⟨i, h1, h2⟩ => ⟨i, by omega, h2⟩)
    unfold zwant
    split
    · split
      · exact ih'
      · split
        · exact ih'
        · split
          · exact ih'
          · exact Or.inr ⟨j, by omega, rfl⟩
    · exact ih'
theorem zwanted_in (W : zW) (lk my : zL) (b : Nat) (taken free : Int32) : zwanted W lk my b taken free = -1 ∨ ∃ i, i < W.2.2.2.1 1 ∧ zwanted W lk my b taken free = nI i := by
  unfold zwanted
  split
  · exact Or.inl rfl
  · exact zwant_in W lk my b taken free _
theorem nI_nm1 {k : Nat} (h : k < 2 ^ 31) : ¬ nI k = -1 := by
  intro q
  have := congrArg Int32.toInt q
  rw [nI_toInt h] at this
  have h2 : (-1 : Int32).toInt = -1 := rfl
  omega
theorem zenc_nI {W : zW} {t k : Nat} (h : k < 2 ^ 31) : zenc W t (nI k) = some (W.1 t k) := by
  unfold zenc
  rw [if_neg (nI_nm1 h), nI_clamp h]
theorem zenc_m1 {W : zW} {t : Nat} : zenc W t (-1) = none := by
  unfold zenc
  rw [if_pos rfl]
section WN
variable {V : hx_V} {h : hx_S} {W T : zW} {g : Nat → Option hx_C}
theorem CS.wanted (C : CS V h W T g) (S : ZS W) (Z : ZV W) {lk my : zL} (E : ELC V W g lk my) {b : Nat} (hb : b < W.2.2.2.1 0) (taken : Int32) {free : Int32} (hfr : zle free 6) : yes (c_X0_wanted V (W.1 0 0) (some (W.1 25 b)) taken free h) (fun r => r.1 = zenc W 29 (zwanted W lk my b taken free) ∧ CS V r.2 W T g ∧ r.2.1 = h.1 ∧ r.2.2.1 = h.2.1) := by
  have h8 := S.2.1
  unfold c_X0_wanted
  refine yes.wh (I := fun n s => ∃ j, n = W.2.2.2.1 1 - j ∧ j ≤ W.2.2.2.1 1 ∧ s.1 = zenc W 29 (zwant W lk my b taken free j).1 ∧ s.2.1 = (zwant W lk my b taken free j).2 ∧ s.2.2.1 = nI j ∧ (0 < j → ¬ zin (W.2.1 0 0 7) (W.2.1 25 b 2) (W.2.1 25 b 3) = 0) ∧ CS V s.2.2.2 W T g ∧ s.2.2.2.1 = h.1 ∧ s.2.2.2.2.1 = h.2.1) (n := W.2.2.2.1 1) ⟨0, by (try dsimp only); omega, by (try dsimp only); omega, zenc_m1.symm, rfl, rfl, fun q => by (try dsimp only); omega, C, rfl, rfl⟩ (by (try dsimp only); omega) ?_
  rintro n ⟨x1, x2, x3, hx⟩ ⟨j, rfl, hj, e1, e2, e3, e4, D, r1, r2⟩
  simp only at e1 e2 e3 D r1 r2
  subst e1 e2 e3
  unfold c_X0_wanted_s9
  simp only [D.x_park, D.z_guests, D.k_guests, D.sizeG S, D.x_hour, D.k_b hb (ts := [8]) rfl, D.thereB hb, Option.bind_some, if_true]
  by_cases hlt : j < W.2.2.2.1 1
  · rw [if_neg (nI_ge hlt (by omega))]
    by_cases ha : zin (W.2.1 0 0 7) (W.2.1 25 b 2) (W.2.1 25 b 3) = 0
    · rw [if_pos ha]
      have hj0 : j = 0 := by
        rcases Nat.eq_zero_or_pos j with q | q
        · exact q
        · exact absurd ha (e4 q)
      subst hj0
      refine yes.ret ⟨?_, D, r1, r2⟩
      simp only [zwanted, ha, if_true, zwant]
    · rw [if_neg ha, D.getG S hlt, Option.bind_some]
      have hc : hck hx (some (W.1 29 j)) [9] = true := D.k_g hlt rfl
      rw [hc, if_pos rfl]
      have hjj : nI j + (1 : Int32) = nI (j + 1) := nI_1 j
      have next : ∀ (s1 : Option Nat) (s2 : Int32) (h2 : hx_S), s1 = zenc W 29 (zwant W lk my b taken free (j + 1)).1 → s2 = (zwant W lk my b taken free (j + 1)).2 → CS V h2 W T g → h2.1 = h.1 → h2.2.1 = h.2.1 →
          yes (some (Sum.inl (s1, s2, nI j + (1 : Int32), h2)) : Option ((Option Nat × Int32 × Int32 × hx_S) ⊕ (Option Nat × hx_S))) (yes_st (fun s' => ∃ m, m < W.2.2.2.1 1 - j ∧ ∃ j, m = W.2.2.2.1 1 - j ∧ j ≤ W.2.2.2.1 1 ∧ s'.1 = zenc W 29 (zwant W lk my b taken free j).1 ∧ s'.2.1 = (zwant W lk my b taken free j).2 ∧ s'.2.2.1 = nI j ∧ (0 < j → ¬ zin (W.2.1 0 0 7) (W.2.1 25 b 2) (W.2.1 25 b 3) = 0) ∧ CS V s'.2.2.2 W T g ∧ s'.2.2.2.1 = h.1 ∧ s'.2.2.2.2.1 = h.2.1) (fun r => r.1 = zenc W 29 (zwanted W lk my b taken free) ∧ CS V r.2 W T g ∧ r.2.1 = h.1 ∧ r.2.2.1 = h.2.1)) :=
        fun s1 s2 h2 a1 a2 a3 a4 a5 => yes.ret ⟨W.2.2.2.1 1 - (j + 1), by (try dsimp only); omega, j + 1, rfl, by (try dsimp only); omega, a1, a2, hjj, fun _ => ha, a3, a4, a5⟩
      by_cases hbit : ((taken >>> (nI j &&& 31)) &&& (1 : Int32)) = (1 : Int32)
      · rw [if_pos hbit]
        have hz : ¬ zbit taken (nI j) = 0 := by unfold zbit; rw [if_pos hbit]; decide
        refine next _ _ _ ?_ ?_ D r1 r2 <;> simp only [zwant, hz, if_false]
      · rw [if_neg hbit]
        have hz : zbit taken (nI j) = 0 := by unfold zbit; rw [if_neg hbit]
        simp only [D.k_x, if_true, D.canCome S hb hlt, Option.bind_some]
        by_cases hcan : zcan W b j = 0
        · rw [if_pos hcan]
          refine next _ _ _ ?_ ?_ D r1 r2 <;> simp only [zwant, hz, hcan, if_true]
        · rw [if_neg hcan]
          refine (D.likes S Z E hb hlt).bind fun q25 ⟨l1, D1, l2, l3⟩ => ?_
          rw [l1]
          by_cases hle : zlik W lk b j ≤ (zwant W lk my b taken free j).2
          · rw [if_pos hle]
            refine next _ _ _ ?_ ?_ D1 (by (try dsimp only); omega) (by (try dsimp only); omega) <;> simp only [zwant, hz, hcan, hle, if_true, if_false]
          · rw [if_neg hle]
            simp only [D1.k_x, if_true]
            refine (D1.may S Z E hb hlt (zlik_le Z hb hlt h8) hfr).bind fun q28 ⟨m1, D2, m2, m3⟩ => ?_
            rw [m1]
            by_cases hm : zmay W my b j (zlik W lk b j) free = 0
            · rw [if_pos hm]
              refine next _ _ _ ?_ ?_ D2 (by (try dsimp only); omega) (by (try dsimp only); omega) <;> simp only [zwant, hz, hcan, hle, hm, if_true, if_false]
            · rw [if_neg hm]
              refine next _ _ _ ?_ ?_ D2 (by (try dsimp only); omega) (by (try dsimp only); omega)
              · simp only [zwant, hz, hcan, hle, hm, if_true, if_false]
                exact (zenc_nI (by omega)).symm
              · simp only [zwant, hz, hcan, hle, hm, if_true, if_false]
  · have hje : j = W.2.2.2.1 1 := by omega
    subst hje
    rw [if_pos (nI_le (Nat.le_refl _) (by omega))]
    refine yes.ret ⟨?_, D, r1, r2⟩
    unfold zwanted
    by_cases ha : zin (W.2.1 0 0 7) (W.2.1 25 b 2) (W.2.1 25 b 3) = 0
    · rw [if_pos ha]
      have hj0 : W.2.2.2.1 1 = 0 := by
        rcases Nat.eq_zero_or_pos (W.2.2.2.1 1) with q | q
        · exact q
        · exact absurd ha (e4 q)
      show zenc W 29 (zwant W lk my b taken free (W.2.2.2.1 1)).1 = _
      rw [hj0]
      rfl
    · rw [if_neg ha]
end WN
section WM
variable {ms : mx_S} {W : zW} {bk v : Nat}
theorem ml_wished (P : MP ms W bk) (R : MR ms v W) (S : ZS W) (Z : ZV W) {lk my : zL} (E : ELM ms bk lk my) {b : Nat} (hb : b < W.2.2.2.1 0) (taken : Int32) {free : Int32} (hfr : zle free 6) : yes (m_wished (nI v) (nI b) taken free ms) (fun r => r.1 = (if free = 0 then -1 else zwanted W lk my b taken free) ∧ msc ms r.2) := by
  have h8 := S.2.1
  have h6 := S.1
  unfold m_wished
  rw [ml_awake P R hb h6, Option.bind_some]
  by_cases ha : zin (W.2.1 0 0 7) (W.2.1 25 b 2) (W.2.1 25 b 3) = 0
  · rw [if_pos ha]
    refine yes.ret ⟨?_, msc.refl ms⟩
    unfold zwanted
    rw [if_pos ha]
    split <;> rfl
  · rw [if_neg ha]
    by_cases hf0 : free = 0
    · rw [if_pos hf0, if_pos hf0]
      exact yes.ret ⟨rfl, msc.refl ms⟩
    · rw [if_neg hf0, if_neg hf0]
      refine yes.wh (I := fun n s => ∃ j, n = W.2.2.2.1 1 - j ∧ j ≤ W.2.2.2.1 1 ∧ s.1 = (zwant W lk my b taken free j).1 ∧ s.2.1 = (zwant W lk my b taken free j).2 ∧ s.2.2.1 = nI j ∧ msc ms s.2.2.2) (n := W.2.2.2.1 1) ⟨0, by (try dsimp only); omega, by (try dsimp only); omega, rfl, rfl, rfl, msc.refl ms⟩ (by (try dsimp only); omega) ?_
      rintro n ⟨x1, x2, x3, mx⟩ ⟨j, rfl, hj, e1, e2, e3, s0⟩
      simp only at e1 e2 e3 s0
      subst e1 e2 e3
      have P1 := P.sc s0
      have R1 := R.sc s0
      have E1 := E.sc s0
      unfold m_wished_s25
      simp only [P1.2.1]
      rw [if_pos (pl_in P1.1 (by decide)), pl_cl (by have := P1.1; omega), P1.2.2.2.1]
      by_cases hlt : j < W.2.2.2.1 1
      · rw [if_neg (nI_ge hlt (by omega)), m_has2_z, Option.bind_some]
        have hjj : nI j + (1 : Int32) = nI (j + 1) := nI_1 j
        have next : ∀ (s1 : Int32) (s2 : Int32) (h2 : mx_S), s1 = (zwant W lk my b taken free (j + 1)).1 → s2 = (zwant W lk my b taken free (j + 1)).2 → msc ms h2 →
            yes (some (Sum.inl (s1, s2, nI j + (1 : Int32), h2)) : Option ((Int32 × Int32 × Int32 × mx_S) ⊕ (Int32 × mx_S))) (yes_st (fun s' => ∃ m, m < W.2.2.2.1 1 - j ∧ ∃ j, m = W.2.2.2.1 1 - j ∧ j ≤ W.2.2.2.1 1 ∧ s'.1 = (zwant W lk my b taken free j).1 ∧ s'.2.1 = (zwant W lk my b taken free j).2 ∧ s'.2.2.1 = nI j ∧ msc ms s'.2.2.2) (fun r => r.1 = zwanted W lk my b taken free ∧ msc ms r.2)) :=
          fun s1 s2 h2 a1 a2 a3 => yes.ret ⟨W.2.2.2.1 1 - (j + 1), by (try dsimp only); omega, j + 1, rfl, by (try dsimp only); omega, a1, a2, hjj, a3⟩
        by_cases hz : zbit taken (nI j) = 0
        · rw [if_pos hz, ml_open P1 R1 hlt h8, Option.bind_some]
          by_cases hcan : zcan W b j = 0
          · rw [if_pos hcan]
            refine next _ _ _ ?_ ?_ s0 <;> simp only [zwant, hz, hcan, if_true]
          · rw [if_neg hcan]
            refine (ml_liked P1 R1 S Z E1 hb hlt).bind fun q10 ⟨l1, l2⟩ => ?_
            rw [l1]
            by_cases hle : zlik W lk b j ≤ (zwant W lk my b taken free j).2
            · rw [if_pos hle]
              refine next _ _ _ ?_ ?_ (s0.trans l2) <;> simp only [zwant, hz, hcan, hle, if_true, if_false]
            · rw [if_neg hle]
              refine (ml_allowed (P1.sc l2) (R1.sc l2) S Z (E1.sc l2) hb hlt hfr).bind fun q12 ⟨m1, m2⟩ => ?_
              rw [m1]
              by_cases hm : zmay W my b j (zlik W lk b j) free = 0
              · rw [if_pos hm]
                refine next _ _ _ ?_ ?_ ((s0.trans l2).trans m2) <;> simp only [zwant, hz, hcan, hle, hm, if_true, if_false]
              · rw [if_neg hm]
                refine (ml_liked ((P1.sc l2).sc m2) ((R1.sc l2).sc m2) S Z ((E1.sc l2).sc m2) hb hlt).bind fun q14 ⟨n1, n2⟩ => ?_
                refine next _ _ _ ?_ ?_ (((s0.trans l2).trans m2).trans n2) <;> simp only [zwant, hz, hcan, hle, hm, n1, if_true, if_false]
        · rw [if_neg hz]
          refine next _ _ _ ?_ ?_ s0 <;> simp only [zwant, hz, if_false]
      · have hje : j = W.2.2.2.1 1 := by omega
        subst hje
        rw [if_pos (nI_le (Nat.le_refl _) (by omega))]
        refine yes.ret ⟨?_, s0⟩
        unfold zwanted
        rw [if_neg ha]
end WM

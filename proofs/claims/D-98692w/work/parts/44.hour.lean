/-! PURE SIDE: an hour ends -/
set_option maxRecDepth 100000
/-- guests below n are free again -/
def zdg (W : zW) (n : Nat) : zW := (W.1, fun k j i => if k = 29 ∧ j < n ∧ (i = 6 ∨ i = 7) then (if i = 6 then 0 else -1) else W.2.1 k j i, W.2.2)
/-- what beasts below n, and n itself of guests below m, saw today, is nothing again -/
def zdt (W : zW) (n m : Nat) : zW := (W.1, fun k j i => if k = 28 ∧ ((j < n ∧ i < 8) ∨ (j = n ∧ i < m)) then 0 else W.2.1 k j i, W.2.2)
def zend (W : zW) : zW := if 24 ≤ W.2.1 0 0 7 + 1 then zdt (zdg (zA (zA (zA W 0 0 7 (W.2.1 0 0 7 + 1)) 0 0 7 0) 0 0 6 (W.2.1 0 0 6 + 1)) (W.2.2.2.1 1)) (W.2.2.2.1 0) 0 else zA W 0 0 7 (W.2.1 0 0 7 + 1)
theorem zdg_0 (W : zW) : zdg W 0 = W := by
  refine congrArg (fun x => (W.1, x, W.2.2)) (funext fun k => funext fun j => funext fun i => ?_)
  rw [if_neg (fun q => by omega)]
theorem zdg_s (W : zW) (n : Nat) : zA (zA (zdg W n) 29 n 6 0) 29 n 7 (-1) = zdg W (n + 1) := by
  refine congrArg (fun x => (W.1, x, W.2.2)) (funext fun k => funext fun j => funext fun i => ?_)
  show (if k = 29 ∧ j = n ∧ i = 7 then (-1 : Int32) else if k = 29 ∧ j = n ∧ i = 6 then (0 : Int32) else if k = 29 ∧ j < n ∧ (i = 6 ∨ i = 7) then (if i = 6 then 0 else -1) else W.2.1 k j i) = if k = 29 ∧ j < n + 1 ∧ (i = 6 ∨ i = 7) then (if i = 6 then 0 else -1) else W.2.1 k j i
  by_cases h1 : k = 29 ∧ j = n ∧ i = 7
  · rw [if_pos h1, if_pos (by omega), if_neg (by omega)]
  · rw [if_neg h1]
    by_cases h2 : k = 29 ∧ j = n ∧ i = 6
    · rw [if_pos h2, if_pos (by omega), if_pos h2.2.2]
    · rw [if_neg h2]
      by_cases h3 : k = 29 ∧ j < n ∧ (i = 6 ∨ i = 7)
      · rw [if_pos h3, if_pos (show k = 29 ∧ j < n + 1 ∧ (i = 6 ∨ i = 7) by omega)]
      · rw [if_neg h3, if_neg (by omega)]
theorem zdt_0 (W : zW) : zdt W 0 0 = W := by
  refine congrArg (fun x => (W.1, x, W.2.2)) (funext fun k => funext fun j => funext fun i => ?_)
  rw [if_neg (fun q => by omega)]
theorem zdt_s (W : zW) (n m : Nat) : zA (zdt W n m) 28 n m 0 = zdt W n (m + 1) := by
  refine congrArg (fun x => (W.1, x, W.2.2)) (funext fun k => funext fun j => funext fun i => ?_)
  show (if k = 28 ∧ j = n ∧ i = m then (0 : Int32) else if k = 28 ∧ ((j < n ∧ i < 8) ∨ (j = n ∧ i < m)) then 0 else W.2.1 k j i) = if k = 28 ∧ ((j < n ∧ i < 8) ∨ (j = n ∧ i < m + 1)) then 0 else W.2.1 k j i
  by_cases h1 : k = 28 ∧ j = n ∧ i = m
  · rw [if_pos h1, if_pos (by omega)]
  · rw [if_neg h1]
    by_cases h3 : k = 28 ∧ ((j < n ∧ i < 8) ∨ (j = n ∧ i < m))
    · rw [if_pos h3, if_pos (by omega)]
    · rw [if_neg h3, if_neg (by omega)]
theorem zdt_8 (W : zW) (n : Nat) : zdt W n 8 = zdt W (n + 1) 0 := by
  refine congrArg (fun x => (W.1, x, W.2.2)) (funext fun k => funext fun j => funext fun i => ?_)
  by_cases h3 : k = 28 ∧ ((j < n ∧ i < 8) ∨ (j = n ∧ i < 8))
  · rw [if_pos h3, if_pos (by omega)]
  · rw [if_neg h3, if_neg (by omega)]
theorem zdg_now (W : zW) (n : Nat) : znow W (zdg W n) := by
  refine ⟨rfl, rfl, fun k j i h => ?_⟩
  show (if k = 29 ∧ j < n ∧ (i = 6 ∨ i = 7) then (if i = 6 then (0 : Int32) else -1) else W.2.1 k j i) = _
  rw [if_neg]
  rintro ⟨rfl, -, rfl | rfl⟩ <;> cases h
theorem zdt_now (W : zW) (n m : Nat) : znow W (zdt W n m) := by
  refine ⟨rfl, rfl, fun k j i h => ?_⟩
  show (if k = 28 ∧ ((j < n ∧ i < 8) ∨ (j = n ∧ i < m)) then (0 : Int32) else W.2.1 k j i) = _
  rw [if_neg]
  rintro ⟨rfl, -⟩
  cases h
theorem zend_now (W : zW) : znow W (zend W) := by
  unfold zend
  split
  · exact ((((znow.A W _ rfl).trans (znow.A _ _ rfl)).trans (znow.A _ _ rfl)).trans (zdg_now _ _)).trans (zdt_now _ _ _)
  · exact znow.A W _ rfl
theorem zdg_I {W : zW} (Z : ZI W) (n : Nat) : ZI (zdg W n) := by
  induction n with
  | zero => rw [zdg_0]; exact Z
  | succ n ih =>
    rw [← zdg_s]
    exact (ih.A rfl (by simp) (by simp) (by simp) (by simp) (by simp) (by simp) (by simp) (fun _ _ => ⟨0, by decide, rfl⟩)).A rfl (by simp) (by simp) (by simp) (by simp) (by simp) (by simp) (fun _ _ => Or.inl rfl) (by simp)
theorem zdt_I {W : zW} (Z : ZI W) (n m : Nat) : ZI (zdt W n m) := by
  have key : ∀ m, ZI (zdt W n 0) → ZI (zdt W n m) := by
    intro m h
    induction m with
    | zero => exact h
    | succ m ih =>
      rw [← zdt_s]
      exact ih.A rfl (by simp) (by simp) (by simp) (fun _ => ⟨0, by decide, rfl⟩) (by simp) (by simp) (by simp) (by simp)
  have all : ∀ n, ZI (zdt W n 0) := by
    intro n
    induction n with
    | zero => rw [zdt_0]; exact Z
    | succ n ih =>
      rw [← zdt_8]
      have : ∀ m, ZI (zdt W n m) := by
        intro m
        induction m with
        | zero => exact ih
        | succ m ih2 =>
          rw [← zdt_s]
          exact ih2.A rfl (by simp) (by simp) (by simp) (fun _ => ⟨0, by decide, rfl⟩) (by simp) (by simp) (by simp) (by simp)
      exact this 8
  exact key m (all n)
theorem zend_I {W : zW} (Z : ZI W) : ZI (zend W) := by
  unfold zend
  obtain ⟨t, ht, e⟩ := Z.2.1.2.2.2
  have hp : W.2.1 0 0 7 + 1 = nI (t + 1) := by rw [e, nI_1]
  split
  · have := (((Z.A (k := 0) (j := 0) (i := 7) (v := 0) rfl (by simp) (by simp) (by simp) (by simp) (fun _ _ => ⟨0, by decide, rfl⟩) (by simp) (by simp) (by simp))).A (k := 0) (j := 0) (i := 6) (v := W.2.1 0 0 6 + 1) rfl (by simp) (by simp) (by simp) (by simp) (by simp) (by simp) (by simp) (by simp))
    have e2 : zA (zA W 0 0 7 (W.2.1 0 0 7 + 1)) 0 0 7 0 = zA W 0 0 7 0 := by
      refine congrArg (fun x => (W.1, x, W.2.2)) (funext fun k => funext fun j => funext fun i => ?_)
      show (if k = 0 ∧ j = 0 ∧ i = 7 then (0 : Int32) else if k = 0 ∧ j = 0 ∧ i = 7 then _ else W.2.1 k j i) = if k = 0 ∧ j = 0 ∧ i = 7 then (0 : Int32) else W.2.1 k j i
      split <;> rfl
    rw [e2]
    exact zdt_I (zdg_I this _) _ _
  · rename_i hn
    refine Z.A rfl (by simp) (by simp) (by simp) (by simp) (fun _ _ => ?_) (by simp) (by simp) (by simp)
    rw [hp, show (24 : Int32) = nI 24 from rfl, nI_leI (by decide) (by omega)] at hn
    exact ⟨t + 1, by omega, hp⟩
section HE
variable {V : hx_V} {h : hx_S} {W T : zW} {g : Nat → Option hx_C}
theorem CS.hourEnds (C : CS V h W T g) (Z : ZI W) : yes (c_X0_hourEnds V (W.1 0 0) h) (fun h' => CS V h' (zend W) T g ∧ h'.1 = h.1 ∧ h'.2.1 = h.2.1) := by
  have h6 := Z.1.1
  have h8 := Z.1.2.1
  unfold c_X0_hourEnds zend
  rw [C.x_hour, Option.bind_some]
  obtain ⟨h1, e1, C1, r1, r1'⟩ := C.wx (i := 7) rfl (W.2.1 0 0 7 + 1)
  rw [e1, Option.bind_some]
  have g1 : hgI h1 (W.1 0 0) [0] 7 = some (W.2.1 0 0 7 + 1) := C1.x_hour.trans (by simp [zA, zset])
  rw [g1, Option.bind_some]
  by_cases hd : 24 ≤ W.2.1 0 0 7 + 1
  · rw [if_pos hd, if_pos hd]
    obtain ⟨h2, e2, C2, r2, r2'⟩ := C1.wx (i := 7) rfl 0
    rw [(show hp V h1 (W.1 0 0) [0] 7 (.int 0) = some h2 from e2), Option.bind_some]
    have g2 : hgI h2 (W.1 0 0) [0] 6 = some (W.2.1 0 0 6) := C2.x_day
    obtain ⟨h3, e3, C3, r3, r3'⟩ := C2.wx (i := 6) rfl (W.2.1 0 0 6 + 1)
    rw [g2, Option.bind_some, (show hp V h2 (W.1 0 0) [0] 6 (.int (W.2.1 0 0 6 + 1)) = some h3 from e3), Option.bind_some]
    generalize hX : zA (zA (zA W 0 0 7 (W.2.1 0 0 7 + 1)) 0 0 7 0) 0 0 6 (W.2.1 0 0 6 + 1) = X at C3
    have xn : znow W X := by rw [← hX]; exact ((znow.A W _ rfl).trans (znow.A _ _ rfl)).trans (znow.A _ _ rfl)
    have xS : ZS X := by rw [← hX]; exact ((Z.1.A _ (by simp) (by simp) (by simp) (by simp)).A _ (by simp) (by simp) (by simp) (by simp)).A _ (by simp) (by simp) (by simp) (by simp)
    have nu : X.2.2.2.1 = W.2.2.2.1 := by rw [xn.2.1]
    rw [← xn.1]
    have SS : ∀ Y, znow X Y → ZS Y := by
      intro Y hY
      obtain ⟨s1, s2, s3, s4, s5, s6, s7, s8⟩ := xS
      have n2 : Y.2.2.2.1 = X.2.2.2.1 := by rw [hY.2.1]
      refine ⟨by rw [n2]; exact s1, by rw [n2]; exact s2, by rw [n2, hY.2.2 21 0 2 rfl]; exact s3, by rw [n2, hY.2.2 23 0 2 rfl]; exact s4, by rw [n2]; exact s5, by rw [n2]; exact s6, fun b hb => ?_, fun b hb => ?_⟩
      · rw [hY.2.2 25 b 1 rfl]; rw [n2] at hb; exact s7 b hb
      · rw [hY.2.2 29 b 1 rfl]; rw [n2] at hb; exact s8 b hb
    refine yes.wh (I := fun n s => ∃ k, n = W.2.2.2.1 1 - k ∧ k ≤ W.2.2.2.1 1 ∧ s.1 = nI k ∧ CS V s.2 (zdg X k) T g ∧ s.2.1 = h.1 ∧ s.2.2.1 = h.2.1) (n := W.2.2.2.1 1) ⟨0, by omega, by omega, rfl, by rw [zdg_0]; exact C3, by dsimp only; omega, by dsimp only; omega⟩ (by omega) ?_
    rintro n ⟨x, hx⟩ ⟨k, rfl, hk, e1, D, q1, q2⟩
    simp only at e1 D q1 q2
    subst e1
    have S1 := SS _ (zdg_now X k)
    unfold c_X0_hourEnds_s37
    have a1 := D.x_park
    have a2 := D.z_guests
    have a3 := D.k_guests
    have a4 := D.sizeG S1
    rw [show (zdg X k).1 = X.1 from rfl] at a1 a2 a3 a4
    rw [show (zdg X k).2.2.2.1 = X.2.2.2.1 from rfl, nu] at a4
    simp only [a1, a2, a3, a4, Option.bind_some, if_true]
    by_cases hlt : k < W.2.2.2.1 1
    · rw [if_neg (nI_ge hlt (by omega))]
      have hkX : k < (zdg X k).2.2.2.1 1 := by show k < X.2.2.2.1 1; rw [nu]; exact hlt
      have b1 := D.getG S1 hkX
      have b2 : hck hx (some (X.1 29 k)) [9] = true := D.k_g hkX rfl
      rw [show (zdg X k).1 = X.1 from rfl] at b1
      obtain ⟨h4, e4, C4, r4, r4'⟩ := D.wback hkX 0
      rw [b1, Option.bind_some, b2, if_pos rfl, Option.bind_some, (show hp V hx (X.1 29 k) [9] 6 (.int 0) = some h4 from e4), Option.bind_some]
      have S4 := SS _ ((zdg_now X k).trans (znow.A _ (0 : Int32) rfl : znow (zdg X k) (zA (zdg X k) 29 k 6 0)))
      have c1 := C4.x_park
      have c2 := C4.z_guests
      have c3 := C4.k_guests
      have c4 := C4.getG S4 hkX
      have c5 : hck h4 (some (X.1 29 k)) [9] = true := C4.k_g hkX rfl
      rw [show (zA (zdg X k) 29 k 6 0).1 = X.1 from rfl] at c1 c2 c3 c4
      rw [c1, Option.bind_some, Option.bind_some, c2, Option.bind_some, Option.bind_some, c3, if_pos rfl, c4, Option.bind_some, c5, if_pos rfl, Option.bind_some]
      obtain ⟨h5, e5, C5, r5, r5'⟩ := C4.wby hkX (-1)
      rw [zenc_m1] at e5
      rw [(show hp V h4 (X.1 29 k) [9] 7 (va_rf none) = some h5 from e5), Option.bind_some]
      rw [zdg_s] at C5
      exact yes.ret ⟨W.2.2.2.1 1 - (k + 1), by omega, k + 1, rfl, by omega, nI_1 k, C5, by dsimp only; omega, by dsimp only; omega⟩
    · have hke : k = W.2.2.2.1 1 := by omega
      subst hke
      rw [if_pos (nI_le (Nat.le_refl _) (by omega))]
      have main : yes (c_X0_hourEnds_b93 V (X.1 0 0) hx) (fun h' => CS V h' (zdt (zdg X (W.2.2.2.1 1)) (W.2.2.2.1 0) 0) T g ∧ h'.1 = h.1 ∧ h'.2.1 = h.2.1) := by
        generalize hY : zdg X (W.2.2.2.1 1) = Y at D S1
        have yn : znow X Y := by rw [← hY]; exact zdg_now X _
        have nuY : Y.2.2.2.1 = W.2.2.2.1 := by rw [yn.2.1]; exact nu
        unfold c_X0_hourEnds_b93
        rw [← yn.1]
        refine yes.wh (I := fun n s => ∃ b, n = W.2.2.2.1 0 - b ∧ b ≤ W.2.2.2.1 0 ∧ s.1 = nI b ∧ CS V s.2 (zdt Y b 0) T g ∧ s.2.1 = h.1 ∧ s.2.2.1 = h.2.1) (n := W.2.2.2.1 0) ⟨0, by omega, by omega, rfl, by rw [zdt_0]; exact D, q1, q2⟩ (by omega) ?_
        rintro n ⟨x, hz⟩ ⟨b, rfl, hb, e1, D, q1, q2⟩
        simp only at e1 D q1 q2
        subst e1
        have S2 := SS _ (yn.trans (zdt_now Y b 0))
        unfold c_X0_hourEnds_s95
        have a1 := D.x_park
        have a2 := D.z_beasts
        have a3 := D.k_beasts
        have a4 := D.sizeB S2
        rw [show (zdt Y b 0).1 = Y.1 from rfl] at a1 a2 a3 a4
        rw [show (zdt Y b 0).2.2.2.1 = Y.2.2.2.1 from rfl, nuY] at a4
        simp only [a1, a2, a3, a4, Option.bind_some, if_true]
        by_cases hlt : b < W.2.2.2.1 0
        · rw [if_neg (nI_ge hlt (by omega))]
          have inner : yes (hx_wh (c_X0_hourEnds_s111 V (Y.1 0 0) (nI b)) hx_FU ((0 : Int32), hz)) (fun t => ∃ hw, t = .inl (nI b + (1 : Int32), hw) ∧ CS V hw (zdt Y b 8) T g ∧ hw.1 = h.1 ∧ hw.2.1 = h.2.1) := by
            refine yes.wh (I := fun n s => ∃ i, n = 8 - i ∧ i ≤ 8 ∧ s.1 = nI i ∧ CS V s.2 (zdt Y b i) T g ∧ s.2.1 = h.1 ∧ s.2.2.1 = h.2.1) (n := 8) ⟨0, rfl, by decide, rfl, D, q1, q2⟩ (by decide) ?_
            rintro n ⟨x, hw⟩ ⟨i, rfl, hi, e1, D, q1, q2⟩
            simp only at e1 D q1 q2
            subst e1
            unfold c_X0_hourEnds_s111
            by_cases hi8 : i < 8
            · simp only
              rw [if_neg (show ¬ (8 : Int32) ≤ nI i from nI_ge (b := 8) hi8 (by decide))]
              have S3 := SS _ (yn.trans (zdt_now Y b i))
              have hbY : b < (zdt Y b i).2.2.2.1 0 := by show b < Y.2.2.2.1 0; rw [nuY]; exact hlt
              have a1 := D.x_park
              have a2 := D.z_beasts
              have a3 := D.k_beasts
              have a4 := D.getB S3 hbY
              have a5 : hck hw (some (Y.1 25 b)) [8] = true := D.k_b hbY rfl
              have a6 := D.b_today hbY (ts := [8]) rfl
              rw [show (zdt Y b i).1 = Y.1 from rfl] at a1 a2 a3 a4 a6
              obtain ⟨h4, e4, C4, r4, r4'⟩ := D.wtoday hbY hi8 0
              rw [a1, Option.bind_some, Option.bind_some, a2, Option.bind_some, Option.bind_some, a3, if_pos rfl, a4, Option.bind_some, a5, if_pos rfl, Option.bind_some, a6, Option.bind_some, Option.bind_some, (show hpA V hw (Y.1 28 b) 100 (nI i) (.int 0) = some h4 from e4), Option.bind_some]
              rw [zdt_s] at C4
              exact yes.ret ⟨8 - (i + 1), by omega, i + 1, rfl, by omega, nI_1 i, C4, by dsimp only; omega, by dsimp only; omega⟩
            · have : i = 8 := by omega
              subst this
              simp only
              rw [if_pos (show (8 : Int32) ≤ nI 8 from nI_le (Nat.le_refl _) (by decide))]
              exact yes.ret ⟨hw, rfl, D, q1, q2⟩
          obtain ⟨t, i1, hw, rfl, i2, i3, i4⟩ := inner
          rw [i1]
          rw [zdt_8] at i2
          exact ⟨_, rfl, W.2.2.2.1 0 - (b + 1), by omega, b + 1, rfl, by omega, nI_1 b, i2, i3, i4⟩
        · have hbe : b = W.2.2.2.1 0 := by omega
          subst hbe
          rw [if_pos (nI_le (Nat.le_refl _) (by omega))]
          exact yes.ret ⟨D, q1, q2⟩
      obtain ⟨h', i1, i2⟩ := main
      rw [i1]
      exact ⟨_, rfl, i2⟩
  · rw [if_neg hd, if_neg hd]
    exact yes.ret ⟨C1, r1, r1'⟩
end HE
section HM
variable {ms : mx_S} {W : zW} {v : Nat}
/-- a new day in layer v -/
theorem ml_dawns (hv : v < 22) : yes (m_dawns (nI v) ms) (fun ms' => mfr v ms ms' ∧ (∀ g, g < 8 → ms'.2.2.1 29 (8 * v + g) = -1 ∧ ms'.2.2.1 30 (8 * v + g) = 0) ∧ (∀ k, k < 48 → ms'.2.2.1 33 (48 * v + k) = 0) ∧ ∀ a i, a ≠ 29 → a ≠ 30 → a ≠ 33 → ms'.2.2.1 a i = ms.2.2.1 a i) := by
  unfold m_dawns
  refine yes.wh (I := fun n s => ∃ j, n = 8 - j ∧ j ≤ 8 ∧ s.1 = nI j ∧ mfr v ms s.2 ∧ (∀ g, g < j → s.2.2.2.1 29 (8 * v + g) = -1 ∧ s.2.2.2.1 30 (8 * v + g) = 0) ∧ ∀ a i, a ≠ 29 → a ≠ 30 → a ≠ 33 → s.2.2.2.1 a i = ms.2.2.1 a i) (n := 8) ⟨0, rfl, by decide, rfl, mfr.refl v ms, fun g hg => by omega, fun _ _ _ _ _ => rfl⟩ (by decide) ?_
  rintro n ⟨x, mx⟩ ⟨j, rfl, hj, e1, f1, e2, e3⟩
  simp only at e1 f1 e2 e3
  subst e1
  unfold m_dawns_s2
  simp only
  have ei : (8 : Int32) * nI v + nI j = nI (8 * v + j) := by simp only [pl_lit, pk_mul, nI_add]
  by_cases hlt : j < 8
  · rw [if_neg (show ¬ (8 : Int32) ≤ nI j from nI_ge (b := 8) hlt (by decide)), ei, if_pos (pl_in (by omega) (by decide)), if_pos (pl_in (by omega) (by decide)), pl_cl (by omega)]
    refine yes.ret ⟨8 - (j + 1), by omega, j + 1, rfl, by omega, nI_1 j, f1.trans ((mfr.A _ _ (Or.inr (Or.inr (Or.inr ⟨by decide, by decide, by show (8 * v + j) / 8 = v; omega⟩)))).trans (mfr.A _ _ (Or.inr (Or.inr (Or.inr ⟨by decide, by decide, by show (8 * v + j) / 8 = v; omega⟩))))), fun g hg => ?_, fun a i h1 h2 h3 => ?_⟩
    · show (if 29 = 30 ∧ 8 * v + g = 8 * v + j then (0 : Int32) else if 29 = 29 ∧ 8 * v + g = 8 * v + j then (-1 : Int32) else mx.2.2.1 29 (8 * v + g)) = -1 ∧ (if 30 = 30 ∧ 8 * v + g = 8 * v + j then (0 : Int32) else if 30 = 29 ∧ 8 * v + g = 8 * v + j then (-1 : Int32) else mx.2.2.1 30 (8 * v + g)) = 0
      by_cases hg2 : g = j
      · subst hg2; simp
      · have := e2 g (by omega)
        rw [if_neg (fun q => by omega), if_neg (fun q => by omega), if_neg (fun q => by omega), if_neg (fun q => by omega)]
        exact this
    · show (if a = 30 ∧ i = 8 * v + j then (0 : Int32) else if a = 29 ∧ i = 8 * v + j then (-1 : Int32) else mx.2.2.1 a i) = _
      rw [if_neg (fun q => h2 q.1), if_neg (fun q => h1 q.1)]
      exact e3 a i h1 h2 h3
  · have hje : j = 8 := by omega
    subst hje
    rw [if_pos (show (8 : Int32) ≤ nI 8 from nI_le (Nat.le_refl _) (by decide))]
    have main : yes (m_dawns_b38 (nI v) mx) (fun ms' => mfr v ms ms' ∧ (∀ g, g < 8 → ms'.2.2.1 29 (8 * v + g) = -1 ∧ ms'.2.2.1 30 (8 * v + g) = 0) ∧ (∀ k, k < 48 → ms'.2.2.1 33 (48 * v + k) = 0) ∧ ∀ a i, a ≠ 29 → a ≠ 30 → a ≠ 33 → ms'.2.2.1 a i = ms.2.2.1 a i) := by
      unfold m_dawns_b38
      refine yes.wh (I := fun n s => ∃ j, n = 48 - j ∧ j ≤ 48 ∧ s.1 = nI j ∧ mfr v ms s.2 ∧ (∀ g, g < 8 → s.2.2.2.1 29 (8 * v + g) = -1 ∧ s.2.2.2.1 30 (8 * v + g) = 0) ∧ (∀ k, k < j → s.2.2.2.1 33 (48 * v + k) = 0) ∧ ∀ a i, a ≠ 29 → a ≠ 30 → a ≠ 33 → s.2.2.2.1 a i = ms.2.2.1 a i) (n := 48) ⟨0, rfl, by decide, rfl, f1, e2, fun k hk => by omega, e3⟩ (by decide) ?_
      rintro n ⟨x, mx⟩ ⟨j, rfl, hj, e1, f1, e2, e4, e3⟩
      simp only at e1 f1 e2 e3 e4
      subst e1
      unfold m_dawns_s40
      simp only
      have ei : (48 : Int32) * nI v + nI j = nI (48 * v + j) := by simp only [pl_lit, pk_mul, nI_add]
      by_cases hlt : j < 48
      · rw [if_neg (show ¬ (48 : Int32) ≤ nI j from nI_ge (b := 48) hlt (by decide)), ei, if_pos (pl_in (by omega) (by decide)), pl_cl (by omega)]
        refine yes.ret ⟨48 - (j + 1), by omega, j + 1, rfl, by omega, nI_1 j, f1.trans (mfr.A _ _ (Or.inr (Or.inr (Or.inr ⟨by decide, by decide, by show (48 * v + j) / 48 = v; omega⟩)))), fun g hg => e2 g hg, fun k hk => ?_, fun a i h1 h2 h3 => ?_⟩
        · show (if 33 = 33 ∧ 48 * v + k = 48 * v + j then (0 : Int32) else mx.2.2.1 33 (48 * v + k)) = 0
          by_cases hg2 : k = j
          · subst hg2; simp
          · rw [if_neg (fun q => by omega)]; exact e4 k (by omega)
        · show (if a = 33 ∧ i = 48 * v + j then (0 : Int32) else mx.2.2.1 a i) = _
          rw [if_neg (fun q => h3 q.1)]
          exact e3 a i h1 h2 h3
      · have hje : j = 48 := by omega
        subst hje
        rw [if_pos (show (48 : Int32) ≤ nI 48 from nI_le (Nat.le_refl _) (by decide))]
        exact yes.ret ⟨f1, e2, e4, e3⟩
    obtain ⟨ms', i1, i2⟩ := main
    rw [i1]
    exact ⟨_, rfl, i2⟩
theorem ml_over (R : MR ms v W) (Z : ZI W) (hd : zle (W.2.1 0 0 6) 1998) : yes (m_isOver (nI v) ms) (fun ms' => MR ms' v (zend W) ∧ mfr v ms ms' ∧ (∀ L, MT ms v L → MT ms' v L) ∧ ∀ a i, a = 38 ∨ a = 39 → ms'.2.2.1 a i = ms.2.2.1 a i) := by
  have h6 := Z.1.1
  have h8 := Z.1.2.1
  obtain ⟨r0, r1, r2, r3, r4, r5, d, t, r6, r7, r8, r9, r10⟩ := R
  have hd2 : d < 1999 := by
    obtain ⟨d', h1, h2⟩ := hd
    rw [r6, nI_eq (by omega) (by omega)] at h2
    omega
  have hp : W.2.1 0 0 7 + 1 = nI (t + 1) := by rw [r7, nI_1]
  unfold m_isOver
  rw [if_pos (pl_in r0 (by decide)), if_pos (pl_in r0 (by decide)), pl_cl (by omega), r10, nI_1]
  have fA : mfr v ms (mx_A ms 26 v (nI (24 * d + t + 1))) := mfr.A _ _ (Or.inr (Or.inr (Or.inr ⟨by decide, by decide, by show v / 1 = v; omega⟩)))
  have hh : m_hourIn (nI v) (mx_A ms 26 v (nI (24 * d + t + 1))) = some (nI ((24 * d + t + 1) % 24)) := by
    unfold m_hourIn
    rw [if_pos (pl_in r0 (by decide)), pl_cl (by omega), show (mx_A ms 26 v (nI (24 * d + t + 1))).2.2.1 26 v = nI (24 * d + t + 1) by simp [mx_A], show (24 : Int32) = nI 24 from rfl, pk_rem (by omega) (by decide) (by decide)]
  rw [hh, Option.bind_some]
  unfold zend
  rw [hp]
  by_cases h24 : t + 1 = 24
  · rw [if_pos (show nI ((24 * d + t + 1) % 24) = 0 by rw [show (24 * d + t + 1) % 24 = 0 by omega]; rfl), if_pos (show (24 : Int32) ≤ nI (t + 1) by rw [h24]; exact nI_le (Nat.le_refl _) (by decide))]
    refine (ml_dawns (ms := mx_A ms 26 v (nI (24 * d + t + 1))) r0).bind fun ms' ⟨f1, q1, q2, q3⟩ => ?_
    refine yes.ret ⟨⟨r0, fun k hk i hi => ?_, fun k hk => ⟨?_, ?_⟩, fun b hb i hi => ?_, fun b hb k hk => ⟨?_, ?_⟩, ?_, d + 1, 0, ?_, ?_, by decide, by omega, ?_⟩, fA.trans f1, fun L M => ?_, fun a i ha => ?_⟩
    · rw [q3 28 _ (by decide) (by decide) (by decide)]; exact r1 k hk i hi
    · have hk' : k < W.2.2.2.1 1 := hk
      rw [(q1 k (by omega)).1]
      simp [zdt, zdg, hk']
    · have hk' : k < W.2.2.2.1 1 := hk
      rw [(q1 k (by omega)).2]
      simp [zdt, zdg, hk']
    · rw [q3 31 _ (by decide) (by decide) (by decide)]; exact r3 b hb i hi
    · rw [q3 32 _ (by decide) (by decide) (by decide)]; exact (r4 b hb k hk).1
    · have hk' : k < W.2.2.2.1 1 := hk
      have hb' : b < W.2.2.2.1 0 := hb
      rw [show 48 * v + 8 * b + k = 48 * v + (8 * b + k) by omega, q2 _ (by omega)]
      have hk8 : k < 8 := by omega
      simp [zdt, hb', hk8]
    · rw [q3 27 _ (by decide) (by decide) (by decide)]; exact r5
    · show W.2.1 0 0 6 + 1 = _
      rw [r6, nI_1]
    · rfl
    · rw [q3 26 _ (by decide) (by decide) (by decide)]
      show (if 26 = 26 ∧ v = v then nI (24 * d + t + 1) else _) = _
      rw [if_pos ⟨rfl, rfl⟩]
      congr 1
      omega
    · refine ⟨?_, M.2.1, fun i r hr k hk => ?_⟩
      · rw [q3 34 _ (by decide) (by decide) (by decide)]; exact M.1
      · rw [q3 35 _ (by decide) (by decide) (by decide)]; exact M.2.2 i r hr k hk
    · rw [q3 a i (by omega) (by omega) (by omega)]
      rcases ha with rfl | rfl <;> rfl
  · rw [if_neg (show ¬ nI ((24 * d + t + 1) % 24) = 0 by rw [show (24 * d + t + 1) % 24 = t + 1 by omega]; exact nI_ne0 (by omega) (by omega)), if_neg (show ¬ (24 : Int32) ≤ nI (t + 1) from nI_ge (b := 24) (by omega) (by decide))]
    refine yes.ret ⟨⟨r0, r1, r2, r3, r4, r5, d, t + 1, r6, rfl, by omega, by omega, ?_⟩, fA, fun L M => ⟨M.1, M.2.1, M.2.2⟩, fun a i ha => by rcases ha with rfl | rfl <;> rfl⟩
    show (if 26 = 26 ∧ v = v then nI (24 * d + t + 1) else _) = _
    rw [if_pos ⟨rfl, rfl⟩]
    rfl
end HM

/-! PURE SIDE: what is, written down and read back -/
set_option maxRecDepth 100000
def SPg (W : zW) (c : Nat → Value) (n : Nat) : Prop := ∀ k, k < n → (∀ i, i < 3 → c (3 + 5 * k + i) = .int (W.2.1 30 k i)) ∧ c (3 + 5 * k + 3) = .int (W.2.1 29 k 6) ∧ c (3 + 5 * k + 4) = .int (W.2.1 29 k 7)
def SPb (W : zW) (c : Nat → Value) (n : Nat) : Prop := ∀ b, b < n → (∀ i, i < 3 → c (3 + 5 * W.2.2.2.1 1 + 19 * b + i) = .int (W.2.1 26 b i)) ∧ ∀ i, i < 8 → c (3 + 5 * W.2.2.2.1 1 + 19 * b + 3 + i) = .int (W.2.1 27 b i) ∧ c (3 + 5 * W.2.2.2.1 1 + 19 * b + 3 + 8 + i) = .int (W.2.1 28 b i)
/-- c tells what is in W -/
def SP (W : zW) (c : Nat → Value) : Prop := c 0 = .int (W.2.1 0 0 6) ∧ c 1 = .int (W.2.1 0 0 7) ∧ c 2 = .int (W.2.1 0 0 8) ∧ SPg W c (W.2.2.2.1 1) ∧ SPb W c (W.2.2.2.1 0)
theorem SPg.put {W : zW} {c : Nat → Value} {n x : Nat} (h : SPg W c n) (v : Value) (hx : 3 + 5 * n ≤ x) : SPg W (updV c x v) n := by
  intro k hk
  obtain ⟨h1, h2, h3⟩ := h k hk
  refine ⟨fun i hi => ?_, ?_, ?_⟩
  · rw [updV_ne _ _ (by omega)]; exact h1 i hi
  · rw [updV_ne _ _ (by omega)]; exact h2
  · rw [updV_ne _ _ (by omega)]; exact h3
theorem SPb.put {W : zW} {c : Nat → Value} {n x : Nat} (h : SPb W c n) (v : Value) (hx : 3 + 5 * W.2.2.2.1 1 + 19 * n ≤ x) : SPb W (updV c x v) n := by
  intro b hb
  obtain ⟨h1, h2⟩ := h b hb
  refine ⟨fun i hi => ?_, fun i hi => ⟨?_, ?_⟩⟩
  · rw [updV_ne _ _ (by omega)]; exact h1 i hi
  · rw [updV_ne _ _ (by omega)]; exact (h2 i hi).1
  · rw [updV_ne _ _ (by omega)]; exact (h2 i hi).2
/-- a frozen row under way -/
def FR (V : hx_V) (h0 : hx_S) (g0 : Nat → Option hx_C) (W T : zW) (n : Nat) (k : hx_S) (c : Nat → Value) : Prop := ∃ g, CS V k W T g ∧ g h0.1 = some (100, n, c) ∧ gle g0 g ∧ k.1 = h0.1 + 1 ∧ k.2.1 = h0.2.1 + n
theorem FR.put {V : hx_V} {h0 : hx_S} {g0 : Nat → Option hx_C} {W T : zW} {n : Nat} {k : hx_S} {c : Nat → Value} (F : FR V h0 g0 W T n k c) {i : Nat} (x : Int32) (hi : i < n) (hn : n < 2 ^ 31) (hg : g0 h0.1 = none) (hV : V.2.1.size ≤ h0.1) : ∃ k', hpA V k h0.1 100 (nI i) (.int x) = some k' ∧ FR V h0 g0 W T n k' (updV c i (.int x)) := by
  obtain ⟨g, C, e, gl, k1, k2⟩ := F
  refine ⟨_, p_pA (C.fro e).1 (.int x) hi hn hV, _, C.wfro (100, n, updV c i (.int x)) e, by rw [if_pos rfl], fun q y hq => ?_, k1, k2⟩
  have hne : q ≠ h0.1 := fun z => by rw [z, hg] at hq; cases hq
  show (if q = h0.1 then _ else g q) = _
  rw [if_neg hne]
  exact gl q y hq
section WR
variable {V : hx_V} {h : hx_S} {W T : zW} {g : Nat → Option hx_C}
theorem CS.written (C : CS V h W T g) (Z : ZI W) (h1 : h.1 + 1 ≤ V.2.2.1) (h2 : h.2.1 + 157 ≤ V.2.2.2.1) : yes (c_X0_written V (W.1 0 0) h) (fun r => r.1 = some h.1 ∧ ∃ c, SP W c ∧ FR V h g W T 157 r.2 c) := by
  have h6 := Z.1.1
  have h8 := Z.1.2.1
  have S := Z.1
  have hg := C.new
  have hV := C.low
  unfold c_X0_written
  rw [show (157 : Int32) = nI 157 from rfl, p_na 100 (.int 0) h1 h2 (by decide), Option.bind_some]
  have C1 := C.push 157 (100, 157, fun _ => .int 0)
  have F0 : FR V h g W T 157 (hx_push h 157 (100, 157, fun _ => .int 0)) (fun _ => .int 0) := by
    refine ⟨_, C1, by rw [if_pos rfl], fun q y hq => ?_, rfl, rfl⟩
    have hne : q ≠ h.1 := fun z => by rw [z, hg] at hq; cases hq
    show (if q = h.1 then _ else g q) = _
    rw [if_neg hne]; exact hq
  obtain ⟨k1, e1, F1⟩ := F0.put (i := 0) (W.2.1 0 0 6) (by decide) (by decide) hg hV
  rw [C1.x_day, Option.bind_some, (show hpA V _ h.1 100 (0 : Int32) _ = some k1 from e1), Option.bind_some]
  obtain ⟨k2, e2, F2⟩ := F1.put (i := 1) (W.2.1 0 0 7) (by decide) (by decide) hg hV
  obtain ⟨g1, D1, -⟩ := id F1
  rw [D1.x_hour, Option.bind_some, (show hpA V _ h.1 100 (1 : Int32) _ = some k2 from e2), Option.bind_some]
  obtain ⟨k3, e3, F3⟩ := F2.put (i := 2) (W.2.1 0 0 8) (by decide) (by decide) hg hV
  obtain ⟨g2, D2, -⟩ := id F2
  rw [D2.x_fees, Option.bind_some, (show hpA V _ h.1 100 (2 : Int32) _ = some k3 from e3), Option.bind_some]
  generalize hc0 : updV (updV (updV (fun _ => Value.int 0) 0 (.int (W.2.1 0 0 6))) 1 (.int (W.2.1 0 0 7))) 2 (.int (W.2.1 0 0 8)) = c0 at F3
  have z0 : c0 0 = .int (W.2.1 0 0 6) ∧ c0 1 = .int (W.2.1 0 0 7) ∧ c0 2 = .int (W.2.1 0 0 8) := by rw [← hc0]; simp [updV]
  clear hc0
  refine yes.wh (I := fun n s => ∃ k c, n = W.2.2.2.1 1 - k ∧ k ≤ W.2.2.2.1 1 ∧ s.1 = nI (3 + 5 * k) ∧ s.2.1 = nI k ∧ FR V h g W T 157 s.2.2 c ∧ (c 0 = .int (W.2.1 0 0 6) ∧ c 1 = .int (W.2.1 0 0 7) ∧ c 2 = .int (W.2.1 0 0 8)) ∧ SPg W c k) (n := W.2.2.2.1 1) ⟨0, c0, by omega, by omega, rfl, rfl, F3, z0, fun k hk => by omega⟩ (by omega) ?_
  rintro n ⟨x1, x2, kx⟩ ⟨k, c, rfl, hk, e1, e2, F, z0, zg⟩
  simp only at e1 e2 F
  subst e1 e2
  obtain ⟨gx, D, d1, d2, d3, d4⟩ := id F
  unfold c_X0_written_s31
  simp only [D.x_park, D.z_guests, D.k_guests, D.sizeG S, Option.bind_some, if_true]
  by_cases hlt : k < W.2.2.2.1 1
  · rw [if_neg (nI_ge hlt (by omega)), D.getG S hlt, Option.bind_some]
    have hc : hck kx (some (W.1 29 k)) [9] = true := D.k_g hlt rfl
    rw [hc, if_pos rfl]
    -- three traits
    refine yes.wh (I := fun n s => ∃ i c, n = 3 - i ∧ i ≤ 3 ∧ s.1 = nI i ∧ FR V h g W T 157 s.2 c ∧ (c 0 = .int (W.2.1 0 0 6) ∧ c 1 = .int (W.2.1 0 0 7) ∧ c 2 = .int (W.2.1 0 0 8)) ∧ SPg W c k ∧ ∀ j, j < i → c (3 + 5 * k + j) = .int (W.2.1 30 k j)) (n := 3) ⟨0, c, rfl, by decide, rfl, F, z0, zg, fun j hj => by omega⟩ (by decide) ?_
    rintro n ⟨x, ky⟩ ⟨i, c, rfl, hi, e1, F, z0, zg, zi⟩
    simp only at e1 F
    subst e1
    obtain ⟨gy, D, d1, d2, d3, d4⟩ := id F
    unfold c_X0_written_s64
    simp only
    by_cases hi3 : i < 3
    · rw [if_neg (show ¬ (3 : Int32) ≤ nI i from nI_ge (b := 3) hi3 (by decide)), Option.bind_some, D.g_traits hlt (ts := [9]) rfl, Option.bind_some, Option.bind_some, D.traitsOf hlt hi3, Option.bind_some, Option.bind_some, nI_add]
      obtain ⟨k4, e4, F4⟩ := F.put (i := 3 + 5 * k + i) (W.2.1 30 k i) (by omega) (by decide) hg hV
      rw [e4, Option.bind_some]
      refine yes.ret ⟨3 - (i + 1), by omega, i + 1, _, rfl, by omega, nI_1 i, F4, ⟨by rw [updV_ne _ _ (by omega)]; exact z0.1, by rw [updV_ne _ _ (by omega)]; exact z0.2.1, by rw [updV_ne _ _ (by omega)]; exact z0.2.2⟩, zg.put _ (by omega), fun j hj => ?_⟩
      by_cases q : j = i
      · subst q; exact updV_at _ _ _
      · rw [updV_ne _ _ (by omega)]; exact zi j (by omega)
    · have hie : i = 3 := by omega
      subst hie
      rw [if_pos (show (3 : Int32) ≤ nI 3 from nI_le (Nat.le_refl _) (by decide))]
      have main : yes (c_X0_written_b90 V (W.1 0 0) (some h.1) (nI (3 + 5 * k)) (nI k) (some (W.1 29 k)) ky) (yes_st (fun s' => ∃ m, m < W.2.2.2.1 1 - k ∧ ∃ k c, m = W.2.2.2.1 1 - k ∧ k ≤ W.2.2.2.1 1 ∧ s'.1 = nI (3 + 5 * k) ∧ s'.2.1 = nI k ∧ FR V h g W T 157 s'.2.2 c ∧ (c 0 = .int (W.2.1 0 0 6) ∧ c 1 = .int (W.2.1 0 0 7) ∧ c 2 = .int (W.2.1 0 0 8)) ∧ SPg W c k) (fun r => r.1 = some h.1 ∧ ∃ c, SP W c ∧ FR V h g W T 157 r.2 c)) := by
        unfold c_X0_written_b90
        rw [Option.bind_some, D.g_back hlt (ts := [9]) rfl, Option.bind_some, Option.bind_some, show nI (3 + 5 * k) + (3 : Int32) = nI (3 + 5 * k + 3) from nI_add _ 3]
        obtain ⟨k4, e4, F4⟩ := F.put (i := 3 + 5 * k + 3) (W.2.1 29 k 6) (by omega) (by decide) hg hV
        obtain ⟨g4, D4, -⟩ := id F4
        rw [e4, Option.bind_some, D4.g_by hlt (ts := [9]) rfl, Option.bind_some, show nI (3 + 5 * k) + (4 : Int32) = nI (3 + 5 * k + 4) from nI_add _ 4, show nI (3 + 5 * k) + (5 : Int32) = nI (3 + 5 * (k + 1)) from nI_add _ 5, nI_1]
        obtain ⟨k5, e5, F5⟩ := F4.put (i := 3 + 5 * k + 4) (W.2.1 29 k 7) (by omega) (by decide) hg hV
        have fin : yes (some (Sum.inl (nI (3 + 5 * (k + 1)), nI (k + 1), k5)) : Option ((Int32 × Int32 × hx_S) ⊕ (Option Nat × hx_S))) (yes_st (fun s' => ∃ m, m < W.2.2.2.1 1 - k ∧ ∃ k c, m = W.2.2.2.1 1 - k ∧ k ≤ W.2.2.2.1 1 ∧ s'.1 = nI (3 + 5 * k) ∧ s'.2.1 = nI k ∧ FR V h g W T 157 s'.2.2 c ∧ (c 0 = .int (W.2.1 0 0 6) ∧ c 1 = .int (W.2.1 0 0 7) ∧ c 2 = .int (W.2.1 0 0 8)) ∧ SPg W c k) (fun r => r.1 = some h.1 ∧ ∃ c, SP W c ∧ FR V h g W T 157 r.2 c)) := by
          refine yes.ret ⟨W.2.2.2.1 1 - (k + 1), by omega, k + 1, _, rfl, by omega, rfl, rfl, F5, ⟨?_, ?_, ?_⟩, fun k' hk' => ?_⟩
          · rw [updV_ne _ _ (by omega), updV_ne _ _ (by omega)]; exact z0.1
          · rw [updV_ne _ _ (by omega), updV_ne _ _ (by omega)]; exact z0.2.1
          · rw [updV_ne _ _ (by omega), updV_ne _ _ (by omega)]; exact z0.2.2
          · by_cases q : k' = k
            · subst q
              refine ⟨fun i hi => ?_, ?_, updV_at _ _ _⟩
              · rw [updV_ne _ _ (by omega), updV_ne _ _ (by omega)]; exact zi i hi
              · rw [updV_ne _ _ (by omega)]; exact updV_at _ _ _
            · exact ((zg.put _ (by omega)).put _ (by omega)) k' (by omega)
        by_cases hm : W.2.1 29 k 7 = -1
        · rw [if_pos (zenc_none.mpr hm)]
          rw [hm] at e5
          rw [e5, Option.bind_some]
          exact fin
        · rw [if_neg (fun q => hm (zenc_none.mp q))]
          obtain ⟨b, hb, eb⟩ := (Z.2.2.2.2.1 k hlt).1.resolve_left hm
          rw [eb] at e5
          rw [eb, zenc_nI (by omega), Option.bind_some, Option.bind_some, D4.b_number hb (ts := [8]) rfl, Option.bind_some, S.2.2.2.2.2.2.1 b hb, e5, Option.bind_some]
          exact fin
      obtain ⟨t, i1, i2⟩ := main
      rw [i1]
      exact ⟨_, rfl, i2⟩
  · have hke : k = W.2.2.2.1 1 := by omega
    subst hke
    rw [if_pos (nI_le (Nat.le_refl _) (by omega))]
    have main : yes (c_X0_written_b134 V (W.1 0 0) (some h.1) (nI (3 + 5 * W.2.2.2.1 1)) kx) (fun r => r.1 = some h.1 ∧ ∃ c, SP W c ∧ FR V h g W T 157 r.2 c) := by
      unfold c_X0_written_b134
      refine yes.wh (I := fun n s => ∃ b c, n = W.2.2.2.1 0 - b ∧ b ≤ W.2.2.2.1 0 ∧ s.1 = nI (3 + 5 * W.2.2.2.1 1 + 19 * b) ∧ s.2.1 = nI b ∧ FR V h g W T 157 s.2.2 c ∧ (c 0 = .int (W.2.1 0 0 6) ∧ c 1 = .int (W.2.1 0 0 7) ∧ c 2 = .int (W.2.1 0 0 8)) ∧ SPg W c (W.2.2.2.1 1) ∧ SPb W c b) (n := W.2.2.2.1 0) ⟨0, c, by omega, by omega, rfl, rfl, F, z0, zg, fun b hb => by omega⟩ (by omega) ?_
      rintro n ⟨x1, x2, ky⟩ ⟨b, c, rfl, hb, e1, e2, F, z0, zg, zb⟩
      simp only at e1 e2 F
      subst e1 e2
      obtain ⟨gy, D, d1, d2, d3, d4⟩ := id F
      unfold c_X0_written_s136
      simp only [D.x_park, D.z_beasts, D.k_beasts, D.sizeB S, Option.bind_some, if_true]
      by_cases hlt : b < W.2.2.2.1 0
      · rw [if_neg (nI_ge hlt (by omega)), D.getB S hlt, Option.bind_some]
        have hc : hck ky (some (W.1 25 b)) [8] = true := D.k_b hlt rfl
        rw [hc, if_pos rfl]
        refine yes.wh (I := fun n s => ∃ i c, n = 3 - i ∧ i ≤ 3 ∧ s.1 = nI i ∧ FR V h g W T 157 s.2 c ∧ (c 0 = .int (W.2.1 0 0 6) ∧ c 1 = .int (W.2.1 0 0 7) ∧ c 2 = .int (W.2.1 0 0 8)) ∧ SPg W c (W.2.2.2.1 1) ∧ SPb W c b ∧ ∀ j, j < i → c (3 + 5 * W.2.2.2.1 1 + 19 * b + j) = .int (W.2.1 26 b j)) (n := 3) ⟨0, c, rfl, by decide, rfl, F, z0, zg, zb, fun j hj => by omega⟩ (by decide) ?_
        rintro n ⟨x, kz⟩ ⟨i, c, rfl, hi, e1, F, z0, zg, zb, zi⟩
        simp only at e1 F
        subst e1
        obtain ⟨gz, D, d1, d2, d3, d4⟩ := id F
        unfold c_X0_written_s169
        simp only
        by_cases hi3 : i < 3
        · rw [if_neg (show ¬ (3 : Int32) ≤ nI i from nI_ge (b := 3) hi3 (by decide)), Option.bind_some, D.b_taste hlt (ts := [8]) rfl, Option.bind_some, Option.bind_some, D.tasteOf hlt hi3, Option.bind_some, Option.bind_some, nI_add]
          obtain ⟨k4, e4, F4⟩ := F.put (i := 3 + 5 * W.2.2.2.1 1 + 19 * b + i) (W.2.1 26 b i) (by omega) (by decide) hg hV
          rw [e4, Option.bind_some]
          refine yes.ret ⟨3 - (i + 1), by omega, i + 1, _, rfl, by omega, nI_1 i, F4, ⟨by rw [updV_ne _ _ (by omega)]; exact z0.1, by rw [updV_ne _ _ (by omega)]; exact z0.2.1, by rw [updV_ne _ _ (by omega)]; exact z0.2.2⟩, zg.put _ (by omega), zb.put _ (by omega), fun j hj => ?_⟩
          by_cases q : j = i
          · subst q; exact updV_at _ _ _
          · rw [updV_ne _ _ (by omega)]; exact zi j (by omega)
        · have hie : i = 3 := by omega
          subst hie
          rw [if_pos (show (3 : Int32) ≤ nI 3 from nI_le (Nat.le_refl _) (by decide))]
          have main2 : yes (c_X0_written_b195 V (W.1 0 0) (some h.1) (nI (3 + 5 * W.2.2.2.1 1 + 19 * b)) (nI b) (some (W.1 25 b)) kz) (yes_st (fun s' => ∃ m, m < W.2.2.2.1 0 - b ∧ ∃ b c, m = W.2.2.2.1 0 - b ∧ b ≤ W.2.2.2.1 0 ∧ s'.1 = nI (3 + 5 * W.2.2.2.1 1 + 19 * b) ∧ s'.2.1 = nI b ∧ FR V h g W T 157 s'.2.2 c ∧ (c 0 = .int (W.2.1 0 0 6) ∧ c 1 = .int (W.2.1 0 0 7) ∧ c 2 = .int (W.2.1 0 0 8)) ∧ SPg W c (W.2.2.2.1 1) ∧ SPb W c b) (fun r => r.1 = some h.1 ∧ ∃ c, SP W c ∧ FR V h g W T 157 r.2 c)) := by
            unfold c_X0_written_b195
            refine yes.wh (I := fun n s => ∃ p c, n = 8 - p ∧ p ≤ 8 ∧ s.1 = nI p ∧ FR V h g W T 157 s.2 c ∧ (c 0 = .int (W.2.1 0 0 6) ∧ c 1 = .int (W.2.1 0 0 7) ∧ c 2 = .int (W.2.1 0 0 8)) ∧ SPg W c (W.2.2.2.1 1) ∧ SPb W c b ∧ (∀ j, j < 3 → c (3 + 5 * W.2.2.2.1 1 + 19 * b + j) = .int (W.2.1 26 b j)) ∧ ∀ j, j < p → c (3 + 5 * W.2.2.2.1 1 + 19 * b + 3 + j) = .int (W.2.1 27 b j) ∧ c (3 + 5 * W.2.2.2.1 1 + 19 * b + 3 + 8 + j) = .int (W.2.1 28 b j)) (n := 8) ⟨0, c, rfl, by decide, rfl, F, z0, zg, zb, zi, fun j hj => by omega⟩ (by decide) ?_
            rintro n ⟨x, kw⟩ ⟨p, c, rfl, hp, e1, F, z0, zg, zb, zi, zp⟩
            simp only at e1 F
            subst e1
            obtain ⟨gw, D, d1, d2, d3, d4⟩ := id F
            unfold c_X0_written_s198
            simp only
            by_cases hp8 : p < 8
            · rw [if_neg (show ¬ (8 : Int32) ≤ nI p from nI_ge (b := 8) hp8 (by decide)), Option.bind_some, D.b_saw hlt (ts := [8]) rfl, Option.bind_some, Option.bind_some, D.sawOf hlt hp8, Option.bind_some, Option.bind_some, show nI (3 + 5 * W.2.2.2.1 1 + 19 * b) + (3 : Int32) = nI (3 + 5 * W.2.2.2.1 1 + 19 * b + 3) from nI_add _ 3, nI_add]
              obtain ⟨k4, e4, F4⟩ := F.put (i := 3 + 5 * W.2.2.2.1 1 + 19 * b + 3 + p) (W.2.1 27 b p) (by omega) (by decide) hg hV
              obtain ⟨g4, D4, -⟩ := id F4
              rw [e4, Option.bind_some, D4.b_today hlt (ts := [8]) rfl, Option.bind_some, Option.bind_some, D4.todayOf hlt hp8, Option.bind_some, show nI (3 + 5 * W.2.2.2.1 1 + 19 * b + 3) + (8 : Int32) = nI (3 + 5 * W.2.2.2.1 1 + 19 * b + 3 + 8) from nI_add _ 8, nI_add]
              obtain ⟨k5, e5, F5⟩ := F4.put (i := 3 + 5 * W.2.2.2.1 1 + 19 * b + 3 + 8 + p) (W.2.1 28 b p) (by omega) (by decide) hg hV
              rw [e5, Option.bind_some]
              refine yes.ret ⟨8 - (p + 1), by omega, p + 1, _, rfl, by omega, nI_1 p, F5, ⟨?_, ?_, ?_⟩, (zg.put _ (by omega)).put _ (by omega), (zb.put _ (by omega)).put _ (by omega), fun j hj => ?_, fun j hj => ?_⟩
              · rw [updV_ne _ _ (by omega), updV_ne _ _ (by omega)]; exact z0.1
              · rw [updV_ne _ _ (by omega), updV_ne _ _ (by omega)]; exact z0.2.1
              · rw [updV_ne _ _ (by omega), updV_ne _ _ (by omega)]; exact z0.2.2
              · rw [updV_ne _ _ (by omega), updV_ne _ _ (by omega)]; exact zi j hj
              · by_cases q : j = p
                · subst q
                  exact ⟨by rw [updV_ne _ _ (by omega)]; exact updV_at _ _ _, updV_at _ _ _⟩
                · rw [updV_ne _ _ (by omega), updV_ne _ _ (by omega), updV_ne _ _ (by omega), updV_ne _ _ (by omega)]
                  exact zp j (by omega)
            · have hpe : p = 8 := by omega
              subst hpe
              rw [if_pos (show (8 : Int32) ≤ nI 8 from nI_le (Nat.le_refl _) (by decide)), show nI (3 + 5 * W.2.2.2.1 1 + 19 * b) + (19 : Int32) = nI (3 + 5 * W.2.2.2.1 1 + 19 * (b + 1)) from nI_add _ 19, nI_1]
              refine yes.ret ⟨W.2.2.2.1 0 - (b + 1), by omega, b + 1, c, rfl, by omega, rfl, rfl, F, z0, zg, fun b' hb' => ?_⟩
              by_cases q : b' = b
              · subst q; exact ⟨zi, zp⟩
              · exact zb b' (by omega)
          obtain ⟨t, i1, i2⟩ := main2
          rw [i1]
          exact ⟨_, rfl, i2⟩
      · have hbe : b = W.2.2.2.1 0 := by omega
        subst hbe
        rw [if_pos (nI_le (Nat.le_refl _) (by omega))]
        exact yes.ret ⟨rfl, c, ⟨z0.1, z0.2.1, z0.2.2, zg, zb⟩, F⟩
    obtain ⟨t, i1, i2⟩ := main
    rw [i1]
    exact ⟨_, rfl, i2⟩
end WR

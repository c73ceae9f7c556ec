/-! PURE SIDE: what was written down is read back -/
set_option maxRecDepth 100000
/-- W, where p says so as in U -/
def zov (W U : zW) (p : Nat → Nat → Nat → Bool) : zW := (W.1, fun k j i => if p k j i = true then U.2.1 k j i else W.2.1 k j i, W.2.2)
theorem zov_A (W U : zW) (p : Nat → Nat → Nat → Bool) (k j i : Nat) : zA (zov W U p) k j i (U.2.1 k j i) = zov W U (fun k' j' i' => p k' j' i' || decide (k' = k ∧ j' = j ∧ i' = i)) := by
  refine congrArg (fun x => (W.1, x, W.2.2)) (funext fun k' => funext fun j' => funext fun i' => ?_)
  show (if k' = k ∧ j' = j ∧ i' = i then U.2.1 k j i else if p k' j' i' = true then U.2.1 k' j' i' else W.2.1 k' j' i') = if (p k' j' i' || decide (k' = k ∧ j' = j ∧ i' = i)) = true then U.2.1 k' j' i' else W.2.1 k' j' i'
  by_cases h : k' = k ∧ j' = j ∧ i' = i
  · rw [if_pos h]
    obtain ⟨rfl, rfl, rfl⟩ := h
    simp
  · rw [if_neg h]
    simp [h]
theorem zov_eq {W U : zW} {p q : Nat → Nat → Nat → Bool} (h : ∀ k j i, p k j i = q k j i) : zov W U p = zov W U q := by
  have : p = q := funext fun k => funext fun j => funext fun i => h k j i
  rw [this]
theorem zov_now (W U : zW) {p : Nat → Nat → Nat → Bool} (h : ∀ k j i, p k j i = true → znw k i = true) : znow W (zov W U p) := by
  refine ⟨rfl, rfl, fun k j i hn => ?_⟩
  show (if p k j i = true then U.2.1 k j i else W.2.1 k j i) = _
  rw [if_neg]
  intro q
  rw [h k j i q] at hn
  cases hn
theorem zov_I {W U : zW} {p : Nat → Nat → Nat → Bool} (Z : ZI W) (Y : ZI U) (hn : U.2.2.2.1 0 = W.2.2.2.1 0 ∧ U.2.2.2.1 1 = W.2.2.2.1 1) (h : ∀ k j i, p k j i = true → znw k i = true) : ZI (zov W U p) := by
  have nn := zov_now W U h
  have same : ∀ k j i, znw k i = false → (zov W U p).2.1 k j i = W.2.1 k j i := nn.2.2
  have pick : ∀ (P : Int32 → Prop) (k j i : Nat), P (W.2.1 k j i) → P (U.2.1 k j i) → P ((zov W U p).2.1 k j i) := by
    intro P k j i h1 h2
    show P (if p k j i = true then U.2.1 k j i else W.2.1 k j i)
    split
    · exact h2
    · exact h1
  obtain ⟨⟨s1, s2, s3, s4, s5, s6, s7, s8⟩, ⟨z1, z2, z3, z4⟩, z5, z6, z7, z8⟩ := Z
  obtain ⟨-, ⟨y1, y2, y3, y4⟩, y5, -, y7, -⟩ := Y
  refine ⟨⟨s1, s2, by rw [same 21 0 2 rfl]; exact s3, by rw [same 23 0 2 rfl]; exact s4, s5, s6, fun b hb => by rw [same 25 b 1 rfl]; exact s7 b hb, fun b hb => by rw [same 29 b 1 rfl]; exact s8 b hb⟩, ⟨fun b hb i hi => ?_, fun k hk i hi => ?_, fun b hb i hi => ⟨?_, ?_⟩, ?_⟩, ?_, ?_, fun k hk => ⟨?_, ?_, ?_, ?_, ?_⟩, fun b hb => ?_⟩
  · exact pick (fun x => zle x 9) 26 b i (z1 b hb i hi) (y1 b (by rw [hn.1]; exact hb) i hi)
  · exact pick (fun x => zle x 9) 30 k i (z2 k hk i hi) (y2 k (by rw [hn.2]; exact hk) i hi)
  · exact pick (fun x => zle x 99) 27 b i (z3 b hb i hi).1 (y3 b (by rw [hn.1]; exact hb) i hi).1
  · exact pick (fun x => zle x 99) 28 b i (z3 b hb i hi).2 (y3 b (by rw [hn.1]; exact hb) i hi).2
  · exact pick (fun x => zle x 23) 0 0 7 z4 y4
  · exact pick (fun x => zle x 9999) 0 0 8 z5 y5
  · rw [same 20 0 0 rfl, same 20 0 1 rfl, same 20 0 2 rfl, same 20 0 3 rfl, same 20 0 4 rfl]; exact z6
  · exact pick (fun x => x = -1 ∨ ∃ b, b < W.2.2.2.1 0 ∧ x = nI b) 29 k 7 (z7 k hk).1 (by have := (y7 k (by rw [hn.2]; exact hk)).1; rw [hn.1] at this; exact this)
  · exact pick (fun x => zle x 63) 29 k 6 (z7 k hk).2.1 (y7 k (by rw [hn.2]; exact hk)).2.1
  · rw [same 29 k 5 rfl]; exact (z7 k hk).2.2.1
  · rw [same 29 k 2 rfl]; exact (z7 k hk).2.2.2.1
  · rw [same 29 k 3 rfl]; exact (z7 k hk).2.2.2.2
  · rw [same 25 b 2 rfl, same 25 b 3 rfl, same 25 b 4 rfl]; exact z8 b hb
/-- the day, the hour, the fees; guests below n; of guest n traits below m -/
def zpg (n m k j i : Nat) : Bool := decide ((k = 0 ∧ j = 0 ∧ (i = 6 ∨ i = 7 ∨ i = 8)) ∨ (k = 30 ∧ ((j < n ∧ i < 3) ∨ (j = n ∧ i < m))) ∨ (k = 29 ∧ j < n ∧ (i = 6 ∨ i = 7)))
/-- and beasts below n; of beast n tastes below m, guests below p -/
def zpb (G n m p k j i : Nat) : Bool := zpg G 0 k j i || decide ((k = 26 ∧ ((j < n ∧ i < 3) ∨ (j = n ∧ i < m))) ∨ ((k = 27 ∨ k = 28) ∧ ((j < n ∧ i < 8) ∨ (j = n ∧ i < p))))
theorem zpg_nw {n m k j i : Nat} (h : zpg n m k j i = true) : znw k i = true := by
  unfold zpg at h
  have h := of_decide_eq_true h
  rcases h with ⟨rfl, -, rfl | rfl | rfl⟩ | ⟨rfl, -⟩ | ⟨rfl, -, rfl | rfl⟩ <;> rfl
theorem zpb_nw {G n m p k j i : Nat} (h : zpb G n m p k j i = true) : znw k i = true := by
  unfold zpb at h
  rw [Bool.or_eq_true] at h
  rcases h with h | h
  · exact zpg_nw h
  · have h := of_decide_eq_true h
    rcases h with ⟨rfl, -⟩ | ⟨rfl | rfl, -⟩ <;> rfl
/-- W with what is as in U -/
def zcp (W U : zW) : zW := zov W U (zpb (W.2.2.2.1 1) (W.2.2.2.1 0) 0 0)
theorem zcp_now (W U : zW) : znow W (zcp W U) := zov_now W U fun _ _ _ h => zpb_nw h
theorem zcp_I {W U : zW} (Z : ZI W) (Y : ZI U) (hn : U.2.2.2.1 0 = W.2.2.2.1 0 ∧ U.2.2.2.1 1 = W.2.2.2.1 1) : ZI (zcp W U) := zov_I Z Y hn fun _ _ _ h => zpb_nw h
section RD
variable {V : hx_V} {h : hx_S} {W U T : zW} {g : Nat → Option hx_C}
theorem zof_by {n : Nat} {x : Int32} (hn : n ≤ 6) (h : x = -1 ∨ ∃ b, b < n ∧ x = nI b) (W : zW) : (zof n x).map (W.1 25) = zenc W 25 x := by
  rcases h with rfl | ⟨b, hb, rfl⟩
  · rw [zenc_m1]
    have : zof n (-1) = none := by
      unfold zof zin
      rw [if_pos (show (-1 : Int32) < 0 by decide), if_pos rfl]
    rw [this]; rfl
  · rw [zenc_nI (by omega)]
    cases e : zof n (nI b) with
    | none =>
      have := (zof_pos (by omega) e).2
      rcases this with q | q
      · exact absurd q (nI_pos (by omega))
      · exact absurd q (nI_ge hb (by omega))
    | some k =>
      obtain ⟨k1, k2⟩ := zof_lt (by omega) e
      rw [nI_eq (by omega) (by omega)] at k2
      rw [k2]; rfl
theorem CS.reads (C : CS V h W T g) (Z : ZI W) (Y : ZI U) (hn : U.2.2.2.1 0 = W.2.2.2.1 0 ∧ U.2.2.2.1 1 = W.2.2.2.1 1) {a : Nat} {c : Nat → Value} (ha : g a = some (100, 157, c)) (P : SP U c) : yes (c_X0_reads V (W.1 0 0) (some a) h) (fun h' => CS V h' (zcp W U) T g ∧ h'.1 = h.1 ∧ h'.2.1 = h.2.1) := by
  have h6 := Z.1.1
  have h8 := Z.1.2.1
  obtain ⟨p0, p1, p2, pg, pb⟩ := P
  have rd : ∀ (k : hx_S) (X : zW) (i : Nat) (x : Int32), CS V k X T g → i < 157 → c i = .int x → hgAI k a 100 (nI i) = some x := fun k X i x Cx hi hx => p_gAI (Cx.fro ha).1 hi (by decide) hx
  unfold c_X0_reads
  rw [Option.bind_some, (show hgAI h a 100 (0 : Int32) = _ from rd h W 0 _ C (by decide) p0), Option.bind_some]
  obtain ⟨h1, e1, C1, r1, r1'⟩ := C.wx (i := 6) rfl (U.2.1 0 0 6)
  rw [e1, Option.bind_some, (show hgAI h1 a 100 (1 : Int32) = _ from rd h1 _ 1 _ C1 (by decide) p1), Option.bind_some]
  obtain ⟨h2, e2, C2, r2, r2'⟩ := C1.wx (i := 7) rfl (U.2.1 0 0 7)
  rw [(show hp V h1 (W.1 0 0) [0] 7 _ = some h2 from e2), Option.bind_some, (show hgAI h2 a 100 (2 : Int32) = _ from rd h2 _ 2 _ C2 (by decide) p2), Option.bind_some]
  obtain ⟨h3, e3, C3, r3, r3'⟩ := C2.wx (i := 8) rfl (U.2.1 0 0 8)
  rw [(show hp V h2 (W.1 0 0) [0] 8 _ = some h3 from e3), Option.bind_some]
  have w3 : zA (zA (zA W 0 0 6 (U.2.1 0 0 6)) 0 0 7 (U.2.1 0 0 7)) 0 0 8 (U.2.1 0 0 8) = zov W U (zpg 0 0) := by
    have w0 : W = zov W U (fun _ _ _ => false) := by
      refine congrArg (fun x => (W.1, x, W.2.2)) (funext fun k => funext fun j => funext fun i => ?_)
      rfl
    have w1 : zA W 0 0 6 (U.2.1 0 0 6) = zov W U (fun k' j' i' => false || decide (k' = 0 ∧ j' = 0 ∧ i' = 6)) := by
      rw [← zov_A, ← w0]
    rw [w1, zov_A, zov_A]
    refine zov_eq fun k j i => ?_
    unfold zpg
    rw [Bool.eq_iff_iff]
    simp only [Bool.false_or, Bool.or_eq_true, decide_eq_true_eq]
    omega
  rw [w3] at C3
  -- the state under way
  have IZ : ∀ p : Nat → Nat → Nat → Bool, (∀ k j i, p k j i = true → znw k i = true) → ZI (zov W U p) := fun p hp => zov_I Z Y hn hp
  refine yes.wh (I := fun n s => ∃ k, n = W.2.2.2.1 1 - k ∧ k ≤ W.2.2.2.1 1 ∧ s.1 = nI (3 + 5 * k) ∧ s.2.1 = nI k ∧ CS V s.2.2 (zov W U (zpg k 0)) T g ∧ s.2.2.1 = h.1 ∧ s.2.2.2.1 = h.2.1) (n := W.2.2.2.1 1) ⟨0, by omega, by omega, rfl, rfl, C3, by dsimp only; omega, by dsimp only; omega⟩ (by omega) ?_
  rintro n ⟨x1, x2, kx⟩ ⟨k, rfl, hk, e1, e2, D, q1, q2⟩
  simp only at e1 e2 D q1 q2
  subst e1 e2
  have S1 := (IZ (zpg k 0) (fun _ _ _ h => zpg_nw h)).1
  unfold c_X0_reads_s25
  have a1 : hgR kx (W.1 0 0) [0] 3 = some (some (W.1 20 0)) := D.x_park
  have a2 : hgR kx (W.1 20 0) [1] 9 = some (some (W.1 23 0)) := D.z_guests
  have a3 := D.k_guests
  rw [show (zov W U (zpg k 0)).1 = W.1 from rfl] at a3
  have a4 : c_J2_size V (W.1 23 0) kx = some (nI (W.2.2.2.1 1)) := D.sizeG S1
  simp only [a1, a2, a3, a4, Option.bind_some, if_true]
  by_cases hlt : k < W.2.2.2.1 1
  · rw [if_neg (nI_ge hlt (by omega))]
    have b1 : c_J2_get V (W.1 23 0) (nI k) kx = some (some (W.1 29 k)) := D.getG S1 hlt
    have b2 : hck kx (some (W.1 29 k)) [9] = true := D.k_g hlt rfl
    rw [b1, Option.bind_some, b2, if_pos rfl]
    obtain ⟨pt, pk, py⟩ := pg k (by rw [hn.2]; exact hlt)
    refine yes.wh (I := fun n s => ∃ i, n = 3 - i ∧ i ≤ 3 ∧ s.1 = nI i ∧ CS V s.2 (zov W U (zpg k i)) T g ∧ s.2.1 = h.1 ∧ s.2.2.1 = h.2.1) (n := 3) ⟨0, rfl, by decide, rfl, D, q1, q2⟩ (by decide) ?_
    rintro n ⟨x, ky⟩ ⟨i, rfl, hi, e1, D, q1, q2⟩
    simp only at e1 D q1 q2
    subst e1
    unfold c_X0_reads_s58
    simp only
    by_cases hi3 : i < 3
    · have c1 : hgR ky (W.1 29 k) [9] 4 = some (some (W.1 30 k)) := D.g_traits hlt (ts := [9]) rfl
      rw [if_neg (show ¬ (3 : Int32) ≤ nI i from nI_ge (b := 3) hi3 (by decide)), Option.bind_some, c1, Option.bind_some, Option.bind_some, nI_add, rd ky _ (3 + 5 * k + i) _ D (by omega) (pt i hi3), Option.bind_some, Option.bind_some]
      obtain ⟨h4, e4, C4, r4, r4'⟩ := D.wtraits (j := k) hlt hi3 (U.2.1 30 k i)
      rw [(show hpA V ky (W.1 30 k) 100 (nI i) _ = some h4 from e4), Option.bind_some]
      rw [zov_A, zov_eq (q := zpg k (i + 1)) (fun k' j' i' => by unfold zpg; rw [Bool.eq_iff_iff]; simp only [Bool.or_eq_true, decide_eq_true_eq]; omega)] at C4
      exact yes.ret ⟨3 - (i + 1), by omega, i + 1, rfl, by omega, nI_1 i, C4, by dsimp only; omega, by dsimp only; omega⟩
    · have hie : i = 3 := by omega
      subst hie
      rw [if_pos (show (3 : Int32) ≤ nI 3 from nI_le (Nat.le_refl _) (by decide))]
      have main : yes (c_X0_reads_b84 V (W.1 0 0) (some a) (nI (3 + 5 * k)) (nI k) (some (W.1 29 k)) ky) (yes_st (fun s' => ∃ m, m < W.2.2.2.1 1 - k ∧ ∃ k, m = W.2.2.2.1 1 - k ∧ k ≤ W.2.2.2.1 1 ∧ s'.1 = nI (3 + 5 * k) ∧ s'.2.1 = nI k ∧ CS V s'.2.2 (zov W U (zpg k 0)) T g ∧ s'.2.2.1 = h.1 ∧ s'.2.2.2.1 = h.2.1) (fun h' => CS V h' (zcp W U) T g ∧ h'.1 = h.1 ∧ h'.2.1 = h.2.1)) := by
        unfold c_X0_reads_b84
        rw [Option.bind_some, show nI (3 + 5 * k) + (3 : Int32) = nI (3 + 5 * k + 3) from nI_add _ 3, rd ky _ (3 + 5 * k + 3) _ D (by omega) pk, Option.bind_some, Option.bind_some]
        obtain ⟨h4, e4, C4, r4, r4'⟩ := D.wback (j := k) hlt (U.2.1 29 k 6)
        rw [(show hp V ky (W.1 29 k) [9] 6 _ = some h4 from e4), Option.bind_some, show nI (3 + 5 * k) + (4 : Int32) = nI (3 + 5 * k + 4) from nI_add _ 4, rd h4 _ (3 + 5 * k + 4) _ C4 (by omega) py, Option.bind_some]
        rw [zov_A] at C4
        have I4 := IZ (fun k' j' i' => zpg k 3 k' j' i' || decide (k' = 29 ∧ j' = k ∧ i' = 6)) (fun k' j' i' hh => by
          rw [Bool.or_eq_true] at hh
          rcases hh with hh | hh
          · exact zpg_nw hh
          · obtain ⟨rfl, -, rfl⟩ := of_decide_eq_true hh; rfl)
        have kx4 := C4.k_x
        rw [show (zov W U (fun k' j' i' => zpg k 3 k' j' i' || decide (k' = 29 ∧ j' = k ∧ i' = 6))).1 = W.1 from rfl] at kx4
        have bo : c_X0_beastOf V (W.1 0 0) (U.2.1 29 k 7) h4 = some (zenc W 25 (U.2.1 29 k 7)) := by
          have hby := (Y.2.2.2.2.1 k (by rw [hn.2]; exact hlt)).1
          rw [hn.1] at hby
          rw [← zof_by h6 hby W]
          exact C4.beastOf I4.1 (U.2.1 29 k 7)
        rw [if_pos kx4, bo, Option.bind_some]
        obtain ⟨h5, e5, C5, r5, r5'⟩ := C4.wby (j := k) hlt (U.2.1 29 k 7)
        rw [(show hp V h4 (W.1 29 k) [9] 7 (va_rf (zenc W 25 (U.2.1 29 k 7))) = some h5 from e5), Option.bind_some, show nI (3 + 5 * k) + (5 : Int32) = nI (3 + 5 * (k + 1)) from nI_add _ 5, nI_1]
        rw [zov_A, zov_eq (q := zpg (k + 1) 0) (fun k' j' i' => by unfold zpg; rw [Bool.eq_iff_iff]; simp only [Bool.or_eq_true, decide_eq_true_eq]; omega)] at C5
        exact yes.ret ⟨W.2.2.2.1 1 - (k + 1), by omega, k + 1, rfl, by omega, rfl, rfl, C5, by dsimp only; omega, by dsimp only; omega⟩
      obtain ⟨t, i1, i2⟩ := main
      rw [i1]
      exact ⟨_, rfl, i2⟩
  · have hke : k = W.2.2.2.1 1 := by omega
    subst hke
    rw [if_pos (nI_le (Nat.le_refl _) (by omega))]
    have main : yes (c_X0_reads_b117 V (W.1 0 0) (some a) (nI (3 + 5 * W.2.2.2.1 1)) kx) (fun h' => CS V h' (zcp W U) T g ∧ h'.1 = h.1 ∧ h'.2.1 = h.2.1) := by
      unfold c_X0_reads_b117
      have s0 : zov W U (zpg (W.2.2.2.1 1) 0) = zov W U (zpb (W.2.2.2.1 1) 0 0 0) := zov_eq fun k' j' i' => by
        unfold zpb
        rw [Bool.eq_iff_iff]
        simp only [Bool.or_eq_true, decide_eq_true_eq]
        refine ⟨fun q => Or.inl q, fun q => ?_⟩
        rcases q with q | q
        · exact q
        · omega
      rw [s0] at D
      refine yes.wh (I := fun n s => ∃ b, n = W.2.2.2.1 0 - b ∧ b ≤ W.2.2.2.1 0 ∧ s.1 = nI (3 + 5 * W.2.2.2.1 1 + 19 * b) ∧ s.2.1 = nI b ∧ CS V s.2.2 (zov W U (zpb (W.2.2.2.1 1) b 0 0)) T g ∧ s.2.2.1 = h.1 ∧ s.2.2.2.1 = h.2.1) (n := W.2.2.2.1 0) ⟨0, by omega, by omega, rfl, rfl, D, q1, q2⟩ (by omega) ?_
      rintro n ⟨x1, x2, ky⟩ ⟨b, rfl, hb, e1, e2, D, q1, q2⟩
      simp only at e1 e2 D q1 q2
      subst e1 e2
      have S2 := (IZ (zpb (W.2.2.2.1 1) b 0 0) (fun _ _ _ h => zpb_nw h)).1
      unfold c_X0_reads_s119
      have a1 : hgR ky (W.1 0 0) [0] 3 = some (some (W.1 20 0)) := D.x_park
      have a2 : hgR ky (W.1 20 0) [1] 8 = some (some (W.1 21 0)) := D.z_beasts
      have a3 := D.k_beasts
      rw [show (zov W U (zpb (W.2.2.2.1 1) b 0 0)).1 = W.1 from rfl] at a3
      have a4 : c_J2_size V (W.1 21 0) ky = some (nI (W.2.2.2.1 0)) := D.sizeB S2
      simp only [a1, a2, a3, a4, Option.bind_some, if_true]
      by_cases hlt : b < W.2.2.2.1 0
      · rw [if_neg (nI_ge hlt (by omega))]
        have b1 : c_J2_get V (W.1 21 0) (nI b) ky = some (some (W.1 25 b)) := D.getB S2 hlt
        have b2 : hck ky (some (W.1 25 b)) [8] = true := D.k_b hlt rfl
        rw [b1, Option.bind_some, b2, if_pos rfl]
        obtain ⟨pt, ps⟩ := pb b (by rw [hn.1]; exact hlt)
        rw [hn.2] at pt ps
        refine yes.wh (I := fun n s => ∃ i, n = 3 - i ∧ i ≤ 3 ∧ s.1 = nI i ∧ CS V s.2 (zov W U (zpb (W.2.2.2.1 1) b i 0)) T g ∧ s.2.1 = h.1 ∧ s.2.2.1 = h.2.1) (n := 3) ⟨0, rfl, by decide, rfl, D, q1, q2⟩ (by decide) ?_
        rintro n ⟨x, kz⟩ ⟨i, rfl, hi, e1, D, q1, q2⟩
        simp only at e1 D q1 q2
        subst e1
        unfold c_X0_reads_s152
        simp only
        by_cases hi3 : i < 3
        · have c1 : hgR kz (W.1 25 b) [8] 5 = some (some (W.1 26 b)) := D.b_taste hlt (ts := [8]) rfl
          rw [if_neg (show ¬ (3 : Int32) ≤ nI i from nI_ge (b := 3) hi3 (by decide)), Option.bind_some, c1, Option.bind_some, Option.bind_some, nI_add, rd kz _ (3 + 5 * W.2.2.2.1 1 + 19 * b + i) _ D (by omega) (pt i hi3), Option.bind_some, Option.bind_some]
          obtain ⟨h4, e4, C4, r4, r4'⟩ := D.wtaste (j := b) hlt hi3 (U.2.1 26 b i)
          rw [(show hpA V kz (W.1 26 b) 100 (nI i) _ = some h4 from e4), Option.bind_some]
          rw [zov_A, zov_eq (q := zpb (W.2.2.2.1 1) b (i + 1) 0) (fun k' j' i' => by unfold zpb; rw [Bool.eq_iff_iff]; simp only [Bool.or_eq_true, decide_eq_true_eq, or_assoc]; refine or_congr Iff.rfl ?_; omega)] at C4
          exact yes.ret ⟨3 - (i + 1), by omega, i + 1, rfl, by omega, nI_1 i, C4, by dsimp only; omega, by dsimp only; omega⟩
        · have hie : i = 3 := by omega
          subst hie
          rw [if_pos (show (3 : Int32) ≤ nI 3 from nI_le (Nat.le_refl _) (by decide))]
          have main2 : yes (c_X0_reads_b178 V (W.1 0 0) (some a) (nI (3 + 5 * W.2.2.2.1 1 + 19 * b)) (nI b) (some (W.1 25 b)) kz) (yes_st (fun s' => ∃ m, m < W.2.2.2.1 0 - b ∧ ∃ b, m = W.2.2.2.1 0 - b ∧ b ≤ W.2.2.2.1 0 ∧ s'.1 = nI (3 + 5 * W.2.2.2.1 1 + 19 * b) ∧ s'.2.1 = nI b ∧ CS V s'.2.2 (zov W U (zpb (W.2.2.2.1 1) b 0 0)) T g ∧ s'.2.2.1 = h.1 ∧ s'.2.2.2.1 = h.2.1) (fun h' => CS V h' (zcp W U) T g ∧ h'.1 = h.1 ∧ h'.2.1 = h.2.1)) := by
            unfold c_X0_reads_b178
            refine yes.wh (I := fun n s => ∃ p, n = 8 - p ∧ p ≤ 8 ∧ s.1 = nI p ∧ CS V s.2 (zov W U (zpb (W.2.2.2.1 1) b 3 p)) T g ∧ s.2.1 = h.1 ∧ s.2.2.1 = h.2.1) (n := 8) ⟨0, rfl, by decide, rfl, D, q1, q2⟩ (by decide) ?_
            rintro n ⟨x, kw⟩ ⟨p, rfl, hp, e1, D, q1, q2⟩
            simp only at e1 D q1 q2
            subst e1
            unfold c_X0_reads_s181
            simp only
            by_cases hp8 : p < 8
            · have c1 : hgR kw (W.1 25 b) [8] 6 = some (some (W.1 27 b)) := D.b_saw hlt (ts := [8]) rfl
              rw [if_neg (show ¬ (8 : Int32) ≤ nI p from nI_ge (b := 8) hp8 (by decide)), Option.bind_some, c1, Option.bind_some, Option.bind_some, show nI (3 + 5 * W.2.2.2.1 1 + 19 * b) + (3 : Int32) = nI (3 + 5 * W.2.2.2.1 1 + 19 * b + 3) from nI_add _ 3, nI_add, rd kw _ (3 + 5 * W.2.2.2.1 1 + 19 * b + 3 + p) _ D (by omega) (ps p hp8).1, Option.bind_some, Option.bind_some]
              obtain ⟨h4, e4, C4, r4, r4'⟩ := D.wsaw (j := b) hlt hp8 (U.2.1 27 b p)
              rw [(show hpA V kw (W.1 27 b) 100 (nI p) _ = some h4 from e4), Option.bind_some]
              have c2 : hgR h4 (W.1 25 b) [8] 7 = some (some (W.1 28 b)) := C4.b_today hlt (ts := [8]) rfl
              rw [c2, Option.bind_some, show nI (3 + 5 * W.2.2.2.1 1 + 19 * b + 3) + (8 : Int32) = nI (3 + 5 * W.2.2.2.1 1 + 19 * b + 3 + 8) from nI_add _ 8, nI_add, rd h4 _ (3 + 5 * W.2.2.2.1 1 + 19 * b + 3 + 8 + p) _ C4 (by omega) (ps p hp8).2, Option.bind_some, Option.bind_some]
              obtain ⟨h5, e5, C5, r5, r5'⟩ := C4.wtoday (j := b) hlt hp8 (U.2.1 28 b p)
              rw [(show hpA V h4 (W.1 28 b) 100 (nI p) _ = some h5 from e5), Option.bind_some]
              rw [zov_A, zov_A, zov_eq (q := zpb (W.2.2.2.1 1) b 3 (p + 1)) (fun k' j' i' => by unfold zpb; rw [Bool.eq_iff_iff]; simp only [Bool.or_eq_true, decide_eq_true_eq, or_assoc]; refine or_congr Iff.rfl ?_; omega)] at C5
              exact yes.ret ⟨8 - (p + 1), by omega, p + 1, rfl, by omega, nI_1 p, C5, by dsimp only; omega, by dsimp only; omega⟩
            · have hpe : p = 8 := by omega
              subst hpe
              rw [if_pos (show (8 : Int32) ≤ nI 8 from nI_le (Nat.le_refl _) (by decide)), show nI (3 + 5 * W.2.2.2.1 1 + 19 * b) + (19 : Int32) = nI (3 + 5 * W.2.2.2.1 1 + 19 * (b + 1)) from nI_add _ 19, nI_1]
              have s8 : zov W U (zpb (W.2.2.2.1 1) b 3 8) = zov W U (zpb (W.2.2.2.1 1) (b + 1) 0 0) := zov_eq fun k' j' i' => by unfold zpb; rw [Bool.eq_iff_iff]; simp only [Bool.or_eq_true, decide_eq_true_eq]; refine or_congr Iff.rfl ?_; omega
              rw [s8] at D
              exact yes.ret ⟨W.2.2.2.1 0 - (b + 1), by omega, b + 1, rfl, by omega, rfl, rfl, D, q1, q2⟩
          obtain ⟨t, i1, i2⟩ := main2
          rw [i1]
          exact ⟨_, rfl, i2⟩
      · have hbe : b = W.2.2.2.1 0 := by omega
        subst hbe
        rw [if_pos (nI_le (Nat.le_refl _) (by omega))]
        exact yes.ret ⟨D, q1, q2⟩
    obtain ⟨t, i1, i2⟩ := main
    rw [i1]
    exact ⟨_, rfl, i2⟩
end RD

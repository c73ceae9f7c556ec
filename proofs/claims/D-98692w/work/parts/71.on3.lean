/-! PURE SIDE: the call on: the class takes an image -/
set_option maxRecDepth 100000
section O3
variable {V : hx_V} {h : hx_S} {W X Y T : zW} {G G1 gt : Nat → Option hx_C} {ms : mx_S} {bk : Nat} {lk my : zL} {L : List (Nat → Int32)} {As : List zU} {t : Nat → Nat}
theorem z3_at {k j : Nat} {a b c : Int32} (k' j' i' : Nat) : (z3 W k j a b c).2.1 k' j' i' = if k' = k ∧ j' = j ∧ i' = 2 then c else if k' = k ∧ j' = j ∧ i' = 1 then b else if k' = k ∧ j' = j ∧ i' = 0 then a else W.2.1 k' j' i' := rfl
theorem zA_at {k j i : Nat} {v : Int32} (k' j' i' : Nat) : (zA W k j i v).2.1 k' j' i' = if k' = k ∧ j' = j ∧ i' = i then v else W.2.1 k' j' i' := rfl
/-- the class takes guests below k -/
theorem CS.onGuest {hx : hx_S} {k : Nat} (C : CS V hx X T G) (Z : ZI X) (Q : ZTP X t) (hkk : k < X.2.2.2.1 1) (ok : zokg t (X.2.2.2.1 0) k) : ∃ h' X', c_X0_on_s54 V (X.1 0 0) (nI k, hx) = some (.inl (nI (k + 1), h')) ∧ CS V h' X' T G ∧ ZI X' ∧ znow X X' ∧ ODg X' t k ∧ (∀ k' j i, ¬ (j = k ∧ (k' = 30 ∨ k' = 29)) → X'.2.1 k' j i = X.2.1 k' j i) ∧ h'.1 = hx.1 ∧ h'.2.1 = hx.2.1 := by
  obtain ⟨of, o3, o4⟩ := ok
  have h6 := Z.1.1
  have h8 := Z.1.2.1
  have ix : (5 : Int32) + (5 : Int32) * nI k = nI (5 + 5 * k) := by simp only [pl_lit, pk_mul, nI_add]
  have e1 : nI (5 + 5 * k) + (1 : Int32) = nI (5 + 5 * k + 1) := nI_add _ 1
  have e2 : nI (5 + 5 * k) + (2 : Int32) = nI (5 + 5 * k + 2) := nI_add _ 2
  have e3 : nI (5 + 5 * k) + (3 : Int32) = nI (5 + 5 * k + 3) := nI_add _ 3
  have e4 : nI (5 + 5 * k) + (4 : Int32) = nI (5 + 5 * k + 4) := nI_add _ 4
  have hc : hck hx (some (X.1 29 k)) [9] = true := C.k_g hkk rfl
  obtain ⟨h1, u1, C1, r1, r1'⟩ := C.becomes30 hkk (nI (t (5 + 5 * k))) (nI (t (5 + 5 * k + 1))) (nI (t (5 + 5 * k + 2)))
  have z9 : ∀ i, i < 3 → zle (nI (t (5 + 5 * k + i))) 9 := fun i hi => ⟨_, of i hi, rfl⟩
  have Z1 : ZI (z3 X 30 k (nI (t (5 + 5 * k))) (nI (t (5 + 5 * k + 1))) (nI (t (5 + 5 * k + 2)))) := z3_I Z (by decide) (z9 0 (by decide)) (z9 1 (by decide)) (z9 2 (by decide))
  have nw1 : znow X (z3 X 30 k (nI (t (5 + 5 * k))) (nI (t (5 + 5 * k + 1))) (nI (t (5 + 5 * k + 2)))) := z3_now X _ _ _ (fun _ => rfl)
  have xt := C1.x_tape
  have ta := fun i hi => C1.tapeAt (i := i) hi
  have bo : c_X0_beastOf V (X.1 0 0) (nI (t (5 + 5 * k + 3)) - 1) h1 = some (zenc X 25 (nI (t (5 + 5 * k + 3)) - 1)) := by
    have := C1.beastOf Z1.1 (nI (t (5 + 5 * k + 3)) - 1)
    rw [show (z3 X 30 k (nI (t (5 + 5 * k))) (nI (t (5 + 5 * k + 1))) (nI (t (5 + 5 * k + 2)))).1 = X.1 from rfl, show (z3 X 30 k (nI (t (5 + 5 * k))) (nI (t (5 + 5 * k + 1))) (nI (t (5 + 5 * k + 2)))).2.2.2.1 = X.2.2.2.1 from rfl] at this
    rw [this, nI_m1]
    by_cases e : t (5 + 5 * k + 3) = 0
    · rw [if_pos e, zenc_m1]
      cases q : zof (X.2.2.2.1 0) (-1) with
      | none => rfl
      | some j =>
        obtain ⟨-, j2⟩ := zof_lt (by omega) q
        exact absurd j2.symm (nI_nm1 (by have := (zof_lt (by omega) q).1; omega))
    · rw [if_neg e, zenc_nI (by omega)]
      cases q : zof (X.2.2.2.1 0) (nI (t (5 + 5 * k + 3) - 1)) with
      | none =>
        rcases (zof_pos (by omega) q).2 with x | x
        · exact absurd x (nI_pos (by omega))
        · exact absurd x (nI_ge (by omega) (by omega))
      | some j =>
        obtain ⟨j1, j2⟩ := zof_lt (by omega) q
        have := (nI_eq (by omega) (by omega)).mp j2
        rw [this]; rfl
  have vb : nI (t (5 + 5 * k + 3)) - 1 = -1 ∨ ∃ b, b < X.2.2.2.1 0 ∧ nI (t (5 + 5 * k + 3)) - 1 = nI b := by
    rw [nI_m1]
    by_cases e : t (5 + 5 * k + 3) = 0
    · rw [if_pos e]; exact Or.inl rfl
    · rw [if_neg e]; exact Or.inr ⟨_, by omega, rfl⟩
  obtain ⟨h2, u2, C2, r2, r2'⟩ := C1.wby (j := k) hkk (nI (t (5 + 5 * k + 3)) - 1)
  have Z2 := Z1.A (k := 29) (j := k) (i := 7) (v := nI (t (5 + 5 * k + 3)) - 1) rfl (by simp) (by simp) (by simp) (by simp) (by simp) (by simp) (fun _ _ => vb) (by simp)
  have nw2 := znow.A (z3 X 30 k (nI (t (5 + 5 * k))) (nI (t (5 + 5 * k + 1))) (nI (t (5 + 5 * k + 2)))) (k := 29) (j := k) (i := 7) (nI (t (5 + 5 * k + 3)) - 1) rfl
  obtain ⟨h3, u3, C3, r3, r3'⟩ := C2.wback (j := k) hkk (nI (t (5 + 5 * k + 4)))
  have p64 : 2 ^ X.2.2.2.1 0 ≤ 64 := Nat.pow_le_pow_right (by decide) h6
  have Z3 := Z2.A (k := 29) (j := k) (i := 6) (v := nI (t (5 + 5 * k + 4))) rfl (by simp) (by simp) (by simp) (by simp) (by simp) (by simp) (by simp) (fun _ _ => ⟨_, by omega, rfl⟩)
  have nw3 := znow.A (zA (z3 X 30 k (nI (t (5 + 5 * k))) (nI (t (5 + 5 * k + 1))) (nI (t (5 + 5 * k + 2)))) 29 k 7 (nI (t (5 + 5 * k + 3)) - 1)) (k := 29) (j := k) (i := 6) (nI (t (5 + 5 * k + 4))) rfl
  have xt2 := C2.x_tape
  have t3' := C1.tapeAt (i := 5 + 5 * k + 3) (by omega)
  have t4' := C2.tapeAt (i := 5 + 5 * k + 4) (by omega)
  have s1 : ∀ i, (z3 X 30 k (nI (t (5 + 5 * k))) (nI (t (5 + 5 * k + 1))) (nI (t (5 + 5 * k + 2)))).2.1 1 0 i = X.2.1 1 0 i := fun i => nw1.2.2 1 0 i rfl
  have s2 : ∀ i, (zA (z3 X 30 k (nI (t (5 + 5 * k))) (nI (t (5 + 5 * k + 1))) (nI (t (5 + 5 * k + 2)))) 29 k 7 (nI (t (5 + 5 * k + 3)) - 1)).2.1 1 0 i = X.2.1 1 0 i := fun i => (nw2.2.2 1 0 i rfl).trans (s1 i)
  rw [s1, (Q _ (by omega)).1] at t3'
  rw [s2, (Q _ (by omega)).1] at t4'
  unfold c_X0_on_s54
  simp only
  rw [C.x_park, Option.bind_some, Option.bind_some, C.z_guests, Option.bind_some, Option.bind_some, if_pos C.k_guests, C.sizeG Z.1, Option.bind_some, if_neg (nI_ge hkk (by omega)), Option.bind_some, Option.bind_some, C.z_guests, Option.bind_some, Option.bind_some, if_pos C.k_guests, C.getG Z.1 hkk, Option.bind_some, if_pos hc, Option.bind_some, C.g_traits hkk rfl, Option.bind_some, C.x_tape, Option.bind_some, Option.bind_some, ix, C.tapeAt (by omega), Option.bind_some, (Q _ (by omega)).1, Option.bind_some, Option.bind_some, e1, C.tapeAt (by omega), Option.bind_some, (Q _ (by omega)).1, Option.bind_some, Option.bind_some, e2, C.tapeAt (by omega), Option.bind_some, (Q _ (by omega)).1, u1, Option.bind_some, (show hgR h1 (X.1 0 0) [0] 0 = _ from xt), Option.bind_some, Option.bind_some, e3, (show hgAI h1 _ 101 (nI (5 + 5 * k + 3)) = _ from t3'), Option.bind_some, if_pos (show hk h1 (X.1 0 0) [0] = true from C1.k_x), bo, Option.bind_some, (show hp V h1 (X.1 29 k) [9] 7 (va_rf (zenc X 25 (nI (t (5 + 5 * k + 3)) - 1))) = some h2 from u2), Option.bind_some, (show hgR h2 (X.1 0 0) [0] 0 = _ from xt2), Option.bind_some, Option.bind_some, e4, (show hgAI h2 _ 101 (nI (5 + 5 * k + 4)) = _ from t4'), Option.bind_some, (show hp V h2 (X.1 29 k) [9] 6 (.int (nI (t (5 + 5 * k + 4)))) = some h3 from u3), Option.bind_some, nI_1]
  refine ⟨h3, _, rfl, C3, Z3, (nw1.trans nw2).trans nw3, ⟨fun i hi => ?_, ?_, ?_⟩, fun k' j i hne => ?_, by omega, by omega⟩
  · rw [zA_at, if_neg (fun q => absurd q.1 (by decide)), zA_at, if_neg (fun q => absurd q.1 (by decide)), z3_at]
    have cs : i = 0 ∨ i = 1 ∨ i = 2 := by omega
    rcases cs with rfl | rfl | rfl <;> simp
  · rw [zA_at, if_neg (fun q => absurd q.2.2 (by decide)), zA_at, if_pos ⟨rfl, rfl, rfl⟩]
  · rw [zA_at, if_pos ⟨rfl, rfl, rfl⟩]
  · rw [zA_at, if_neg (fun q => hne ⟨q.2.1, Or.inr q.1⟩), zA_at, if_neg (fun q => hne ⟨q.2.1, Or.inr q.1⟩), z3_at, if_neg (fun q => hne ⟨q.2.1, Or.inl q.1⟩), if_neg (fun q => hne ⟨q.2.1, Or.inl q.1⟩), if_neg (fun q => hne ⟨q.2.1, Or.inl q.1⟩)]
theorem CS.onBeast {hx : hx_S} {b : Nat} (C : CS V hx X T G) (Z : ZI X) (Q : ZTP X t) (hb : b < X.2.2.2.1 0) (ok : zokb t (X.2.2.2.1 1) b) : ∃ h' X', c_X0_on_s162 V (X.1 0 0) (nI b, hx) = some (.inl (nI (b + 1), h')) ∧ CS V h' X' T G ∧ ZI X' ∧ znow X X' ∧ ODb X' t (X.2.2.2.1 1) b ∧ (∀ k' j i, ¬ (j = b ∧ (k' = 26 ∨ k' = 27 ∨ k' = 28)) → X'.2.1 k' j i = X.2.1 k' j i) ∧ h'.1 = hx.1 ∧ h'.2.1 = hx.2.1 := by
  obtain ⟨of, op⟩ := ok
  have h6 := Z.1.1
  have h8 := Z.1.2.1
  have hz := zbf_le (b := b + 1) h8 (by omega)
  rw [zbf_s] at hz
  have e1 : nI (zbf (X.2.2.2.1 1) b) + (1 : Int32) = nI (zbf (X.2.2.2.1 1) b + 1) := nI_add _ 1
  have e2 : nI (zbf (X.2.2.2.1 1) b) + (2 : Int32) = nI (zbf (X.2.2.2.1 1) b + 2) := nI_add _ 2
  have hc : hck hx (some (X.1 25 b)) [8] = true := C.k_b hb rfl
  obtain ⟨h1, u1, C1, r1, r1'⟩ := C.becomes26 hb (nI (t (zbf (X.2.2.2.1 1) b))) (nI (t (zbf (X.2.2.2.1 1) b + 1))) (nI (t (zbf (X.2.2.2.1 1) b + 2)))
  have z9 : ∀ i, i < 3 → zle (nI (t (zbf (X.2.2.2.1 1) b + i))) 9 := fun i hi => ⟨_, of i hi, rfl⟩
  have Z1 : ZI (z3 X 26 b (nI (t (zbf (X.2.2.2.1 1) b))) (nI (t (zbf (X.2.2.2.1 1) b + 1))) (nI (t (zbf (X.2.2.2.1 1) b + 2)))) := z3_I Z (by decide) (z9 0 (by decide)) (z9 1 (by decide)) (z9 2 (by decide))
  have nw1 : znow X (z3 X 26 b (nI (t (zbf (X.2.2.2.1 1) b))) (nI (t (zbf (X.2.2.2.1 1) b + 1))) (nI (t (zbf (X.2.2.2.1 1) b + 2)))) := z3_now X _ _ _ (fun _ => rfl)
  have t26 : ∀ i, i < 3 → (z3 X 26 b (nI (t (zbf (X.2.2.2.1 1) b))) (nI (t (zbf (X.2.2.2.1 1) b + 1))) (nI (t (zbf (X.2.2.2.1 1) b + 2)))).2.1 26 b i = nI (t (zbf (X.2.2.2.1 1) b + i)) := fun i hi => by
    rw [z3_at]
    have cs : i = 0 ∨ i = 1 ∨ i = 2 := by omega
    rcases cs with rfl | rfl | rfl <;> simp
  have o26 : ∀ k' j i, ¬ (j = b ∧ (k' = 26 ∨ k' = 27 ∨ k' = 28)) → (z3 X 26 b (nI (t (zbf (X.2.2.2.1 1) b))) (nI (t (zbf (X.2.2.2.1 1) b + 1))) (nI (t (zbf (X.2.2.2.1 1) b + 2)))).2.1 k' j i = X.2.1 k' j i := fun k' j i hne => by
    rw [z3_at, if_neg (fun q => hne ⟨q.2.1, Or.inl q.1⟩), if_neg (fun q => hne ⟨q.2.1, Or.inl q.1⟩), if_neg (fun q => hne ⟨q.2.1, Or.inl q.1⟩)]
  generalize hX1 : z3 X 26 b (nI (t (zbf (X.2.2.2.1 1) b))) (nI (t (zbf (X.2.2.2.1 1) b + 1))) (nI (t (zbf (X.2.2.2.1 1) b + 2))) = X1 at *
  have key : yes (hx_wh (c_X0_on_s233 V (X.1 0 0) (nI b) (some (X.1 25 b)) (nI (zbf (X.2.2.2.1 1) b))) hx_FU ((0 : Int32), h1)) (fun r => ∃ h' X', r = .inl (nI (b + 1), h') ∧ CS V h' X' T G ∧ ZI X' ∧ znow X X' ∧ ODb X' t (X.2.2.2.1 1) b ∧ (∀ k' j i, ¬ (j = b ∧ (k' = 26 ∨ k' = 27 ∨ k' = 28)) → X'.2.1 k' j i = X.2.1 k' j i) ∧ h'.1 = hx.1 ∧ h'.2.1 = hx.2.1) := by
    refine yes.wh (I := fun n s => ∃ k Y, n = X.2.2.2.1 1 - k ∧ k ≤ X.2.2.2.1 1 ∧ s.1 = nI k ∧ CS V s.2 Y T G ∧ ZI Y ∧ znow X Y ∧ (∀ i, i < 3 → Y.2.1 26 b i = nI (t (zbf (X.2.2.2.1 1) b + i))) ∧ (∀ k', k' < k → Y.2.1 27 b k' = nI (t (zbf (X.2.2.2.1 1) b + 3 + 2 * k')) ∧ Y.2.1 28 b k' = nI (t (zbf (X.2.2.2.1 1) b + 3 + 2 * k' + 1))) ∧ (∀ k' j i, ¬ (j = b ∧ (k' = 26 ∨ k' = 27 ∨ k' = 28)) → Y.2.1 k' j i = X.2.1 k' j i) ∧ s.2.1 = hx.1 ∧ s.2.2.1 = hx.2.1) (n := X.2.2.2.1 1) ⟨0, X1, by omega, by omega, rfl, C1, Z1, nw1, t26, fun k' hk' => by omega, o26, r1, r1'⟩ (by omega) ?_
    rintro n ⟨q, hy⟩ ⟨k, Y, rfl, hkk, e, CY, ZY, nY, t26, t27, oY, n1, n2⟩
    simp only at e CY n1 n2
    subst e
    have y0 : Y.1 = X.1 := nY.1
    have nu : Y.2.2.2.1 = X.2.2.2.1 := by rw [nY.2.1]
    have kp := CY.x_park
    have kz := CY.z_guests
    have kg := CY.k_guests
    have ks := CY.sizeG ZY.1
    rw [y0] at kp kz kg ks
    rw [nu] at ks
    unfold c_X0_on_s233
    simp only
    rw [kp, Option.bind_some, Option.bind_some, kz, Option.bind_some, Option.bind_some, if_pos kg, ks, Option.bind_some]
    by_cases hlt : k < X.2.2.2.1 1
    · have hbY : b < Y.2.2.2.1 0 := by rw [nu]; exact hb
      have bs := CY.b_saw (j := b) hbY (ts := [8]) rfl
      have xt := CY.x_tape
      have ta := CY.tapeAt (i := zbf (X.2.2.2.1 1) b + 3 + 2 * k) (by omega)
      rw [y0] at bs xt ta
      rw [nY.2.2 1 0 _ rfl, (Q _ (by omega)).1] at ta
      obtain ⟨hp1, hp2⟩ := op k hlt
      obtain ⟨j1, v1, D1, w1, w1'⟩ := CY.wsaw (j := b) hbY (i := k) (by omega) (nI (t (zbf (X.2.2.2.1 1) b + 3 + 2 * k)))
      have ZD := ZY.A (k := 27) (j := b) (i := k) (v := nI (t (zbf (X.2.2.2.1 1) b + 3 + 2 * k))) rfl (by simp) (by simp) (fun _ => ⟨_, hp1, rfl⟩) (by simp) (by simp) (by simp) (by simp) (by simp)
      have nD := znow.A Y (k := 27) (j := b) (i := k) (nI (t (zbf (X.2.2.2.1 1) b + 3 + 2 * k))) rfl
      have bt := D1.b_today (j := b) hbY (ts := [8]) rfl
      have xt2 := D1.x_tape
      have ta2 := D1.tapeAt (i := zbf (X.2.2.2.1 1) b + 3 + 2 * k + 1) (by omega)
      rw [show (zA Y 27 b k (nI (t (zbf (X.2.2.2.1 1) b + 3 + 2 * k)))).1 = Y.1 from rfl, y0] at bt xt2 ta2
      rw [nD.2.2 1 0 _ rfl, nY.2.2 1 0 _ rfl, (Q _ (by omega)).1] at ta2
      obtain ⟨j2, v2, D2, w2, w2'⟩ := D1.wtoday (j := b) hbY (i := k) (by omega) (nI (t (zbf (X.2.2.2.1 1) b + 3 + 2 * k + 1)))
      have ZE := ZD.A (k := 28) (j := b) (i := k) (v := nI (t (zbf (X.2.2.2.1 1) b + 3 + 2 * k + 1))) rfl (by simp) (by simp) (by simp) (fun _ => ⟨_, by omega, rfl⟩) (by simp) (by simp) (by simp) (by simp)
      have nE := znow.A (zA Y 27 b k (nI (t (zbf (X.2.2.2.1 1) b + 3 + 2 * k)))) (k := 28) (j := b) (i := k) (nI (t (zbf (X.2.2.2.1 1) b + 3 + 2 * k + 1))) rfl
      have ix3 : nI (zbf (X.2.2.2.1 1) b) + (3 : Int32) + (2 : Int32) * nI k = nI (zbf (X.2.2.2.1 1) b + 3 + 2 * k) := by simp only [pl_lit, pk_mul, nI_add]
      have ix4 : nI (zbf (X.2.2.2.1 1) b) + (3 : Int32) + (1 : Int32) + (2 : Int32) * nI k = nI (zbf (X.2.2.2.1 1) b + 3 + 2 * k + 1) := by
        simp only [pl_lit, pk_mul, nI_add]
        rw [show zbf (X.2.2.2.1 1) b + 3 + 1 + 2 * k = zbf (X.2.2.2.1 1) b + 3 + 2 * k + 1 by omega]
      rw [y0] at v1
      rw [show (zA Y 27 b k (nI (t (zbf (X.2.2.2.1 1) b + 3 + 2 * k)))).1 = Y.1 from rfl, y0] at v2
      rw [if_neg (nI_ge hlt (by omega)), Option.bind_some, bs, Option.bind_some, xt, Option.bind_some, Option.bind_some, ix3, ta, Option.bind_some, Option.bind_some, v1, Option.bind_some, bt, Option.bind_some, xt2, Option.bind_some, Option.bind_some, ix4, ta2, Option.bind_some, Option.bind_some, v2, Option.bind_some]
      refine yes.ret ⟨X.2.2.2.1 1 - (k + 1), by omega, k + 1, _, rfl, by omega, nI_1 k, D2, ZE, (nY.trans nD).trans nE, fun i hi => ?_, fun k' hk' => ?_, fun k' j i hne => ?_, by dsimp only; omega, by dsimp only; omega⟩
      · rw [zA_at, if_neg (fun q => absurd q.1 (by decide)), zA_at, if_neg (fun q => absurd q.1 (by decide))]; exact t26 i hi
      · by_cases e : k' = k
        · subst e
          exact ⟨by simp [zA_at], by simp [zA_at]⟩
        · have := t27 k' (by omega)
          exact ⟨by simp [zA_at, e]; exact this.1, by simp [zA_at, e]; exact this.2⟩
      · rw [zA_at, if_neg (fun q => hne ⟨q.2.1, Or.inr (Or.inr q.1)⟩), zA_at, if_neg (fun q => hne ⟨q.2.1, Or.inr (Or.inl q.1)⟩)]
        exact oY k' j i hne
    · have hke : k = X.2.2.2.1 1 := by omega
      subst hke
      rw [if_pos (nI_le (Nat.le_refl _) (by omega)), nI_1]
      exact yes.ret ⟨hy, Y, rfl, CY, ZY, nY, ⟨t26, t27⟩, oY, n1, n2⟩
  obtain ⟨r, w1, h', X', rfl, w2⟩ := key
  refine ⟨h', X', ?_, w2⟩
  unfold c_X0_on_s162
  simp only
  rw [C.x_park, Option.bind_some, Option.bind_some, C.z_beasts, Option.bind_some, Option.bind_some, if_pos C.k_beasts, C.sizeB Z.1, Option.bind_some, if_neg (nI_ge hb (by omega)), Option.bind_some, Option.bind_some, C.z_beasts, Option.bind_some, Option.bind_some, if_pos C.k_beasts, C.getB Z.1 hb, Option.bind_some, if_pos hc, if_pos C.k_x, C.beastFrom_z Z, Option.bind_some, Option.bind_some, C.b_taste hb rfl, Option.bind_some, C.x_tape, Option.bind_some, Option.bind_some, C.tapeAt (by omega), Option.bind_some, (Q _ (by omega)).1, Option.bind_some, Option.bind_some, e1, C.tapeAt (by omega), Option.bind_some, (Q _ (by omega)).1, Option.bind_some, Option.bind_some, e2, C.tapeAt (by omega), Option.bind_some, (Q _ (by omega)).1, u1, Option.bind_some, w1]
end O3

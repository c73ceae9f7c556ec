/-! PURE SIDE: the call bring, in the class: the most -/
set_option maxRecDepth 100000
section BD
variable {V : hx_V} {h : hx_S} {W X Y T : zW} {G G1 gt : Nat → Option hx_C} {ms : mx_S} {bk : Nat} {lk my : zL} {L : List (Nat → Int32)} {As : List zU} {u : Nat}
/-- the tables: liked, and the most from row b on -/
def TB (W X : zW) (lk : zL) (u b : Nat) : Prop := BX W X ∧ (∀ b g, b < W.2.2.2.1 0 → g < W.2.2.2.1 1 → X.2.1 17 b g = nI (zlkn W lk b g)) ∧ ∀ b', b ≤ b' → b' ≤ W.2.2.2.1 0 → ∀ s, s < 2 ^ W.2.2.2.1 1 → X.2.1 16 b' s = nI (zmo (zlkn W lk) u (W.2.2.2.1 1) (W.2.2.2.1 0) (W.2.2.2.1 0 - b') s)
theorem TB.best (Z : ZI W) (C : CS V h X T G) {b s : Nat} (B : TB W X lk u (b + 1)) (hu : W.2.1 20 0 0 = nI u) (hu6 : u ≤ 6) (hb : b < W.2.2.2.1 0) (hs : s < 2 ^ W.2.2.2.1 1) : c_X3_best V (W.1 11 0) (nI b) (nI s) h = some (zoe (zbi (zlkn W lk) u (W.2.2.2.1 1) (zmo (zlkn W lk) u (W.2.2.2.1 1) (W.2.2.2.1 0) (W.2.2.2.1 0 - (b + 1))) b s (W.2.2.2.1 1))) ∧ c_X3_by V (W.1 11 0) (nI b) (nI s) (zoe (zbi (zlkn W lk) u (W.2.2.2.1 1) (zmo (zlkn W lk) u (W.2.2.2.1 1) (W.2.2.2.1 0) (W.2.2.2.1 0 - (b + 1))) b s (W.2.2.2.1 1))) h = some (nI (zmo (zlkn W lk) u (W.2.2.2.1 1) (W.2.2.2.1 0) (W.2.2.2.1 0 - b) s)) := by
  obtain ⟨B, t1, t2⟩ := B
  have h6 := Z.1.1
  have h8 := Z.1.2.1
  have x0 : X.1 = W.1 := B.1
  have nu : X.2.2.2.1 = W.2.2.2.1 := by rw [B.2.1]
  have mb : ∀ s, zmo (zlkn W lk) u (W.2.2.2.1 1) (W.2.2.2.1 0) (W.2.2.2.1 0 - (b + 1)) s ≤ 10000 := fun s => by
    have := zmo_le (lik := zlkn W lk) (u := u) (n1 := W.2.2.2.1 1) (n0 := W.2.2.2.1 0) (fun b g hb hg => (zlkn_p Z hb hg).2) (W.2.2.2.1 0 - (b + 1)) (by omega) s
    omega
  have q1 := C.best_z (B.I Z) (lik := zlkn W lk) (u := u) (mo := zmo (zlkn W lk) u (W.2.2.2.1 1) (W.2.2.2.1 0) (W.2.2.2.1 0 - (b + 1))) (b := b) (s := s) (by omega) (by rw [B.2.2 20 _ _ (by decide) (by decide)]; exact hu) hu6 (by rw [nu]; exact hs) (fun g hg => by rw [nu] at hg; exact ⟨t1 b g hb hg, (zlkn_p Z hb hg).2⟩) (fun s hs => by rw [nu] at hs; exact t2 (b + 1) (Nat.le_refl _) (by omega) s hs) mb
  have q2 := C.by_z (lik := zlkn W lk) (mo := zmo (zlkn W lk) u (W.2.2.2.1 1) (W.2.2.2.1 0) (W.2.2.2.1 0 - (b + 1))) (b := b) (s := s) (by omega) (n1 := W.2.2.2.1 1) h8 hs (fun g hg => t1 b g hb hg) (fun s hs => t2 (b + 1) (Nat.le_refl _) (by omega) s hs) (zbi (zlkn W lk) u (W.2.2.2.1 1) (zmo (zlkn W lk) u (W.2.2.2.1 1) (W.2.2.2.1 0) (W.2.2.2.1 0 - (b + 1))) b s (W.2.2.2.1 1)) (fun g hg => by
    rcases (zbi_p (lik := zlkn W lk) (u := u) (n1 := W.2.2.2.1 1) (mo := zmo (zlkn W lk) u (W.2.2.2.1 1) (W.2.2.2.1 0) (W.2.2.2.1 0 - (b + 1))) (b := b) (s := s) (W.2.2.2.1 1) (Nat.le_refl _)).2.2 with ⟨q, -⟩ | ⟨g', q, -, q2, -⟩
    · rw [hg] at q; cases q
    · rw [hg] at q; cases q; exact q2)
  rw [nu, x0] at q1
  rw [x0, zbi_v] at q2
  refine ⟨q1, q2.trans ?_⟩
  obtain ⟨d, hd⟩ : ∃ d, W.2.2.2.1 0 - b = d + 1 := ⟨W.2.2.2.1 0 - (b + 1), by omega⟩
  have hd2 : W.2.2.2.1 0 - (b + 1) = d := by omega
  rw [hd, hd2]
  show _ = some (nI (zmx (zlkn W lk) u (zmo (zlkn W lk) u (W.2.2.2.1 1) (W.2.2.2.1 0) d) (W.2.2.2.1 0 - (d + 1)) s (W.2.2.2.1 1)))
  rw [show W.2.2.2.1 0 - (d + 1) = b by omega]
theorem CS.lays2 (C : CS V h X T G) (Z : ZI W) (hu : W.2.1 20 0 0 = nI u) (hu6 : u ≤ 6) (B : BX W X) (t1 : ∀ b g, b < W.2.2.2.1 0 → g < W.2.2.2.1 1 → X.2.1 17 b g = nI (zlkn W lk b g)) :
    yes (c_X3_lays_b96 V (W.1 11 0) h) (fun r => ∃ Y, CS V r.2 Y T G ∧ TB W Y lk u 0 ∧ r.2.1 = h.1 ∧ r.2.2.1 = h.2.1) := by
  have h6 := Z.1.1
  have h8 := Z.1.2.1
  have p8 : 2 ^ W.2.2.2.1 1 ≤ 256 := Nat.pow_le_pow_right (by decide) h8
  -- one row
  have row : ∀ (b : Nat) (hx : hx_S) (X : zW), b < W.2.2.2.1 0 → CS V hx X T G → TB W X lk u (b + 1) → yes (hx_wh (c_X3_lays_s166 V (W.1 11 0) (nI b)) hx_FU ((0 : Int32), hx)) (fun r => ∃ h' X', r = .inl (nI b + -1, h') ∧ CS V h' X' T G ∧ TB W X' lk u b ∧ h'.1 = hx.1 ∧ h'.2.1 = hx.2.1) := by
    intro b hx X hb C B
    refine yes.wh (I := fun n st => ∃ s Y, n = 2 ^ W.2.2.2.1 1 - s ∧ s ≤ 2 ^ W.2.2.2.1 1 ∧ st.1 = nI s ∧ CS V st.2 Y T G ∧ TB W Y lk u (b + 1) ∧ (∀ i, i < s → Y.2.1 16 b i = nI (zmo (zlkn W lk) u (W.2.2.2.1 1) (W.2.2.2.1 0) (W.2.2.2.1 0 - b) i)) ∧ st.2.1 = hx.1 ∧ st.2.2.1 = hx.2.1) (n := 2 ^ W.2.2.2.1 1) ⟨0, X, (Nat.sub_zero _).symm, Nat.zero_le _, rfl, C, B, fun i hi => by omega, rfl, rfl⟩ (by omega) ?_
    rintro n ⟨q, hy⟩ ⟨s, Y, rfl, hss, e, CY, BY, t3, n1, n2⟩
    simp only at e CY n1 n2
    subst e
    have y0 : Y.1 = W.1 := BY.1.1
    have nu : Y.2.2.2.1 = W.2.2.2.1 := by rw [BY.1.2.1]
    have ZY := BY.1.I Z
    have bt := CY.br_this
    have kp := CY.x_park
    have kz := CY.z_guests
    have kg := CY.k_guests
    have ks := CY.sizeG ZY.1
    have bm := CY.br_most
    have kbr := CY.k_bringing
    have rm := CY.mostRow (j := b) (by omega)
    rw [y0] at bt kp kz kg ks bm kbr rm
    rw [nu] at ks
    unfold c_X3_lays_s166
    simp only
    rw [bt, Option.bind_some, Option.bind_some, kp, Option.bind_some, Option.bind_some, kz, Option.bind_some, Option.bind_some, if_pos kg, ks, Option.bind_some, sh_8 _ h8]
    by_cases hlt : s < 2 ^ W.2.2.2.1 1
    · obtain ⟨q1, q2⟩ := BY.best Z CY hu hu6 hb hlt
      obtain ⟨h3, w1, C3, r3, r3'⟩ := CY.wmost (j := b) (by omega) (i := s) (by omega) (nI (zmo (zlkn W lk) u (W.2.2.2.1 1) (W.2.2.2.1 0) (W.2.2.2.1 0 - b) s))
      rw [y0] at w1
      rw [if_neg (nI_ge hlt (by omega)), bm, Option.bind_some, Option.bind_some, rm, Option.bind_some, if_pos kbr, q1, Option.bind_some, if_pos kbr, q2, Option.bind_some, Option.bind_some, w1, Option.bind_some]
      refine yes.ret ⟨2 ^ W.2.2.2.1 1 - (s + 1), by omega, s + 1, _, rfl, by omega, nI_1 s, C3, ⟨BY.1.A _ (Or.inl rfl), fun b' g h1 h2 => ?_, fun b' h1 h2 s' hs' => ?_⟩, fun i hi => ?_, by dsimp only; omega, by dsimp only; omega⟩
      · rw [zA_at, if_neg (fun q => absurd q.1 (by decide))]; exact BY.2.1 b' g h1 h2
      · rw [zA_at, if_neg (fun q => by have := q.2.1; omega)]; exact BY.2.2 b' h1 h2 s' hs'
      · rw [zA_at]
        by_cases q : i = s
        · rw [if_pos ⟨rfl, rfl, q⟩, q]
        · rw [if_neg (fun x => q x.2.2)]; exact t3 i (by omega)
    · have hse : s = 2 ^ W.2.2.2.1 1 := by omega
      subst hse
      rw [if_pos (nI_le (Nat.le_refl _) (by omega))]
      refine yes.ret ⟨hy, Y, rfl, CY, ⟨BY.1, BY.2.1, fun b' h1 h2 s' hs' => ?_⟩, n1, n2⟩
      by_cases q : b' = b
      · subst q; exact t3 s' hs'
      · exact BY.2.2 b' (by omega) h2 s' hs'
  -- all rows
  have rows : ∀ (hx : hx_S) (X : zW), CS V hx X T G → TB W X lk u (W.2.2.2.1 0) → hx.1 = h.1 → hx.2.1 = h.2.1 → yes (c_X3_lays_b144 V (W.1 11 0) hx) (fun r => ∃ Y, CS V r.2 Y T G ∧ TB W Y lk u 0 ∧ r.2.1 = h.1 ∧ r.2.2.1 = h.2.1) := by
    intro hx X C B n1 n2
    have x0 : X.1 = W.1 := B.1.1
    have nu : X.2.2.2.1 = W.2.2.2.1 := by rw [B.1.2.1]
    have ZX := B.1.I Z
    have bt := C.br_this
    have kp := C.x_park
    have kz := C.z_beasts
    have kg := C.k_beasts
    have ks := C.sizeB ZX.1
    rw [x0] at bt kp kz kg ks
    rw [nu] at ks
    unfold c_X3_lays_b144
    rw [bt, Option.bind_some, Option.bind_some, kp, Option.bind_some, Option.bind_some, kz, Option.bind_some, Option.bind_some, if_pos kg, ks, Option.bind_some, nI_m1]
    refine yes.wh (I := fun n st => ∃ m Y, n = m ∧ m ≤ W.2.2.2.1 0 ∧ st.1 = (if m = 0 then -1 else nI (m - 1)) ∧ CS V st.2 Y T G ∧ TB W Y lk u m ∧ st.2.1 = h.1 ∧ st.2.2.1 = h.2.1) (n := W.2.2.2.1 0) ⟨W.2.2.2.1 0, X, rfl, Nat.le_refl _, rfl, C, B, n1, n2⟩ (by omega) ?_
    rintro n ⟨q, hy⟩ ⟨m, Y, rfl, hm, e, CY, BY, n1, n2⟩
    simp only at e CY n1 n2
    subst e
    unfold c_X3_lays_s160
    simp only
    by_cases h0 : n = 0
    · subst h0
      rw [if_pos rfl, if_pos (show (-1 : Int32) < 0 by decide)]
      exact yes.ret ⟨Y, CY, BY, n1, n2⟩
    · rw [if_neg h0, if_neg (nI_pos (by omega))]
      obtain ⟨r, w1, h', X', rfl, C', B', m1, m2⟩ := row (n - 1) hy Y (by omega) CY (by rw [show n - 1 + 1 = n by omega]; exact BY)
      rw [w1]
      exact yes.ret ⟨n - 1, by omega, n - 1, X', rfl, by omega, by show nI (n - 1) + -1 = _; rw [nI_dn], C', B', by dsimp only; omega, by dsimp only; omega⟩
  unfold c_X3_lays_b96
  refine yes.wh (I := fun n st => ∃ s Y, n = 2 ^ W.2.2.2.1 1 - s ∧ s ≤ 2 ^ W.2.2.2.1 1 ∧ st.1 = nI s ∧ CS V st.2 Y T G ∧ BX W Y ∧ (∀ b g, b < W.2.2.2.1 0 → g < W.2.2.2.1 1 → Y.2.1 17 b g = nI (zlkn W lk b g)) ∧ (∀ i, i < s → Y.2.1 16 (W.2.2.2.1 0) i = 0) ∧ st.2.1 = h.1 ∧ st.2.2.1 = h.2.1) (n := 2 ^ W.2.2.2.1 1) ⟨0, X, (Nat.sub_zero _).symm, Nat.zero_le _, rfl, C, B, t1, fun i hi => by omega, rfl, rfl⟩ (by omega) ?_
  rintro n ⟨q, hy⟩ ⟨s, Y, rfl, hss, e, CY, BY, t2, t3, n1, n2⟩
  simp only at e CY n1 n2
  subst e
  have y0 : Y.1 = W.1 := BY.1
  have nu : Y.2.2.2.1 = W.2.2.2.1 := by rw [BY.2.1]
  have ZY := BY.I Z
  have bt := CY.br_this
  have kp := CY.x_park
  have kz := CY.z_guests
  have kg := CY.k_guests
  have ks := CY.sizeG ZY.1
  have bm := CY.br_most
  have kb := CY.z_beasts
  have kbb := CY.k_beasts
  have ksb := CY.sizeB ZY.1
  have rm := CY.mostRow (j := W.2.2.2.1 0) (by omega)
  rw [y0] at bt kp kz kg ks bm kb kbb ksb rm
  rw [nu] at ks ksb
  unfold c_X3_lays_s98
  simp only
  rw [bt, Option.bind_some, Option.bind_some, kp, Option.bind_some, Option.bind_some, kz, Option.bind_some, Option.bind_some, if_pos kg, ks, Option.bind_some, sh_8 _ h8]
  by_cases hlt : s < 2 ^ W.2.2.2.1 1
  · obtain ⟨h3, w1, C3, r3, r3'⟩ := CY.wmost (j := W.2.2.2.1 0) (by omega) (i := s) (by omega) 0
    rw [y0] at w1
    rw [if_neg (nI_ge hlt (by omega)), bm, Option.bind_some, Option.bind_some, Option.bind_some, kp, Option.bind_some, Option.bind_some, kb, Option.bind_some, Option.bind_some, if_pos kbb, ksb, Option.bind_some, Option.bind_some, rm, Option.bind_some, Option.bind_some, w1, Option.bind_some]
    refine yes.ret ⟨2 ^ W.2.2.2.1 1 - (s + 1), by omega, s + 1, _, rfl, by omega, nI_1 s, C3, BY.A _ (Or.inl rfl), fun b' g h1 h2 => ?_, fun i hi => ?_, by dsimp only; omega, by dsimp only; omega⟩
    · rw [zA_at, if_neg (fun q => absurd q.1 (by decide))]; exact t2 b' g h1 h2
    · rw [zA_at]
      by_cases q : i = s
      · rw [if_pos ⟨rfl, rfl, q⟩]
      · rw [if_neg (fun x => q x.2.2)]; exact t3 i (by omega)
  · have hse : s = 2 ^ W.2.2.2.1 1 := by omega
    subst hse
    rw [if_pos (nI_le (Nat.le_refl _) (by omega))]
    obtain ⟨r, w1, w2⟩ := rows hy Y CY ⟨BY, t2, fun b' h1 h2 s' hs' => by
      have : b' = W.2.2.2.1 0 := by omega
      subst this
      rw [t3 s' hs', Nat.sub_self]
      rfl⟩ n1 n2
    rw [w1]
    exact yes.ret w2
/-- whom the beasts below k bring -/
def zst (lik : Nat → Nat → Nat) (u n1 n0 : Nat) : Nat → Nat
  | 0 => 0
  | k + 1 => match zbi lik u n1 (zmo lik u n1 n0 (n0 - (k + 1))) k (zst lik u n1 n0 k) n1 with
    | none => zst lik u n1 n0 k
    | some g => zst lik u n1 n0 k ||| 2 ^ g
theorem zbi_lt {lik : Nat → Nat → Nat} {u n1 : Nat} {mo : Nat → Nat} {b s g : Nat} (h : zbi lik u n1 mo b s n1 = some g) : g < n1 := by
  rcases (zbi_p (lik := lik) (u := u) (n1 := n1) (mo := mo) (b := b) (s := s) n1 (Nat.le_refl _)).2.2 with ⟨q, -⟩ | ⟨g', q, -, q2, -⟩
  · rw [h] at q; cases q
  · rw [h] at q; cases q; exact q2
theorem zst_lt {lik : Nat → Nat → Nat} {u n1 n0 : Nat} (k : Nat) : zst lik u n1 n0 k < 2 ^ n1 := by
  induction k with
  | zero => exact Nat.two_pow_pos _
  | succ k ih =>
    unfold zst
    split
    · exact ih
    · rename_i g hg
      exact Nat.or_lt_two_pow ih (Nat.pow_lt_pow_right (by decide) (zbi_lt hg))
theorem TB.of (Z : ZI W) (C : CS V h X T G) (B : TB W X lk u 0) (hu : W.2.1 20 0 0 = nI u) (hu6 : u ≤ 6) {b : Nat} (hb : b < W.2.2.2.1 0) : c_X3_of V (W.1 11 0) (nI b) h = some (zoe (zbi (zlkn W lk) u (W.2.2.2.1 1) (zmo (zlkn W lk) u (W.2.2.2.1 1) (W.2.2.2.1 0) (W.2.2.2.1 0 - (b + 1))) b (zst (zlkn W lk) u (W.2.2.2.1 1) (W.2.2.2.1 0) b) (W.2.2.2.1 1))) := by
  have h6 := Z.1.1
  have h8 := Z.1.2.1
  have p8 : 2 ^ W.2.2.2.1 1 ≤ 256 := Nat.pow_le_pow_right (by decide) h8
  have kbr := C.k_bringing
  rw [B.1.1] at kbr
  unfold c_X3_of
  have key : ∀ k g0, k ≤ b → c_X3_of_s7 V (W.1 11 0) (nI b) h (nI (zst (zlkn W lk) u (W.2.2.2.1 1) (W.2.2.2.1 0) k), g0, nI k) = some (.inl (nI (zst (zlkn W lk) u (W.2.2.2.1 1) (W.2.2.2.1 0) (k + 1)), zoe (zbi (zlkn W lk) u (W.2.2.2.1 1) (zmo (zlkn W lk) u (W.2.2.2.1 1) (W.2.2.2.1 0) (W.2.2.2.1 0 - (k + 1))) k (zst (zlkn W lk) u (W.2.2.2.1 1) (W.2.2.2.1 0) k) (W.2.2.2.1 1)), nI (k + 1))) := by
    intro k g0 hk
    have hlt := zst_lt (lik := zlkn W lk) (u := u) (n1 := W.2.2.2.1 1) (n0 := W.2.2.2.1 0) k
    have Bk : TB W X lk u (k + 1) := ⟨B.1, B.2.1, fun b' h1 h2 => B.2.2 b' (by omega) h2⟩
    have q1 := (Bk.best Z C hu hu6 (b := k) (s := zst (zlkn W lk) u (W.2.2.2.1 1) (W.2.2.2.1 0) k) (by omega) hlt).1
    have e : zst (zlkn W lk) u (W.2.2.2.1 1) (W.2.2.2.1 0) (k + 1) = match zbi (zlkn W lk) u (W.2.2.2.1 1) (zmo (zlkn W lk) u (W.2.2.2.1 1) (W.2.2.2.1 0) (W.2.2.2.1 0 - (k + 1))) k (zst (zlkn W lk) u (W.2.2.2.1 1) (W.2.2.2.1 0) k) (W.2.2.2.1 1) with
      | none => zst (zlkn W lk) u (W.2.2.2.1 1) (W.2.2.2.1 0) k
      | some g => zst (zlkn W lk) u (W.2.2.2.1 1) (W.2.2.2.1 0) k ||| 2 ^ g := rfl
    unfold c_X3_of_s7
    simp only
    rw [if_neg (nI_nlt hk (by omega)), if_pos kbr, q1, Option.bind_some, nI_1, e]
    cases hz : zbi (zlkn W lk) u (W.2.2.2.1 1) (zmo (zlkn W lk) u (W.2.2.2.1 1) (W.2.2.2.1 0) (W.2.2.2.1 0 - (k + 1))) k (zst (zlkn W lk) u (W.2.2.2.1 1) (W.2.2.2.1 0) k) (W.2.2.2.1 1) with
    | none => rw [if_pos (show zoe none = -1 from rfl)]
    | some g =>
      have hg := zbi_lt hz
      rw [if_neg (show ¬ zoe (some g) = -1 from nI_nm1 (by omega)), (show nI (zst (zlkn W lk) u (W.2.2.2.1 1) (W.2.2.2.1 0) k) ||| ((1 : Int32) <<< (zoe (some g) &&& 31)) = _ from or_k _ (by omega) g (by omega))]
  refine pl_loop (fun k => (nI (zst (zlkn W lk) u (W.2.2.2.1 1) (W.2.2.2.1 0) k), (match k with | 0 => (-1 : Int32) | k + 1 => zoe (zbi (zlkn W lk) u (W.2.2.2.1 1) (zmo (zlkn W lk) u (W.2.2.2.1 1) (W.2.2.2.1 0) (W.2.2.2.1 0 - (k + 1))) k (zst (zlkn W lk) u (W.2.2.2.1 1) (W.2.2.2.1 0) k) (W.2.2.2.1 1))), nI k)) (b + 1) _ (fun k hk => key k _ (by omega)) ?_ (by omega)
  unfold c_X3_of_s7
  simp only
  rw [if_pos (nI_lt (by omega) (by omega))]
  rfl
end BD

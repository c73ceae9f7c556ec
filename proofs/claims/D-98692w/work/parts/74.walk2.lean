/-! PURE SIDE: the call walk -/
set_option maxRecDepth 100000
section W2
variable {V : hx_V} {h : hx_S} {W X Y T : zW} {G G1 gt : Nat → Option hx_C} {ms : mx_S} {bk : Nat} {lk my : zL} {L : List (Nat → Int32)} {As : List zU} {fa ba N : Nat} {hx : hx_S} {cf cb : Nat → Value} {f : Nat → Nat}
theorem nI_dn (m : Nat) : nI m + (-1 : Int32) = if m = 0 then -1 else nI (m - 1) := by
  by_cases e : m = 0
  · subst e; rfl
  · rw [if_neg e]
    obtain ⟨k, rfl⟩ : ∃ k, m = k + 1 := ⟨m - 1, by omega⟩
    rw [← nI_1, show k + 1 - 1 = k by omega, Int32.add_assoc, show (1 : Int32) + -1 = 0 from rfl, Int32.add_zero]
/-- steps of one set -/
theorem WK.far (Z : ZI W) (hf : ∀ k, k < W.2.2.2.1 0 → W.2.1 25 k 4 = nI (f k) ∧ f k ≤ 99) (hne : fa ≠ ba) (g1 : G fa = none) (g2 : G ba = none) (b1 : V.2.1.size ≤ fa) (b2 : V.2.1.size ≤ ba) (hN : N ≤ 64) (K : WK V h W T G fa ba N hx cf cb) {s : Nat} (hs : s < N) (h0 : cf s = .int 0) (x1 x2 : Int32) :
    yes (hx_wh (c_X0_walk_s63 V (W.1 0 0) x1 x2 (some fa) (some ba) (nI s)) hx_FU ((0 : Int32), hx)) (fun r => ∃ h' cf' cb', r = .inl (nI (s + 1), h') ∧ WK V h W T G fa ba N h' cf' cb' ∧ cf' s = .int (nI (zft f s (W.2.2.2.1 0))) ∧ cb' s = .int (nI (zft f s (W.2.2.2.1 0))) ∧ ∀ i, i ≠ s → cf' i = cf i ∧ cb' i = cb i) := by
  have h6 := Z.1.1
  refine yes.wh (I := fun n st => ∃ k cf', n = W.2.2.2.1 0 - k ∧ k ≤ W.2.2.2.1 0 ∧ st.1 = nI k ∧ WK V h W T G fa ba N st.2 cf' cb ∧ cf' s = .int (nI (zft f s k)) ∧ ∀ i, i ≠ s → cf' i = cf i) (n := W.2.2.2.1 0) ⟨0, cf, by omega, by omega, rfl, K, h0, fun _ _ => rfl⟩ (by omega) ?_
  rintro n ⟨q, hy⟩ ⟨k, cf', rfl, hkk, e, K1, c1, c2⟩
  simp only at e K1
  subst e
  obtain ⟨G', C, gl, ga, gb, n1, n2⟩ := id K1
  unfold c_X0_walk_s63
  simp only
  rw [C.x_park, Option.bind_some, Option.bind_some, C.z_beasts, Option.bind_some, Option.bind_some, if_pos C.k_beasts, C.sizeB Z.1, Option.bind_some]
  by_cases hlt : k < W.2.2.2.1 0
  · have hbit := bit_6 s (by omega) k (by omega)
    rw [if_neg (nI_ge hlt (by omega)), hbit]
    by_cases hb : s / 2 ^ k % 2 = 1
    · have hc : hck hy (some (W.1 25 k)) [8] = true := C.k_b hlt rfl
      have hle := zft_le (f := f) (s := s) k (fun i hi => (hf i (by omega)).2)
      have h99 := (hf k hlt).2
      obtain ⟨h', e1, K2⟩ := K1.wf hne g1 b1 (i := s) (nI (zft f s (k + 1))) hs (by omega)
      have ez : zft f s (k + 1) = zft f s k + 2 * f k := by
        show zft f s k + (if s / 2 ^ k % 2 = 1 then 2 * f k else 0) = _
        rw [if_pos hb]
      rw [if_pos (show nI (s / 2 ^ k % 2) = 1 by rw [hb]; rfl), Option.bind_some, K1.rf hs (by omega) c1, Option.bind_some, Option.bind_some, Option.bind_some, C.z_beasts, Option.bind_some, Option.bind_some, if_pos C.k_beasts, C.getB Z.1 hlt, Option.bind_some, if_pos hc, Option.bind_some, C.b_at hlt rfl, (hf k hlt).1, Option.bind_some, show nI (zft f s k) + (2 : Int32) * nI (f k) = nI (zft f s (k + 1)) by rw [ez, show (2 : Int32) = nI 2 from rfl, pk_mul, nI_add], e1, Option.bind_some]
      refine yes.ret ⟨W.2.2.2.1 0 - (k + 1), by omega, k + 1, _, rfl, by omega, nI_1 k, K2, by simp [updV], fun i hi => ?_⟩
      show updV cf' s _ i = _
      simp only [updV, hi, if_false]
      exact c2 i hi
    · have ez : zft f s (k + 1) = zft f s k := by
        show zft f s k + (if s / 2 ^ k % 2 = 1 then 2 * f k else 0) = _
        rw [if_neg hb]; rfl
      have hb0 : s / 2 ^ k % 2 = 0 := by omega
      rw [if_neg (show ¬ nI (s / 2 ^ k % 2) = 1 by rw [hb0]; decide)]
      exact yes.ret ⟨W.2.2.2.1 0 - (k + 1), by omega, k + 1, cf', rfl, by omega, nI_1 k, K1, by rw [ez]; exact c1, c2⟩
  · have hke : k = W.2.2.2.1 0 := by omega
    subst hke
    unfold c_X0_walk_b122
    obtain ⟨h', e1, K2⟩ := K1.wb hne g2 b2 (i := s) (nI (zft f s (W.2.2.2.1 0))) hs (by omega)
    rw [if_pos (nI_le (Nat.le_refl _) (by omega)), Option.bind_some, K1.rf hs (by omega) c1, Option.bind_some, Option.bind_some, e1, Option.bind_some, nI_1]
    refine yes.ret ⟨h', cf', _, rfl, K2, c1, by simp [updV], fun i hi => ⟨c2 i hi, ?_⟩⟩
    show updV cb s _ i = _
    simp [updV, hi]
theorem and_sub : ∀ s, s < 64 → ∀ n, n < 64 → n = 0 ∨ s &&& (63 - n) ≠ s ∨ n &&& s ≠ n := by decide +kernel
/-- one more usher, for one set -/
theorem WK.part {F P : Nat → Nat} (hF : ∀ s, F s ≤ 100000) (hP : ∀ s, P s ≤ 100000) (hne : fa ≠ ba) (g2 : G ba = none) (b2 : V.2.1.size ≤ ba) (hN : N ≤ 64) (K : WK V h W T G fa ba N hx cf cb) {s : Nat} (hs : s < N) (h1 : ∀ i, i < N → cf i = .int (nI (F i))) (h2 : ∀ i, i ≤ s → cb i = .int (nI (P i))) (x1 x2 x5 : Int32) :
    yes (hx_wh (c_X0_walk_s158 V (W.1 0 0) x1 x2 (some fa) (some ba) x5 (nI s)) hx_FU (nI s, hx)) (fun r => ∃ h' cb', r = .inl (nI s + -1, h') ∧ WK V h W T G fa ba N h' cf cb' ∧ cb' s = .int (nI (zwk (fun p => max (F p) (P (s &&& (63 - p)))) s 64 s (P s))) ∧ ∀ i, i ≠ s → cb' i = cb i) := by
  refine yes.wh (I := fun n st => ∃ p acc m cb', n = p ∧ p ≤ s ∧ p &&& s = p ∧ p ≤ m ∧ acc ≤ 100000 ∧ st.1 = nI p ∧ WK V h W T G fa ba N st.2 cf cb' ∧ cb' s = .int (nI acc) ∧ (∀ i, i ≠ s → cb' i = cb i) ∧ zwk (fun p => max (F p) (P (s &&& (63 - p)))) s m p acc = zwk (fun p => max (F p) (P (s &&& (63 - p)))) s 64 s (P s)) (n := s) ⟨s, P s, 64, cb, rfl, Nat.le_refl _, Nat.and_self s, by omega, hP s, rfl, K, h2 s (Nat.le_refl _), fun _ _ => rfl, rfl⟩ (by omega) ?_
  rintro n ⟨q, hy⟩ ⟨p, acc, m, cb', rfl, hps, hpa, hpm, ha, e, K1, c1, c2, c3⟩
  simp only at e K1
  subst e
  unfold c_X0_walk_s158
  simp only
  by_cases h0 : n = 0
  · subst h0
    rw [zwk_0] at c3
    rw [if_pos (show nI 0 ≤ 0 by decide)]
    exact yes.ret ⟨hy, cb', rfl, K1, by rw [← c3]; exact c1, c2⟩
  · obtain ⟨m, rfl⟩ : ∃ m', m = m' + 1 := ⟨m - 1, by omega⟩
    have hal : (s &&& (63 - n)) ≤ s := Nat.and_le_left
    have hsn : s &&& (63 - n) ≠ s := by
      rcases and_sub s (by omega) n (by omega) with q | q | q
      · exact absurd q h0
      · exact q
      · exact absurd hpa q
    have hp1 : (n - 1) &&& s ≤ n - 1 := Nat.and_le_left
    have r1 := K1.rf (i := n) (by omega) (by omega) (h1 n (by omega))
    have r2 := K1.rb (i := s) hs (by omega) c1
    have r3 := K1.rb (i := s &&& (63 - n)) (by omega) (by omega) (by rw [c2 _ hsn]; exact h2 _ hal)
    have b1 := hF n
    have b3 := hP (s &&& (63 - n))
    obtain ⟨h', e1, K2⟩ := K1.wb hne g2 b2 (i := s) (nI (min acc (max (F n) (P (s &&& (63 - n)))))) hs (by omega)
    rw [zwk_s h0] at c3
    rw [if_neg (show ¬ nI n ≤ 0 from nI_ge (a := 0) (by omega) (by omega)), Option.bind_some, r2, Option.bind_some, Option.bind_some, r1, Option.bind_some, and_63 s (by omega) n (by omega), r3, Option.bind_some, c_max_z (by omega) (by omega), Option.bind_some, c_min_z (by omega) (by omega), Option.bind_some, e1, Option.bind_some, (and_p1 s (by omega) n (by omega)).resolve_left h0]
    refine yes.ret ⟨(n - 1) &&& s, by omega, (n - 1) &&& s, _, m, _, rfl, by omega, by rw [Nat.and_assoc, Nat.and_self], by omega, by omega, rfl, K2, by simp [updV], fun i hi => ?_, c3⟩
    show updV cb' s _ i = _
    simp only [updV, hi, if_false]
    exact c2 i hi
/-- the class's answer -/
theorem CS.walkC (C : CS V h W T G) (Z : ZI W) (hf : ∀ k, k < W.2.2.2.1 0 → W.2.1 25 k 4 = nI (f k) ∧ f k ≤ 99) {x u : Nat} (hx64 : x < 64) (hu1 : 1 ≤ u) (hu6 : u ≤ 6) (hh : hx = hx_push (hx_push h (x + 1) (100, x + 1, fun _ => .int 0)) (x + 1) (100, x + 1, fun _ => .int 0)) (K : WK V h W T G h.1 (h.1 + 1) (x + 1) hx (fun _ => .int 0) (fun _ => .int 0)) :
    yes (hx_wh (c_X0_walk_s54 V (W.1 0 0) (nI x) (nI u) (some h.1) (some (h.1 + 1))) hx_FU ((0 : Int32), hx)) (fun r => r.1 = nI (zWn (fun s => zft f s (W.2.2.2.1 0)) (u - 1) x) ∧ ∃ G', CS V r.2 W T G' ∧ gle G G' ∧ r.2.1 = h.1 + 2 ∧ r.2.2.1 = h.2.1 + 2 * (x + 1)) := by
  have h6 := Z.1.1
  have low := C.low
  have none_ : ∀ q, h.1 ≤ q → G q = none := fun q hq => by
    cases e : G q with
    | none => rfl
    | some c => exact absurd (C.fro e).2 (by omega)
  have g1 := none_ h.1 (Nat.le_refl _)
  have g2 := none_ (h.1 + 1) (by omega)
  have hne : h.1 ≠ h.1 + 1 := by omega
  have hF : ∀ s, zft f s (W.2.2.2.1 0) ≤ 100000 := fun s => by
    have := zft_le (f := f) (s := s) (W.2.2.2.1 0) (fun k hk => (hf k hk).2)
    omega
  have hWn : ∀ n s, zWn (fun s => zft f s (W.2.2.2.1 0)) n s ≤ 100000 := fun n s => Nat.le_trans (zWn_le n) (hF s)
  -- one usher more
  have round : ∀ (n : Nat) (hy : hx_S) (cf cb : Nat → Value), WK V h W T G h.1 (h.1 + 1) (x + 1) hy cf cb → (∀ i, i < x + 1 → cf i = .int (nI (zft f i (W.2.2.2.1 0)))) → (∀ i, i < x + 1 → cb i = .int (nI (zWn (fun s => zft f s (W.2.2.2.1 0)) n i))) → yes (hx_wh (c_X0_walk_s149 V (W.1 0 0) (nI x) (nI u) (some h.1) (some (h.1 + 1)) (nI (n + 1))) hx_FU (nI x, hy)) (fun r => ∃ h' cb', r = .inl (nI (n + 2), h') ∧ WK V h W T G h.1 (h.1 + 1) (x + 1) h' cf cb' ∧ ∀ i, i < x + 1 → cb' i = .int (nI (zWn (fun s => zft f s (W.2.2.2.1 0)) (n + 1) i))) := by
    intro n hy cf cb K c1 c2
    refine yes.wh (I := fun d st => ∃ m cb', d = m ∧ m ≤ x + 1 ∧ st.1 = (if m = 0 then -1 else nI (m - 1)) ∧ WK V h W T G h.1 (h.1 + 1) (x + 1) st.2 cf cb' ∧ (∀ i, i < m → cb' i = .int (nI (zWn (fun s => zft f s (W.2.2.2.1 0)) n i))) ∧ (∀ i, m ≤ i → i < x + 1 → cb' i = .int (nI (zWn (fun s => zft f s (W.2.2.2.1 0)) (n + 1) i)))) (n := x + 1) ⟨x + 1, cb, rfl, Nat.le_refl _, by rw [if_neg (by omega)]; rfl, K, c2, fun i h1 h2 => by omega⟩ (by omega) ?_
    rintro d ⟨q, hz⟩ ⟨m, cb', rfl, hm, e, K1, d1, d2⟩
    simp only at e K1
    subst e
    unfold c_X0_walk_s149
    simp only
    by_cases hm0 : d = 0
    · subst hm0
      rw [if_pos rfl, if_pos (show (-1 : Int32) < 0 by decide), show nI (n + 1) + (1 : Int32) = nI (n + 2) from nI_1 _]
      exact yes.ret ⟨hz, cb', rfl, K1, fun i hi => d2 i (by omega) hi⟩
    · rw [if_neg hm0, if_neg (nI_pos (by omega))]
      obtain ⟨r, w1, h', cb2, rfl, K2, w2, w3⟩ := K1.part hF (hWn n) hne g2 (by omega) (by omega) (s := d - 1) (by omega) c1 (fun i hi => d1 i (by omega)) (nI x) (nI u) (nI (n + 1))
      rw [w1]
      refine yes.ret ⟨d - 1, by omega, d - 1, cb2, rfl, by omega, ?_, K2, fun i hi => ?_, fun i h1 h2 => ?_⟩
      · show nI (d - 1) + -1 = _
        rw [nI_dn]
      · rw [w3 i (by omega)]; exact d1 i (by omega)
      · by_cases e : i = d - 1
        · rw [e]; exact w2
        · rw [w3 i e]; exact d2 i (by omega) h2
  -- all ushers
  have rounds : ∀ (hy : hx_S) (cf cb : Nat → Value), WK V h W T G h.1 (h.1 + 1) (x + 1) hy cf cb → (∀ i, i < x + 1 → cf i = .int (nI (zft f i (W.2.2.2.1 0))) ∧ cb i = .int (nI (zft f i (W.2.2.2.1 0)))) → yes (c_X0_walk_b137 V (W.1 0 0) (nI x) (nI u) (some h.1) (some (h.1 + 1)) hy) (fun r => r.1 = nI (zWn (fun s => zft f s (W.2.2.2.1 0)) (u - 1) x) ∧ ∃ G', CS V r.2 W T G' ∧ gle G G' ∧ r.2.1 = h.1 + 2 ∧ r.2.2.1 = h.2.1 + 2 * (x + 1)) := by
    intro hy cf cb K c1
    unfold c_X0_walk_b137
    refine yes.wh (I := fun d st => ∃ n cb', d = u - 1 - n ∧ n ≤ u - 1 ∧ st.1 = nI (n + 1) ∧ WK V h W T G h.1 (h.1 + 1) (x + 1) st.2 cf cb' ∧ (∀ i, i < x + 1 → cb' i = .int (nI (zWn (fun s => zft f s (W.2.2.2.1 0)) n i)))) (n := u - 1) ⟨0, cb, by omega, by omega, rfl, K, fun i hi => (c1 i hi).2⟩ (by omega) ?_
    rintro d ⟨q, hz⟩ ⟨n, cb', rfl, hn, e, K1, d1⟩
    simp only at e K1
    subst e
    unfold c_X0_walk_s140
    simp only
    by_cases hlt : n + 1 < u
    · rw [if_neg (nI_ge hlt (by omega))]
      obtain ⟨r, w1, h', cb2, rfl, K2, w2⟩ := round n hz cf cb' K1 (fun i hi => (c1 i hi).1) d1
      rw [w1]
      exact yes.ret ⟨u - 1 - (n + 1), by omega, n + 1, cb2, rfl, by omega, rfl, K2, w2⟩
    · have hne' : n = u - 1 := by omega
      subst hne'
      rw [if_pos (nI_le (by omega) (by omega)), Option.bind_some, K1.rb (i := x) (by omega) (by omega) (d1 x (by omega)), Option.bind_some]
      obtain ⟨G', C', gl, -, -, n1, n2⟩ := K1
      exact yes.ret ⟨rfl, G', C', gl, n1, n2⟩
  refine yes.wh (I := fun d st => ∃ s cf cb, d = x + 1 - s ∧ s ≤ x + 1 ∧ st.1 = nI s ∧ WK V h W T G h.1 (h.1 + 1) (x + 1) st.2 cf cb ∧ (∀ i, i < s → cf i = .int (nI (zft f i (W.2.2.2.1 0))) ∧ cb i = .int (nI (zft f i (W.2.2.2.1 0)))) ∧ (∀ i, s ≤ i → cf i = .int 0)) (n := x + 1) ⟨0, _, _, rfl, by omega, rfl, K, fun i hi => by omega, fun _ _ => rfl⟩ (by omega) ?_
  rintro d ⟨q, hz⟩ ⟨s, cf, cb, rfl, hs, e, K1, d1, d2⟩
  simp only at e K1
  subst e
  unfold c_X0_walk_s54
  simp only
  by_cases hlt : s < x + 1
  · rw [if_neg (nI_nlt (by omega) (by omega))]
    obtain ⟨r, w1, h', cf', cb', rfl, K2, w2, w3, w4⟩ := K1.far Z hf hne g1 g2 low (by omega) (by omega) (s := s) hlt (d2 s (Nat.le_refl _)) (nI x) (nI u)
    rw [w1]
    refine yes.ret ⟨x + 1 - (s + 1), by omega, s + 1, cf', cb', rfl, by omega, rfl, K2, fun i hi => ?_, fun i hi => ?_⟩
    · by_cases e : i = s
      · rw [e]; exact ⟨w2, w3⟩
      · rw [(w4 i e).1, (w4 i e).2]; exact d1 i (by omega)
    · rw [(w4 i (by omega)).1]; exact d2 i (by omega)
  · have hse : s = x + 1 := by omega
    subst hse
    rw [if_pos (nI_lt (by omega) (by omega))]
    obtain ⟨r, w1, w2⟩ := rounds hz cf cb K1 (fun i hi => d1 i hi)
    rw [w1]
    exact yes.ret w2
end W2

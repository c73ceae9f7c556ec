/-! PURE SIDE: the call walk, in the reference; joined -/
set_option maxRecDepth 100000
section W3
variable {V : hx_V} {h : hx_S} {W X Y T : zW} {G G1 gt : Nat → Option hx_C} {ms mx : mx_S} {bk : Nat} {lk my : zL} {L : List (Nat → Int32)} {As : List zU} {hx : hx_S} {f : Nat → Nat}
/-- only such rows are other -/
def mro (p : Nat → Prop) (ms ms' : mx_S) : Prop := ms'.1 = ms.1 ∧ ms'.2.1 = ms.2.1 ∧ ms'.2.2.2 = ms.2.2.2 ∧ ∀ a i, ¬ p a → ms'.2.2.1 a i = ms.2.2.1 a i
theorem mro.refl (p : Nat → Prop) (ms : mx_S) : mro p ms ms := ⟨rfl, rfl, rfl, fun _ _ _ => rfl⟩
theorem mro.trans {p : Nat → Prop} {a b c : mx_S} (h : mro p a b) (k : mro p b c) : mro p a c := ⟨k.1.trans h.1, k.2.1.trans h.2.1, k.2.2.1.trans h.2.2.1, fun x i hx => (k.2.2.2 x i hx).trans (h.2.2.2 x i hx)⟩
theorem mro.A {p : Nat → Prop} (ms : mx_S) {a i : Nat} (v : Int32) (h : p a) : mro p ms (mx_A ms a i v) := ⟨rfl, rfl, rfl, fun x j hx => mxA_o _ _ _ (fun e => hx (by rw [e]; exact h))⟩
theorem SIM.mro {p : Nat → Prop} (S : SIM V h W T G gt ms bk lk my L As) {h' : hx_S} {G' : Nat → Option hx_C} {ms' : mx_S} (C' : CS V h' W T G') (g : gle G G') (m : mro p ms ms') (hp : ∀ a, p a → 36 ≤ a ∧ a ≠ 42 ∧ a ≠ 43 ∧ a ≠ 51) : SIM V h' W T G' gt ms' bk lk my L As := by
  have np : ∀ a, a ≤ 35 ∨ a = 42 ∨ a = 43 ∨ a = 51 → ¬ p a := fun a ha q => by have := hp a q; omega
  have S2 : SIM V h W T G gt ms' bk lk my L As := by
    refine S.reg S.1 rfl rfl (fun _ _ _ _ => rfl) (by rw [m.1]; exact ⟨rfl, rfl, rfl⟩) (fun a i _ h2 _ => m.2.2.2 a i (np a (Or.inl h2))) ?_
    exact S.O.eq (zeq.refl W) m.1 m.2.1 (fun a i ha => m.2.2.2 a i (np a (by omega)))
  obtain ⟨C, gl, G0, E, Z, h13, Zt, M, hb, A⟩ := S2
  obtain ⟨a1, a2, a3, a4, uf, a5, a6, a7⟩ := A
  exact ⟨C', gl.trans g, G0.mono g, E, Z, h13, Zt.mono g, M, hb, ⟨a1, a2, a3, a4, uf, a5, a6, fun i U Lu hi => by
    obtain ⟨⟨a, b1, b2⟩, b3⟩ := a7 i U Lu hi
    exact ⟨⟨a, b1, b2.mono g⟩, b3⟩⟩⟩
theorem zbit_6 {s k : Nat} (hs : s < 64) (hk : k < 6) : zbit (nI s) (nI k) = if s / 2 ^ k % 2 = 1 then 1 else 0 := by
  unfold zbit
  rw [bit_6 s hs k hk]
  by_cases e : s / 2 ^ k % 2 = 1
  · rw [e, if_pos (show nI 1 = 1 from rfl), if_pos rfl]
  · have : s / 2 ^ k % 2 = 0 := by omega
    rw [this, if_neg (show ¬ nI 0 = 1 by decide), if_neg (by decide)]
def w45 (a : Nat) : Prop := a = 49 ∨ a = 50
/-- steps of one set -/
theorem ml_far (P : MP ms W bk) (h6 : W.2.2.2.1 0 ≤ 6) (hf : ∀ k, k < W.2.2.2.1 0 → W.2.1 25 k 4 = nI (f k) ∧ f k ≤ 99) (m : mro w45 ms mx) {s : Nat} (hs : s < 64) (h0 : mx.2.2.1 50 s = 0) (x1 x2 : Int32) :
    yes (hx_wh (m_walk_s49 x1 x2 (nI s)) hx_FU ((0 : Int32), mx)) (fun r => ∃ m', r = .inl (nI (s + 1), m') ∧ mro w45 ms m' ∧ m'.2.2.1 50 s = nI (zft f s (W.2.2.2.1 0)) ∧ m'.2.2.1 49 s = nI (if s = 0 then 0 else 100000000) ∧ (∀ i, i ≠ s → m'.2.2.1 50 i = mx.2.2.1 50 i ∧ m'.2.2.1 49 i = mx.2.2.1 49 i)) := by
  refine yes.wh (I := fun n st => ∃ k, n = W.2.2.2.1 0 - k ∧ k ≤ W.2.2.2.1 0 ∧ st.1 = nI k ∧ mro w45 ms st.2 ∧ st.2.2.2.1 50 s = nI (zft f s k) ∧ (∀ i, i ≠ s → st.2.2.2.1 50 i = mx.2.2.1 50 i) ∧ ∀ i, st.2.2.2.1 49 i = mx.2.2.1 49 i) (n := W.2.2.2.1 0) ⟨0, by omega, by omega, rfl, m, h0, fun _ _ => rfl, fun _ => rfl⟩ (by omega) ?_
  rintro n ⟨q, my⟩ ⟨k, rfl, hkk, e, m1, c1, c2, c3⟩
  simp only at e m1 c1 c2 c3
  subst e
  have p13 : my.1 13 = nI bk := by rw [m1.1]; exact P.2.1
  have p1 : my.2.2.1 1 bk = nI (W.2.2.2.1 0) := by rw [m1.2.2.2 1 bk (by unfold w45; omega)]; exact P.2.2.1
  have hb := P.1
  unfold m_walk_s49
  simp only
  rw [p13, if_pos (pl_in hb (by decide)), pl_cl (by omega), p1]
  by_cases hlt : k < W.2.2.2.1 0
  · have i64 : hx_in (nI s) 64 = true := pl_in hs (by decide)
    have cs : (nI s).toNatClampNeg = s := pl_cl (by omega)
    have p4 : my.2.2.1 4 (6 * bk + k) = nI (f k) := by rw [m1.2.2.2 4 _ (by unfold w45; omega), (P.2.2.2.2.1 k hlt).2.2]; exact (hf k hlt).1
    have ix : (6 : Int32) * nI bk + nI k = nI (6 * bk + k) := by rw [show (6 : Int32) = nI 6 from rfl, pk_mul, nI_add]
    rw [if_neg (nI_ge hlt (by omega)), if_pos i64, m_has2_z, Option.bind_some, zbit_6 hs (by omega), if_pos i64, cs, c1, ix, if_pos (pl_in (by omega) (by decide)), if_pos i64, pl_cl (by omega), p4, nI_1]
    by_cases hbt : s / 2 ^ k % 2 = 1
    · have ez : zft f s (k + 1) = zft f s k + 2 * f k := by
        show zft f s k + (if s / 2 ^ k % 2 = 1 then 2 * f k else 0) = _
        rw [if_pos hbt]
      rw [if_pos hbt, if_neg (by decide)]
      refine yes.ret ⟨W.2.2.2.1 0 - (k + 1), by omega, k + 1, rfl, by omega, rfl, m1.trans (mro.A _ _ (Or.inr rfl)), ?_, fun i hi => ?_, fun i => ?_⟩
      · have : (mx_A my 50 s (nI (zft f s k) + 2 * nI (f k))).2.2.1 50 s = nI (zft f s k) + 2 * nI (f k) := by simp [mx_A]
        rw [this, ez, show (2 : Int32) = nI 2 from rfl, pk_mul, nI_add]
      · have : (mx_A my 50 s (nI (zft f s k) + 2 * nI (f k))).2.2.1 50 i = my.2.2.1 50 i := by simp [mx_A, hi]
        rw [this]; exact c2 i hi
      · rw [mxA_o _ _ _ (by decide)]; exact c3 i
    · have ez : zft f s (k + 1) = zft f s k := by
        show zft f s k + (if s / 2 ^ k % 2 = 1 then 2 * f k else 0) = _
        rw [if_neg hbt]; rfl
      rw [if_neg hbt, if_pos rfl, Int32.add_zero]
      refine yes.ret ⟨W.2.2.2.1 0 - (k + 1), by omega, k + 1, rfl, by omega, rfl, m1.trans (mro.A _ _ (Or.inr rfl)), ?_, fun i hi => ?_, fun i => ?_⟩
      · have : (mx_A my 50 s (nI (zft f s k))).2.2.1 50 s = nI (zft f s k) := by simp [mx_A]
        rw [this, ez]
      · have : (mx_A my 50 s (nI (zft f s k))).2.2.1 50 i = my.2.2.1 50 i := by simp [mx_A, hi]
        rw [this]; exact c2 i hi
      · rw [mxA_o _ _ _ (by decide)]; exact c3 i
  · have hke : k = W.2.2.2.1 0 := by omega
    subst hke
    have i448 : hx_in (nI s) 448 = true := pl_in (by omega) (by decide)
    have cs : (nI s).toNatClampNeg = s := pl_cl (by omega)
    rw [if_pos (nI_le (Nat.le_refl _) (by omega))]
    have fin : ∀ v : Int32, v = nI (if s = 0 then 0 else 100000000) → yes ((some (Sum.inl (nI s + (1 : Int32), mx_A my 49 s v)) : Option ((Int32 × mx_S) ⊕ (Int32 × mx_S))).map (Sum.inr (α := Int32 × mx_S))) (yes_st (fun s' => ∃ m, m < W.2.2.2.1 0 - W.2.2.2.1 0 ∧ ∃ k, m = W.2.2.2.1 0 - k ∧ k ≤ W.2.2.2.1 0 ∧ s'.1 = nI k ∧ mro w45 ms s'.2 ∧ s'.2.2.2.1 50 s = nI (zft f s k) ∧ (∀ i, i ≠ s → s'.2.2.2.1 50 i = mx.2.2.1 50 i) ∧ ∀ i, s'.2.2.2.1 49 i = mx.2.2.1 49 i) (fun r => ∃ m', r = .inl (nI (s + 1), m') ∧ mro w45 ms m' ∧ m'.2.2.1 50 s = nI (zft f s (W.2.2.2.1 0)) ∧ m'.2.2.1 49 s = nI (if s = 0 then 0 else 100000000) ∧ (∀ i, i ≠ s → m'.2.2.1 50 i = mx.2.2.1 50 i ∧ m'.2.2.1 49 i = mx.2.2.1 49 i))) := by
      intro v hv
      rw [nI_1]
      refine yes.ret ⟨_, rfl, m1.trans (mro.A _ _ (Or.inl rfl)), by rw [mxA_o _ _ _ (by decide)]; exact c1, ?_, fun i hi => ⟨by rw [mxA_o _ _ _ (by decide)]; exact c2 i hi, ?_⟩⟩
      · have : (mx_A my 49 s v).2.2.1 49 s = v := by simp [mx_A]
        rw [this, hv]
      · have : (mx_A my 49 s v).2.2.1 49 i = my.2.2.1 49 i := by simp [mx_A, hi]
        rw [this]; exact c3 i
    unfold m_walk_b108
    rw [if_pos i448, if_pos i448, cs]
    by_cases e : s = 0
    · rw [if_pos (show nI s = 0 by rw [e]; rfl)]
      exact fin 0 (by rw [if_pos e]; rfl)
    · rw [if_neg (show ¬ nI s = 0 from fun q => e ((nI_eq (by omega) (by decide)).mp (show nI s = nI 0 from q)))]
      exact fin 100000000 (by rw [if_neg e]; rfl)
/-- one set, one usher more -/
theorem ml_part {F P : Nat → Nat} (hF : ∀ s, F s ≤ 100000) (hP : ∀ s, P s ≤ 100000000) {s n : Nat} (hs : s < 64) (hn : n < 6) (h1 : ∀ i, i < 64 → mx.2.2.1 50 i = nI (F i)) (h2 : ∀ i, i < 64 → mx.2.2.1 49 (64 * n + i) = nI (P i)) (x1 x2 : Int32) :
    hx_wh (m_walk_s168 x1 x2 (nI (n + 1)) (nI s) mx) hx_FU (nI (P s), nI s) = m_walk_b248 x1 x2 (nI (n + 1)) (nI s) (nI (zwk (fun p => max (F p) (P (s &&& (63 - p)))) s 64 s (P s))) mx := by
  have key : ∀ (d p acc m F' : Nat), p ≤ d → p ≤ s → p ≤ m → acc ≤ 100000000 → d < F' → zwk (fun p => max (F p) (P (s &&& (63 - p)))) s m p acc = zwk (fun p => max (F p) (P (s &&& (63 - p)))) s 64 s (P s) → hx_wh (m_walk_s168 x1 x2 (nI (n + 1)) (nI s) mx) F' (nI acc, nI p) = m_walk_b248 x1 x2 (nI (n + 1)) (nI s) (nI (zwk (fun p => max (F p) (P (s &&& (63 - p)))) s 64 s (P s))) mx := by
    intro d
    induction d with
    | zero =>
      intro p acc m F' hpd hps hpm ha hF' hz
      have : p = 0 := by omega
      subst this
      obtain ⟨F', rfl⟩ : ∃ k, F' = k + 1 := ⟨F' - 1, by omega⟩
      rw [zwk_0] at hz
      rw [← hz]
      have e : m_walk_s168 x1 x2 (nI (n + 1)) (nI s) mx (nI acc, nI 0) = (m_walk_b248 x1 x2 (nI (n + 1)) (nI s) (nI acc) mx).map .inr := by
        unfold m_walk_s168
        rw [if_pos (show nI 0 ≤ 0 by decide)]
      cases hb : m_walk_b248 x1 x2 (nI (n + 1)) (nI s) (nI acc) mx with
      | none => rw [hb] at e; exact wh_none F' e
      | some r => rw [hb] at e; exact wh_inr F' e
    | succ d ih =>
      intro p acc m F' hpd hps hpm ha hF' hz
      by_cases hp0 : p = 0
      · exact ih p acc m F' (by omega) hps hpm ha (by omega) hz
      obtain ⟨F', rfl⟩ : ∃ k, F' = k + 1 := ⟨F' - 1, by omega⟩
      obtain ⟨m, rfl⟩ : ∃ m', m = m' + 1 := ⟨m - 1, by omega⟩
      rw [zwk_s hp0] at hz
      have hal : (s &&& (63 - p)) ≤ s := Nat.and_le_left
      have hp1 : (p - 1) &&& s ≤ p - 1 := Nat.and_le_left
      have b1 := hF p
      have b3 := hP (s &&& (63 - p))
      have e : m_walk_s168 x1 x2 (nI (n + 1)) (nI s) mx (nI acc, nI p) = some (.inl (nI (min acc (max (F p) (P (s &&& (63 - p))))), nI ((p - 1) &&& s))) := by
        unfold m_walk_s168 m_walk_b218 m_walk_b234
        simp only
        have ix : (64 : Int32) * (nI (n + 1) - (1 : Int32)) + nI (s &&& (63 - p)) = nI (64 * n + (s &&& (63 - p))) := by
          rw [show nI (n + 1) - (1 : Int32) = nI n from pk_sub (b := 1) (by omega), show (64 : Int32) = nI 64 from rfl, pk_mul, nI_add]
        have i64 : hx_in (nI p) 64 = true := pl_in (by omega) (by decide)
        rw [if_neg (show ¬ nI p ≤ 0 from nI_ge (a := 0) (by omega) (by omega)), and_63 s hs p (by omega), ix, if_pos (pl_in (by omega) (by decide)), if_pos i64, if_pos i64, pl_cl (by omega), pl_cl (by omega), h1 p (by omega), h2 _ (by omega), (and_p1 s hs p (by omega)).resolve_left hp0]
        by_cases q : P (s &&& (63 - p)) ≤ F p
        · rw [if_pos (nI_le q (by omega)), Nat.max_eq_left q]
          by_cases q2 : acc ≤ F p
          · rw [if_pos (nI_le q2 (by omega)), Nat.min_eq_left q2]
          · rw [if_neg (nI_ge (by omega) (by omega)), Nat.min_eq_right (by omega)]
        · rw [if_neg (nI_ge (by omega) (by omega)), Nat.max_eq_right (by omega)]
          by_cases q2 : acc ≤ P (s &&& (63 - p))
          · rw [if_pos (nI_le q2 (by omega)), Nat.min_eq_left q2]
          · rw [if_neg (nI_ge (by omega) (by omega)), Nat.min_eq_right (by omega)]
      rw [wh_inl F' e]
      exact ih _ _ m F' (by omega) (by omega) (by omega) (by omega) (by omega) hz
  have := hx_FU_ge
  exact key 64 s (P s) 64 hx_FU (by omega) (Nat.le_refl _) (by omega) (hP s) (by omega) rfl
/-- the reference's answer -/
theorem ml_walk (P : MP ms W bk) (h6 : W.2.2.2.1 0 ≤ 6) (hf : ∀ k, k < W.2.2.2.1 0 → W.2.1 25 k 4 = nI (f k) ∧ f k ≤ 99) {x u : Nat} (hx64 : x < 64) (hu1 : 1 ≤ u) (hu6 : u ≤ 6) :
    yes (hx_wh (m_walk_s33 (nI x) (nI u)) hx_FU ((0 : Int32), ms)) (fun r => r.1 = nI (zMn (fun s => zft f s (W.2.2.2.1 0)) u x) ∧ mro w45 ms r.2) := by
  have hF : ∀ s, zft f s (W.2.2.2.1 0) ≤ 100000 := fun s => by
    have := zft_le (f := f) (s := s) (W.2.2.2.1 0) (fun k hk => (hf k hk).2)
    omega
  -- all ushers
  have rounds : ∀ (mx : mx_S), mro w45 ms mx → (∀ i, i < 64 → mx.2.2.1 50 i = nI (zft f i (W.2.2.2.1 0)) ∧ mx.2.2.1 49 i = nI (zMn (fun s => zft f s (W.2.2.2.1 0)) 0 i)) → yes (m_walk_b131 (nI x) (nI u) mx) (fun r => r.1 = nI (zMn (fun s => zft f s (W.2.2.2.1 0)) u x) ∧ mro w45 ms r.2) := by
    intro mx m c
    unfold m_walk_b131
    refine yes.wh (I := fun d st => ∃ n, d = u - n ∧ n ≤ u ∧ st.1 = nI (n + 1) ∧ mro w45 ms st.2 ∧ (∀ i, i < 64 → st.2.2.2.1 50 i = nI (zft f i (W.2.2.2.1 0)) ∧ st.2.2.2.1 49 (64 * n + i) = nI (zMn (fun s => zft f s (W.2.2.2.1 0)) n i))) (n := u) ⟨0, by omega, by omega, rfl, m, fun i hi => ⟨(c i hi).1, by rw [show 64 * 0 + i = i by omega]; exact (c i hi).2⟩⟩ (by omega) ?_
    rintro d ⟨q, my⟩ ⟨n, rfl, hn, e, m1, d1⟩
    simp only at e m1 d1
    subst e
    unfold m_walk_s133
    simp only
    by_cases hlt : n < u
    · rw [if_neg (nI_nlt (by omega) (by omega))]
      have inner : yes (hx_wh (m_walk_s141 (nI x) (nI u) (nI (n + 1))) hx_FU ((0 : Int32), my)) (fun r => ∃ m', r = .inl (nI (n + 2), m') ∧ mro w45 ms m' ∧ ∀ i, i < 64 → m'.2.2.1 50 i = nI (zft f i (W.2.2.2.1 0)) ∧ m'.2.2.1 49 (64 * (n + 1) + i) = nI (zMn (fun s => zft f s (W.2.2.2.1 0)) (n + 1) i)) := by
        refine yes.wh (I := fun d st => ∃ s, d = 64 - s ∧ s ≤ 64 ∧ st.1 = nI s ∧ mro w45 ms st.2 ∧ (∀ i, i < 64 → st.2.2.2.1 50 i = nI (zft f i (W.2.2.2.1 0)) ∧ st.2.2.2.1 49 (64 * n + i) = nI (zMn (fun s => zft f s (W.2.2.2.1 0)) n i)) ∧ ∀ i, i < s → st.2.2.2.1 49 (64 * (n + 1) + i) = nI (zMn (fun s => zft f s (W.2.2.2.1 0)) (n + 1) i)) (n := 64) ⟨0, rfl, by decide, rfl, m1, d1, fun i hi => by omega⟩ (by decide) ?_
        rintro d ⟨q, mz⟩ ⟨s, rfl, hs, e, m2, f1, f2⟩
        simp only at e m2 f1 f2
        subst e
        unfold m_walk_s141
        simp only
        by_cases h64 : s = 64
        · subst h64
          rw [if_pos (show (64 : Int32) ≤ nI 64 by decide), show nI (n + 1) + (1 : Int32) = nI (n + 2) from nI_1 _]
          exact yes.ret ⟨mz, rfl, m2, fun i hi => ⟨(f1 i hi).1, f2 i hi⟩⟩
        · have ix : (64 : Int32) * (nI (n + 1) - (1 : Int32)) + nI s = nI (64 * n + s) := by
            rw [show nI (n + 1) - (1 : Int32) = nI n from pk_sub (b := 1) (by omega), show (64 : Int32) = nI 64 from rfl, pk_mul, nI_add]
          have ix2 : (64 : Int32) * nI (n + 1) + nI s = nI (64 * (n + 1) + s) := by
            rw [show (64 : Int32) = nI 64 from rfl, pk_mul, nI_add]
          rw [if_neg (show ¬ (64 : Int32) ≤ nI s from nI_ge (b := 64) (by omega) (by decide)), ix, if_pos (pl_in (by omega) (by decide)), pl_cl (by omega), (f1 s (by omega)).2, ml_part hF (fun s => zMn_le n) (by omega) (by omega) (fun i hi => (f1 i hi).1) (fun i hi => (f1 i hi).2)]
          unfold m_walk_b248
          rw [ix2, if_pos (pl_in (by omega) (by decide)), pl_cl (by omega), nI_1]
          refine yes.ret ⟨64 - (s + 1), by omega, s + 1, rfl, by omega, rfl, m2.trans (mro.A _ _ (Or.inl rfl)), fun i hi => ⟨by rw [mxA_o _ _ _ (by decide)]; exact (f1 i hi).1, ?_⟩, fun i hi => ?_⟩
          · have : (mx_A mz 49 (64 * (n + 1) + s) (nI (zwk (fun p => max (zft f p (W.2.2.2.1 0)) (zMn (fun s => zft f s (W.2.2.2.1 0)) n (s &&& (63 - p)))) s 64 s (zMn (fun s => zft f s (W.2.2.2.1 0)) n s)))).2.2.1 49 (64 * n + i) = mz.2.2.1 49 (64 * n + i) := by
              have hne : 64 * n + i ≠ 64 * (n + 1) + s := by omega
              simp [mx_A, hne]
            rw [this]; exact (f1 i hi).2
          · by_cases e : i = s
            · subst e
              simp [mx_A]
              rfl
            · have : (mx_A mz 49 (64 * (n + 1) + s) (nI (zwk (fun p => max (zft f p (W.2.2.2.1 0)) (zMn (fun s => zft f s (W.2.2.2.1 0)) n (s &&& (63 - p)))) s 64 s (zMn (fun s => zft f s (W.2.2.2.1 0)) n s)))).2.2.1 49 (64 * (n + 1) + i) = mz.2.2.1 49 (64 * (n + 1) + i) := by
                simp [mx_A, e]
              rw [this]; exact f2 i (by omega)
      obtain ⟨r, w1, m', rfl, w2, w3⟩ := inner
      rw [w1]
      exact yes.ret ⟨u - (n + 1), by omega, n + 1, rfl, by omega, rfl, w2, w3⟩
    · have hne : n = u := by omega
      subst hne
      rw [if_pos (nI_lt (by omega) (by omega))]
      unfold m_walk_b274
      have ix2 : (64 : Int32) * nI n + nI x = nI (64 * n + x) := by
        rw [show (64 : Int32) = nI 64 from rfl, pk_mul, nI_add]
      rw [ix2, if_pos (pl_in (by omega) (by decide)), pl_cl (by omega), (d1 x hx64).2]
      exact yes.ret ⟨rfl, m1⟩
  refine yes.wh (I := fun d st => ∃ s, d = 64 - s ∧ s ≤ 64 ∧ st.1 = nI s ∧ mro w45 ms st.2 ∧ (∀ i, i < s → st.2.2.2.1 50 i = nI (zft f i (W.2.2.2.1 0)) ∧ st.2.2.2.1 49 i = nI (zMn (fun s => zft f s (W.2.2.2.1 0)) 0 i))) (n := 64) ⟨0, rfl, by decide, rfl, mro.refl _ _, fun i hi => by omega⟩ (by decide) ?_
  rintro d ⟨q, my⟩ ⟨s, rfl, hs, e, m1, d1⟩
  simp only at e m1 d1
  subst e
  unfold m_walk_s33
  simp only
  by_cases h64 : s = 64
  · subst h64
    rw [if_pos (show (64 : Int32) ≤ nI 64 by decide)]
    obtain ⟨r, w1, w2⟩ := rounds my m1 d1
    rw [w1]
    exact yes.ret w2
  · rw [if_neg (show ¬ (64 : Int32) ≤ nI s from nI_ge (b := 64) (by omega) (by decide)), if_pos (pl_in (by omega) (by decide)), pl_cl (by omega)]
    obtain ⟨r, w1, m', rfl, w2, w3, w4, w5⟩ := ml_far P h6 hf (m1.trans (mro.A my (i := s) 0 (Or.inr rfl))) (s := s) (by omega) (by simp [mx_A]) (nI x) (nI u)
    rw [w1]
    refine yes.ret ⟨64 - (s + 1), by omega, s + 1, rfl, by omega, rfl, w2, fun i hi => ?_⟩
    by_cases e : i = s
    · subst e
      exact ⟨w3, w4⟩
    · rw [(w5 i e).1, (w5 i e).2, mxA_o _ _ _ (show 49 ≠ 50 by decide)]
      have : (mx_A my 50 s 0).2.2.1 50 i = my.2.2.1 50 i := by simp [mx_A, e]
      rw [this]
      exact d1 i (by omega)
theorem op_walk (S : SIM V h W T G gt ms bk lk my L As) (hr : RM V h W T) (x y : Int32) : OP V h W T G (c_X0_walk V (W.1 0 0) x y h) (m_walk x y ms) := by
  have S' := S
  obtain ⟨C, gl, G0, E, Z, h13, Zt, ⟨P, R, M, Em, O⟩, hb, A⟩ := S
  have h6 := Z.1.1
  have hbk := P.1
  obtain ⟨s1, s2⟩ := sh_6 (W.2.2.2.1 0) h6
  have p64 : 2 ^ W.2.2.2.1 0 ≤ 64 := Nat.pow_le_pow_right (by decide) h6
  have p1 : 1 ≤ 2 ^ W.2.2.2.1 0 := Nat.one_le_two_pow
  unfold c_X0_walk m_walk
  rw [C.x_park, Option.bind_some, Option.bind_some, C.z_beasts, Option.bind_some, Option.bind_some, if_pos C.k_beasts, C.sizeB Z.1, Option.bind_some, s1, show nI (2 ^ W.2.2.2.1 0) - (1 : Int32) = nI (2 ^ W.2.2.2.1 0 - 1) from pk_sub (b := 1) p1, show (0 : Int64) = (0 : Int32).toInt64 from rfl, show (1 : Int64) = (1 : Int32).toInt64 from rfl, show (6 : Int64) = (6 : Int32).toInt64 from rfl, c_isIn_z, Option.bind_some, c_isIn_z, Option.bind_some, P.2.1, if_pos (pl_in hbk (by decide)), pl_cl (by omega), P.2.2.1, s1, m_is_z, Option.bind_some]
  by_cases hx0 : x < 0
  · rw [if_pos hx0, if_pos (show zin x 0 (nI (2 ^ W.2.2.2.1 0 - 1)) = 0 by unfold zin; rw [if_pos hx0])]
    exact OP.same S' (-1)
  · obtain ⟨k, hk, rfl⟩ := nI_of hx0
    rw [if_neg hx0]
    by_cases hk2 : k < 2 ^ W.2.2.2.1 0
    · rw [if_neg (show ¬ zin (nI k) 0 (nI (2 ^ W.2.2.2.1 0 - 1)) = 0 by unfold zin; rw [if_neg hx0, if_neg (nI_nlt (by omega) (by omega))]; decide), if_neg (nI_ge hk2 (by omega))]
      by_cases hz : zin y 1 6 = 0
      · rw [if_pos hz, if_pos hz]
        exact OP.same S' (-1)
      · obtain ⟨u, hu1, hu6, rfl⟩ := zin_is (a := 1) (b := 6) hz (by decide) (by decide)
        rw [if_neg hz, if_neg hz, nI_1]
        obtain ⟨hr1, hr2⟩ := hr
        rw [p_na (n := k + 1) 100 (.int 0) (by omega) (by omega) (by omega), Option.bind_some]
        have pu1 : (hx_push h (k + 1) (100, k + 1, fun _ => .int 0)).1 = h.1 + 1 := rfl
        have pu2 : (hx_push h (k + 1) (100, k + 1, fun _ => .int 0)).2.1 = h.2.1 + (k + 1) := rfl
        rw [p_na (h := hx_push h (k + 1) (100, k + 1, fun _ => .int 0)) (n := k + 1) 100 (.int 0) (by rw [pu1]; omega) (by rw [pu2]; omega) (by omega), Option.bind_some]
        obtain ⟨f, hf⟩ : ∃ f : Nat → Nat, ∀ j, j < W.2.2.2.1 0 → W.2.1 25 j 4 = nI (f j) ∧ f j ≤ 99 := ⟨fun j => (W.2.1 25 j 4).toNatClampNeg, fun j hj => by
          obtain ⟨n, n1, n2⟩ := (Z.2.2.2.2.2 j hj).2.2
          show W.2.1 25 j 4 = nI (W.2.1 25 j 4).toNatClampNeg ∧ (W.2.1 25 j 4).toNatClampNeg ≤ 99
          rw [n2, pl_cl (by omega)]
          exact ⟨rfl, n1⟩⟩
        have none_ : ∀ q, h.1 ≤ q → G q = none := fun q hq => by
          cases e : G q with
          | none => rfl
          | some c => exact absurd (C.fro e).2 (by omega)
        have CA := (C.push (k + 1) (100, k + 1, fun _ => .int 0)).push (k + 1) (100, k + 1, fun _ => .int 0)
        have K : WK V h W T G h.1 (h.1 + 1) (k + 1) (hx_push (hx_push h (k + 1) (100, k + 1, fun _ => .int 0)) (k + 1) (100, k + 1, fun _ => .int 0)) (fun _ => .int 0) (fun _ => .int 0) := by
          refine ⟨_, CA, fun q c hq => ?_, ?_, ?_, rfl, ?_⟩
          · have hq1 := (C.fro hq).2
            show (if q = h.1 + 1 then _ else if q = h.1 then _ else G q) = some c
            rw [if_neg (by omega), if_neg (by omega)]
            exact hq
          · show (if h.1 = h.1 + 1 then _ else if h.1 = h.1 then _ else G h.1) = _
            rw [if_neg (by omega), if_pos rfl]
          · show (if h.1 + 1 = h.1 + 1 then _ else _) = _
            rw [if_pos rfl]
          · show h.2.1 + (k + 1) + (k + 1) = _
            omega
        obtain ⟨⟨r, h'⟩, w1, w2, G', w3, w4, w5, w6⟩ := C.walkC Z hf (x := k) (u := u) (by omega) hu1 hu6 rfl K
        obtain ⟨⟨r', ms'⟩, v1, v2, v3⟩ := ml_walk (ms := ms) (f := f) P h6 hf (x := k) (u := u) (by omega) hu1 hu6
        simp only at w2 w3 w5 w6 v2 v3
        have e : r' = r := by
          obtain ⟨u, rfl⟩ : ∃ u', u = u' + 1 := ⟨u - 1, by omega⟩
          rw [v2, w2, zMW (F := fun s => zft f s (W.2.2.2.1 0)) (zft_0 f _) (fun s => by
            show zft f s (W.2.2.2.1 0) ≤ 100000
            have := zft_le (f := f) (s := s) (W.2.2.2.1 0) (fun k hk => (hf k hk).2)
            omega) u k (by omega)]
          rfl
        subst e
        rw [(show hx_wh (c_X0_walk_s54 V (W.1 0 0) (nI k) (nI u) (some h.1) (some (hx_push h (k + 1) (100, k + 1, fun _ => .int 0)).1)) hx_FU ((0 : Int32), hx_push (hx_push h (k + 1) (100, k + 1, fun _ => .int 0)) (k + 1) (100, k + 1, fun _ => .int 0)) = _ from w1), v1]
        exact ⟨r', h', ms', W, T, G', gt, bk, lk, my, L, As, rfl, rfl, S'.mro w3 w4 v3 (fun a ha => by unfold w45 at ha; omega), rfl, w4, by omega, by omega, by omega⟩
    · rw [if_pos (show zin (nI k) 0 (nI (2 ^ W.2.2.2.1 0 - 1)) = 0 by unfold zin; rw [if_neg hx0, if_pos (nI_lt (by omega) (by omega))]), if_pos (nI_le (by omega) (by omega))]
      exact OP.same S' (-1)
end W3

/-! PURE SIDE: the call tell; pairs on the tape -/
set_option maxRecDepth 100000
theorem zfirst (P : Nat → Prop) (m : Nat) : (∀ j, j < m → P j) ∨ ∃ j, j < m ∧ ¬ P j ∧ ∀ i, i < j → P i := by
  induction m with
  | zero => exact Or.inl (fun j hj => by omega)
  | succ m ih =>
    rcases ih with h | ⟨j, h1, h2, h3⟩
    · by_cases hm : P m
      · exact Or.inl (fun j hj => by
          by_cases e : j = m
          · subst e; exact hm
          · exact h j (by omega))
      · exact Or.inr ⟨m, by omega, hm, h⟩
    · exact Or.inr ⟨j, by omega, h2, h3⟩
theorem wh_pairs {P : Nat → Prop} {m : Nat} {step : Int32 → Option (Int32 ⊕ Int32)} (h1 : ∀ j, j < m → P j → step (nI (2 * j)) = some (.inl (nI (2 * (j + 1))))) (h2 : ∀ j, j < m → ¬ P j → step (nI (2 * j)) = some (.inr 0)) (h3 : step (nI (2 * m)) = some (.inr 1)) (hm : m < 1000) :
    ((∀ j, j < m → P j) → hx_wh step hx_FU (0 : Int32) = some 1) ∧ ((∃ j, j < m ∧ ¬ P j) → hx_wh step hx_FU (0 : Int32) = some 0) := by
  constructor
  · intro h
    exact pl_loop (fun j => nI (2 * j)) m (some 1) (fun j hj => h1 j hj (h j hj)) h3 (by omega)
  · intro h
    rcases zfirst P m with q | ⟨j, q1, q2, q3⟩
    · obtain ⟨j, e1, e2⟩ := h; exact absurd (q j e1) e2
    · exact pl_loop (fun j => nI (2 * j)) j (some 0) (fun i hi => h1 i (by omega) (q3 i hi)) (h2 j q1 q2) (by omega)
theorem wh_pairs2 {τ : Type} {P : Nat → Prop} {m : Nat} {t : Int32 → Option τ} {step : Int32 × Int32 → Option ((Int32 × Int32) ⊕ τ)} (h1 : ∀ j, j < m → P j → step (1, nI (2 * j)) = some (.inl (1, nI (2 * (j + 1))))) (h2 : ∀ j, j < m → ¬ P j → step (1, nI (2 * j)) = some (.inl (0, nI (2 * (j + 1))))) (h3 : step (1, nI (2 * m)) = (t 1).map .inr) (h4 : ∀ x, step (0, x) = (t 0).map .inr) (hm : m < 1000) :
    ((∀ j, j < m → P j) → hx_wh step hx_FU (1, (0 : Int32)) = t 1) ∧ ((∃ j, j < m ∧ ¬ P j) → hx_wh step hx_FU (1, (0 : Int32)) = t 0) := by
  constructor
  · intro h
    exact pl_loop (fun j => (1, nI (2 * j))) m (t 1) (fun j hj => h1 j hj (h j hj)) h3 (by omega)
  · intro h
    rcases zfirst P m with q | ⟨j, q1, q2, q3⟩
    · obtain ⟨j, e1, e2⟩ := h; exact absurd (q j e1) e2
    · refine pl_loop (fun i => if i ≤ j then ((1 : Int32), nI (2 * i)) else (0, nI (2 * i))) (j + 1) (t 0) (fun i hi => ?_) ?_ (by omega)
      · rw [if_pos (by omega)]
        by_cases e : i = j
        · subst e
          rw [if_neg (by omega)]; exact h2 i q1 q2
        · rw [if_pos (by omega)]; exact h1 i (by omega) (q3 i (by omega))
      · rw [if_neg (by omega)]; exact h4 _
theorem wh_now {σ τ : Type} {step : σ → Option (σ ⊕ τ)} {s : σ} {t : Option τ} (e : step s = t.map .inr) : hx_wh step hx_FU s = t :=
  pl_loop (fun _ => s) 0 t (fun j hj => by omega) e (by decide)
section TL
variable {V : hx_V} {h : hx_S} {W X T : zW} {G gt : Nat → Option hx_C} {ms : mx_S} {bk : Nat} {lk my : zL} {L : List (Nat → Int32)} {As : List zU}
/-- the tape is empty -/
theorem SIM.untape (S : SIM V h W T G gt ms bk lk my L As) : ∃ h', hp V h (W.1 0 0) [0] 1 (.int (0 : Int32)) = some h' ∧ SIM V h' (zA W 0 0 1 0) T G gt (mx_F ms 1 0) bk lk my L As ∧ h'.1 = h.1 ∧ h'.2.1 = h.2.1 := by
  obtain ⟨o1, o2, o3, o4, o5, o6, o7, o8⟩ := S.O
  obtain ⟨h2, e2, C2, r2, r2'⟩ := S.1.wx (i := 1) rfl 0
  refine ⟨h2, e2, S.reg C2 rfl rfl (w3_A (by decide) (by simp)) ⟨by simp [mx_F], by simp [mx_F], by simp [mx_F]⟩ (fun _ _ _ _ _ => rfl) ⟨⟨0, by decide, by simp [zA, zset]; rfl, by simp [mx_F]; rfl⟩, o2, o3, ?_, ?_, ?_, ?_, ?_⟩, r2, r2'⟩
  · simpa [mx_F, zA, zset] using o4
  · simpa [mx_F, zA, zset] using o5
  · exact o6
  · simpa [mx_F, zA, zset] using o7
  · simpa [mx_F, zA, zset] using o8
theorem OP.from {h2 : hx_S} {W2 : zW} {co : Option (Int32 × hx_S)} {mo : Option (Int32 × mx_S)} (O : OP V h2 W2 T G co mo) (e1 : h2.1 = h.1) (e2 : h2.2.1 = h.2.1) (e3 : W2.1 0 0 = W.1 0 0) (e4 : zpc W2 ≤ zpc W) (e5 : zps W2 ≤ zps W) : OP V h W T G co mo := by
  obtain ⟨r, h', ms', W', T', G', gt', bk', lk', my', L', As', a1, a2, a3, a4, a5, a6, a7, a8⟩ := O
  exact ⟨r, h', ms', W', T', G', gt', bk', lk', my', L', As', a1, a2, a3, a4.trans e3, a5, by omega, by omega, by omega⟩
theorem zpc_0 : zpc (zA W 0 0 1 0) = 0 ∧ zps (zA W 0 0 1 0) = 0 := by
  have : (zA W 0 0 1 0).2.1 0 0 1 = 0 := by simp [zA, zset]
  unfold zpc zps
  rw [this]
  exact ⟨rfl, rfl⟩
/-- pairs of guests on the tape -/
def zpr (W : zW) (a b : Nat) (j : Nat) : Prop := zof (W.2.2.2.1 a) (W.2.1 1 0 (2 * j)) ≠ none ∧ zof (W.2.2.2.1 b) (W.2.1 1 0 (2 * j + 1)) ≠ none
theorem CS.arePairs (C : CS V h W T G) (Z : ZI W) {m : Nat} (hm : m ≤ 16) :
    ((∀ j, j < m → zpr W 1 1 j ∧ W.2.1 1 0 (2 * j) ≠ W.2.1 1 0 (2 * j + 1)) → hx_wh (c_X0_arePairs_s22 V (W.1 0 0) (nI (2 * m)) h) hx_FU ((0 : Int32)) = some 1) ∧ ((∃ j, j < m ∧ ¬ (zpr W 1 1 j ∧ W.2.1 1 0 (2 * j) ≠ W.2.1 1 0 (2 * j + 1))) → hx_wh (c_X0_arePairs_s22 V (W.1 0 0) (nI (2 * m)) h) hx_FU ((0 : Int32)) = some 0) := by
  have key : ∀ j, j < m → c_X0_arePairs_s22 V (W.1 0 0) (nI (2 * m)) h (nI (2 * j)) = if zof (W.2.2.2.1 1) (W.2.1 1 0 (2 * j)) = none then some (.inr 0) else if zof (W.2.2.2.1 1) (W.2.1 1 0 (2 * j + 1)) = none then some (.inr 0) else if W.2.1 1 0 (2 * j) = W.2.1 1 0 (2 * j + 1) then some (.inr 0) else some (.inl (nI (2 * (j + 1)))) := by
    intro j hj
    unfold c_X0_arePairs_s22
    rw [if_neg (nI_ge (by omega) (by omega)), C.x_tape, Option.bind_some, Option.bind_some, C.tapeAt (by omega), Option.bind_some, if_pos C.k_x, C.guestOf Z.1, Option.bind_some, Option.bind_some, Option.bind_some, nI_1, C.tapeAt (by omega), Option.bind_some, if_pos C.k_x, C.guestOf Z.1, Option.bind_some, Option.bind_some, Option.bind_some, C.tapeAt (i := 2 * j) (by omega), Option.bind_some, Option.bind_some, Option.bind_some, C.tapeAt (i := 2 * j + 1) (by omega), Option.bind_some, show nI (2 * j) + (2 : Int32) = nI (2 * (j + 1)) from nI_add _ 2]
    cases zof (W.2.2.2.1 1) (W.2.1 1 0 (2 * j)) <;> cases zof (W.2.2.2.1 1) (W.2.1 1 0 (2 * j + 1)) <;> simp
  refine wh_pairs (fun j hj hp => ?_) (fun j hj hp => ?_) ?_ (by omega)
  · rw [key j hj, if_neg hp.1.1, if_neg hp.1.2, if_neg hp.2]
  · rw [key j hj]
    by_cases q1 : zof (W.2.2.2.1 1) (W.2.1 1 0 (2 * j)) = none
    · rw [if_pos q1]
    · rw [if_neg q1]
      by_cases q2 : zof (W.2.2.2.1 1) (W.2.1 1 0 (2 * j + 1)) = none
      · rw [if_pos q2]
      · rw [if_neg q2, if_pos]
        exact Classical.byContradiction fun q3 => hp ⟨⟨q1, q2⟩, q3⟩
  · unfold c_X0_arePairs_s22
    rw [if_pos (nI_le (Nat.le_refl _) (by omega))]
theorem ml_arePairs (P : MP ms W bk) (h8 : W.2.2.2.1 1 ≤ 8) (ht : ∀ i, i < 1600 → ms.2.2.1 0 i = W.2.1 1 0 i) {m : Nat} (hm : m ≤ 16) :
    ((∀ j, j < m → zpr W 1 1 j ∧ W.2.1 1 0 (2 * j) ≠ W.2.1 1 0 (2 * j + 1)) → m_tell_b31 (nI (2 * m)) 1 ms = m_tell_b100 (nI (2 * m)) 1 ms) ∧ ((∃ j, j < m ∧ ¬ (zpr W 1 1 j ∧ W.2.1 1 0 (2 * j) ≠ W.2.1 1 0 (2 * j + 1))) → m_tell_b31 (nI (2 * m)) 1 ms = m_tell_b100 (nI (2 * m)) 0 ms) := by
  have key : ∀ j, j < m → m_tell_s34 (nI (2 * m)) ms (1, nI (2 * j)) = if zof (W.2.2.2.1 1) (W.2.1 1 0 (2 * j)) = none then some (.inl (0, nI (2 * (j + 1)))) else if zof (W.2.2.2.1 1) (W.2.1 1 0 (2 * j + 1)) = none then some (.inl (0, nI (2 * (j + 1)))) else if W.2.1 1 0 (2 * j) = W.2.1 1 0 (2 * j + 1) then some (.inl (0, nI (2 * (j + 1)))) else some (.inl (1, nI (2 * (j + 1)))) := by
    intro j hj
    unfold m_tell_s34 m_tell_b92
    have i1 : hx_in (nI (2 * j)) 1800 = true := pl_in (by omega) (by decide)
    have i2 : hx_in (nI (2 * j + 1)) 1800 = true := pl_in (by omega) (by decide)
    simp only
    rw [if_neg (nI_ge (by omega) (by omega)), if_neg (by decide), nI_1]
    simp only [if_pos i1, if_pos i2]
    rw [pl_cl (by omega), pl_cl (by omega), ht _ (by omega), ht _ (by omega), ml_isGuest P h8, Option.bind_some, ml_isGuest P h8, Option.bind_some, show nI (2 * j) + (2 : Int32) = nI (2 * (j + 1)) from nI_add _ 2]
    cases zof (W.2.2.2.1 1) (W.2.1 1 0 (2 * j)) <;> cases zof (W.2.2.2.1 1) (W.2.1 1 0 (2 * j + 1)) <;> simp
  unfold m_tell_b31
  refine wh_pairs2 (t := fun c => m_tell_b100 (nI (2 * m)) c ms) (fun j hj hp => ?_) (fun j hj hp => ?_) ?_ (fun x => ?_) (by omega)
  · rw [key j hj, if_neg hp.1.1, if_neg hp.1.2, if_neg hp.2]
  · rw [key j hj]
    by_cases q1 : zof (W.2.2.2.1 1) (W.2.1 1 0 (2 * j)) = none
    · rw [if_pos q1]
    · rw [if_neg q1]
      by_cases q2 : zof (W.2.2.2.1 1) (W.2.1 1 0 (2 * j + 1)) = none
      · rw [if_pos q2]
      · rw [if_neg q2, if_pos]
        exact Classical.byContradiction fun q3 => hp ⟨⟨q1, q2⟩, q3⟩
  · unfold m_tell_s34
    rw [if_pos (nI_le (Nat.le_refl _) (by omega))]
  · unfold m_tell_s34
    simp only
    split
    · rfl
    · rw [if_pos trivial]
/-- rows are laid from the tape -/
theorem CS.tellRows (C : CS V h W T G) {m : Nat} (hm : m ≤ 16) : yes (hx_wh (c_X0_tell_s26 V (W.1 0 0) (nI (2 * m))) hx_FU ((0 : Int32), h)) (fun r => r.1 = nI m ∧ ∃ X, CS V r.2 X T G ∧ X.1 = W.1 ∧ X.2.2 = W.2.2 ∧ X.2.1 0 0 18 = nI m ∧ (∀ i, i < 2 * m → X.2.1 14 0 i = W.2.1 1 0 i) ∧ (∀ k j i, k ≠ 14 → ¬ (k = 0 ∧ i = 18) → X.2.1 k j i = W.2.1 k j i) ∧ r.2.1 = h.1 ∧ r.2.2.1 = h.2.1) := by
  refine yes.wh (I := fun n s => ∃ j X, n = 2 * m - j ∧ j ≤ 2 * m ∧ s.1 = nI j ∧ CS V s.2 X T G ∧ X.1 = W.1 ∧ X.2.2 = W.2.2 ∧ (∀ i, i < j → X.2.1 14 0 i = W.2.1 1 0 i) ∧ (∀ k j i, k ≠ 14 → X.2.1 k j i = W.2.1 k j i) ∧ s.2.1 = h.1 ∧ s.2.2.1 = h.2.1) (n := 2 * m) ⟨0, W, by omega, by omega, rfl, C, rfl, rfl, fun i hi => by omega, fun _ _ _ _ => rfl, rfl, rfl⟩ (by omega) ?_
  rintro n ⟨x, hx⟩ ⟨j, X, rfl, hj, e1, D, x0, x2, x3, x4, q1, q2⟩
  simp only at e1 D q1 q2
  subst e1
  have k17 := D.x_rows
  have k0 := D.x_tape
  rw [x0] at k17 k0
  unfold c_X0_tell_s26
  simp only
  by_cases hlt : j < 2 * m
  · have kt := D.tapeAt (i := j) (by omega)
    rw [x0, x4 1 0 j (by decide)] at kt
    obtain ⟨h2, e2, C2, r2, r2'⟩ := D.wrows (i := j) (by omega) (W.2.1 1 0 j)
    rw [x0] at e2
    rw [if_neg (nI_ge hlt (by omega)), k17, Option.bind_some, k0, Option.bind_some, Option.bind_some, kt, Option.bind_some, Option.bind_some, e2, Option.bind_some]
    refine yes.ret ⟨2 * m - (j + 1), by omega, j + 1, _, rfl, by omega, nI_1 j, C2, x0, x2, fun i hi => ?_, fun k' j' i' hk' => ?_, by dsimp only; omega, by dsimp only; omega⟩
    · show (if 14 = 14 ∧ 0 = 0 ∧ i = j then W.2.1 1 0 j else X.2.1 14 0 i) = _
      by_cases e : i = j
      · rw [if_pos ⟨rfl, rfl, e⟩, e]
      · rw [if_neg (fun q => e q.2.2)]; exact x3 i (by omega)
    · show (if k' = 14 ∧ j' = 0 ∧ i' = j then W.2.1 1 0 j else X.2.1 k' j' i') = _
      rw [if_neg (fun q => hk' q.1)]; exact x4 k' j' i' hk'
  · have hje : j = 2 * m := by omega
    subst hje
    rw [if_pos (nI_le (Nat.le_refl _) (by omega))]
    unfold c_X0_tell_b49
    have dv : nI (2 * m) / (2 : Int32) = nI m := by rw [show (2 : Int32) = nI 2 from rfl, pk_div (by omega) (by decide) (by decide), show 2 * m / 2 = m by omega]
    obtain ⟨h2, e2, C2, r2, r2'⟩ := D.wx (i := 18) rfl (nI m)
    have k18 := C2.x_rowMany
    rw [x0] at e2
    rw [show (zA X 0 0 18 (nI m)).1 = X.1 from rfl, x0, show (zA X 0 0 18 (nI m)).2.1 0 0 18 = nI m by simp [zA, zset]] at k18
    rw [dv, e2, Option.bind_some, k18, Option.bind_some, Option.map_some]
    refine yes.ret ⟨rfl, _, C2, x0, x2, by simp [zA, zset], fun i hi => ?_, fun k' j' i' hk' hk2 => ?_, by dsimp only; omega, by dsimp only; omega⟩
    · show (if 14 = 0 ∧ 0 = 0 ∧ i = 18 then nI m else X.2.1 14 0 i) = _
      rw [if_neg (fun q => absurd q.1 (by decide))]; exact x3 i hi
    · show (if k' = 0 ∧ j' = 0 ∧ i' = 18 then nI m else X.2.1 k' j' i') = _
      rw [if_neg (fun q => hk2 ⟨q.1, q.2.2⟩)]; exact x4 k' j' i' hk'
theorem ml_tellRows {m : Nat} (hm : m ≤ 16) (e65 : ms.1 65 = nI m) : yes (hx_wh m_tell_s119 hx_FU ((0 : Int32), ms)) (fun r => r.1 = nI m ∧ r.2.1 = ms.1 ∧ r.2.2.1 = ms.2.1 ∧ r.2.2.2.2 = ms.2.2.2 ∧ (∀ a i, a ≠ 42 → a ≠ 43 → r.2.2.2.1 a i = ms.2.2.1 a i) ∧ ∀ i, i < m → r.2.2.2.1 42 i = ms.2.2.1 0 (2 * i) ∧ r.2.2.2.1 43 i = ms.2.2.1 0 (2 * i + 1)) := by
  refine yes.wh (I := fun n s => ∃ j, n = m - j ∧ j ≤ m ∧ s.1 = nI j ∧ s.2.1 = ms.1 ∧ s.2.2.1 = ms.2.1 ∧ s.2.2.2.2 = ms.2.2.2 ∧ (∀ a i, a ≠ 42 → a ≠ 43 → s.2.2.2.1 a i = ms.2.2.1 a i) ∧ ∀ i, i < j → s.2.2.2.1 42 i = ms.2.2.1 0 (2 * i) ∧ s.2.2.2.1 43 i = ms.2.2.1 0 (2 * i + 1)) (n := m) ⟨0, by omega, by omega, rfl, rfl, rfl, rfl, fun _ _ _ _ => rfl, fun i hi => by omega⟩ (by omega) ?_
  rintro n ⟨x, mx⟩ ⟨j, rfl, hj, e1, m1, m2, m3, m4, m5⟩
  simp only at e1 m1 m2 m3 m4 m5
  subst e1
  unfold m_tell_s119
  simp only
  rw [m1, e65]
  by_cases hlt : j < m
  · have i1 : (2 : Int32) * nI j = nI (2 * j) := pk_mul 2 j
    rw [if_neg (nI_ge hlt (by omega)), i1, nI_1, if_pos (pl_in (by omega) (by decide)), if_pos (pl_in (by omega) (by decide)), if_pos (pl_in (by omega) (by decide)), if_pos (pl_in (by omega) (by decide)), pl_cl (by omega), pl_cl (by omega), pl_cl (by omega)]
    refine yes.ret ⟨m - (j + 1), by omega, j + 1, rfl, by omega, nI_1 j, m1, m2, m3, fun a i h1 h2 => ?_, fun i hi => ?_⟩
    · simp only [mx_A]
      rw [if_neg (fun q => h2 q.1), if_neg (fun q => h1 q.1)]
      exact m4 a i h1 h2
    · simp only [mx_A]
      by_cases e : i = j
      · subst e
        simp [m4 0 _ (by decide) (by decide)]
      · simp [e]
        exact m5 i (by omega)
  · have hje : j = m := by omega
    subst hje
    rw [if_pos (nI_le (Nat.le_refl _) (by omega))]
    exact yes.ret ⟨rfl, m1, m2, m3, m4, m5⟩
theorem op_tell (S : SIM V h W T G gt ms bk lk my L As) : OP V h W T G (c_X0_tell V (W.1 0 0) h) (m_tell ms) := by
  obtain ⟨⟨n, hn, o1, o1'⟩, o2, -⟩ := S.O
  obtain ⟨h2, e2, S1, r1, r1'⟩ := S.untape
  have C1 := S1.1
  have Z1 := S1.2.2.2.2.1
  have P1 := S1.2.2.2.2.2.2.2.1.1
  have h8 : (zA W 0 0 1 0).2.2.2.1 1 ≤ 8 := Z1.1.2.1
  have z0 := zpc_0 (W := W)
  have fin : ∀ {co : Option (Int32 × hx_S)} {mo : Option (Int32 × mx_S)}, OP V h2 (zA W 0 0 1 0) T G co mo → OP V h W T G co mo := fun O => O.from r1 r1' rfl (by omega) (by omega)
  unfold c_X0_tell m_tell
  have kx : hk h2 (W.1 0 0) [0] = true := C1.k_x
  rw [S.1.x_taped, Option.bind_some, e2, Option.bind_some, if_pos kx, o1, o1']
  have rf : OP V h2 (zA W 0 0 1 0) T G (if hk h2 (W.1 0 0) [0] = true then (c_X0_refused V (W.1 0 0) (5 : Int32) h2).bind fun q16_ => some (q16_.1, q16_.2) else none) (m_tell_b100 (nI n) 0 (mx_F ms 1 0)) := by
    unfold m_tell_b100
    rw [if_pos kx, if_pos rfl]
    exact OP.ref2 S1 (k := 5) (by decide) (ob_id _) (ob_id _)
  have b30 : m_tell_b30 (nI n) (mx_F ms 1 0) = m_tell_b100 (nI n) 0 (mx_F ms 1 0) := by
    unfold m_tell_b30 m_tell_b31
    refine wh_now ?_
    unfold m_tell_s34
    simp only
    split
    · rfl
    · rw [if_pos trivial]
  have rm : nI n - nI n / (2 : Int32) * (2 : Int32) = nI (n % 2) := pk_rem (d := 2) (by omega) (by decide) (by decide)
  have dv : nI n / (2 : Int32) = nI (n / 2) := pk_div (d := 2) (by omega) (by decide) (by decide)
  unfold c_X0_arePairs
  by_cases hn0 : n = 0
  · rw [if_pos (show nI n = 0 by rw [hn0]; rfl), Option.bind_some, if_pos rfl, if_pos (show nI n ≤ 0 by rw [hn0]; decide), b30]
    exact fin rf
  · rw [if_neg (show ¬ nI n = 0 from fun q => hn0 ((nI_eq (by omega) (by decide)).mp (show nI n = nI 0 from q))), if_neg (show ¬ nI n ≤ 0 from nI_ge (a := 0) (by omega) (by omega)), rm, dv]
    by_cases h2' : n % 2 = 0
    · obtain ⟨m, rfl⟩ : ∃ m, n = 2 * m := ⟨n / 2, by omega⟩
      rw [if_pos (show nI (2 * m % 2) = 0 by rw [h2']; rfl), if_pos (show nI (2 * m % 2) = 0 by rw [h2']; rfl), show 2 * m / 2 = m by omega]
      by_cases h16 : m ≤ 16
      · rw [if_pos (show nI m ≤ (16 : Int32) from nI_le (b := 16) h16 (by decide)), if_neg (show ¬ (32 : Int32) < nI (2 * m) from nI_nlt (a := 32) (by omega) (by decide))]
        have t1 : ∀ i, i < 1600 → (mx_F ms 1 0).2.2.1 0 i = (zA W 0 0 1 0).2.1 1 0 i := fun i hi => (S1.O.2.1 i hi).1
        obtain ⟨ca, cb⟩ := C1.arePairs Z1 h16
        obtain ⟨ma, mb⟩ := ml_arePairs P1 h8 t1 h16
        by_cases hall : ∀ j, j < m → zpr (zA W 0 0 1 0) 1 1 j ∧ (zA W 0 0 1 0).2.1 1 0 (2 * j) ≠ (zA W 0 0 1 0).2.1 1 0 (2 * j + 1)
        · rw [(show hx_wh (c_X0_arePairs_s22 V (W.1 0 0) (nI (2 * m)) h2) hx_FU ((0 : Int32)) = some 1 from ca hall), Option.bind_some, if_neg (by decide), ma hall]
          unfold m_tell_b100
          rw [if_neg (by decide), dv, show 2 * m / 2 = m by omega]
          obtain ⟨⟨r, k3⟩, u1, u2, X, u3, u4, u5, u6, u7, u8, u9, u10⟩ := C1.tellRows h16
          obtain ⟨⟨r', ms3⟩, v1, v2, v3, v4, v5, v6, v7⟩ := ml_tellRows (ms := mx_F (mx_F ms 1 0) 65 (nI m)) h16 (by simp [mx_F])
          simp only at u2 u3 u9 u10 v2 v3 v4 v5 v6 v7
          subst u2 v2
          rw [(show hx_wh (c_X0_tell_s26 V (W.1 0 0) (nI (2 * m))) hx_FU ((0 : Int32), h2) = _ from u1), v1]
          obtain ⟨p1, p2, p3, p4, p5, p6, p7, p8⟩ := S1.O
          have sm : ∀ k j i, k ≠ 14 → ¬ (k = 0 ∧ i = 18) → X.2.1 k j i = (zA W 0 0 1 0).2.1 k j i := u8
          have f65 : ∀ k, k ≠ 65 → ms3.1 k = (mx_F ms 1 0).1 k := fun k hk => by rw [v3]; simp [mx_F, hk]
          have O' : MO ms3 X := by
            refine ⟨⟨0, by decide, by rw [sm 0 0 1 (by decide) (by decide)]; simp [zA, zset]; rfl, by rw [f65 1 (by decide)]; simp [mx_F]; rfl⟩, fun i hi => ?_, fun k hk => ?_, ?_, ?_, ?_, ⟨m, h16, u6, by rw [v3]; simp [mx_F], fun k hk => ?_⟩, ?_⟩
            · rw [v6 0 i (by decide) (by decide), sm 1 0 i (by decide) (by simp)]; exact p2 i hi
            · rw [v6 25 k (by decide) (by decide), sm 2 0 k (by decide) (by simp)]; exact p3 k hk
            · rw [f65 10 (by decide), sm 0 0 4 (by decide) (by decide)]; exact p4
            · rw [f65 11 (by decide), sm 0 0 5 (by decide) (by decide)]; exact p5
            · rw [u5, v4]; exact p6
            · obtain ⟨⟨w1, w2⟩, w3⟩ := hall k hk
              rw [u5, u7 _ (by omega), u7 _ (by omega), (v7 k hk).1, (v7 k hk).2]
              rw [show (mx_F (mx_F ms 1 0) 65 (nI m)).2.2.1 0 (2 * k) = _ from t1 (2 * k) (by omega), show (mx_F (mx_F ms 1 0) 65 (nI m)).2.2.1 0 (2 * k + 1) = _ from t1 (2 * k + 1) (by omega)]
              constructor
              · cases e : zof ((zA W 0 0 1 0).2.2.2.1 1) ((zA W 0 0 1 0).2.1 1 0 (2 * k)) with
                | none => exact absurd e w1
                | some j =>
                  obtain ⟨j1, j2⟩ := zof_lt (by omega) e
                  exact ⟨j, j1, j2, j2⟩
              · cases e : zof ((zA W 0 0 1 0).2.2.2.1 1) ((zA W 0 0 1 0).2.1 1 0 (2 * k + 1)) with
                | none => exact absurd e w2
                | some j =>
                  obtain ⟨j1, j2⟩ := zof_lt (by omega) e
                  exact ⟨j, j1, j2, j2⟩
            · obtain ⟨p, y1, y2, y3, y4⟩ := p8
              exact ⟨p, y1, by rw [sm 0 0 20 (by decide) (by decide)]; exact y2, by rw [f65 76 (by decide)]; exact y3, fun k hk => by rw [v6 51 k (by decide) (by decide), sm 15 0 k (by decide) (by simp)]; exact y4 k hk⟩
          have S3 : SIM V k3 X T G gt ms3 bk lk my L As := S1.reg u3 u4 (by rw [u5]) (fun k j i hk => sm k j i (by omega) (by omega)) ⟨f65 13 (by decide), f65 56 (by decide), f65 57 (by decide)⟩ (fun a i h1 h2 h3 => v6 a i (by omega) (by omega)) O'
          have z3 : zpc X = 0 ∧ zps X = 0 := by
            unfold zpc zps
            rw [sm 0 0 1 (by decide) (by decide)]
            exact z0
          exact ⟨nI m, k3, ms3, X, T, G, gt, bk, lk, my, L, As, rfl, rfl, S3, by rw [u4]; rfl, gle.refl G, by omega, by omega, by omega⟩
        · have hex : ∃ j, j < m ∧ ¬ (zpr (zA W 0 0 1 0) 1 1 j ∧ (zA W 0 0 1 0).2.1 1 0 (2 * j) ≠ (zA W 0 0 1 0).2.1 1 0 (2 * j + 1)) := by
            rcases zfirst (fun j => zpr (zA W 0 0 1 0) 1 1 j ∧ (zA W 0 0 1 0).2.1 1 0 (2 * j) ≠ (zA W 0 0 1 0).2.1 1 0 (2 * j + 1)) m with q | ⟨j, q1, q2, -⟩
            · exact absurd q hall
            · exact ⟨j, q1, q2⟩
          rw [(show hx_wh (c_X0_arePairs_s22 V (W.1 0 0) (nI (2 * m)) h2) hx_FU ((0 : Int32)) = some 0 from cb hex), Option.bind_some, if_pos rfl, mb hex]
          exact fin rf
      · rw [if_neg (show ¬ nI m ≤ (16 : Int32) from nI_ge (a := 16) (by omega) (by omega)), Option.bind_some, if_pos rfl, if_pos (show (32 : Int32) < nI (2 * m) from nI_lt (a := 32) (by omega) (by omega)), b30]
        exact fin rf
    · have h1 : n % 2 = 1 := by omega
      rw [h1, if_neg (show ¬ nI 1 = 0 by decide), if_neg (show ¬ nI 1 = 0 by decide), Option.bind_some, if_pos rfl, b30]
      exact fin rf
end TL

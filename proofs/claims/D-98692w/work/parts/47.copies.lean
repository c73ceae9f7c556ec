/-! PURE SIDE: layers of the reference are copied -/
set_option maxRecDepth 100000
/-- only layer v is other -/
def mly (v : Nat) (ms ms' : mx_S) : Prop := ms'.1 = ms.1 ∧ ms'.2.1 = ms.2.1 ∧ ms'.2.2.2 = ms.2.2.2 ∧ ∀ a i, ¬ (26 ≤ a ∧ a ≤ 35 ∧ i / lsz a = v) → ms'.2.2.1 a i = ms.2.2.1 a i
theorem mly.refl (v : Nat) (ms : mx_S) : mly v ms ms := ⟨rfl, rfl, rfl, fun _ _ _ => rfl⟩
theorem mly.trans {v : Nat} {a b c : mx_S} (h : mly v a b) (k : mly v b c) : mly v a c := ⟨k.1.trans h.1, k.2.1.trans h.2.1, k.2.2.1.trans h.2.2.1, fun x i hx => (k.2.2.2 x i hx).trans (h.2.2.2 x i hx)⟩
theorem mly.A {v : Nat} (ms : mx_S) {a i : Nat} (x : Int32) (h : 26 ≤ a ∧ a ≤ 35 ∧ i / lsz a = v) : mly v ms (mx_A ms a i x) := by
  refine ⟨rfl, rfl, rfl, fun a' i' h' => ?_⟩
  show (if a' = a ∧ i' = i then x else ms.2.2.1 a' i') = _
  rw [if_neg]
  rintro ⟨rfl, rfl⟩
  exact h' h
theorem mly.fr {v : Nat} {a b : mx_S} (h : mly v a b) : mfr v a b := ⟨h.1, h.2.1, fun x i _ hx => h.2.2.2 x i (fun q => hx q.1 q.2.1 q.2.2), fun x i _ => by rw [h.2.2.1]⟩
/-- the first n places of array a are copied -/
def mcd (t f : Nat) (ms ms' : mx_S) (a n : Nat) : Prop := ∀ i, i < n → ms'.2.2.1 a (lsz a * t + i) = ms.2.2.1 a (lsz a * f + i)
theorem mcd.A {t f : Nat} {ms ms' : mx_S} {a n : Nat} (h : mcd t f ms ms' a n) {a' i : Nat} (x : Int32) (hx : a' = a → ∀ j, j < n → lsz a * t + j ≠ i) : mcd t f ms (mx_A ms' a' i x) a n := by
  intro j hj
  show (if a = a' ∧ lsz a * t + j = i then x else _) = _
  rw [if_neg]
  · exact h j hj
  · rintro ⟨rfl, q⟩
    exact hx rfl j hj q
/-- one place more -/
theorem mcd.s {t f : Nat} {ms ms' : mx_S} {a n : Nat} (h : mcd t f ms ms' a n) (hl : mly t ms ms') (hne : t ≠ f) (ha : 26 ≤ a ∧ a ≤ 35) (hn : n < lsz a) : mcd t f ms (mx_A ms' a (lsz a * t + n) (ms'.2.2.1 a (lsz a * f + n))) a (n + 1) ∧ mly t ms (mx_A ms' a (lsz a * t + n) (ms'.2.2.1 a (lsz a * f + n))) := by
  have hdiv : ∀ v, (lsz a * v + n) / lsz a = v := fun v => by rw [Nat.mul_add_div (by omega), Nat.div_eq_of_lt hn, Nat.add_zero]
  have hsrc : ms'.2.2.1 a (lsz a * f + n) = ms.2.2.1 a (lsz a * f + n) := hl.2.2.2 a _ (fun q => hne (by rw [← q.2.2, hdiv f]))
  refine ⟨fun j hj => ?_, hl.trans (mly.A _ _ ⟨ha.1, ha.2, hdiv t⟩)⟩
  show (if a = a ∧ lsz a * t + j = lsz a * t + n then ms'.2.2.1 a (lsz a * f + n) else _) = _
  by_cases q : j = n
  · subst q
    rw [if_pos ⟨rfl, rfl⟩, hsrc]
  · rw [if_neg (fun x => q (by omega))]
    exact h j (by omega)
/-- what is done when a layer has been copied, n rows being told -/
def mcx (t f n : Nat) (ms ms' : mx_S) : Prop := mly t ms ms' ∧ (∀ a, 26 ≤ a → a ≤ 34 → mcd t f ms ms' a (lsz a)) ∧ mcd t f ms ms' 35 (5 * n)
theorem ml_copies {ms : mx_S} {t f n : Nat} (ht : t < 22) (hf : f < 22) (hne : t ≠ f) (hn : ms.2.2.1 34 f = nI n) (hn60 : n ≤ 60) : yes (m_copies (nI t) (nI f) ms) (fun ms' => mcx t f n ms ms') := by
  have d1 : ∀ (a x : Nat), lsz a = 1 → (lsz a * x + 0) = x := fun a x h => by rw [h]; omega
  unfold m_copies
  rw [if_pos (pl_in hf (by decide)), if_pos (pl_in ht (by decide)), if_pos (pl_in hf (by decide)), if_pos (pl_in ht (by decide)), pl_cl (by omega), pl_cl (by omega)]
  have z : ∀ a, mcd t f ms ms a 0 := fun a i hi => by omega
  obtain ⟨c26, l26⟩ := (z 26).s (mly.refl t ms) hne (by decide) (show 0 < lsz 26 by decide)
  rw [show lsz 26 * t + 0 = t from d1 26 t rfl, show lsz 26 * f + 0 = f from d1 26 f rfl] at c26 l26
  have c27' : mcd t f ms (mx_A ms 26 t (ms.2.2.1 26 f)) 27 0 := fun i hi => by omega
  obtain ⟨c27, l27⟩ := c27'.s l26 hne (by decide) (show 0 < lsz 27 by decide)
  rw [show lsz 27 * t + 0 = t from d1 27 t rfl, show lsz 27 * f + 0 = f from d1 27 f rfl] at c27 l27
  have c26b := c26.A (a' := 27) (i := t) ((mx_A ms 26 t (ms.2.2.1 26 f)).2.2.1 27 f) (fun q => absurd q (by decide))
  generalize mx_A (mx_A ms 26 t (ms.2.2.1 26 f)) 27 t ((mx_A ms 26 t (ms.2.2.1 26 f)).2.2.1 27 f) = m0 at c27 l27 c26b
  refine yes.wh (I := fun n s => ∃ j, n = 24 - j ∧ j ≤ 24 ∧ s.1 = nI j ∧ mly t ms s.2 ∧ mcd t f ms s.2 26 1 ∧ mcd t f ms s.2 27 1 ∧ mcd t f ms s.2 28 j) (n := 24) ⟨0, rfl, by decide, rfl, l27, c26b, c27, fun i hi => by omega⟩ (by decide) ?_
  rintro - ⟨x, m1⟩ ⟨j, rfl, hj, e1, L, c26, c27, c28⟩
  simp only at e1 L c26 c27 c28
  subst e1
  unfold m_copies_s26
  simp only
  by_cases hlt : j < 24
  · rw [if_neg (show ¬ (24 : Int32) ≤ nI j from nI_ge (b := 24) hlt (by decide)), show (24 : Int32) * nI f + nI j = nI (24 * f + j) by simp only [pl_lit, pk_mul, nI_add], show (24 : Int32) * nI t + nI j = nI (24 * t + j) by simp only [pl_lit, pk_mul, nI_add], if_pos (pl_in (by omega) (by decide)), if_pos (pl_in (by omega) (by decide)), pl_cl (by omega), pl_cl (by omega)]
    obtain ⟨c', l'⟩ := c28.s L hne (by decide) (show j < lsz 28 from hlt)
    exact yes.ret ⟨24 - (j + 1), by omega, j + 1, rfl, by omega, nI_1 j, l', c26.A _ (fun q => absurd q (by decide)), c27.A _ (fun q => absurd q (by decide)), c'⟩
  have hje : j = 24 := by omega
  subst hje
  rw [if_pos (show (24 : Int32) ≤ nI 24 from nI_le (Nat.le_refl _) (by decide))]
  have main1 : yes (m_copies_b60 (nI t) (nI f) m1) (fun ms' => mcx t f n ms ms') := by
    unfold m_copies_b60
    refine yes.wh (I := fun n s => ∃ j, n = 8 - j ∧ j ≤ 8 ∧ s.1 = nI j ∧ mly t ms s.2 ∧ mcd t f ms s.2 26 1 ∧ mcd t f ms s.2 27 1 ∧ mcd t f ms s.2 28 24 ∧ mcd t f ms s.2 29 j ∧ mcd t f ms s.2 30 j) (n := 8) ⟨0, rfl, by decide, rfl, L, c26, c27, c28, fun i hi => by omega, fun i hi => by omega⟩ (by decide) ?_
    rintro - ⟨x, m2⟩ ⟨j, rfl, hj, e1, L, c26, c27, c28, c29, c30⟩
    simp only at e1 L c26 c27 c28 c29 c30
    subst e1
    unfold m_copies_s62
    simp only
    by_cases hlt : j < 8
    · rw [if_neg (show ¬ (8 : Int32) ≤ nI j from nI_ge (b := 8) hlt (by decide)), show (8 : Int32) * nI f + nI j = nI (8 * f + j) by simp only [pl_lit, pk_mul, nI_add], show (8 : Int32) * nI t + nI j = nI (8 * t + j) by simp only [pl_lit, pk_mul, nI_add], if_pos (pl_in (by omega) (by decide)), if_pos (pl_in (by omega) (by decide)), if_pos (pl_in (by omega) (by decide)), if_pos (pl_in (by omega) (by decide)), pl_cl (by omega), pl_cl (by omega)]
      obtain ⟨c', l'⟩ := c29.s L hne (by decide) (show j < lsz 29 from hlt)
      obtain ⟨c'', l''⟩ := (c30.A (a' := 29) (i := 8 * t + j) (m2.2.2.1 29 (8 * f + j)) (fun q => absurd q (by decide))).s l' hne (by decide) (show j < lsz 30 from hlt)
      exact yes.ret ⟨8 - (j + 1), by omega, j + 1, rfl, by omega, nI_1 j, l'', (c26.A _ (fun q => absurd q (by decide))).A _ (fun q => absurd q (by decide)), (c27.A _ (fun q => absurd q (by decide))).A _ (fun q => absurd q (by decide)), (c28.A _ (fun q => absurd q (by decide))).A _ (fun q => absurd q (by decide)), c'.A _ (fun q => absurd q (by decide)), c''⟩
    have hje : j = 8 := by omega
    subst hje
    rw [if_pos (show (8 : Int32) ≤ nI 8 from nI_le (Nat.le_refl _) (by decide))]
    have main2 : yes (m_copies_b118 (nI t) (nI f) m2) (fun ms' => mcx t f n ms ms') := by
      unfold m_copies_b118
      refine yes.wh (I := fun n s => ∃ j, n = 18 - j ∧ j ≤ 18 ∧ s.1 = nI j ∧ mly t ms s.2 ∧ mcd t f ms s.2 26 1 ∧ mcd t f ms s.2 27 1 ∧ mcd t f ms s.2 28 24 ∧ mcd t f ms s.2 29 8 ∧ mcd t f ms s.2 30 8 ∧ mcd t f ms s.2 31 j) (n := 18) ⟨0, rfl, by decide, rfl, L, c26, c27, c28, c29, c30, fun i hi => by omega⟩ (by decide) ?_
      rintro - ⟨x, m3⟩ ⟨j, rfl, hj, e1, L, c26, c27, c28, c29, c30, c31⟩
      simp only at e1 L c26 c27 c28 c29 c30 c31
      subst e1
      unfold m_copies_s120
      simp only
      by_cases hlt : j < 18
      · rw [if_neg (show ¬ (18 : Int32) ≤ nI j from nI_ge (b := 18) hlt (by decide)), show (18 : Int32) * nI f + nI j = nI (18 * f + j) by simp only [pl_lit, pk_mul, nI_add], show (18 : Int32) * nI t + nI j = nI (18 * t + j) by simp only [pl_lit, pk_mul, nI_add], if_pos (pl_in (by omega) (by decide)), if_pos (pl_in (by omega) (by decide)), pl_cl (by omega), pl_cl (by omega)]
        obtain ⟨c', l'⟩ := c31.s L hne (by decide) (show j < lsz 31 from hlt)
        exact yes.ret ⟨18 - (j + 1), by omega, j + 1, rfl, by omega, nI_1 j, l', c26.A _ (fun q => absurd q (by decide)), c27.A _ (fun q => absurd q (by decide)), c28.A _ (fun q => absurd q (by decide)), c29.A _ (fun q => absurd q (by decide)), c30.A _ (fun q => absurd q (by decide)), c'⟩
      have hje : j = 18 := by omega
      subst hje
      rw [if_pos (show (18 : Int32) ≤ nI 18 from nI_le (Nat.le_refl _) (by decide))]
      have main3 : yes (m_copies_b154 (nI t) (nI f) m3) (fun ms' => mcx t f n ms ms') := by
        unfold m_copies_b154
        refine yes.wh (I := fun n s => ∃ j, n = 48 - j ∧ j ≤ 48 ∧ s.1 = nI j ∧ mly t ms s.2 ∧ mcd t f ms s.2 26 1 ∧ mcd t f ms s.2 27 1 ∧ mcd t f ms s.2 28 24 ∧ mcd t f ms s.2 29 8 ∧ mcd t f ms s.2 30 8 ∧ mcd t f ms s.2 31 18 ∧ mcd t f ms s.2 32 j ∧ mcd t f ms s.2 33 j) (n := 48) ⟨0, rfl, by decide, rfl, L, c26, c27, c28, c29, c30, c31, fun i hi => by omega, fun i hi => by omega⟩ (by decide) ?_
        rintro - ⟨x, m4⟩ ⟨j, rfl, hj, e1, L, c26, c27, c28, c29, c30, c31, c32, c33⟩
        simp only at e1 L c26 c27 c28 c29 c30 c31 c32 c33
        subst e1
        unfold m_copies_s156
        simp only
        by_cases hlt : j < 48
        · rw [if_neg (show ¬ (48 : Int32) ≤ nI j from nI_ge (b := 48) hlt (by decide)), show (48 : Int32) * nI f + nI j = nI (48 * f + j) by simp only [pl_lit, pk_mul, nI_add], show (48 : Int32) * nI t + nI j = nI (48 * t + j) by simp only [pl_lit, pk_mul, nI_add], if_pos (pl_in (by omega) (by decide)), if_pos (pl_in (by omega) (by decide)), if_pos (pl_in (by omega) (by decide)), if_pos (pl_in (by omega) (by decide)), pl_cl (by omega), pl_cl (by omega)]
          obtain ⟨c', l'⟩ := c32.s L hne (by decide) (show j < lsz 32 from hlt)
          obtain ⟨c'', l''⟩ := (c33.A (a' := 32) (i := 48 * t + j) (m4.2.2.1 32 (48 * f + j)) (fun q => absurd q (by decide))).s l' hne (by decide) (show j < lsz 33 from hlt)
          exact yes.ret ⟨48 - (j + 1), by omega, j + 1, rfl, by omega, nI_1 j, l'', (c26.A _ (fun q => absurd q (by decide))).A _ (fun q => absurd q (by decide)), (c27.A _ (fun q => absurd q (by decide))).A _ (fun q => absurd q (by decide)), (c28.A _ (fun q => absurd q (by decide))).A _ (fun q => absurd q (by decide)), (c29.A _ (fun q => absurd q (by decide))).A _ (fun q => absurd q (by decide)), (c30.A _ (fun q => absurd q (by decide))).A _ (fun q => absurd q (by decide)), (c31.A _ (fun q => absurd q (by decide))).A _ (fun q => absurd q (by decide)), c'.A _ (fun q => absurd q (by decide)), c''⟩
        have hje : j = 48 := by omega
        subst hje
        rw [if_pos (show (48 : Int32) ≤ nI 48 from nI_le (Nat.le_refl _) (by decide))]
        have main4 : yes (m_copies_b212 (nI t) (nI f) m4) (fun ms' => mcx t f n ms ms') := by
          unfold m_copies_b212
          rw [if_pos (pl_in hf (by decide)), if_pos (pl_in ht (by decide)), pl_cl (by omega), pl_cl (by omega)]
          have c34' : mcd t f ms m4 34 0 := fun i hi => by omega
          obtain ⟨c34, l34⟩ := c34'.s L hne (by decide) (show 0 < lsz 34 by decide)
          rw [show lsz 34 * t + 0 = t from d1 34 t rfl, show lsz 34 * f + 0 = f from d1 34 f rfl] at c34 l34
          replace c26 := c26.A (a' := 34) (i := t) (m4.2.2.1 34 f) (fun q => absurd q (by decide))
          replace c27 := c27.A (a' := 34) (i := t) (m4.2.2.1 34 f) (fun q => absurd q (by decide))
          replace c28 := c28.A (a' := 34) (i := t) (m4.2.2.1 34 f) (fun q => absurd q (by decide))
          replace c29 := c29.A (a' := 34) (i := t) (m4.2.2.1 34 f) (fun q => absurd q (by decide))
          replace c30 := c30.A (a' := 34) (i := t) (m4.2.2.1 34 f) (fun q => absurd q (by decide))
          replace c31 := c31.A (a' := 34) (i := t) (m4.2.2.1 34 f) (fun q => absurd q (by decide))
          replace c32 := c32.A (a' := 34) (i := t) (m4.2.2.1 34 f) (fun q => absurd q (by decide))
          replace c33 := c33.A (a' := 34) (i := t) (m4.2.2.1 34 f) (fun q => absurd q (by decide))
          generalize mx_A m4 34 t (m4.2.2.1 34 f) = m5 at *
          refine yes.wh (I := fun r s => ∃ j, r = 5 * n - j ∧ j ≤ 5 * n ∧ s.1 = nI j ∧ mly t ms s.2 ∧ mcd t f ms s.2 26 1 ∧ mcd t f ms s.2 27 1 ∧ mcd t f ms s.2 28 24 ∧ mcd t f ms s.2 29 8 ∧ mcd t f ms s.2 30 8 ∧ mcd t f ms s.2 31 18 ∧ mcd t f ms s.2 32 48 ∧ mcd t f ms s.2 33 48 ∧ mcd t f ms s.2 34 1 ∧ mcd t f ms s.2 35 j) (n := 5 * n) ⟨0, rfl, by omega, rfl, l34, c26, c27, c28, c29, c30, c31, c32, c33, c34, fun i hi => by omega⟩ (by omega) ?_
          rintro - ⟨x, m6⟩ ⟨j, rfl, hj, e1, L, c26, c27, c28, c29, c30, c31, c32, c33, c34, c35⟩
          simp only at e1 L c26 c27 c28 c29 c30 c31 c32 c33 c34 c35
          subst e1
          unfold m_copies_s226
          simp only
          have e34 : m6.2.2.1 34 f = nI n := (L.2.2.2 34 f (fun q => hne (by have : f / 1 = t := q.2.2; omega))).trans hn
          rw [if_pos (pl_in hf (by decide)), pl_cl (by omega), e34, show (5 : Int32) * nI n = nI (5 * n) by simp only [pl_lit, pk_mul]]
          by_cases hlt : j < 5 * n
          · rw [if_neg (nI_ge hlt (by omega)), show (300 : Int32) * nI f + nI j = nI (300 * f + j) by simp only [pl_lit, pk_mul, nI_add], show (300 : Int32) * nI t + nI j = nI (300 * t + j) by simp only [pl_lit, pk_mul, nI_add], if_pos (pl_in (by omega) (by decide)), if_pos (pl_in (by omega) (by decide)), pl_cl (by omega), pl_cl (by omega)]
            obtain ⟨c', l'⟩ := c35.s L hne (by decide) (show j < 300 by omega)
            exact yes.ret ⟨5 * n - (j + 1), by omega, j + 1, rfl, by omega, nI_1 j, l', c26.A _ (fun q => absurd q (by decide)), c27.A _ (fun q => absurd q (by decide)), c28.A _ (fun q => absurd q (by decide)), c29.A _ (fun q => absurd q (by decide)), c30.A _ (fun q => absurd q (by decide)), c31.A _ (fun q => absurd q (by decide)), c32.A _ (fun q => absurd q (by decide)), c33.A _ (fun q => absurd q (by decide)), c34.A _ (fun q => absurd q (by decide)), c'⟩
          have hje : j = 5 * n := by omega
          subst hje
          rw [if_pos (nI_le (Nat.le_refl _) (by omega))]
          refine yes.ret ⟨L, fun a h1 h2 => ?_, c35⟩
          have ha : a = 26 ∨ a = 27 ∨ a = 28 ∨ a = 29 ∨ a = 30 ∨ a = 31 ∨ a = 32 ∨ a = 33 ∨ a = 34 := by omega
          rcases ha with rfl | rfl | rfl | rfl | rfl | rfl | rfl | rfl | rfl
          · exact c26
          · exact c27
          · exact c28
          · exact c29
          · exact c30
          · exact c31
          · exact c32
          · exact c33
          · exact c34
        obtain ⟨q, i1, i2⟩ := main4
        rw [i1]
        exact ⟨_, rfl, i2⟩
      obtain ⟨q, i1, i2⟩ := main3
      rw [i1]
      exact ⟨_, rfl, i2⟩
    obtain ⟨q, i1, i2⟩ := main2
    rw [i1]
    exact ⟨_, rfl, i2⟩
  obtain ⟨q, i1, i2⟩ := main1
  rw [i1]
  exact ⟨_, rfl, i2⟩
section MX
variable {ms ms' : mx_S} {W : zW} {L : List (Nat → Int32)} {t f n : Nat}
theorem MR.cx (R : MR ms f W) (X : mcx t f n ms ms') (ht : t < 22) (h6 : W.2.2.2.1 0 ≤ 6) (h8 : W.2.2.2.1 1 ≤ 8) : MR ms' t W := by
  obtain ⟨-, r1, r2, r3, r4, r5, d, u, r6, r7, r8, r9, r10⟩ := R
  obtain ⟨-, x1, -⟩ := X
  have g : ∀ a, 26 ≤ a → a ≤ 34 → ∀ i, i < lsz a → ms'.2.2.1 a (lsz a * t + i) = ms.2.2.1 a (lsz a * f + i) := fun a h1 h2 i hi => x1 a h1 h2 i hi
  refine ⟨ht, fun k hk i hi => ?_, fun k hk => ⟨?_, ?_⟩, fun b hb i hi => ?_, fun b hb k hk => ⟨?_, ?_⟩, ?_, d, u, r6, r7, r8, r9, ?_⟩
  · rw [show 24 * t + 3 * k + i = 24 * t + (3 * k + i) by omega, ← r1 k hk i hi, show 24 * f + 3 * k + i = 24 * f + (3 * k + i) by omega]
    exact g 28 (by decide) (by decide) _ (show 3 * k + i < 24 by omega)
  · rw [← (r2 k hk).1]; exact g 29 (by decide) (by decide) _ (show k < 8 by omega)
  · rw [← (r2 k hk).2]; exact g 30 (by decide) (by decide) _ (show k < 8 by omega)
  · rw [show 18 * t + 3 * b + i = 18 * t + (3 * b + i) by omega, ← r3 b hb i hi, show 18 * f + 3 * b + i = 18 * f + (3 * b + i) by omega]
    exact g 31 (by decide) (by decide) _ (show 3 * b + i < 18 by omega)
  · rw [show 48 * t + 8 * b + k = 48 * t + (8 * b + k) by omega, ← (r4 b hb k hk).1, show 48 * f + 8 * b + k = 48 * f + (8 * b + k) by omega]
    exact g 32 (by decide) (by decide) _ (show 8 * b + k < 48 by omega)
  · rw [show 48 * t + 8 * b + k = 48 * t + (8 * b + k) by omega, ← (r4 b hb k hk).2, show 48 * f + 8 * b + k = 48 * f + (8 * b + k) by omega]
    exact g 33 (by decide) (by decide) _ (show 8 * b + k < 48 by omega)
  · have := g 27 (by decide) (by decide) 0 (show 0 < 1 by decide)
    rw [show lsz 27 * t + 0 = t by show 1 * t + 0 = t; omega, show lsz 27 * f + 0 = f by show 1 * f + 0 = f; omega] at this
    rw [this]; exact r5
  · have := g 26 (by decide) (by decide) 0 (show 0 < 1 by decide)
    rw [show lsz 26 * t + 0 = t by show 1 * t + 0 = t; omega, show lsz 26 * f + 0 = f by show 1 * f + 0 = f; omega] at this
    rw [this]; exact r10
theorem MT.cx (M : MT ms f L) (X : mcx t f L.length ms ms') : MT ms' t L := by
  obtain ⟨-, x1, x2⟩ := X
  refine ⟨?_, M.2.1, fun i r hr k hk => ?_⟩
  · have := x1 34 (by decide) (by decide) 0 (show 0 < 1 by decide)
    rw [show lsz 34 * t + 0 = t by show 1 * t + 0 = t; omega, show lsz 34 * f + 0 = f by show 1 * f + 0 = f; omega] at this
    rw [this]; exact M.1
  · have hi := (List.getElem?_eq_some_iff.mp hr).1
    rw [← M.2.2 i r hr k hk, show 300 * t + 5 * i + k = 300 * t + (5 * i + k) by omega, show 300 * f + 5 * i + k = 300 * f + (5 * i + k) by omega]
    exact x2 (5 * i + k) (by omega)
/-- another layer is as it was -/
theorem MR.oth {v : Nat} (R : MR ms v W) (X : mfr t ms ms') (hv : v ≠ t) (h6 : W.2.2.2.1 0 ≤ 6) (h8 : W.2.2.2.1 1 ≤ 8) : MR ms' v W := by
  obtain ⟨r0, r1, r2, r3, r4, r5, d, u, r6, r7, r8, r9, r10⟩ := R
  have g : ∀ a i, 26 ≤ a → a ≤ 35 → i / lsz a = v → ms'.2.2.1 a i = ms.2.2.1 a i := fun a i h1 h2 h3 => X.2.2.1 a i (by omega) (fun _ _ q => hv (h3.symm.trans q))
  refine ⟨r0, fun k hk i hi => ?_, fun k hk => ⟨?_, ?_⟩, fun b hb i hi => ?_, fun b hb k hk => ⟨?_, ?_⟩, ?_, d, u, r6, r7, r8, r9, ?_⟩
  · rw [g 28 _ (by decide) (by decide) (by show _ / 24 = v; omega)]; exact r1 k hk i hi
  · rw [g 29 _ (by decide) (by decide) (by show _ / 8 = v; omega)]; exact (r2 k hk).1
  · rw [g 30 _ (by decide) (by decide) (by show _ / 8 = v; omega)]; exact (r2 k hk).2
  · rw [g 31 _ (by decide) (by decide) (by show _ / 18 = v; omega)]; exact r3 b hb i hi
  · rw [g 32 _ (by decide) (by decide) (by show _ / 48 = v; omega)]; exact (r4 b hb k hk).1
  · rw [g 33 _ (by decide) (by decide) (by show _ / 48 = v; omega)]; exact (r4 b hb k hk).2
  · rw [g 27 _ (by decide) (by decide) (by show _ / 1 = v; omega)]; exact r5
  · rw [g 26 _ (by decide) (by decide) (by show _ / 1 = v; omega)]; exact r10
theorem MT.oth {v : Nat} (M : MT ms v L) (X : mfr t ms ms') (hv : v ≠ t) : MT ms' v L := by
  have g : ∀ a i, 26 ≤ a → a ≤ 35 → i / lsz a = v → ms'.2.2.1 a i = ms.2.2.1 a i := fun a i h1 h2 h3 => X.2.2.1 a i (by omega) (fun _ _ q => hv (h3.symm.trans q))
  refine ⟨by rw [g 34 _ (by decide) (by decide) (by show _ / 1 = v; omega)]; exact M.1, M.2.1, fun i r hr k hk => ?_⟩
  have hi := (List.getElem?_eq_some_iff.mp hr).1
  have := M.2.1
  rw [g 35 _ (by decide) (by decide) (by show _ / 300 = v; omega)]
  exact M.2.2 i r hr k hk
end MX

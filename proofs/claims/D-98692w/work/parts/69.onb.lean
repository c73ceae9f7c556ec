/-! PURE SIDE: the call on, in the reference: beasts -/
set_option maxRecDepth 100000
section OB
variable {W X Y T : zW} {ms mx : mx_S} {bk n0 n1 : Nat} {t : Nat → Nat}
theorem ml_beastOn {b : Nat} (Q : MTP mx bk n0 n1 t) (hb : b < n0) : yes (m_beastOn (nI b) (nI (zbf n1 b)) mx) (fun r => ((r.1 = 1 ∧ zokb t n1 b) ∨ (r.1 = 0 ∧ ¬ zokb t n1 b)) ∧ mbe b mx r.2 ∧ MDb r.2 t n1 b) := by
  obtain ⟨Qt, q1, q2, q3, q4, q5, q6⟩ := Q
  have hz := zbf_le (b := b + 1) q6 (by omega)
  rw [zbf_s] at hz
  have st : ∀ i (m' : mx_S), i < 3 → (∀ j, m'.2.2.1 0 j = mx.2.2.1 0 j) → m_beastOn_s2 (nI b) (nI (zbf n1 b)) (nI i, m') = some (.inl (nI (i + 1), mx_A m' 31 (18 + 3 * b + i) (nI (t (zbf n1 b + i))))) := by
    intro i m' hi hm'
    unfold m_beastOn_s2
    simp only
    have ix : ((18 : Int32) + ((3 : Int32) * nI b)) + nI i = nI (18 + 3 * b + i) := by simp only [pl_lit, pk_mul, nI_add]
    rw [if_neg (show ¬ (3 : Int32) ≤ nI i from nI_ge (b := 3) hi (by decide)), nI_add, if_pos (pl_in (by omega) (by decide)), ix, if_pos (pl_in (by omega) (by decide)), pl_cl (by omega), pl_cl (by omega), hm', (Qt _ (by omega)).1, nI_1]
  have lp : m_beastOn (nI b) (nI (zbf n1 b)) mx = m_beastOn_b34 (nI b) (nI (zbf n1 b)) (mx_A (mx_A (mx_A mx 31 (18 + 3 * b) (nI (t (zbf n1 b)))) 31 (18 + 3 * b + 1) (nI (t (zbf n1 b + 1)))) 31 (18 + 3 * b + 2) (nI (t (zbf n1 b + 2)))) := by
    unfold m_beastOn
    refine pl_loop (fun i => (nI i, if i = 0 then mx else if i = 1 then mx_A mx 31 (18 + 3 * b) (nI (t (zbf n1 b))) else if i = 2 then mx_A (mx_A mx 31 (18 + 3 * b) (nI (t (zbf n1 b)))) 31 (18 + 3 * b + 1) (nI (t (zbf n1 b + 1))) else mx_A (mx_A (mx_A mx 31 (18 + 3 * b) (nI (t (zbf n1 b)))) 31 (18 + 3 * b + 1) (nI (t (zbf n1 b + 1)))) 31 (18 + 3 * b + 2) (nI (t (zbf n1 b + 2))))) 3 _ (fun i hi => ?_) ?_ (by decide)
    · have cs : i = 0 ∨ i = 1 ∨ i = 2 := by omega
      rcases cs with rfl | rfl | rfl
      · simpa using st 0 mx (by decide) (fun _ => rfl)
      · simpa using st 1 (mx_A mx 31 (18 + 3 * b) (nI (t (zbf n1 b)))) (by decide) (fun j => mxA_o _ _ _ (by decide))
      · simpa using st 2 (mx_A (mx_A mx 31 (18 + 3 * b) (nI (t (zbf n1 b)))) 31 (18 + 3 * b + 1) (nI (t (zbf n1 b + 1)))) (by decide) (fun j => (mxA_o _ _ _ (by decide)).trans (mxA_o _ _ _ (by decide)))
    · unfold m_beastOn_s2
      rw [if_pos (show (3 : Int32) ≤ nI 3 by decide)]
      rfl
  rw [lp]
  have m30 : ∀ a j, a ≠ 31 → (mx_A (mx_A (mx_A mx 31 (18 + 3 * b) (nI (t (zbf n1 b)))) 31 (18 + 3 * b + 1) (nI (t (zbf n1 b + 1)))) 31 (18 + 3 * b + 2) (nI (t (zbf n1 b + 2)))).2.2.1 a j = mx.2.2.1 a j := fun a j h => ((mxA_o _ _ _ h).trans (mxA_o _ _ _ h)).trans (mxA_o _ _ _ h)
  have m31 : (mx_A (mx_A (mx_A mx 31 (18 + 3 * b) (nI (t (zbf n1 b)))) 31 (18 + 3 * b + 1) (nI (t (zbf n1 b + 1)))) 31 (18 + 3 * b + 2) (nI (t (zbf n1 b + 2)))).1 = mx.1 := rfl
  have m28 : ∀ i, i < 3 → (mx_A (mx_A (mx_A mx 31 (18 + 3 * b) (nI (t (zbf n1 b)))) 31 (18 + 3 * b + 1) (nI (t (zbf n1 b + 1)))) 31 (18 + 3 * b + 2) (nI (t (zbf n1 b + 2)))).2.2.1 31 (18 + 3 * b + i) = nI (t (zbf n1 b + i)) := fun i hi => by
    have cs : i = 0 ∨ i = 1 ∨ i = 2 := by omega
    rcases cs with rfl | rfl | rfl <;> simp [mx_A]
  have m28o : ∀ i, ¬ (18 + 3 * b ≤ i ∧ i < 18 + 3 * b + 3) → (mx_A (mx_A (mx_A mx 31 (18 + 3 * b) (nI (t (zbf n1 b)))) 31 (18 + 3 * b + 1) (nI (t (zbf n1 b + 1)))) 31 (18 + 3 * b + 2) (nI (t (zbf n1 b + 2)))).2.2.1 31 i = mx.2.2.1 31 i := fun i hi => by
    show (if 31 = 31 ∧ i = 18 + 3 * b + 2 then _ else if 31 = 31 ∧ i = 18 + 3 * b + 1 then _ else if 31 = 31 ∧ i = 18 + 3 * b then _ else mx.2.2.1 31 i) = _
    rw [if_neg (by omega), if_neg (by omega), if_neg (by omega)]
  have m3b : (mx_A (mx_A (mx_A mx 31 (18 + 3 * b) (nI (t (zbf n1 b)))) 31 (18 + 3 * b + 1) (nI (t (zbf n1 b + 1)))) 31 (18 + 3 * b + 2) (nI (t (zbf n1 b + 2)))).2.1 = mx.2.1 ∧ (mx_A (mx_A (mx_A mx 31 (18 + 3 * b) (nI (t (zbf n1 b)))) 31 (18 + 3 * b + 1) (nI (t (zbf n1 b + 1)))) 31 (18 + 3 * b + 2) (nI (t (zbf n1 b + 2)))).2.2.2 = mx.2.2.2 := ⟨rfl, rfl⟩
  generalize mx_A (mx_A (mx_A mx 31 (18 + 3 * b) (nI (t (zbf n1 b)))) 31 (18 + 3 * b + 1) (nI (t (zbf n1 b + 1)))) 31 (18 + 3 * b + 2) (nI (t (zbf n1 b + 2))) = m3 at *
  have e1 : nI (zbf n1 b) + (1 : Int32) = nI (zbf n1 b + 1) := nI_add _ 1
  have e2 : nI (zbf n1 b) + (2 : Int32) = nI (zbf n1 b + 2) := nI_add _ 2
  have z0 : ∀ j, j < 1600 → m3.2.2.1 0 j = nI (t j) := fun j hj => by rw [m30 0 j (by decide)]; exact (Qt j hj).1
  obtain ⟨n1', n2'⟩ := ml_nine (mx := mx) (t := t) (a := zbf n1 b) Qt (by omega) m3
  unfold m_beastOn_b34
  rw [e1, e2, if_pos (pl_in (by omega) (by decide)), if_pos (pl_in (by omega) (by decide)), if_pos (pl_in (by omega) (by decide)), pl_cl (by omega), pl_cl (by omega), pl_cl (by omega), z0 _ (by omega), z0 _ (by omega), z0 _ (by omega)]
  obtain ⟨c0, hc0, hcf⟩ : ∃ c0 : Int32, m_areNine (nI (t (zbf n1 b))) (nI (t (zbf n1 b + 1))) (nI (t (zbf n1 b + 2))) m3 = some c0 ∧ ((c0 = 1 ∧ zfew t (zbf n1 b)) ∨ (c0 = 0 ∧ ¬ zfew t (zbf n1 b))) := by
    by_cases hf : zfew t (zbf n1 b)
    · exact ⟨1, n1' hf, Or.inl ⟨rfl, hf⟩⟩
    · exact ⟨0, n2' hf, Or.inr ⟨rfl, hf⟩⟩
  rw [hc0, Option.bind_some]
  refine yes.wh (I := fun n s => ∃ k, n = n1 - k ∧ k ≤ n1 ∧ ((s.1 = 1 ∧ zfew t (zbf n1 b) ∧ ∀ k', k' < k → zokp t n1 b k') ∨ (s.1 = 0 ∧ ¬ (zfew t (zbf n1 b) ∧ ∀ k', k' < k → zokp t n1 b k'))) ∧ s.2.1 = nI k ∧ s.2.2.1 = mx.1 ∧ s.2.2.2.1 = mx.2.1 ∧ s.2.2.2.2.2 = mx.2.2.2 ∧ (∀ a i, ¬ ((a = 32 ∨ a = 33) ∧ 48 + 8 * b ≤ i ∧ i < 48 + 8 * b + 8) → s.2.2.2.2.1 a i = m3.2.2.1 a i) ∧ ∀ k', k' < k → s.2.2.2.2.1 32 (48 + 8 * b + k') = nI (t (zbf n1 b + 3 + 2 * k')) ∧ s.2.2.2.2.1 33 (48 + 8 * b + k') = nI (t (zbf n1 b + 3 + 2 * k' + 1))) (n := n1)
    ⟨0, by omega, by omega, ?_, rfl, m31, m3b.1, m3b.2, fun _ _ _ => rfl, fun k' hk' => by omega⟩ (by omega) ?_
  · rcases hcf with ⟨a, c⟩ | ⟨a, c⟩
    · exact Or.inl ⟨a, c, fun k' hk' => by omega⟩
    · exact Or.inr ⟨a, fun q => c q.1⟩
  rintro n ⟨cf, x1, m'⟩ ⟨k, rfl, hk, hc, ek, f1, f2, f3, f4, f5⟩
  simp only at hc ek f1 f2 f3 f4 f5
  subst ek
  have w1 : m'.2.2.1 6 bk = nI n1 := by rw [f4 6 bk (by omega), m30 6 bk (by decide)]; exact q4
  have w0 : ∀ j, j < 1600 → m'.2.2.1 0 j = nI (t j) := fun j hj => by rw [f4 0 j (by omega)]; exact z0 j hj
  unfold m_beastOn_s64 m_beastOn_b160
  simp only
  rw [f1, q2, if_pos (pl_in q1 (by decide)), pl_cl (by omega), w1]
  by_cases hlt : k < n1
  · have ix3 : nI (zbf n1 b) + (3 : Int32) + (2 : Int32) * nI k = nI (zbf n1 b + 3 + 2 * k) := by simp only [pl_lit, pk_mul, nI_add]
    have ix4 : nI (zbf n1 b) + (4 : Int32) + (2 : Int32) * nI k = nI (zbf n1 b + 3 + 2 * k + 1) := by
      simp only [pl_lit, pk_mul, nI_add]
      rw [show zbf n1 b + 4 + 2 * k = zbf n1 b + 3 + 2 * k + 1 by omega]
    have b3 := (Qt (zbf n1 b + 3 + 2 * k) (by omega)).2
    have b4 := (Qt (zbf n1 b + 3 + 2 * k + 1) (by omega)).2
    rw [if_neg (nI_ge hlt (by omega)), ix3, ix4, if_pos (pl_in (by omega) (by decide)), if_pos (pl_in (by omega) (by decide)), (show m_pair (1 : Int32) (nI b) (nI k) m' = _ from ml_pair (v := 1) b k), Option.bind_some, if_pos (pl_in (by omega) (by decide)), pl_cl (by omega), pl_cl (by omega), pl_cl (by omega), w0 _ (by omega), w0 _ (by omega), (show m_pair (1 : Int32) (nI b) (nI k) _ = _ from ml_pair (v := 1) b k), Option.bind_some, if_pos (pl_in (by omega) (by decide)), pl_cl (by omega), show 48 * 1 + 8 * b + k = 48 + 8 * b + k by omega, nI_1]
    have nxt : ∀ r : Int32, ((r = 1 ∧ zfew t (zbf n1 b) ∧ ∀ k', k' < k + 1 → zokp t n1 b k') ∨ (r = 0 ∧ ¬ (zfew t (zbf n1 b) ∧ ∀ k', k' < k + 1 → zokp t n1 b k'))) → yes (some (Sum.inl (r, nI (k + 1), mx_A (mx_A m' 32 (48 + 8 * b + k) (nI (t (zbf n1 b + 3 + 2 * k)))) 33 (48 + 8 * b + k) (nI (t (zbf n1 b + 3 + 2 * k + 1))))) : Option ((Int32 × Int32 × mx_S) ⊕ (Int32 × mx_S))) (yes_st (fun s' => ∃ m, m < n1 - k ∧ ∃ k, m = n1 - k ∧ k ≤ n1 ∧ ((s'.1 = 1 ∧ zfew t (zbf n1 b) ∧ ∀ k', k' < k → zokp t n1 b k') ∨ (s'.1 = 0 ∧ ¬ (zfew t (zbf n1 b) ∧ ∀ k', k' < k → zokp t n1 b k'))) ∧ s'.2.1 = nI k ∧ s'.2.2.1 = mx.1 ∧ s'.2.2.2.1 = mx.2.1 ∧ s'.2.2.2.2.2 = mx.2.2.2 ∧ (∀ a i, ¬ ((a = 32 ∨ a = 33) ∧ 48 + 8 * b ≤ i ∧ i < 48 + 8 * b + 8) → s'.2.2.2.2.1 a i = m3.2.2.1 a i) ∧ ∀ k', k' < k → s'.2.2.2.2.1 32 (48 + 8 * b + k') = nI (t (zbf n1 b + 3 + 2 * k')) ∧ s'.2.2.2.2.1 33 (48 + 8 * b + k') = nI (t (zbf n1 b + 3 + 2 * k' + 1))) (fun r => ((r.1 = 1 ∧ zokb t n1 b) ∨ (r.1 = 0 ∧ ¬ zokb t n1 b)) ∧ mbe b mx r.2 ∧ MDb r.2 t n1 b)) := by
      intro r hr
      refine yes.ret ⟨n1 - (k + 1), by omega, k + 1, rfl, by omega, hr, rfl, f1, f2, f3, fun a i h => ?_, fun k' hk' => ?_⟩
      · show (if a = 33 ∧ i = 48 + 8 * b + k then _ else if a = 32 ∧ i = 48 + 8 * b + k then _ else m'.2.2.1 a i) = _
        rw [if_neg (by omega), if_neg (by omega)]
        exact f4 a i h
      · by_cases e : k' = k
        · subst e
          exact ⟨by rw [mxA_o _ _ _ (by decide)]; simp [mx_A], by simp [mx_A]⟩
        · have := f5 k' (by omega)
          constructor
          · rw [mxA_o _ _ _ (by decide)]
            show (if 32 = 32 ∧ 48 + 8 * b + k' = 48 + 8 * b + k then _ else m'.2.2.1 32 (48 + 8 * b + k')) = _
            rw [if_neg (by omega)]; exact this.1
          · have e' : (mx_A (mx_A m' 32 (48 + 8 * b + k) (nI (t (zbf n1 b + 3 + 2 * k)))) 33 (48 + 8 * b + k) (nI (t (zbf n1 b + 3 + 2 * k + 1)))).2.2.1 33 (48 + 8 * b + k') = m'.2.2.1 33 (48 + 8 * b + k') := by simp [mx_A, e]
            exact e'.trans this.2
    have ext : (∀ k', k' < k + 1 → zokp t n1 b k') ↔ (∀ k', k' < k → zokp t n1 b k') ∧ zokp t n1 b k := by
      constructor
      · intro q; exact ⟨fun k' hk' => q k' (by omega), q k (by omega)⟩
      · intro q k' hk'
        by_cases e : k' = k
        · subst e; exact q.2
        · exact q.1 k' (by omega)
    rw [ext] at nxt
    rcases hc with ⟨rfl, hc1, hc2⟩ | ⟨rfl, hc1⟩
    · rw [if_neg (by decide)]
      by_cases h99 : t (zbf n1 b + 3 + 2 * k) ≤ 99
      · rw [if_neg (show ¬ (99 : Int32) < nI (t (zbf n1 b + 3 + 2 * k)) from nI_nlt (a := 99) h99 (by decide))]
        by_cases hle : t (zbf n1 b + 3 + 2 * k + 1) ≤ t (zbf n1 b + 3 + 2 * k)
        · rw [if_neg (nI_nlt hle (by omega))]
          exact nxt 1 (Or.inl ⟨rfl, hc1, hc2, h99, hle⟩)
        · rw [if_pos (nI_lt (by omega) (by omega))]
          exact nxt 0 (Or.inr ⟨rfl, fun q => hle q.2.2.2⟩)
      · rw [if_pos (show (99 : Int32) < nI (t (zbf n1 b + 3 + 2 * k)) from nI_lt (a := 99) (by omega) (by omega))]
        exact nxt 0 (Or.inr ⟨rfl, fun q => h99 q.2.2.1⟩)
    · rw [if_pos rfl]
      exact nxt 0 (Or.inr ⟨rfl, fun q => hc1 ⟨q.1, q.2.1⟩⟩)
  · have hke : k = n1 := by omega
    subst hke
    rw [if_pos (nI_le (Nat.le_refl _) (by omega)), if_pos (show hx_bit cf = true by rcases hc with ⟨rfl, -⟩ | ⟨rfl, -⟩ <;> decide)]
    refine yes.ret ⟨hc, ⟨f1, f2, f3, fun a i h1 h2 => ?_⟩, fun i hi => ?_, f5⟩
    · rw [f4 a i h2]
      by_cases e : a = 31
      · subst e
        exact m28o i (fun q => h1 ⟨rfl, q⟩)
      · exact m30 a i e
    · rw [f4 31 _ (by omega)]; exact m28 i hi
/-- all guests and beasts of the image -/
theorem ml_onAll (Q : MTP mx bk n0 n1 t) : yes (hx_wh (m_comesOn_s185 (nI (5 + 5 * n1)) (nI (3 + 2 * n1))) hx_FU ((0 : Int32), mx)) (fun r => mfr 1 mx r.2 ∧ (∀ a i, a = 26 ∨ a = 27 ∨ a = 34 → r.2.2.2.1 a i = mx.2.2.1 a i) ∧ ((r.1 = 1 ∧ (∀ k, k < n1 → zokg t n0 k) ∧ (∀ b, b < n0 → zokb t n1 b) ∧ (∀ k, k < n1 → MDg r.2 t k) ∧ ∀ b, b < n0 → MDb r.2 t n1 b) ∨ (r.1 = 0 ∧ ¬ ((∀ k, k < n1 → zokg t n0 k) ∧ ∀ b, b < n0 → zokb t n1 b)))) := by
  obtain ⟨Qt, q1, q2, q3, q4, q5, q6⟩ := id Q
  have keep : ∀ {m' : mx_S}, mfr 1 mx m' → MTP m' bk n0 n1 t := fun {m'} f => ⟨fun i hi => by rw [f.2.2.1 0 i (by decide) (fun q => absurd q (by decide))]; exact Qt i hi, q1, by rw [f.1]; exact q2, by rw [f.2.2.1 1 bk (by decide) (fun q => absurd q (by decide))]; exact q3, by rw [f.2.2.1 6 bk (by decide) (fun q => absurd q (by decide))]; exact q4, q5, q6⟩
  have gfr : ∀ {k : Nat} {a b : mx_S}, k < 8 → mge k a b → mfr 1 a b := fun {k a b} hk h => ⟨h.1, h.2.1, fun x i hx hy => h.2.2.2 x i (fun q => by
      obtain ⟨rfl, q2, q3⟩ := q
      exact hy (by decide) (by decide) (by show i / 24 = 1; omega)) (fun q => by
      obtain ⟨rfl | rfl, q2⟩ := q
      · exact hy (by decide) (by decide) (by show i / 8 = 1; omega)
      · exact hy (by decide) (by decide) (by show i / 8 = 1; omega)), fun x i _ => by rw [h.2.2.1]⟩
  have bfr : ∀ {b : Nat} {m m' : mx_S}, b < 6 → mbe b m m' → mfr 1 m m' := fun {b m m'} hb h => ⟨h.1, h.2.1, fun x i hx hy => h.2.2.2 x i (fun q => by
      obtain ⟨rfl, q2, q3⟩ := q
      exact hy (by decide) (by decide) (by show i / 18 = 1; omega)) (fun q => by
      obtain ⟨rfl | rfl, q2⟩ := q
      · exact hy (by decide) (by decide) (by show i / 48 = 1; omega)
      · exact hy (by decide) (by decide) (by show i / 48 = 1; omega)), fun x i _ => by rw [h.2.2.1]⟩
  refine yes.wh (I := fun n s => ∃ k, n = n1 - k ∧ k ≤ n1 ∧ s.1 = nI k ∧ mfr 1 mx s.2 ∧ (∀ a i, a = 26 ∨ a = 27 ∨ a = 34 → s.2.2.2.1 a i = mx.2.2.1 a i) ∧ (∀ k', k' < k → zokg t n0 k' ∧ MDg s.2 t k')) (n := n1) ⟨0, by omega, by omega, rfl, mfr.refl 1 mx, fun _ _ _ => rfl, fun k' hk' => by omega⟩ (by omega) ?_
  rintro n ⟨x, m'⟩ ⟨k, rfl, hk, e1, fr, fa, hd⟩
  simp only at e1 fr fa hd
  subst e1
  have Q' := keep fr
  unfold m_comesOn_s185
  simp only
  rw [Q'.2.2.1, if_pos (pl_in q1 (by decide)), pl_cl (by omega), Q'.2.2.2.2.1]
  by_cases hlt : k < n1
  · rw [if_neg (nI_ge hlt (by omega)), show (5 : Int32) + (5 : Int32) * nI k = nI (5 + 5 * k) by simp only [pl_lit, pk_mul, nI_add]]
    obtain ⟨⟨r, m2⟩, a1, a2, a3, a4⟩ := ml_guestOn Q' hlt
    simp only at a2 a3 a4
    rw [a1, Option.bind_some]
    have f2 : mfr 1 mx m2 := fr.trans (gfr (by omega) a3)
    have fa2 : ∀ a i, a = 26 ∨ a = 27 ∨ a = 34 → m2.2.2.1 a i = mx.2.2.1 a i := fun a i ha => by rw [a3.2.2.2 a i (by omega) (by omega)]; exact fa a i ha
    rcases a2 with ⟨rfl, ok⟩ | ⟨rfl, no⟩
    · rw [if_neg (show ¬ (1 : Int32) = 0 by decide)]
      refine yes.ret ⟨n1 - (k + 1), by omega, k + 1, rfl, by omega, nI_1 k, f2, fa2, fun k' hk' => ?_⟩
      by_cases e : k' = k
      · subst e; exact ⟨ok, a4⟩
      · obtain ⟨d1, d2, d3, d4⟩ := hd k' (by omega)
        exact ⟨d1, fun i hi => by rw [a3.2.2.2 28 _ (by omega) (by omega)]; exact d2 i hi, by rw [a3.2.2.2 29 _ (by omega) (by omega)]; exact d3, by rw [a3.2.2.2 30 _ (by omega) (by omega)]; exact d4⟩
    · rw [if_pos rfl]
      exact yes.ret ⟨f2, fa2, Or.inr ⟨rfl, fun q => no (q.1 k hlt)⟩⟩
  · have hke : k = n1 := by omega
    subst hke
    rw [if_pos (nI_le (Nat.le_refl _) (by omega))]
    have key : yes (m_comesOn_b222 (nI (5 + 5 * k)) (nI (3 + 2 * k)) m') (fun r => mfr 1 mx r.2 ∧ (∀ a i, a = 26 ∨ a = 27 ∨ a = 34 → r.2.2.2.1 a i = mx.2.2.1 a i) ∧ ((r.1 = 1 ∧ (∀ k', k' < k → zokg t n0 k') ∧ (∀ b, b < n0 → zokb t k b) ∧ (∀ k', k' < k → MDg r.2 t k') ∧ ∀ b, b < n0 → MDb r.2 t k b) ∨ (r.1 = 0 ∧ ¬ ((∀ k', k' < k → zokg t n0 k') ∧ ∀ b, b < n0 → zokb t k b)))) := by
      unfold m_comesOn_b222
      refine yes.wh (I := fun n s => ∃ b, n = n0 - b ∧ b ≤ n0 ∧ s.1 = nI b ∧ mfr 1 mx s.2 ∧ (∀ a i, a = 26 ∨ a = 27 ∨ a = 34 → s.2.2.2.1 a i = mx.2.2.1 a i) ∧ (∀ k', k' < k → MDg s.2 t k') ∧ (∀ b', b' < b → zokb t k b' ∧ MDb s.2 t k b')) (n := n0) ⟨0, by omega, by omega, rfl, fr, fa, fun k' hk' => (hd k' hk').2, fun b' hb' => by omega⟩ (by omega) ?_
      rintro n ⟨x, m'⟩ ⟨b, rfl, hb, e1, fr, fa, hg, hb'⟩
      simp only at e1 fr fa hg hb'
      subst e1
      have Q' := keep fr
      unfold m_comesOn_s225
      simp only
      rw [Q'.2.2.1, if_pos (pl_in q1 (by decide)), pl_cl (by omega), Q'.2.2.2.1]
      by_cases hlt : b < n0
      · rw [if_neg (nI_ge hlt (by omega)), show nI (5 + 5 * k) + nI (3 + 2 * k) * nI b = nI (zbf k b) by rw [pk_mul, nI_add]; unfold zbf; rw [Nat.mul_comm (3 + 2 * k) b]]
        obtain ⟨⟨r, m2⟩, a1, a2, a3, a4⟩ := ml_beastOn Q' hlt
        simp only at a2 a3 a4
        rw [a1, Option.bind_some]
        have f2 : mfr 1 mx m2 := fr.trans (bfr (by omega) a3)
        have fa2 : ∀ a i, a = 26 ∨ a = 27 ∨ a = 34 → m2.2.2.1 a i = mx.2.2.1 a i := fun a i ha => by rw [a3.2.2.2 a i (by omega) (by omega)]; exact fa a i ha
        have hg2 : ∀ k', k' < k → MDg m2 t k' := fun k' hk' => by
          obtain ⟨d2, d3, d4⟩ := hg k' hk'
          exact ⟨fun i hi => by rw [a3.2.2.2 28 _ (by omega) (by omega)]; exact d2 i hi, by rw [a3.2.2.2 29 _ (by omega) (by omega)]; exact d3, by rw [a3.2.2.2 30 _ (by omega) (by omega)]; exact d4⟩
        rcases a2 with ⟨rfl, ok⟩ | ⟨rfl, no⟩
        · rw [if_neg (show ¬ (1 : Int32) = 0 by decide)]
          refine yes.ret ⟨n0 - (b + 1), by omega, b + 1, rfl, by omega, nI_1 b, f2, fa2, hg2, fun b' hb2 => ?_⟩
          by_cases e : b' = b
          · subst e; exact ⟨ok, a4⟩
          · obtain ⟨d1, d2, d3⟩ := hb' b' (by omega)
            exact ⟨d1, fun i hi => by rw [a3.2.2.2 31 _ (by omega) (by omega)]; exact d2 i hi, fun k' hk' => ⟨by rw [a3.2.2.2 32 _ (by omega) (by omega)]; exact (d3 k' hk').1, by rw [a3.2.2.2 33 _ (by omega) (by omega)]; exact (d3 k' hk').2⟩⟩
        · rw [if_pos rfl]
          exact yes.ret ⟨f2, fa2, Or.inr ⟨rfl, fun q => no (q.2 b hlt)⟩⟩
      · have hbe : b = n0 := by omega
        subst hbe
        rw [if_pos (nI_le (Nat.le_refl _) (by omega))]
        exact yes.ret ⟨fr, fa, Or.inl ⟨rfl, fun k' hk' => (hd k' hk').1, fun b' h => (hb' b' h).1, hg, fun b' h => (hb' b' h).2⟩⟩
    obtain ⟨r, w1, w2⟩ := key
    rw [w1]
    exact yes.ret w2
end OB

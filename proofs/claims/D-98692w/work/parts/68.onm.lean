/-! PURE SIDE: the call on, in the reference -/
set_option maxRecDepth 100000
theorem mxA_o {ms : mx_S} {a b : Nat} (i : Nat) (v : Int32) (j : Nat) (h : b ≠ a) : (mx_A ms a i v).2.2.1 b j = ms.2.2.1 b j := by simp [mx_A, h]
theorem mxA_1 (ms : mx_S) (a i : Nat) (v : Int32) : (mx_A ms a i v).1 = ms.1 := rfl
theorem zin_9 (n : Nat) (hn : n < 1000) : zin (nI n) 0 9 = if n ≤ 9 then 1 else 0 := by
  unfold zin
  rw [if_neg (show ¬ nI n < (0 : Int32) from nI_pos (by omega))]
  by_cases q : n ≤ 9
  · rw [if_neg (show ¬ (9 : Int32) < nI n from nI_nlt (a := 9) q (by decide)), if_pos q]
  · rw [if_pos (show (9 : Int32) < nI n from nI_lt (a := 9) (by omega) (by omega)), if_neg q]
section OM
variable {W X Y T : zW} {ms mx : mx_S} {bk n0 n1 : Nat} {t : Nat → Nat}
/-- the tape as the reference holds it; the bank -/
def MTP (mx : mx_S) (bk n0 n1 : Nat) (t : Nat → Nat) : Prop := (∀ i, i < 1600 → mx.2.2.1 0 i = nI (t i) ∧ t i ≤ 255) ∧ bk < 2 ∧ mx.1 13 = nI bk ∧ mx.2.2.1 1 bk = nI n0 ∧ mx.2.2.1 6 bk = nI n1 ∧ n0 ≤ 6 ∧ n1 ≤ 8
theorem ml_nine {a : Nat} (Q : ∀ i, i < 1600 → mx.2.2.1 0 i = nI (t i) ∧ t i ≤ 255) (ha : a + 3 < 1600) (m' : mx_S) : (zfew t a → m_areNine (nI (t a)) (nI (t (a + 1))) (nI (t (a + 2))) m' = some 1) ∧ (¬ zfew t a → m_areNine (nI (t a)) (nI (t (a + 1))) (nI (t (a + 2))) m' = some 0) := by
  have b0 := (Q a (by omega)).2
  have b1 := (Q (a + 1) (by omega)).2
  have b2 := (Q (a + 2) (by omega)).2
  rw [m_areNine_z, zin_9 _ (by omega), zin_9 _ (by omega), zin_9 _ (by omega)]
  have key : zfew t a ↔ t a ≤ 9 ∧ t (a + 1) ≤ 9 ∧ t (a + 2) ≤ 9 := by
    constructor
    · intro q; exact ⟨q 0 (by decide), q 1 (by decide), q 2 (by decide)⟩
    · intro q i hi
      have cs : i = 0 ∨ i = 1 ∨ i = 2 := by omega
      rcases cs with rfl | rfl | rfl
      · exact q.1
      · exact q.2.1
      · exact q.2.2
  rw [key]
  by_cases q0 : t a ≤ 9 <;> by_cases q1 : t (a + 1) ≤ 9 <;> by_cases q2 : t (a + 2) ≤ 9 <;> simp [q0, q1, q2]
def MDg (mx : mx_S) (t : Nat → Nat) (k : Nat) : Prop := (∀ i, i < 3 → mx.2.2.1 28 (24 + 3 * k + i) = nI (t (5 + 5 * k + i))) ∧ mx.2.2.1 29 (8 + k) = nI (t (5 + 5 * k + 3)) - 1 ∧ mx.2.2.1 30 (8 + k) = nI (t (5 + 5 * k + 4))
def MDb (mx : mx_S) (t : Nat → Nat) (n1 b : Nat) : Prop := (∀ i, i < 3 → mx.2.2.1 31 (18 + 3 * b + i) = nI (t (zbf n1 b + i))) ∧ ∀ k, k < n1 → mx.2.2.1 32 (48 + 8 * b + k) = nI (t (zbf n1 b + 3 + 2 * k)) ∧ mx.2.2.1 33 (48 + 8 * b + k) = nI (t (zbf n1 b + 3 + 2 * k + 1))
def mge (k : Nat) (ms ms' : mx_S) : Prop := ms'.1 = ms.1 ∧ ms'.2.1 = ms.2.1 ∧ ms'.2.2.2 = ms.2.2.2 ∧ ∀ a i, ¬ (a = 28 ∧ 24 + 3 * k ≤ i ∧ i < 24 + 3 * k + 3) → ¬ ((a = 29 ∨ a = 30) ∧ i = 8 + k) → ms'.2.2.1 a i = ms.2.2.1 a i
def mbe (b : Nat) (ms ms' : mx_S) : Prop := ms'.1 = ms.1 ∧ ms'.2.1 = ms.2.1 ∧ ms'.2.2.2 = ms.2.2.2 ∧ ∀ a i, ¬ (a = 31 ∧ 18 + 3 * b ≤ i ∧ i < 18 + 3 * b + 3) → ¬ ((a = 32 ∨ a = 33) ∧ 48 + 8 * b ≤ i ∧ i < 48 + 8 * b + 8) → ms'.2.2.1 a i = ms.2.2.1 a i
theorem ml_guestOn {k : Nat} (Q : MTP mx bk n0 n1 t) (hk : k < n1) : yes (m_guestOn (nI k) (nI (5 + 5 * k)) mx) (fun r => ((r.1 = 1 ∧ zokg t n0 k) ∨ (r.1 = 0 ∧ ¬ zokg t n0 k)) ∧ mge k mx r.2 ∧ MDg r.2 t k) := by
  obtain ⟨Qt, q1, q2, q3, q4, q5, q6⟩ := Q
  have hk8 : k < 8 := by omega
  have st : ∀ i (m' : mx_S), i < 3 → (∀ j, m'.2.2.1 0 j = mx.2.2.1 0 j) → m_guestOn_s2 (nI k) (nI (5 + 5 * k)) (nI i, m') = some (.inl (nI (i + 1), mx_A m' 28 (24 + 3 * k + i) (nI (t (5 + 5 * k + i))))) := by
    intro i m' hi hm'
    unfold m_guestOn_s2
    simp only
    have ix : ((24 : Int32) + ((3 : Int32) * nI k)) + nI i = nI (24 + 3 * k + i) := by simp only [pl_lit, pk_mul, nI_add]
    rw [if_neg (show ¬ (3 : Int32) ≤ nI i from nI_ge (b := 3) hi (by decide)), nI_add, if_pos (pl_in (by omega) (by decide)), ix, if_pos (pl_in (by omega) (by decide)), pl_cl (by omega), pl_cl (by omega), hm', (Qt _ (by omega)).1, nI_1]
  have lp : m_guestOn (nI k) (nI (5 + 5 * k)) mx = m_guestOn_b34 (nI k) (nI (5 + 5 * k)) (mx_A (mx_A (mx_A mx 28 (24 + 3 * k) (nI (t (5 + 5 * k)))) 28 (24 + 3 * k + 1) (nI (t (5 + 5 * k + 1)))) 28 (24 + 3 * k + 2) (nI (t (5 + 5 * k + 2)))) := by
    unfold m_guestOn
    refine pl_loop (fun i => (nI i, if i = 0 then mx else if i = 1 then mx_A mx 28 (24 + 3 * k) (nI (t (5 + 5 * k))) else if i = 2 then mx_A (mx_A mx 28 (24 + 3 * k) (nI (t (5 + 5 * k)))) 28 (24 + 3 * k + 1) (nI (t (5 + 5 * k + 1))) else mx_A (mx_A (mx_A mx 28 (24 + 3 * k) (nI (t (5 + 5 * k)))) 28 (24 + 3 * k + 1) (nI (t (5 + 5 * k + 1)))) 28 (24 + 3 * k + 2) (nI (t (5 + 5 * k + 2))))) 3 _ (fun i hi => ?_) ?_ (by decide)
    · have cs : i = 0 ∨ i = 1 ∨ i = 2 := by omega
      rcases cs with rfl | rfl | rfl
      · simpa using st 0 mx (by decide) (fun _ => rfl)
      · simpa using st 1 (mx_A mx 28 (24 + 3 * k) (nI (t (5 + 5 * k)))) (by decide) (fun j => mxA_o _ _ _ (by decide))
      · simpa using st 2 (mx_A (mx_A mx 28 (24 + 3 * k) (nI (t (5 + 5 * k)))) 28 (24 + 3 * k + 1) (nI (t (5 + 5 * k + 1)))) (by decide) (fun j => (mxA_o _ _ _ (by decide)).trans (mxA_o _ _ _ (by decide)))
    · unfold m_guestOn_s2
      rw [if_pos (show (3 : Int32) ≤ nI 3 by decide)]
      rfl
  rw [lp]
  have m30 : ∀ a j, a ≠ 28 → (mx_A (mx_A (mx_A mx 28 (24 + 3 * k) (nI (t (5 + 5 * k)))) 28 (24 + 3 * k + 1) (nI (t (5 + 5 * k + 1)))) 28 (24 + 3 * k + 2) (nI (t (5 + 5 * k + 2)))).2.2.1 a j = mx.2.2.1 a j := fun a j h => ((mxA_o _ _ _ h).trans (mxA_o _ _ _ h)).trans (mxA_o _ _ _ h)
  have m31 : (mx_A (mx_A (mx_A mx 28 (24 + 3 * k) (nI (t (5 + 5 * k)))) 28 (24 + 3 * k + 1) (nI (t (5 + 5 * k + 1)))) 28 (24 + 3 * k + 2) (nI (t (5 + 5 * k + 2)))).1 = mx.1 := rfl
  have m28 : ∀ i, i < 3 → (mx_A (mx_A (mx_A mx 28 (24 + 3 * k) (nI (t (5 + 5 * k)))) 28 (24 + 3 * k + 1) (nI (t (5 + 5 * k + 1)))) 28 (24 + 3 * k + 2) (nI (t (5 + 5 * k + 2)))).2.2.1 28 (24 + 3 * k + i) = nI (t (5 + 5 * k + i)) := fun i hi => by
    have cs : i = 0 ∨ i = 1 ∨ i = 2 := by omega
    rcases cs with rfl | rfl | rfl <;> simp [mx_A]
  have m28o : ∀ i, ¬ (24 + 3 * k ≤ i ∧ i < 24 + 3 * k + 3) → (mx_A (mx_A (mx_A mx 28 (24 + 3 * k) (nI (t (5 + 5 * k)))) 28 (24 + 3 * k + 1) (nI (t (5 + 5 * k + 1)))) 28 (24 + 3 * k + 2) (nI (t (5 + 5 * k + 2)))).2.2.1 28 i = mx.2.2.1 28 i := fun i hi => by
    show (if 28 = 28 ∧ i = 24 + 3 * k + 2 then _ else if 28 = 28 ∧ i = 24 + 3 * k + 1 then _ else if 28 = 28 ∧ i = 24 + 3 * k then _ else mx.2.2.1 28 i) = _
    rw [if_neg (by omega), if_neg (by omega), if_neg (by omega)]
  have m3b : (mx_A (mx_A (mx_A mx 28 (24 + 3 * k) (nI (t (5 + 5 * k)))) 28 (24 + 3 * k + 1) (nI (t (5 + 5 * k + 1)))) 28 (24 + 3 * k + 2) (nI (t (5 + 5 * k + 2)))).2.1 = mx.2.1 ∧ (mx_A (mx_A (mx_A mx 28 (24 + 3 * k) (nI (t (5 + 5 * k)))) 28 (24 + 3 * k + 1) (nI (t (5 + 5 * k + 1)))) 28 (24 + 3 * k + 2) (nI (t (5 + 5 * k + 2)))).2.2.2 = mx.2.2.2 := ⟨rfl, rfl⟩
  generalize mx_A (mx_A (mx_A mx 28 (24 + 3 * k) (nI (t (5 + 5 * k)))) 28 (24 + 3 * k + 1) (nI (t (5 + 5 * k + 1)))) 28 (24 + 3 * k + 2) (nI (t (5 + 5 * k + 2))) = m3 at *
  have e8 : (8 : Int32) + nI k = nI (8 + k) := nI_add 8 k
  have e1 : nI (5 + 5 * k) + (1 : Int32) = nI (5 + 5 * k + 1) := nI_add _ 1
  have e2 : nI (5 + 5 * k) + (2 : Int32) = nI (5 + 5 * k + 2) := nI_add _ 2
  have e3 : nI (5 + 5 * k) + (3 : Int32) = nI (5 + 5 * k + 3) := nI_add _ 3
  have e4 : nI (5 + 5 * k) + (4 : Int32) = nI (5 + 5 * k + 4) := nI_add _ 4
  have i8 : hx_in (nI (8 + k)) 176 = true := pl_in (by omega) (by decide)
  have i0 : hx_in (nI (5 + 5 * k)) 1800 = true := pl_in (by omega) (by decide)
  have i1 : hx_in (nI (5 + 5 * k + 1)) 1800 = true := pl_in (by omega) (by decide)
  have i2 : hx_in (nI (5 + 5 * k + 2)) 1800 = true := pl_in (by omega) (by decide)
  have i3 : hx_in (nI (5 + 5 * k + 3)) 1800 = true := pl_in (by omega) (by decide)
  have i4 : hx_in (nI (5 + 5 * k + 4)) 1800 = true := pl_in (by omega) (by decide)
  have ib : hx_in (nI bk) 2 = true := pl_in q1 (by decide)
  have c8 : (nI (8 + k)).toNatClampNeg = 8 + k := pl_cl (by omega)
  have c0 : (nI (5 + 5 * k)).toNatClampNeg = 5 + 5 * k := pl_cl (by omega)
  have c1 : (nI (5 + 5 * k + 1)).toNatClampNeg = 5 + 5 * k + 1 := pl_cl (by omega)
  have c2 : (nI (5 + 5 * k + 2)).toNatClampNeg = 5 + 5 * k + 2 := pl_cl (by omega)
  have c3 : (nI (5 + 5 * k + 3)).toNatClampNeg = 5 + 5 * k + 3 := pl_cl (by omega)
  have c4 : (nI (5 + 5 * k + 4)).toNatClampNeg = 5 + 5 * k + 4 := pl_cl (by omega)
  have cb : (nI bk).toNatClampNeg = bk := pl_cl (by omega)
  have o29 : ∀ m' i v j, (mx_A m' 29 i v).2.2.1 0 j = m'.2.2.1 0 j := fun m' i v j => mxA_o _ _ _ (by decide)
  have o30 : ∀ m' i v j, (mx_A m' 30 i v).2.2.1 0 j = m'.2.2.1 0 j := fun m' i v j => mxA_o _ _ _ (by decide)
  have p29 : ∀ m' i v j, (mx_A m' 29 i v).2.2.1 1 j = m'.2.2.1 1 j := fun m' i v j => mxA_o _ _ _ (by decide)
  have p30 : ∀ m' i v j, (mx_A m' 30 i v).2.2.1 1 j = m'.2.2.1 1 j := fun m' i v j => mxA_o _ _ _ (by decide)
  have z0 : ∀ j, j < 1600 → m3.2.2.1 0 j = nI (t j) := fun j hj => by rw [m30 0 j (by decide)]; exact (Qt j hj).1
  obtain ⟨n1', n2'⟩ := ml_nine (mx := mx) (t := t) (a := 5 + 5 * k) Qt (by omega) (mx_A (mx_A m3 29 (8 + k) (nI (t (5 + 5 * k + 3)) - 1)) 30 (8 + k) (nI (t (5 + 5 * k + 4))))
  have t3 := (Qt (5 + 5 * k + 3) (by omega)).2
  have t4 := (Qt (5 + 5 * k + 4) (by omega)).2
  have fin : ∀ r : Int32, ((r = 1 ∧ zokg t n0 k) ∨ (r = 0 ∧ ¬ zokg t n0 k)) → yes (some (r, mx_A (mx_A m3 29 (8 + k) (nI (t (5 + 5 * k + 3)) - 1)) 30 (8 + k) (nI (t (5 + 5 * k + 4))))) (fun r => ((r.1 = 1 ∧ zokg t n0 k) ∨ (r.1 = 0 ∧ ¬ zokg t n0 k)) ∧ mge k mx r.2 ∧ MDg r.2 t k) := by
    intro r hr
    refine yes.ret ⟨hr, ⟨m31, m3b.1, m3b.2, fun a i h1 h2 => ?_⟩, fun i hi => ?_, ?_, ?_⟩
    · show (if a = 30 ∧ i = 8 + k then _ else if a = 29 ∧ i = 8 + k then _ else m3.2.2.1 a i) = _
      rw [if_neg (fun q => h2 ⟨Or.inr q.1, q.2⟩), if_neg (fun q => h2 ⟨Or.inl q.1, q.2⟩)]
      by_cases e : a = 28
      · subst e
        exact m28o i (fun q => h1 ⟨rfl, q⟩)
      · exact m30 a i e
    · rw [mxA_o _ _ _ (by decide), mxA_o _ _ _ (by decide)]; exact m28 i hi
    · rw [mxA_o _ _ _ (by decide)]; simp [mx_A]
    · simp [mx_A]
  unfold m_guestOn_b34 m_guestOn_b145
  simp only [e8, e1, e2, e3, e4, i8, i0, i1, i2, i3, i4, c8, c0, c1, c2, c3, c4, ↓reduceIte, o29, o30, z0 (5 + 5 * k) (by omega), z0 (5 + 5 * k + 1) (by omega), z0 (5 + 5 * k + 2) (by omega), z0 (5 + 5 * k + 3) (by omega), z0 (5 + 5 * k + 4) (by omega), mxA_1, m31, q2, ib, cb, p29, p30, m30 1 bk (by decide), q3, (sh_6 n0 q5).1]
  by_cases hf : zfew t (5 + 5 * k)
  · rw [n1' hf, Option.bind_some, if_neg (by decide)]
    by_cases h3 : t (5 + 5 * k + 3) ≤ n0
    · rw [if_neg (nI_nlt h3 (by omega))]
      have hp : 2 ^ n0 ≤ 64 := Nat.pow_le_pow_right (by decide) q5
      by_cases h4 : t (5 + 5 * k + 4) < 2 ^ n0
      · rw [if_neg (nI_ge h4 (by omega))]
        exact fin 1 (Or.inl ⟨rfl, hf, h3, h4⟩)
      · rw [if_pos (nI_le (by omega) (by omega))]
        exact fin 0 (Or.inr ⟨rfl, fun q => h4 q.2.2⟩)
    · rw [if_pos (nI_lt (by omega) (by omega))]
      exact fin 0 (Or.inr ⟨rfl, fun q => h3 q.2.1⟩)
  · rw [n2' hf, Option.bind_some, if_pos rfl]
    exact fin 0 (Or.inr ⟨rfl, fun q => hf q.1⟩)
end OM

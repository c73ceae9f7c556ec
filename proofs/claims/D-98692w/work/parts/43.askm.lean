/-! PURE SIDE: all beasts ask: the reference -/
set_option maxRecDepth 100000
/-- told, in layer v -/
def MT (ms : mx_S) (v : Nat) (L : List (Nat → Int32)) : Prop := ms.2.2.1 34 v = nI L.length ∧ L.length ≤ 60 ∧ ∀ i r, L[i]? = some r → ∀ k, k < 5 → ms.2.2.1 35 (300 * v + 5 * i + k) = r k
/-- only the rows of layer v are other -/
def m35 (v : Nat) (ms ms' : mx_S) : Prop := ms'.1 = ms.1 ∧ ms'.2.1 = ms.2.1 ∧ ms'.2.2.2 = ms.2.2.2 ∧ ∀ a i, ¬ (a = 34 ∧ i = v) → ¬ (a = 35 ∧ 300 * v ≤ i ∧ i < 300 * v + 300) → ms'.2.2.1 a i = ms.2.2.1 a i
theorem m35.refl (v : Nat) (ms : mx_S) : m35 v ms ms := ⟨rfl, rfl, rfl, fun _ _ _ _ => rfl⟩
theorem m35.trans {v : Nat} {a b c : mx_S} (h : m35 v a b) (k : m35 v b c) : m35 v a c := ⟨k.1.trans h.1, k.2.1.trans h.2.1, k.2.2.1.trans h.2.2.1, fun x i h1 h2 => (k.2.2.2 x i h1 h2).trans (h.2.2.2 x i h1 h2)⟩
theorem m35.A35 {v : Nat} (ms : mx_S) {i : Nat} (x : Int32) (h1 : 300 * v ≤ i) (h2 : i < 300 * v + 300) : m35 v ms (mx_A ms 35 i x) := by
  refine ⟨rfl, rfl, rfl, fun a j k1 k2 => ?_⟩
  show (if a = 35 ∧ j = i then x else _) = _
  rw [if_neg (fun q => k2 ⟨q.1, by omega, by omega⟩)]
theorem m35.A34 {v : Nat} (ms : mx_S) (x : Int32) : m35 v ms (mx_A ms 34 v x) := by
  refine ⟨rfl, rfl, rfl, fun a j k1 k2 => ?_⟩
  show (if a = 34 ∧ j = v then x else _) = _
  rw [if_neg (fun q => k1 q)]
theorem m35.fr {v : Nat} {ms ms' : mx_S} (h : m35 v ms ms') : mfr v ms ms' := by
  refine ⟨h.1, h.2.1, fun a i h1 h2 => h.2.2.2 a i (fun q => ?_) (fun q => ?_), fun a i _ => by rw [h.2.2.1]⟩
  · exact h2 (by omega) (by omega) (by rw [q.1, q.2]; show v / 1 = v; omega)
  · exact h2 (by omega) (by omega) (by rw [q.1]; show i / 300 = v; omega)
theorem MR.r35 {v : Nat} {ms ms' : mx_S} {W : zW} (R : MR ms v W) (h : m35 v ms ms') : MR ms' v W := by
  have h5 : ∀ a i, a ≠ 34 → a ≠ 35 → ms'.2.2.1 a i = ms.2.2.1 a i := fun a i h1 h2 => h.2.2.2 a i (fun q => h1 q.1) (fun q => h2 q.1)
  simp only [MR, h5 26 _ (by decide) (by decide), h5 27 _ (by decide) (by decide), h5 28 _ (by decide) (by decide), h5 29 _ (by decide) (by decide), h5 30 _ (by decide) (by decide), h5 31 _ (by decide) (by decide), h5 32 _ (by decide) (by decide), h5 33 _ (by decide) (by decide)]
  exact R
section AM
variable {ms : mx_S} {W : zW} {bk v : Nat} {L : List (Nat → Int32)} {lk my : zL}
/-- the row is laid behind the others -/
theorem ml_writes2 (R : MR ms v W) (M : MT ms v L) (hl : L.length < 60) (b k w : Int32) : yes (m_writesDown_b66 (nI v) b k w ms) (fun ms' => MT ms' v (L ++ [zrow (W.2.1 0 0 6) (W.2.1 0 0 7) b k w]) ∧ m35 v ms ms') := by
  have R' := R
  obtain ⟨r0, -, -, -, -, -, d, t, r1, r2, r3, r4, r5⟩ := R'
  obtain ⟨m1, m2, m3⟩ := M
  have e0 : (5 : Int32) * ((60 : Int32) * nI v + ms.2.2.1 34 v) = nI (300 * v + 5 * L.length) := by
    rw [m1]; simp only [pl_lit, pk_mul, nI_add]; congr 1; omega
  have ej : ∀ j, j < 5 → nI (300 * v + 5 * L.length) + nI j = nI (300 * v + 5 * L.length + j) := fun j _ => nI_add _ _
  have e1 := ej 1 (by decide)
  have e2 := ej 2 (by decide)
  have e3 := ej 3 (by decide)
  have e4 := ej 4 (by decide)
  rw [show nI 1 = (1 : Int32) from rfl] at e1
  rw [show nI 2 = (2 : Int32) from rfl] at e2
  rw [show nI 3 = (3 : Int32) from rfl] at e3
  rw [show nI 4 = (4 : Int32) from rfl] at e4
  unfold m_writesDown_b66
  rw [if_pos (pl_in r0 (by decide)), if_pos (pl_in r0 (by decide)), pl_cl (k := v) (by omega), e0, if_pos (pl_in (by omega) (by decide)), r5, show (24 : Int32) = nI 24 from rfl, pk_div (by omega) (by decide) (by decide), show (24 * d + t) / 24 = d by omega, e1, e2, e3, e4, pl_cl (k := 300 * v + 5 * L.length) (by omega), pl_cl (k := 300 * v + 5 * L.length + 1) (by omega), pl_cl (k := 300 * v + 5 * L.length + 2) (by omega), pl_cl (k := 300 * v + 5 * L.length + 3) (by omega), pl_cl (k := 300 * v + 5 * L.length + 4) (by omega)]
  have s1 : m35 v ms (mx_A ms 35 (300 * v + 5 * L.length) (nI d)) := m35.A35 ms _ (by omega) (by omega)
  rw [ml_hour (R.r35 s1), Option.bind_some, if_pos (pl_in (by omega) (by decide)), if_pos (pl_in (by omega) (by decide)), if_pos (pl_in (by omega) (by decide)), if_pos (pl_in (by omega) (by decide)), if_pos (pl_in r0 (by decide)), if_pos (pl_in r0 (by decide))]
  have s5 := (((s1.trans (m35.A35 (v := v) _ (i := 300 * v + 5 * L.length + 1) (W.2.1 0 0 7) (by omega) (by omega))).trans (m35.A35 (v := v) _ (i := 300 * v + 5 * L.length + 2) b (by omega) (by omega))).trans (m35.A35 (v := v) _ (i := 300 * v + 5 * L.length + 3) k (by omega) (by omega))).trans (m35.A35 (v := v) _ (i := 300 * v + 5 * L.length + 4) w (by omega) (by omega))
  refine yes.ret ⟨⟨?_, by rw [List.length_append]; show L.length + 1 ≤ 60; omega, fun i r hr j hj => ?_⟩, s5.trans (m35.A34 _ _)⟩
  · show (if 34 = 34 ∧ v = v then ms.2.2.1 34 v + 1 else _) = _
    rw [if_pos ⟨rfl, rfl⟩, m1, List.length_append, nI_1]
    rfl
  · show (if 35 = 34 ∧ 300 * v + 5 * i + j = v then ms.2.2.1 34 v + 1 else if 35 = 35 ∧ 300 * v + 5 * i + j = 300 * v + 5 * L.length + 4 then w else if 35 = 35 ∧ 300 * v + 5 * i + j = 300 * v + 5 * L.length + 3 then k else if 35 = 35 ∧ 300 * v + 5 * i + j = 300 * v + 5 * L.length + 2 then b else if 35 = 35 ∧ 300 * v + 5 * i + j = 300 * v + 5 * L.length + 1 then W.2.1 0 0 7 else if 35 = 35 ∧ 300 * v + 5 * i + j = 300 * v + 5 * L.length then nI d else ms.2.2.1 35 (300 * v + 5 * i + j)) = r j
    by_cases hlt : i < L.length
    · rw [List.getElem?_append_left hlt] at hr
      rw [if_neg (fun q => by have := q.1; omega), if_neg (fun q => by have := q.2; omega), if_neg (fun q => by have := q.2; omega), if_neg (fun q => by have := q.2; omega), if_neg (fun q => by have := q.2; omega), if_neg (fun q => by have := q.2; omega)]
      exact m3 i r hr j hj
    · have hi : i < L.length + 1 := by
        have := (List.getElem?_eq_some_iff.mp hr).1
        rw [List.length_append] at this
        exact this
      have hie : i = L.length := by omega
      subst hie
      rw [List.getElem?_append_right (Nat.le_refl _), Nat.sub_self] at hr
      cases hr
      have hj' : j = 0 ∨ j = 1 ∨ j = 2 ∨ j = 3 ∨ j = 4 := by omega
      rcases hj' with rfl | rfl | rfl | rfl | rfl <;> simp [zrow, r1]
theorem ml_writes (R : MR ms v W) (M : MT ms v L) (b k w : Int32) : yes (m_writesDown (nI v) b k w ms) (fun ms' => MT ms' v (zkeep L (zrow (W.2.1 0 0 6) (W.2.1 0 0 7) b k w)) ∧ m35 v ms ms') := by
  have r0 := R.1
  obtain ⟨m1, m2, m3⟩ := id M
  unfold m_writesDown zkeep
  rw [if_pos (pl_in r0 (by decide)), pl_cl (by omega), m1]
  by_cases h60 : L.length = 60
  · rw [if_pos (by rw [h60]; rfl), if_pos h60, show (300 : Int32) * nI v = nI (300 * v) by simp only [pl_lit, pk_mul]]
    refine yes.wh (I := fun n s => ∃ j, n = 295 - j ∧ j ≤ 295 ∧ s.1 = nI (300 * v + j) ∧ m35 v ms s.2 ∧ s.2.2.2.1 34 v = nI 60 ∧ ∀ i, i < 300 → s.2.2.2.1 35 (300 * v + i) = if i < j then ms.2.2.1 35 (300 * v + i + 5) else ms.2.2.1 35 (300 * v + i)) (n := 295) ⟨0, rfl, by decide, rfl, m35.refl v ms, by show ms.2.2.1 34 v = _; rw [m1, h60], fun i _ => by rw [if_neg (by omega)]⟩ (by decide) ?_
    rintro n ⟨x, mx⟩ ⟨j, rfl, hj, e1, s1, e34, e35⟩
    simp only at e1 s1 e34 e35
    subst e1
    unfold m_writesDown_s18
    have eE : (300 : Int32) * nI v + (300 : Int32) - (5 : Int32) = nI (300 * v + 295) := by
      simp only [pl_lit, pk_mul, nI_add]; rw [pk_sub (by omega)]; congr 1
    simp only
    rw [eE]
    by_cases hlt : j < 295
    · rw [if_neg (nI_ge (by omega) (by omega)), show nI (300 * v + j) + (5 : Int32) = nI (300 * v + j + 5) from nI_add _ 5, if_pos (pl_in (by omega) (by decide)), if_pos (pl_in (by omega) (by decide)), pl_cl (by omega), pl_cl (by omega)]
      refine yes.ret ⟨295 - (j + 1), by omega, j + 1, rfl, by omega, nI_1 _, s1.trans (m35.A35 _ _ (by omega) (by omega)), e34, fun i hi => ?_⟩
      show (if 35 = 35 ∧ 300 * v + i = 300 * v + j then mx.2.2.1 35 (300 * v + j + 5) else mx.2.2.1 35 (300 * v + i)) = _
      by_cases hij : i = j
      · subst hij
        rw [if_pos ⟨rfl, rfl⟩, if_pos (by omega), show 300 * v + i + 5 = 300 * v + (i + 5) by omega, e35 (i + 5) (by omega), if_neg (by omega)]
      · rw [if_neg (fun q => by have := q.2; omega), e35 i hi]
        by_cases h3 : i < j
        · rw [if_pos h3, if_pos (by omega)]
        · rw [if_neg h3, if_neg (by omega)]
    · have hje : j = 295 := by omega
      subst hje
      rw [if_pos (nI_le (by omega) (by omega))]
      unfold m_writesDown_b56
      rw [if_pos (pl_in r0 (by decide)), if_pos (pl_in r0 (by decide)), pl_cl (by omega), e34, show nI 60 - (1 : Int32) = nI 59 from rfl]
      have s2 : m35 v ms (mx_A mx 34 v (nI 59)) := s1.trans (m35.A34 _ _)
      have M2 : MT (mx_A mx 34 v (nI 59)) v L.tail := by
        refine ⟨?_, by rw [List.length_tail]; omega, fun i r hr q hq => ?_⟩
        · show (if 34 = 34 ∧ v = v then nI 59 else _) = _
          rw [if_pos ⟨rfl, rfl⟩, List.length_tail, h60]
        · rw [List.getElem?_tail] at hr
          have hi := (List.getElem?_eq_some_iff.mp hr).1
          show mx.2.2.1 35 (300 * v + 5 * i + q) = r q
          rw [show 300 * v + 5 * i + q = 300 * v + (5 * i + q) by omega, e35 _ (by omega), if_pos (by omega), show 300 * v + (5 * i + q) + 5 = 300 * v + 5 * (i + 1) + q by omega]
          exact m3 (i + 1) r hr q hq
      obtain ⟨ms', a1, a2, a3⟩ := ml_writes2 (R.r35 s2) M2 (by rw [List.length_tail]; omega) b k w
      rw [a1]
      exact ⟨_, rfl, a2, s2.trans a3⟩
  · rw [if_neg (show ¬ nI L.length = (60 : Int32) from fun q => h60 ((nI_eq (by omega) (by decide)).mp (show nI L.length = nI 60 from q))), if_neg h60]
    exact ml_writes2 R M (by omega) b k w
theorem MT.co {ms' : mx_S} (M : MT ms v L) (h : mco v ms ms') : MT ms' v L := by
  have h34 : ∀ i, ms'.2.2.1 34 i = ms.2.2.1 34 i := fun i => h.2.2.1 34 i (by decide) (fun q => by omega)
  have h35 : ∀ i, ms'.2.2.1 35 i = ms.2.2.1 35 i := fun i => h.2.2.1 35 i (by decide) (fun q => by omega)
  refine ⟨by rw [h34]; exact M.1, M.2.1, fun i r hr k hk => by rw [h35]; exact M.2.2 i r hr k hk⟩
theorem MT.A {a i : Nat} (M : MT ms v L) (x : Int32) (h : a ≠ 34 ∧ a ≠ 35) : MT (mx_A ms a i x) v L := by
  refine ⟨?_, M.2.1, fun i' r hr k hk => ?_⟩
  · show (if 34 = a ∧ v = i then x else _) = _
    rw [if_neg (fun q => h.1 q.1.symm)]; exact M.1
  · show (if 35 = a ∧ _ = i then x else _) = _
    rw [if_neg (fun q => h.2 q.1.symm)]; exact M.2.2 i' r hr k hk
theorem MR.scr {a i : Nat} (R : MR ms v W) (x : Int32) (h : ¬ (26 ≤ a ∧ a ≤ 33)) : MR (mx_A ms a i x) v W := by
  have h5 : ∀ a' i', 26 ≤ a' → a' ≤ 33 → (mx_A ms a i x).2.2.1 a' i' = ms.2.2.1 a' i' := by
    intro a' i' h1 h2
    show (if a' = a ∧ i' = i then x else _) = _
    rw [if_neg (fun q => by omega)]
  simp only [MR, h5 26 _ (by decide) (by decide), h5 27 _ (by decide) (by decide), h5 28 _ (by decide) (by decide), h5 29 _ (by decide) (by decide), h5 30 _ (by decide) (by decide), h5 31 _ (by decide) (by decide), h5 32 _ (by decide) (by decide), h5 33 _ (by decide) (by decide)]
  exact R
theorem MT.sc {ms' : mx_S} (M : MT ms v L) (h : msc ms ms') : MT ms' v L := M.co h.co
/-- for whom each beast asked, what became of it -/
def MAq (ms : mx_S) (W : zW) (n : Nat) : Prop := ∀ b, b < n → ms.2.2.1 38 b = W.2.1 7 0 b ∧ (W.2.1 7 0 b ≠ -1 → ms.2.2.1 39 b = W.2.1 8 0 b)
theorem zask_le {th : Int32} {W : zW} (Z : ZI W) (b : Nat) : ∃ m u, (zask th lk my W L b).2.1 = nI m ∧ W.2.1 20 0 0 = nI u ∧ (zask th lk my W L b).2.2.1.2.1 20 0 0 = nI u ∧ m ≤ u ∧ u ≤ 6 := by
  induction b with
  | zero =>
    obtain ⟨u, hu, e⟩ := Z.2.2.2.1.1
    exact ⟨0, u, rfl, e, e, by omega, hu⟩
  | succ b ih =>
    obtain ⟨m, u, a1, a2, a3, a4, a5⟩ := ih
    show ∃ m u, (zstep th lk my b (zask th lk my W L b)).2.1 = nI m ∧ W.2.1 20 0 0 = nI u ∧ (zstep th lk my b (zask th lk my W L b)).2.2.1.2.1 20 0 0 = nI u ∧ m ≤ u ∧ u ≤ 6
    generalize zask th lk my W L b = s at a1 a3
    unfold zstep
    split
    · exact ⟨m, u, a1, a2, a3, a4, a5⟩
    · rename_i hn
      refine ⟨m + 1, u, by show s.2.1 + 1 = _; rw [a1, nI_1], a2, ?_, ?_, a5⟩
      · have := (zmeets_now (zA s.2.2.1 7 0 b (nI (zsel lk my b s).toNatClampNeg)) lk b (zsel lk my b s).toNatClampNeg).2.2 20 0 0 rfl
        exact this.trans a3
      · by_cases q : m = u
        · exfalso
          apply hn
          unfold zsel
          rw [if_pos (by rw [a3, a1, q]; exact nI_le (Nat.le_refl _) (by omega))]
        · omega
theorem MAq.co {ms' : mx_S} {n : Nat} (Q : MAq ms W n) (h : ∀ a i, a = 38 ∨ a = 39 → ms'.2.2.1 a i = ms.2.2.1 a i) : MAq ms' W n := fun b hb => by
  rw [h 38 b (Or.inl rfl), h 39 b (Or.inr rfl)]; exact Q b hb
theorem zmeets_78 (X : zW) (lk : zL) (b k : Nat) (x j i : Nat) (hx : x = 7 ∨ x = 8) : (zmeets X lk b k).2.2.1 x j i = X.2.1 x j i := by
  have e : ∀ (Y : zW) (k' j' i' : Nat) (v : Int32), k' ≠ 7 → k' ≠ 8 → (zA Y k' j' i' v).2.1 x j i = Y.2.1 x j i := by
    intro Y k' j' i' v h7 h8
    show (if x = k' ∧ j = j' ∧ i = i' then v else _) = _
    rw [if_neg (fun q => by rcases hx with rfl | rfl <;> omega)]
  unfold zmeets
  split
  · unfold zmee zm2
    split
    · split
      · rw [e _ _ _ _ _ (by decide) (by decide), e _ _ _ _ _ (by decide) (by decide), e _ _ _ _ _ (by decide) (by decide)]
      · rw [e _ _ _ _ _ (by decide) (by decide), e _ _ _ _ _ (by decide) (by decide)]
    · rw [e _ _ _ _ _ (by decide) (by decide), e _ _ _ _ _ (by decide) (by decide), e _ _ _ _ _ (by decide) (by decide)]
  · rw [e _ _ _ _ _ (by decide) (by decide)]
theorem ml_asking (P : MP ms W bk) (R : MR ms v W) (Z : ZI W) (E : ELM ms bk lk my) (M : MT ms v L) : yes (m_asking (nI v) ms) (fun r => r.1 = (zask 0 lk my W L (W.2.2.2.1 0)).2.1 ∧ MR r.2 v (zask 0 lk my W L (W.2.2.2.1 0)).2.2.1 ∧ MT r.2 v (zask 0 lk my W L (W.2.2.2.1 0)).2.2.2 ∧ mfr v ms r.2 ∧ MAq r.2 (zask 0 lk my W L (W.2.2.2.1 0)).2.2.1 (W.2.2.2.1 0)) := by
  have h6 := Z.1.1
  unfold m_asking
  refine yes.wh (I := fun n s => ∃ b, n = W.2.2.2.1 0 - b ∧ b ≤ W.2.2.2.1 0 ∧ s.1 = (zask 0 lk my W L b).1 ∧ s.2.1 = (zask 0 lk my W L b).2.1 ∧ s.2.2.1 = nI b ∧ MR s.2.2.2 v (zask 0 lk my W L b).2.2.1 ∧ MT s.2.2.2 v (zask 0 lk my W L b).2.2.2 ∧ mfr v ms s.2.2.2 ∧ MAq s.2.2.2 (zask 0 lk my W L b).2.2.1 b) (n := W.2.2.2.1 0) ⟨0, by omega, by omega, rfl, rfl, rfl, R, M, mfr.refl v ms, fun b hb => by omega⟩ (by omega) ?_
  rintro n ⟨x1, x2, x3, mx⟩ ⟨b, rfl, hb, e1, e2, e3, Rb, Mb, fb, qb⟩
  simp only at e1 e2 e3 Rb Mb fb qb
  subst e1 e2 e3
  obtain ⟨i1, i2, ⟨m, i3, i4⟩, i5⟩ := zask_inv (th := 0) (lk := lk) (my := my) (L := L) Z b hb
  have nu0 : (zask 0 lk my W L b).2.2.1.2.2.2.1 0 = W.2.2.2.1 0 := by rw [i2.2.1]
  have zle' := zask_le (th := 0) (lk := lk) (my := my) (L := L) Z b
  have Pb : MP mx (zask 0 lk my W L b).2.2.1 bk := (P.fr fb).now i2
  have Eb : ELM mx bk lk my := E.fr fb
  unfold m_asking_s7
  simp only [Pb.2.1]
  rw [if_pos (pl_in Pb.1 (by decide)), pl_cl (by have := Pb.1; omega), Pb.2.2.1, nu0]
  by_cases hlt : b < W.2.2.2.1 0
  · have hnx : zask 0 lk my W L (b + 1) = zstep 0 lk my b (zask 0 lk my W L b) := rfl
    have next : ∀ (s1 s2 : Int32) (h2 : mx_S), s1 = (zstep 0 lk my b (zask 0 lk my W L b)).1 → s2 = (zstep 0 lk my b (zask 0 lk my W L b)).2.1 → MR h2 v (zstep 0 lk my b (zask 0 lk my W L b)).2.2.1 → MT h2 v (zstep 0 lk my b (zask 0 lk my W L b)).2.2.2 → mfr v mx h2 → MAq h2 (zstep 0 lk my b (zask 0 lk my W L b)).2.2.1 (b + 1) →
        yes (some (Sum.inl (s1, s2, nI b + (1 : Int32), h2)) : Option ((Int32 × Int32 × Int32 × mx_S) ⊕ (Int32 × mx_S))) (yes_st (fun s' => ∃ n', n' < W.2.2.2.1 0 - b ∧ ∃ b, n' = W.2.2.2.1 0 - b ∧ b ≤ W.2.2.2.1 0 ∧ s'.1 = (zask 0 lk my W L b).1 ∧ s'.2.1 = (zask 0 lk my W L b).2.1 ∧ s'.2.2.1 = nI b ∧ MR s'.2.2.2 v (zask 0 lk my W L b).2.2.1 ∧ MT s'.2.2.2 v (zask 0 lk my W L b).2.2.2 ∧ mfr v ms s'.2.2.2 ∧ MAq s'.2.2.2 (zask 0 lk my W L b).2.2.1 b)
          (fun r => r.1 = (zask 0 lk my W L (W.2.2.2.1 0)).2.1 ∧ MR r.2 v (zask 0 lk my W L (W.2.2.2.1 0)).2.2.1 ∧ MT r.2 v (zask 0 lk my W L (W.2.2.2.1 0)).2.2.2 ∧ mfr v ms r.2 ∧ MAq r.2 (zask 0 lk my W L (W.2.2.2.1 0)).2.2.1 (W.2.2.2.1 0))) :=
      fun s1 s2 h2 a1 a2 a3 a4 a5 a6 => yes.ret ⟨W.2.2.2.1 0 - (b + 1), by omega, b + 1, rfl, by omega, a1, a2, nI_1 b, a3, a4, fb.trans a5, a6⟩
    generalize zask 0 lk my W L b = s at *
    obtain ⟨sT, sN, X, sL⟩ := s
    simp only at *
    have hltX : b < X.2.2.2.1 0 := by omega
    rw [if_neg (nI_ge hlt (by omega)), show (0 : Int32) = nI 0 from rfl, ml_told Pb (by decide), Option.bind_some]
    have wsh : yes (m_wished (nI v) (nI b) sT (X.2.1 20 0 0 - sN) mx) (fun r => r.1 = zsel lk my b (sT, sN, X, sL) ∧ msc mx r.2) := by
      obtain ⟨m', u, a1, a2, a3, a4, a5⟩ := zle'
      by_cases hu : X.2.1 20 0 0 ≤ sN
      · have hz : X.2.1 20 0 0 - sN = 0 := by
          rw [a3, a1, nI_leI (by omega) (by omega)] at hu
          rw [a3, a1, show u = m' by omega, pk_sub (Nat.le_refl _), Nat.sub_self]
          rfl
        refine (ml_wished Pb Rb i1.1 i1.2.1 Eb hltX sT (free := X.2.1 20 0 0 - sN) (by rw [hz]; exact ⟨0, by decide, rfl⟩)).imp fun r ⟨q1, q2⟩ => ⟨?_, q2⟩
        rw [q1, if_pos hz]
        unfold zsel
        rw [if_pos hu]
      · obtain ⟨z1, z2⟩ := zsub_le i1.2.2.2.1.1 i4 hu (by decide) (by omega)
        refine (ml_wished Pb Rb i1.1 i1.2.1 Eb hltX sT z1).imp fun r ⟨q1, q2⟩ => ⟨?_, q2⟩
        rw [q1, if_neg z2]
        unfold zsel
        rw [if_neg hu]
    refine wsh.bind fun q4 ⟨w1, w2⟩ => ?_
    rw [if_pos (pl_in (show b < 6 by omega) (by decide)), pl_cl (show b < 2 ^ 31 by omega), w1]
    have fr38 : ∀ (y : mx_S) (x : Int32), mfr v y (mx_A y 38 b x) := fun y x => mfr.A y x (Or.inr (Or.inl rfl))
    by_cases hs : zsel lk my b (sT, sN, X, sL) = -1
    · rw [if_pos hs]
      have hst : zstep 0 lk my b (sT, sN, X, sL) = (sT, sN, zA X 7 0 b (-1), sL) := by unfold zstep; rw [if_pos hs]
      rw [hst] at next
      rw [hs]
      refine next _ _ _ rfl rfl (((Rb.sc w2).scr _ (by decide)).A _ (by decide) (by simp) (by simp)) ((Mb.sc w2).A _ (by decide)) (w2.fr.trans (fr38 _ _)) (fun b' hb' => ?_)
      show (if 38 = 38 ∧ b' = b then (-1 : Int32) else q4.2.2.2.1 38 b') = (if 7 = 7 ∧ 0 = 0 ∧ b' = b then (-1 : Int32) else X.2.1 7 0 b') ∧ ((if 7 = 7 ∧ 0 = 0 ∧ b' = b then (-1 : Int32) else X.2.1 7 0 b') ≠ -1 → (if 39 = 38 ∧ b' = b then (-1 : Int32) else q4.2.2.2.1 39 b') = (if 8 = 7 ∧ 0 = 0 ∧ b' = b then (-1 : Int32) else X.2.1 8 0 b'))
      by_cases hbb : b' = b
      · rw [if_pos ⟨rfl, hbb⟩, if_pos ⟨rfl, rfl, hbb⟩]
        exact ⟨rfl, fun q => absurd rfl q⟩
      · rw [if_neg (fun q => hbb q.2), if_neg (fun q => hbb q.2.2), if_neg (fun q => hbb q.2), if_neg (fun q => hbb q.2.2), w2.2.2.1 38 _ (by decide), w2.2.2.1 39 _ (by decide)]
        exact qb b' (by omega)
    · rw [if_neg hs]
      obtain ⟨k, hk, ek⟩ := (zsel_in lk my b (sT, sN, X, sL)).resolve_left hs
      simp only at hk
      have hk31 : k < 2 ^ 31 := by have := i1.1.2.1; omega
      have hst : zstep 0 lk my b (sT, sN, X, sL) = zgo 0 lk b k (sT, sN, X, sL) := by unfold zstep; rw [if_neg hs, ek, nI_clamp hk31]
      rw [hst] at next
      rw [ek]
      have i1' : ZI (zA X 7 0 b (nI k)) := i1.A rfl (by simp) (by simp) (by simp) (by simp) (by simp) (by simp) (by simp) (by simp)
      have R1 : MR (mx_A q4.2 38 b (nI k)) v (zA X 7 0 b (nI k)) := ((Rb.sc w2).scr _ (by decide)).A _ (by decide) (by simp) (by simp)
      have f1 : mfr v mx (mx_A q4.2 38 b (nI k)) := w2.fr.trans (fr38 _ _)
      have M1 : MT (mx_A q4.2 38 b (nI k)) v sL := (Mb.sc w2).A _ (by decide)
      refine (ml_comes ((Pb.fr f1).A _ (by decide) (by simp) (by simp)) R1 i1'.1 i1'.2.1 (Eb.fr f1) hltX hk i1'.2.2.1 i1'.2.2.2.1.2.2.2.1).bind fun q7 ⟨c1, c2, c3⟩ => ?_
      rw [if_pos (pl_in (show b < 6 by omega) (by decide)), if_pos (pl_in (show b < 6 by omega) (by decide)), show (mx_A q7.2 39 b q7.1).2.2.1 39 b = q7.1 by simp [mx_A]]
      have R2 : MR (mx_A q7.2 39 b q7.1) v (zA (zmeets (zA X 7 0 b (nI k)) lk b k).2 8 0 b q7.1) := (c2.scr _ (by decide)).A _ (by decide) (by simp) (by simp)
      have M2 : MT (mx_A q7.2 39 b q7.1) v sL := (M1.co c3).A _ (by decide)
      refine (ml_writes R2 M2 (nI b) (nI k) q7.1).bind fun q10 ⟨d1, d2⟩ => ?_
      have wday : ∀ i, i = 6 ∨ i = 7 → (zA (zmeets (zA X 7 0 b (nI k)) lk b k).2 8 0 b q7.1).2.1 0 0 i = X.2.1 0 0 i := by
        have e1 : ∀ (Y : zW) (i : Nat), i = 6 ∨ i = 7 → (zmeets Y lk b k).2.2.1 0 0 i = Y.2.1 0 0 i := by
          intro Y i hi
          unfold zmeets
          split
          · unfold zmee
            split
            · split <;> rcases hi with rfl | rfl <;> rfl
            · rcases hi with rfl | rfl <;> rfl
          · rcases hi with rfl | rfl <;> rfl
        intro i hi
        have := e1 (zA X 7 0 b (nI k)) i hi
        rcases hi with rfl | rfl <;> exact this
      rw [wday 6 (Or.inl rfl), wday 7 (Or.inr rfl), c1] at d1
      have R3 := R2.r35 d2
      rw [c1] at R3
      refine next _ _ q10 rfl rfl R3 ?_ ((f1.trans c3.fr).trans ((mfr.A _ _ (Or.inr (Or.inr (Or.inl rfl)))).trans d2.fr)) (fun b' hb' => ?_)
      · show MT q10 v (if (0 : Int32) = 0 then zkeep sL (zrow (X.2.1 0 0 6) (X.2.1 0 0 7) (nI b) (nI k) (zmeets (zA X 7 0 b (nI k)) lk b k).1) else sL)
        rw [if_pos rfl]
        exact d1
      · have g38 : q10.2.2.1 38 b' = if b' = b then nI k else mx.2.2.1 38 b' := by
          rw [d2.2.2.2 38 b' (fun q => by omega) (fun q => by omega)]
          show (if 38 = 39 ∧ b' = b then q7.1 else q7.2.2.2.1 38 b') = _
          rw [if_neg (fun q => by have := q.1; omega), c3.2.2.1 38 b' (by decide) (fun q => by omega)]
          show (if 38 = 38 ∧ b' = b then nI k else q4.2.2.2.1 38 b') = _
          by_cases hbb : b' = b
          · rw [if_pos ⟨rfl, hbb⟩, if_pos hbb]
          · rw [if_neg (fun q => hbb q.2), if_neg hbb, w2.2.2.1 38 _ (by decide)]
        have g39 : q10.2.2.1 39 b' = if b' = b then q7.1 else mx.2.2.1 39 b' := by
          rw [d2.2.2.2 39 b' (fun q => by omega) (fun q => by omega)]
          show (if 39 = 39 ∧ b' = b then q7.1 else q7.2.2.2.1 39 b') = _
          by_cases hbb : b' = b
          · rw [if_pos ⟨rfl, hbb⟩, if_pos hbb]
          · rw [if_neg (fun q => hbb q.2), if_neg hbb, c3.2.2.1 39 b' (by decide) (fun q => by omega)]
            show (if 39 = 38 ∧ b' = b then nI k else q4.2.2.2.1 39 b') = _
            rw [if_neg (fun q => by have := q.1; omega), w2.2.2.1 39 _ (by decide)]
        have v7 : (zgo 0 lk b k (sT, sN, X, sL)).2.2.1.2.1 7 0 b' = if b' = b then nI k else X.2.1 7 0 b' := by
          show (if 7 = 8 ∧ 0 = 0 ∧ b' = b then (zmeets (zA X 7 0 b (nI k)) lk b k).1 else (zmeets (zA X 7 0 b (nI k)) lk b k).2.2.1 7 0 b') = _
          rw [if_neg (fun q => by have := q.1; omega), zmeets_78 _ _ _ _ _ _ _ (Or.inl rfl)]
          show (if 7 = 7 ∧ 0 = 0 ∧ b' = b then nI k else X.2.1 7 0 b') = _
          by_cases hbb : b' = b
          · rw [if_pos ⟨rfl, rfl, hbb⟩, if_pos hbb]
          · rw [if_neg (fun q => hbb q.2.2), if_neg hbb]
        have v8 : (zgo 0 lk b k (sT, sN, X, sL)).2.2.1.2.1 8 0 b' = if b' = b then q7.1 else X.2.1 8 0 b' := by
          show (if 8 = 8 ∧ 0 = 0 ∧ b' = b then (zmeets (zA X 7 0 b (nI k)) lk b k).1 else (zmeets (zA X 7 0 b (nI k)) lk b k).2.2.1 8 0 b') = _
          by_cases hbb : b' = b
          · rw [if_pos ⟨rfl, rfl, hbb⟩, if_pos hbb, c1]
          · rw [if_neg (fun q => hbb q.2.2), if_neg hbb, zmeets_78 _ _ _ _ _ _ _ (Or.inr rfl)]
            rfl
        rw [g38, g39, v7, v8]
        by_cases hbb : b' = b
        · rw [if_pos hbb, if_pos hbb, if_pos hbb, if_pos hbb]
          exact ⟨rfl, fun _ => rfl⟩
        · rw [if_neg hbb, if_neg hbb, if_neg hbb, if_neg hbb]
          exact qb b' (by omega)
  · have hbe : b = W.2.2.2.1 0 := by omega
    subst hbe
    rw [if_pos (nI_le (Nat.le_refl _) (by omega))]
    exact yes.ret ⟨rfl, Rb, Mb, fb, qb⟩
end AM

/-! PURE SIDE: keeps, in both -/
set_option maxRecDepth 100000
section K2
variable {V : hx_V} {h : hx_S} {W X T : zW} {G gt : Nat → Option hx_C} {ms : mx_S} {bk : Nat} {lk my : zL} {L : List (Nat → Int32)} {As : List zU}
theorem AC.c (A : AC V T G W ms As) : ACc V T G (W.1 0 0) As := ⟨A.1, A.2.1, A.2.2.1, fun i u hi => by
  obtain ⟨uf, -, -, h⟩ := A.2.2.2.2
  exact (h i u.1 u.2 hi).1⟩
/-- the acts, as the reference holds them -/
def ACm (W : zW) (ms : mx_S) (As : List zU) : Prop :=
  ms.1 57 = nI As.length ∧ ∃ uf, uf < 20 ∧ ms.1 56 = nI uf ∧ ∀ i u, As[i]? = some u → ZI u.1 ∧ (u.1.2.2.2.1 0 = W.2.2.2.1 0 ∧ u.1.2.2.2.1 1 = W.2.2.2.1 1) ∧ MR ms (2 + (uf + i) % 20) u.1 ∧ MT ms (2 + (uf + i) % 20) u.2 ∧ ∃ d t, u.1.2.1 0 0 6 = nI d ∧ u.1.2.1 0 0 7 = nI t ∧ t < 24 ∧ 24 * d + t ≤ 23999
theorem AC.m (A : AC V T G W ms As) : ACm W ms As := by
  obtain ⟨a1, a2, a3, a4, uf, a5, a6, a7⟩ := A
  exact ⟨a4, uf, a5, a6, fun i u hi => (a7 i u.1 u.2 hi).2⟩
theorem AC.of (A : ACc V T G (W.1 0 0) As) (M : ACm W ms As) : AC V T G W ms As := by
  obtain ⟨a1, a2, a3, a4⟩ := A
  obtain ⟨m1, uf, m2, m3, m4⟩ := M
  exact ⟨a1, a2, a3, m1, uf, m2, m3, fun i U Lu hi => ⟨a4 i (U, Lu) hi, m4 i (U, Lu) hi⟩⟩
theorem nI_rem20 {n : Nat} (h : n < 1000) : nI n - nI n / (20 : Int32) * (20 : Int32) = nI (n % 20) := pk_rem (by omega) (d := 20) (by decide) (by decide)
/-- the acts with one more -/
def zacts (As : List zU) (u : zU) : List zU := (if As.length = 20 then As.tail else As) ++ [u]
theorem ml_keeps (P : MP ms W bk) (R : MR ms 0 W) (Z : ZI W) (M : MT ms 0 L) (A : ACm W ms As) (hl : As.length ≤ 20) (hh : ∃ d t, W.2.1 0 0 6 = nI d ∧ W.2.1 0 0 7 = nI t ∧ t < 24 ∧ 24 * d + t ≤ 23999) : ∃ ms', m_keeps ms = some ms' ∧ ACm W ms' (zacts As (W, L)) ∧ (∀ k, k ≠ 56 → k ≠ 57 → ms'.1 k = ms.1 k) ∧ ms'.2.1 = ms.2.1 ∧ ms'.2.2.2 = ms.2.2.2 ∧ ∃ v, 2 ≤ v ∧ v < 22 ∧ ∀ a i, ¬ (26 ≤ a ∧ a ≤ 35 ∧ i / lsz a = v) → ms'.2.2.1 a i = ms.2.2.1 a i := by
  obtain ⟨m1, uf, m2, m3, m4⟩ := A
  -- the layers are kept in the end
  have fin : ∀ (mx : mx_S) (Bs : List zU) (uf' : Nat), mx.1 57 = nI Bs.length → uf' < 20 → mx.1 56 = nI uf' → Bs.length < 20 → mx.2.1 = ms.2.1 → mx.2.2 = ms.2.2 → (∀ k, k ≠ 56 → k ≠ 57 → mx.1 k = ms.1 k) → (∀ i u, Bs[i]? = some u → ZI u.1 ∧ (u.1.2.2.2.1 0 = W.2.2.2.1 0 ∧ u.1.2.2.2.1 1 = W.2.2.2.1 1) ∧ MR ms (2 + (uf' + i) % 20) u.1 ∧ MT ms (2 + (uf' + i) % 20) u.2 ∧ ∃ d t, u.1.2.1 0 0 6 = nI d ∧ u.1.2.1 0 0 7 = nI t ∧ t < 24 ∧ 24 * d + t ≤ 23999) →
      ∃ ms', m_keeps_b32 mx = some ms' ∧ ACm W ms' (Bs ++ [(W, L)]) ∧ (∀ k, k ≠ 56 → k ≠ 57 → ms'.1 k = ms.1 k) ∧ ms'.2.1 = ms.2.1 ∧ ms'.2.2.2 = ms.2.2.2 ∧ ∃ v, 2 ≤ v ∧ v < 22 ∧ ∀ a i, ¬ (26 ≤ a ∧ a ≤ 35 ∧ i / lsz a = v) → ms'.2.2.1 a i = ms.2.2.1 a i := by
    intro mx Bs uf' b1 b2 b3 b4 b5 b6 b7 b8
    have mrx : ∀ v U, MR ms v U → MR mx v U := fun v U q => by unfold MR at q ⊢; rw [b6]; exact q
    have mtx : ∀ v Lu, MT ms v Lu → MT mx v Lu := fun v Lu q => by unfold MT at q ⊢; rw [b6]; exact q
    have hs : m_slot (nI Bs.length) mx = some (nI (2 + (uf' + Bs.length) % 20)) := by
      unfold m_slot
      rw [b3, nI_add, nI_rem20 (by omega), show (2 : Int32) = nI 2 from rfl, nI_add]
    have hM : mx.2.2.1 34 0 = nI L.length := by rw [b6]; exact M.1
    obtain ⟨m5, c1, c2⟩ := ml_copies (ms := mx) (t := 2 + (uf' + Bs.length) % 20) (f := 0) (n := L.length) (by omega) (by decide) (by omega) hM M.2.1
    unfold m_keeps_b32
    rw [b1, hs, Option.bind_some, (show m_copies (nI (2 + (uf' + Bs.length) % 20)) (0 : Int32) mx = _ from c1), Option.bind_some]
    have L5 := c2.1
    have f57 : m5.1 57 = nI Bs.length := by rw [L5.1]; exact b1
    rw [f57, nI_1]
    refine ⟨_, rfl, ⟨?_, uf', b2, ?_, fun i u hi => ?_⟩, fun k k1 k2 => ?_, ?_, ?_, 2 + (uf' + Bs.length) % 20, by omega, by omega, fun a i h => ?_⟩
    · have e : (mx_F m5 57 (nI (Bs.length + 1))).1 57 = nI (Bs.length + 1) := by simp [mx_F]
      exact e.trans (by rw [List.length_append]; rfl)
    · have e : (mx_F m5 57 (nI (Bs.length + 1))).1 56 = m5.1 56 := by simp [mx_F]
      exact e.trans (by rw [L5.1]; exact b3)
    · have mr5 : ∀ v U, MR m5 v U → MR (mx_F m5 57 (nI (Bs.length + 1))) v U := fun v U q => q
      have mt5 : ∀ v Lu, MT m5 v Lu → MT (mx_F m5 57 (nI (Bs.length + 1))) v Lu := fun v Lu q => q
      have hi2 : i < Bs.length + 1 := by
        have := (List.getElem?_eq_some_iff.mp hi).1
        rw [List.length_append] at this
        exact this
      by_cases hlt : i < Bs.length
      · rw [List.getElem?_append_left hlt] at hi
        obtain ⟨u1, u2, u3, u4, u5⟩ := b8 i u hi
        have hv : 2 + (uf' + i) % 20 ≠ 2 + (uf' + Bs.length) % 20 := by omega
        exact ⟨u1, u2, mr5 _ _ ((mrx _ _ u3).oth L5.fr hv u1.1.1 u1.1.2.1), mt5 _ _ ((mtx _ _ u4).oth L5.fr hv), u5⟩
      · have hie : i = Bs.length := by omega
        subst hie
        rw [List.getElem?_append_right (Nat.le_refl _), Nat.sub_self] at hi
        cases hi
        exact ⟨Z, ⟨rfl, rfl⟩, mr5 _ _ ((mrx 0 W R).cx c2 (by omega) Z.1.1 Z.1.2.1), mt5 _ _ ((mtx 0 L M).cx c2), hh⟩
    · have e : (mx_F m5 57 (nI (Bs.length + 1))).1 k = m5.1 k := by simp [mx_F, k2]
      exact e.trans (by rw [L5.1]; exact b7 k k1 k2)
    · show m5.2.1 = _
      rw [L5.2.1]; exact b5
    · show m5.2.2.2 = _
      rw [L5.2.2.1, b6]
    · show m5.2.2.1 a i = _
      rw [L5.2.2.2 a i h, b6]
  unfold m_keeps zacts
  rw [m1]
  by_cases h20 : As.length = 20
  · rw [if_pos (by rw [h20]; rfl), if_pos h20, m3, nI_1, nI_rem20 (by omega)]
    refine fin _ As.tail ((uf + 1) % 20) ?_ (by omega) ?_ (by rw [List.length_tail]; omega) rfl rfl (fun k k1 k2 => ?_) (fun i u hi => ?_)
    · simp only [mx_F]
      simp [m1, h20]
      rfl
    · simp [mx_F]
    · simp [mx_F, k1, k2]
    · rw [List.getElem?_tail] at hi
      have := m4 (i + 1) u hi
      have hi2 := (List.getElem?_eq_some_iff.mp hi).1
      rw [show (uf + (i + 1)) % 20 = ((uf + 1) % 20 + i) % 20 by omega] at this
      exact this
  · rw [if_neg (show ¬ nI As.length = (20 : Int32) from fun q => h20 ((nI_eq (by omega) (by decide)).mp (show nI As.length = nI 20 from q))), if_neg h20]
    exact fin ms As uf m1 m2 m3 (by omega) rfl rfl (fun _ _ _ => rfl) m4
theorem SIM.keeps (S : SIM V h W T G gt ms bk lk my L As) (h1 : h.1 + 70 ≤ V.2.2.1) (h2 : h.2.1 + zpot T + 700 ≤ V.2.2.2.1) : ∃ h' ms' T' G', c_X0_keeps V (W.1 0 0) h = some h' ∧ m_keeps ms = some ms' ∧ SIM V h' W T' G' gt ms' bk lk my L (zacts As (W, L)) ∧ gle G G' ∧ h.1 ≤ h'.1 ∧ h'.1 ≤ h.1 + 66 ∧ h'.2.1 + zpot T' ≤ h.2.1 + zpot T + 670 := by
  obtain ⟨C, gl, G0, E, Z, h13, Zt, ⟨P, R, M, Em, O⟩, hb, A⟩ := S
  obtain ⟨ms', n1, n2, n3, n4, n5, v, n6, n7, n8⟩ := ml_keeps P R Z M A.m A.2.1 hb
  have fr : ∀ a i, ¬ (26 ≤ a ∧ a ≤ 35) → ms'.2.2.1 a i = ms.2.2.1 a i := fun a i ha => n8 a i (fun q => ha ⟨q.1, q.2.1⟩)
  have P' : MP ms' W bk := by
    simp only [MP, n3 13 (by decide) (by decide), fr 1 _ (by decide), fr 2 _ (by decide), fr 3 _ (by decide), fr 4 _ (by decide), fr 6 _ (by decide), fr 8 _ (by decide), fr 9 _ (by decide), fr 10 _ (by decide), fr 11 _ (by decide)]
    exact P
  -- as if only layer v were other
  have mfv : mfr v (ms'.1, ms.2.1, ms.2.2) ms' := ⟨rfl, n4, fun a i _ h => n8 a i (fun q => h q.1 q.2.1 q.2.2), fun a i _ => by rw [n5]⟩
  have R0 : MR (ms'.1, ms.2.1, ms.2.2) 0 W := R
  have M0 : MT (ms'.1, ms.2.1, ms.2.2) 0 L := M
  have R' : MR ms' 0 W := R0.oth mfv (by omega) Z.1.1 Z.1.2.1
  have M' : MT ms' 0 L := M0.oth mfv (by omega)
  have Em' : ELM ms' bk lk my := Em.mv (n3 13 (by decide) (by decide)) (fun a i ha => fr a i (by omega))
  have O' : MO ms' W := by
    simp only [MO, n3 1 (by decide) (by decide), n3 10 (by decide) (by decide), n3 11 (by decide) (by decide), n3 65 (by decide) (by decide), n3 76 (by decide) (by decide), n4, fr 0 _ (by decide), fr 25 _ (by decide), fr 42 _ (by decide), fr 43 _ (by decide), fr 51 _ (by decide)]
    exact O
  have hz : zpot T = zph (T.2.2.2.1 4) + zph (T.2.2.2.1 10) := rfl
  -- the new act, when there is a place for it
  have fin : ∀ (k : hx_S) (T1 : zW) (Bs : List zU), CS V k W T1 G → ACc V T1 G (W.1 0 0) Bs → Bs.length < 20 → ZT V T1 G L → k.1 = h.1 → k.2.1 = h.2.1 → T1.2.2.2.1 10 = T.2.2.2.1 10 → T1.2.2.2.1 4 = T.2.2.2.1 4 →
      ∃ h' T' G', c_X0_keeps_b21 V (W.1 0 0) k = some h' ∧ CS V h' W T' G' ∧ gle G G' ∧ ACc V T' G' (W.1 0 0) (Bs ++ [(W, L)]) ∧ ZT V T' G' L ∧ h.1 ≤ h'.1 ∧ h'.1 ≤ h.1 + 66 ∧ h'.2.1 + zpot T' ≤ h.2.1 + zpot T + 670 := by
    intro k T1 Bs D A1 hl Zt1 e1 e2 e3 e4
    have D0 := D
    obtain ⟨k1, p1, p2⟩ := D.newAct Z G0 Zt1 (by omega) (by omega)
    obtain ⟨k2, p3, G2, D2, gl2, F2, q1, q2, q3⟩ := p2
    obtain ⟨k3, T3, a1, D3, A3, s3, b1, b2, b3, b4⟩ := D2.addAct (G0.mono gl2) (A1.mono gl2) hl (u := (W, L)) F2 (by omega) (by rw [e3]; omega)
    unfold c_X0_keeps_b21
    rw [D0.x_acts, Option.bind_some, p1, Option.bind_some, p3, Option.bind_some, Option.bind_some, if_pos D2.k_acts, a1, Option.bind_some]
    obtain ⟨t1, t2, t3, t4⟩ := s3 3 rfl (by decide) (by decide)
    obtain ⟨t5, t6, t7, t8⟩ := s3 4 rfl (by decide) (by decide)
    have Zt3 : ZT V T3 G2 L := by
      obtain ⟨⟨y1, y2, y3, y4⟩, y5, y6, y7⟩ := Zt1.mono gl2
      refine ⟨⟨by rw [t2]; exact y1, by rw [show T3.2.2.2.1 (3 + 1) = _ from t7]; exact y2, by rw [show T3.2.2.2.1 (3 + 1) = _ from t7]; exact y3, fun q => by rw [show T3.1 (3 + 1) 0 = _ from t5 0]; rw [show T3.2.2.2.1 (3 + 1) = _ from t7] at q; exact y4 q⟩, y5, by rw [t7]; exact y6, fun i r hr => ?_⟩
      obtain ⟨a, c, u1, u2, u3⟩ := y7 i r hr
      exact ⟨a, c, by rw [t8]; exact u1, u2, u3⟩
    refine ⟨k3, T3, G2, rfl, D3, gl2, A3, Zt3, by omega, by omega, ?_⟩
    have : zpot T3 = zph (T3.2.2.2.1 4) + zph (T3.2.2.2.1 10) := rfl
    rw [this, t7, e4, hz]
    rw [e3] at b3
    omega
  have done : ∀ (h' : hx_S) (T' : zW) (G' : Nat → Option hx_C), CS V h' W T' G' → gle G G' → ACc V T' G' (W.1 0 0) (zacts As (W, L)) → ZT V T' G' L → SIM V h' W T' G' gt ms' bk lk my L (zacts As (W, L)) := fun h' T' G' D g1 A1 Z1 => ⟨D, gl.trans g1, G0.mono g1, E, Z, h13, Z1, ⟨P', R', M', Em', O'⟩, hb, AC.of A1 n2⟩
  have Ac := A.c
  obtain ⟨e, AL1, he⟩ := C.al G0 (kk := 9) (Or.inr rfl) Ac.1
  unfold c_X0_keeps
  rw [C.x_acts, Option.bind_some, Option.bind_some, if_pos C.k_acts, AL1.size, Option.bind_some]
  by_cases h20 : As.length = 20
  · rw [if_pos (show nI As.length = (20 : Int32) by rw [h20]; rfl), Option.bind_some, Option.bind_some, if_pos C.k_acts]
    obtain ⟨k1, T1, b, a1, a2, D1, A1, s1, r1, r2, r3, r4⟩ := C.remAct G0 Ac (i := 0) (by omega) As.tail (by rw [List.length_tail]) (fun j hj => by rw [if_neg (by omega), List.getElem?_tail])
    obtain ⟨t1, t2, t3, t4⟩ := s1 3 rfl (by decide) (by decide)
    obtain ⟨t5, t6, t7, t8⟩ := s1 4 rfl (by decide) (by decide)
    have Zt1 : ZT V T1 G L := by
      obtain ⟨⟨y1, y2, y3, y4⟩, y5, y6, y7⟩ := Zt
      refine ⟨⟨by rw [t2]; exact y1, by rw [show T1.2.2.2.1 (3 + 1) = _ from t7]; exact y2, by rw [show T1.2.2.2.1 (3 + 1) = _ from t7]; exact y3, fun q => by rw [show T1.1 (3 + 1) 0 = _ from t5 0]; rw [show T1.2.2.2.1 (3 + 1) = _ from t7] at q; exact y4 q⟩, y5, by rw [t7]; exact y6, fun i r hr => ?_⟩
      obtain ⟨a, c, u1, u2, u3⟩ := y7 i r hr
      exact ⟨a, c, by rw [t8]; exact u1, u2, u3⟩
    obtain ⟨h', T', G', f1, f2, f3, f4, f5, f6, f7, f8⟩ := fin k1 T1 As.tail D1 A1 (by rw [List.length_tail]; omega) Zt1 r1 r2 r3 t7
    rw [(show c_J2_remove V (T.1 9 0) (0 : Int32) h = _ from a1), Option.bind_some]
    refine ⟨h', ms', T', G', f1, n1, done h' T' G' f2 f3 ?_ f5, f3, f6, f7, f8⟩
    unfold zacts
    rw [if_pos h20]
    exact f4
  · rw [if_neg (show ¬ nI As.length = (20 : Int32) from fun q => h20 ((nI_eq (by have := A.2.1; omega) (by decide)).mp (show nI As.length = nI 20 from q)))]
    obtain ⟨h', T', G', f1, f2, f3, f4, f5, f6, f7, f8⟩ := fin h T As C Ac (by have := A.2.1; omega) Zt rfl rfl rfl rfl
    refine ⟨h', ms', T', G', f1, n1, done h' T' G' f2 f3 ?_ f5, f3, f6, f7, f8⟩
    unfold zacts
    rw [if_neg h20]
    exact f4
end K2

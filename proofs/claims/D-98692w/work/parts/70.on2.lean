/-! PURE SIDE: the call on, joined -/
set_option maxRecDepth 100000
section O2
variable {V : hx_V} {h : hx_S} {W X Y T : zW} {G G1 gt : Nat → Option hx_C} {ms : mx_S} {bk : Nat} {lk my : zL} {L : List (Nat → Int32)} {As : List zU} {t : Nat → Nat}
theorem MTP.two {mx : mx_S} {n0 n1 : Nat} (Q : MTP mx bk n0 n1 t) {i : Nat} (hi : i + 1 < 1600) : m_twoBytes (nI i) mx = some (nI (256 * t i + t (i + 1))) := by
  unfold m_twoBytes
  rw [nI_1, if_pos (pl_in (by omega) (by decide)), if_pos (pl_in (by omega) (by decide)), pl_cl (by omega), pl_cl (by omega), (Q.1 i (by omega)).1, (Q.1 (i + 1) (by omega)).1, or_8 (by have := (Q.1 i (by omega)).2; omega) (by have := (Q.1 (i + 1) (by omega)).2; omega)]
theorem MTP.fr {mx m' : mx_S} {n0 n1 : Nat} (Q : MTP mx bk n0 n1 t) (f : mfr 1 mx m') : MTP m' bk n0 n1 t := by
  obtain ⟨Qt, q1, q2, q3, q4, q5, q6⟩ := Q
  exact ⟨fun i hi => by rw [f.2.2.1 0 i (by decide) (fun q => absurd q (by decide))]; exact Qt i hi, q1, by rw [f.1]; exact q2, by rw [f.2.2.1 1 bk (by decide) (fun q => absurd q (by decide))]; exact q3, by rw [f.2.2.1 6 bk (by decide) (fun q => absurd q (by decide))]; exact q4, q5, q6⟩
theorem ml_comesOn (Q : MTP ms bk (W.2.2.2.1 0) (W.2.2.2.1 1) t) (M : MT ms 0 L) {n : Nat} (hn : n ≤ 1600) :
    yes (m_comesOn (nI n) ms) (fun r => mfr 1 ms r.2 ∧ ((r.1 = 1 ∧ zokt W t n ∧ (∀ k, k < W.2.2.2.1 1 → MDg r.2 t k) ∧ (∀ b, b < W.2.2.2.1 0 → MDb r.2 t (W.2.2.2.1 1) b) ∧ r.2.2.2.1 26 1 = nI (24 * (256 * t 0 + t 1) + t 2) ∧ r.2.2.2.1 27 1 = nI (256 * t 3 + t 4) ∧ r.2.2.2.1 34 1 = 0) ∨ (r.1 = 0 ∧ ¬ zokt W t n))) := by
  obtain ⟨Qt, q1, q2, q3, q4, q5, q6⟩ := id Q
  have hz := zbf_le (b := W.2.2.2.1 0) q6 q5
  have no : ∀ {P : Prop}, (¬ P → ¬ zokt W t n) → ¬ P → yes (some ((0 : Int32), ms)) (fun r => mfr 1 ms r.2 ∧ ((r.1 = 1 ∧ zokt W t n ∧ (∀ k, k < W.2.2.2.1 1 → MDg r.2 t k) ∧ (∀ b, b < W.2.2.2.1 0 → MDb r.2 t (W.2.2.2.1 1) b) ∧ r.2.2.2.1 26 1 = nI (24 * (256 * t 0 + t 1) + t 2) ∧ r.2.2.2.1 27 1 = nI (256 * t 3 + t 4) ∧ r.2.2.2.1 34 1 = 0) ∨ (r.1 = 0 ∧ ¬ zokt W t n))) := fun h1 h2 => yes.ret ⟨mfr.refl 1 ms, Or.inr ⟨rfl, h1 h2⟩⟩
  have ib : hx_in (nI bk) 2 = true := pl_in q1 (by decide)
  have cb : (nI bk).toNatClampNeg = bk := pl_cl (by omega)
  have ez : (((5 : Int32) + ((5 : Int32) * nI (W.2.2.2.1 1))) + (((3 : Int32) + ((2 : Int32) * nI (W.2.2.2.1 1))) * nI (W.2.2.2.1 0))) + (1 : Int32) = nI (zbf (W.2.2.2.1 1) (W.2.2.2.1 0) + 1) := by
    simp only [pl_lit, pk_mul, nI_add]
    unfold zbf
    rw [Nat.mul_comm (3 + 2 * W.2.2.2.1 1)]
  have t0 := (Qt 0 (by decide)).2
  have t1 : t (0 + 1) ≤ 255 := (Qt 1 (by decide)).2
  have t2 := (Qt 2 (by decide)).2
  have t3 := (Qt 3 (by decide)).2
  have t4 : t (3 + 1) ≤ 255 := (Qt 4 (by decide)).2
  unfold m_comesOn
  rw [q2]
  simp only [if_pos ib, cb, q3, q4]
  rw [ez]
  by_cases hl : n = zbf (W.2.2.2.1 1) (W.2.2.2.1 0) + 1
  · have h5 : 5 ≤ zbf (W.2.2.2.1 1) (W.2.2.2.1 0) := by unfold zbf; omega
    rw [if_pos (by rw [hl]), (show m_twoBytes (0 : Int32) ms = _ from Q.two (i := 0) (by decide)), Option.bind_some]
    by_cases hd : 256 * t 0 + t (0 + 1) ≤ 999
    · rw [if_neg (show ¬ (999 : Int32) < nI (256 * t 0 + t (0 + 1)) from nI_nlt (a := 999) hd (by decide)), if_pos (show hx_in (2 : Int32) 1800 = true by decide), show (2 : Int32).toNatClampNeg = 2 from rfl, (Qt 2 (by decide)).1]
      by_cases ht : t 2 < 24
      · rw [if_neg (show ¬ (24 : Int32) ≤ nI (t 2) from nI_ge (b := 24) ht (by decide)), (show m_twoBytes (3 : Int32) ms = _ from Q.two (i := 3) (by decide)), Option.bind_some]
        by_cases hf : 256 * t 3 + t (3 + 1) ≤ 9999
        · rw [if_pos (show nI (256 * t 3 + t (3 + 1)) ≤ (9999 : Int32) from nI_le (b := 9999) hf (by decide)), show (5 : Int32) + (5 : Int32) * nI (W.2.2.2.1 1) = nI (5 + 5 * W.2.2.2.1 1) by simp only [pl_lit, pk_mul, nI_add], show (3 : Int32) + (2 : Int32) * nI (W.2.2.2.1 1) = nI (3 + 2 * W.2.2.2.1 1) by simp only [pl_lit, pk_mul, nI_add]]
          have n1 : nI n - (1 : Int32) = nI (n - 1) := pk_sub (b := 1) (by omega)
          have lp : hx_wh (m_comesOn_s90 (nI n) (nI (5 + 5 * W.2.2.2.1 1)) (nI (3 + 2 * W.2.2.2.1 1)) ms) hx_FU ((151 : Int32), (0 : Int32)) = m_comesOn_b122 (nI n) (nI (5 + 5 * W.2.2.2.1 1)) (nI (3 + 2 * W.2.2.2.1 1)) (zlast (fun i => nI (t i)) (n - 1)) ms := by
            refine pl_loop (fun k => (zlast (fun i => nI (t i)) k, nI k)) (n - 1) _ (fun k hk => ?_) ?_ (by omega)
            · unfold m_comesOn_s90
              simp only
              rw [n1, if_neg (nI_ge hk (by omega)), if_pos (pl_in (by omega) (by decide)), pl_cl (by omega), (Qt k (by omega)).1, nI_1]
              rfl
            · unfold m_comesOn_s90
              simp only
              rw [n1, if_pos (nI_le (Nat.le_refl _) (by omega))]
          rw [lp]
          unfold m_comesOn_b122
          rw [n1, if_pos (pl_in (by omega) (by decide)), pl_cl (by omega), (Qt (n - 1) (by omega)).1]
          by_cases hs : nI (t (n - 1)) = zlast (fun i => nI (t i)) (n - 1)
          · obtain ⟨m4, c1, c2⟩ := ml_copies (ms := ms) (t := 1) (f := 0) (by decide) (by decide) (by decide) M.1 M.2.1
            have Q4 := Q.fr c2.1.fr
            rw [if_pos hs, (show m_copies (1 : Int32) (0 : Int32) ms = _ from c1), Option.bind_some, (show m_twoBytes (0 : Int32) m4 = _ from Q4.two (i := 0) (by decide)), Option.bind_some, if_pos (show hx_in (2 : Int32) 1800 = true by decide), if_pos (show hx_in (1 : Int32) 22 = true by decide), show (2 : Int32).toNatClampNeg = 2 from rfl, show (1 : Int32).toNatClampNeg = 1 from rfl, (Q4.1 2 (by decide)).1, show (24 : Int32) * nI (256 * t 0 + t (0 + 1)) + nI (t 2) = nI (24 * (256 * t 0 + t (0 + 1)) + t 2) by simp only [pl_lit, pk_mul, nI_add]]
            have f5 : mfr 1 m4 (mx_A m4 26 1 (nI (24 * (256 * t 0 + t (0 + 1)) + t 2))) := mfr.A _ _ (Or.inr (Or.inr (Or.inr ⟨by decide, by decide, by decide⟩)))
            have Q5 := Q4.fr f5
            rw [(show m_twoBytes (3 : Int32) (mx_A m4 26 1 (nI (24 * (256 * t 0 + t (0 + 1)) + t 2))) = _ from Q5.two (i := 3) (by decide)), Option.bind_some, if_pos (show hx_in (1 : Int32) 22 = true by decide), if_pos (show hx_in (1 : Int32) 22 = true by decide)]
            have f6 : mfr 1 (mx_A m4 26 1 (nI (24 * (256 * t 0 + t (0 + 1)) + t 2))) (mx_A (mx_A (mx_A m4 26 1 (nI (24 * (256 * t 0 + t (0 + 1)) + t 2))) 27 1 (nI (256 * t 3 + t (3 + 1)))) 34 1 0) := (mfr.A _ _ (Or.inr (Or.inr (Or.inr ⟨by decide, by decide, by decide⟩)))).trans (mfr.A _ _ (Or.inr (Or.inr (Or.inr ⟨by decide, by decide, by decide⟩))))
            have Q6 := Q5.fr f6
            have r26 : (mx_A (mx_A (mx_A m4 26 1 (nI (24 * (256 * t 0 + t (0 + 1)) + t 2))) 27 1 (nI (256 * t 3 + t (3 + 1)))) 34 1 0).2.2.1 26 1 = nI (24 * (256 * t 0 + t 1) + t 2) := by simp [mx_A]
            have r27 : (mx_A (mx_A (mx_A m4 26 1 (nI (24 * (256 * t 0 + t (0 + 1)) + t 2))) 27 1 (nI (256 * t 3 + t (3 + 1)))) 34 1 0).2.2.1 27 1 = nI (256 * t 3 + t 4) := by simp [mx_A]
            have r34 : (mx_A (mx_A (mx_A m4 26 1 (nI (24 * (256 * t 0 + t (0 + 1)) + t 2))) 27 1 (nI (256 * t 3 + t (3 + 1)))) 34 1 0).2.2.1 34 1 = 0 := by simp [mx_A]
            obtain ⟨⟨r, m7⟩, w1, w2, w3, w4⟩ := ml_onAll Q6
            simp only at w2 w3 w4
            rw [w1]
            have hh : zokh W t n := ⟨hl, hs, hd, ht, hf⟩
            refine yes.ret ⟨((c2.1.fr.trans f5).trans f6).trans w2, ?_⟩
            rcases w4 with ⟨rfl, x1, x2, x3, x4⟩ | ⟨rfl, x1⟩
            · exact Or.inl ⟨rfl, ⟨hh, x1, x2⟩, x3, x4, (w3 26 1 (by decide)).trans r26, (w3 27 1 (by decide)).trans r27, (w3 34 1 (by decide)).trans r34⟩
            · exact Or.inr ⟨rfl, fun q => x1 q.2⟩
          · rw [if_neg hs]
            exact no (fun q x => q x.1.2.1) hs
        · rw [if_neg (show ¬ nI (256 * t 3 + t (3 + 1)) ≤ (9999 : Int32) from nI_ge (a := 9999) (by omega) (by omega))]
          exact no (fun q x => q x.1.2.2.2.2) hf
      · rw [if_pos (show (24 : Int32) ≤ nI (t 2) from nI_le (a := 24) (by omega) (by omega))]
        exact no (fun q x => q x.1.2.2.2.1) ht
    · rw [if_pos (show (999 : Int32) < nI (256 * t 0 + t (0 + 1)) from nI_lt (a := 999) (by omega) (by omega))]
      exact no (fun q x => q x.1.2.2.1) hd
  · rw [if_neg (fun q => hl ((nI_eq (by omega) (by omega)).mp q))]
    exact no (fun q x => q x.1.1) hl
/-- the class's side of an image -/
def ODg (X : zW) (t : Nat → Nat) (k : Nat) : Prop := (∀ i, i < 3 → X.2.1 30 k i = nI (t (5 + 5 * k + i))) ∧ X.2.1 29 k 7 = nI (t (5 + 5 * k + 3)) - 1 ∧ X.2.1 29 k 6 = nI (t (5 + 5 * k + 4))
def ODb (X : zW) (t : Nat → Nat) (n1 b : Nat) : Prop := (∀ i, i < 3 → X.2.1 26 b i = nI (t (zbf n1 b + i))) ∧ ∀ k, k < n1 → X.2.1 27 b k = nI (t (zbf n1 b + 3 + 2 * k)) ∧ X.2.1 28 b k = nI (t (zbf n1 b + 3 + 2 * k + 1))
theorem CS.clear9 (C : CS V h W T G) (G0 : GEg V G) (Z : ZL V T 9 As.length) (hc : T.2.2.2.1 10 ≤ 110) (x : Nat) : ∃ h' T', c_J2_clear V (T.1 9 0) h = some h' ∧ CS V h' W T' G ∧ ACc V T' G x [] ∧ Tsame 9 T T' ∧ T'.2.2.2.1 10 = T.2.2.2.1 10 ∧ h'.1 = h.1 ∧ h'.2.1 = h.2.1 := by
  obtain ⟨e, A, he⟩ := C.al G0 (kk := 9) (Or.inr rfl) Z
  obtain ⟨h', e', a1, a2, a3, a4, a5, a6⟩ := A.clear (fun i hi => ⟨_, he i hi⟩)
  obtain ⟨T', b1, b2, b3, b4, b5, b6⟩ := C.alset (kk := 9) (Or.inr rfl) a2 a3 (fun q _ hq hq2 => a4 q hq hq2) (by omega) Z.2.2.1 (Or.inl ⟨rfl, rfl⟩)
  exact ⟨h', T', a1, b1, ⟨b4, by decide, by rw [show T'.2.2.2.1 10 = _ from b5]; exact hc, fun i r hi => by simp at hi⟩, b2, b5, a5, a6⟩
theorem SIM.mfr1 (S : SIM V h W T G gt ms bk lk my L As) {ms' : mx_S} (f : mfr 1 ms ms') : SIM V h W T G gt ms' bk lk my L As := by
  obtain ⟨C, gl, G0, E, Z, h13, Zt, ⟨P, R, M, Em, O⟩, hb, A⟩ := S
  exact ⟨C, gl, G0, E, Z, h13, Zt, ⟨P.fr f, R.oth f (by decide) Z.1.1 Z.1.2.1, M.oth f (by decide), Em.fr f, O.fr (zeq.refl W) f⟩, hb, A.mv (Tsame.refl 3 T) (gle.refl G) rfl ⟨rfl, rfl⟩ f (by decide)⟩
theorem nI_m1 {n : Nat} : nI n - 1 = if n = 0 then -1 else nI (n - 1) := by
  by_cases e : n = 0
  · subst e; rfl
  · rw [if_neg e]; exact pk_sub (b := 1) (by omega)
end O2

/-! PURE SIDE: the call alone -/
set_option maxRecDepth 100000
/-- two loops, the first of which may need one turn more at its end -/
theorem yes2.whA0 {σ τ σ' τ' : Type} {stepA : σ → Option (σ ⊕ τ)} {stepB : σ' → Option (σ' ⊕ τ')} {I : Nat → σ → σ' → Prop} {Q : τ → τ' → Prop}
    (hs : ∀ n s s', I n s s' → (∃ t t', stepA s = some (.inl t) ∧ stepB s' = some (.inl t') ∧ ∃ m, m < n ∧ I m t t') ∨ ∃ r r', (stepA s = some (.inr r) ∨ ∃ t, stepA s = some (.inl t) ∧ stepA t = some (.inr r)) ∧ stepB s' = some (.inr r') ∧ Q r r') : ∀ (F F' n : Nat) (s : σ) (s' : σ'), I n s s' → n + 1 < F → n < F' → yes2 (hx_wh stepA F s) (hx_wh stepB F' s') Q := by
  intro F
  induction F with
  | zero => intro F' n s s' _ h; omega
  | succ F ih =>
    intro F' n s s' hI hn hn'
    obtain ⟨F', rfl⟩ : ∃ m, F' = m + 1 := ⟨F' - 1, by omega⟩
    rcases hs n s s' hI with ⟨t, t', e, e', m, hm, hI'⟩ | ⟨r, r', e, e', hq⟩
    · unfold hx_wh
      rw [e, e']
      exact ih F' m t t' hI' (by omega) (by omega)
    · rcases e with e | ⟨t, e, e2⟩
      · unfold hx_wh
        rw [e, e']
        exact ⟨r, r', rfl, rfl, hq⟩
      · obtain ⟨F, rfl⟩ : ∃ m, F = m + 1 := ⟨F - 1, by omega⟩
        refine ⟨r, r', ?_, ?_, hq⟩
        · unfold hx_wh
          rw [e]
          show hx_wh stepA (F + 1) t = _
          unfold hx_wh
          rw [e2]
        · unfold hx_wh
          rw [e']
theorem yes2.whA {σ τ σ' τ' : Type} {stepA : σ → Option (σ ⊕ τ)} {stepB : σ' → Option (σ' ⊕ τ')} {I : Nat → σ → σ' → Prop} {Q : τ → τ' → Prop} {s : σ} {s' : σ'} {n : Nat} (hI : I n s s') (hn : n + 1 < 1000000)
    (hs : ∀ n s s', I n s s' → (∃ t t', stepA s = some (.inl t) ∧ stepB s' = some (.inl t') ∧ ∃ m, m < n ∧ I m t t') ∨ ∃ r r', (stepA s = some (.inr r) ∨ ∃ t, stepA s = some (.inl t) ∧ stepA t = some (.inr r)) ∧ stepB s' = some (.inr r') ∧ Q r r') : yes2 (hx_wh stepA hx_FU s) (hx_wh stepB hx_FU s') Q :=
  yes2.whA0 hs hx_FU hx_FU n s s' hI (by have := hx_FU_ge; omega) (by have := hx_FU_ge; omega)
/-- beast b is awake, and asked for nobody -/
def zlon (X : zW) (b : Nat) : Prop := X.2.1 7 0 b = -1 ∧ ¬ zin (X.2.1 0 0 7) (X.2.1 25 b 2) (X.2.1 25 b 3) = 0
section AL1
variable {V : hx_V} {h : hx_S} {W X T : zW} {G gt : Nat → Option hx_C} {ms : mx_S} {bk : Nat} {lk my : zL} {L : List (Nat → Int32)} {As : List (zW × List (Nat → Int32))}
theorem CS.gQ7 (C : CS V h X T G) {b : Nat} (hb : b < 6) : hgQ h (X.1 7 0) (nI b) = some (zenc X 29 (X.2.1 7 0 b)) := by
  obtain ⟨f, D⟩ := C
  have := CR.gQ (W := zmix X T f) (k := 7) (j := 0) (i := b) (r := zenc X 29 (X.2.1 7 0 b)) D (show 0 < 1 from Nat.zero_lt_one) (by
    show va_rf (zenc (zmix X T f) 29 (X.2.1 7 0 b)) = _
    unfold zenc
    rw [zmix_at (k := 29) rfl]) (by decide) hb (show 6 < 2 ^ 31 by decide)
  rw [zmix_at (k := 7) rfl] at this
  exact this
theorem CS.lonely (C : CS V h X T G) (Z : ZI X) : yes (c_X0_lonely V (X.1 0 0) h) (fun r => (r = -1 ∧ ∀ b, b < X.2.2.2.1 0 → ¬ zlon X b) ∨ ∃ b, b < X.2.2.2.1 0 ∧ r = nI b ∧ zlon X b ∧ ∀ b', b' < b → ¬ zlon X b') := by
  have h6 := Z.1.1
  unfold c_X0_lonely
  refine yes.wh (I := fun n s => ∃ b, n = X.2.2.2.1 0 - b ∧ b ≤ X.2.2.2.1 0 ∧ s = nI b ∧ ∀ b', b' < b → ¬ zlon X b') (n := X.2.2.2.1 0) ⟨0, by omega, by omega, rfl, fun b' hb' => by omega⟩ (by omega) ?_
  rintro n s ⟨b, rfl, hb, rfl, hl⟩
  unfold c_X0_lonely_s2
  simp only [C.x_park, C.z_beasts, C.k_beasts, C.sizeB Z.1, Option.bind_some, if_true]
  by_cases hlt : b < X.2.2.2.1 0
  · have hc : hck h (some (X.1 25 b)) [8] = true := C.k_b hlt rfl
    have next : ¬ zlon X b → yes (some (Sum.inl (nI b + 1)) : Option (Int32 ⊕ Int32)) (yes_st (fun s' => ∃ m, m < X.2.2.2.1 0 - b ∧ ∃ b, m = X.2.2.2.1 0 - b ∧ b ≤ X.2.2.2.1 0 ∧ s' = nI b ∧ ∀ b', b' < b → ¬ zlon X b') (fun r => (r = -1 ∧ ∀ b, b < X.2.2.2.1 0 → ¬ zlon X b) ∨ ∃ b, b < X.2.2.2.1 0 ∧ r = nI b ∧ zlon X b ∧ ∀ b', b' < b → ¬ zlon X b')) := by
      intro hnl
      refine yes.ret ⟨X.2.2.2.1 0 - (b + 1), by omega, b + 1, rfl, by omega, nI_1 b, fun b' hb' => ?_⟩
      by_cases q : b' = b
      · subst q; exact hnl
      · exact hl b' (by omega)
    rw [if_neg (nI_ge hlt (by omega)), C.x_askedFor, Option.bind_some, Option.bind_some, C.gQ7 (by omega), Option.bind_some]
    by_cases hm : X.2.1 7 0 b = -1
    · rw [if_pos (zenc_none.mpr hm), C.getB Z.1 hlt, Option.bind_some, hc, if_pos rfl, C.x_hour, Option.bind_some, Option.bind_some, if_pos (C.k_b hlt rfl), C.thereB hlt, Option.bind_some]
      by_cases ha : zin (X.2.1 0 0 7) (X.2.1 25 b 2) (X.2.1 25 b 3) = 0
      · rw [if_pos ha]
        exact next (fun q => q.2 ha)
      · rw [if_neg ha]
        exact yes.ret (Or.inr ⟨b, hlt, rfl, ⟨hm, ha⟩, hl⟩)
    · rw [if_neg (fun q => hm (zenc_none.mp q))]
      exact next (fun q => hm q.1)
  · have hbe : b = X.2.2.2.1 0 := by omega
    subst hbe
    rw [if_pos (nI_le (Nat.le_refl _) (by omega))]
    exact yes.ret (Or.inl ⟨rfl, hl⟩)
/-- the reference looks for her, too -/
theorem ml_lonely (P : MP ms X bk) (R : MR ms 1 X) (Z : ZI X) (Q : MAq ms X (X.2.2.2.1 0)) (x1 x2 : Int32) : ∃ t, hx_wh (m_alone_s38 x1 x2 ms) hx_FU (0 : Int32) = t ∧ ((t = m_alone_b86 x1 x2 ms ∧ ∀ b, b < X.2.2.2.1 0 → ¬ zlon X b) ∨ ∃ b, b < X.2.2.2.1 0 ∧ t = (m_alone_b70 x1 x2 (nI b) ms).map Sum.inr ∧ zlon X b ∧ ∀ b', b' < b → ¬ zlon X b') := by
  have h6 := Z.1.1
  have key : ∀ (d b : Nat), b + d = X.2.2.2.1 0 → (∀ b', b' < b → ¬ zlon X b') → ∀ F, d < F → (hx_wh (m_alone_s38 x1 x2 ms) F (nI b) = m_alone_b86 x1 x2 ms ∧ ∀ b, b < X.2.2.2.1 0 → ¬ zlon X b) ∨ ∃ c, c < X.2.2.2.1 0 ∧ hx_wh (m_alone_s38 x1 x2 ms) F (nI b) = (m_alone_b70 x1 x2 (nI c) ms).map Sum.inr ∧ zlon X c ∧ ∀ b', b' < c → ¬ zlon X b' := by
    intro d
    induction d with
    | zero =>
      intro b hb hl F hF
      obtain ⟨F, rfl⟩ : ∃ m, F = m + 1 := ⟨F - 1, by omega⟩
      have hbe : b = X.2.2.2.1 0 := by omega
      subst hbe
      refine Or.inl ⟨?_, hl⟩
      unfold hx_wh m_alone_s38
      rw [P.2.1, if_pos (pl_in P.1 (by decide)), pl_cl (by have := P.1; omega), P.2.2.1, if_pos (nI_le (Nat.le_refl _) (by omega))]
      cases m_alone_b86 x1 x2 ms <;> rfl
    | succ d ih =>
      intro b hb hl F hF
      obtain ⟨F, rfl⟩ : ∃ m, F = m + 1 := ⟨F - 1, by omega⟩
      have hlt : b < X.2.2.2.1 0 := by omega
      have e1 : m_alone_s38 x1 x2 ms (nI b) = if zin (X.2.1 0 0 7) (X.2.1 25 b 2) (X.2.1 25 b 3) = 0 then some (.inl (nI (b + 1))) else if X.2.1 7 0 b = -1 then (m_alone_b70 x1 x2 (nI b) ms).map (fun t => Sum.inr (Sum.inr t)) else some (.inl (nI (b + 1))) := by
        unfold m_alone_s38
        rw [P.2.1, if_pos (pl_in P.1 (by decide)), pl_cl (by have := P.1; omega), P.2.2.1, if_neg (nI_ge hlt (by omega)), (show m_isAwake (1 : Int32) (nI b) ms = _ from ml_awake P R hlt h6), Option.bind_some, if_pos (pl_in (show b < 6 by omega) (by decide)), pl_cl (by omega), (Q b hlt).1, nI_1]
      by_cases ha : zin (X.2.1 0 0 7) (X.2.1 25 b 2) (X.2.1 25 b 3) = 0
      · rw [if_pos ha] at e1
        have := ih (b + 1) (by omega) (fun b' hb' => by
          by_cases q : b' = b
          · subst q; exact fun x => x.2 ha
          · exact hl b' (by omega)) F (by omega)
        rw [wh_inl F e1]; exact this
      · rw [if_neg ha] at e1
        by_cases hm : X.2.1 7 0 b = -1
        · rw [if_pos hm] at e1
          refine Or.inr ⟨b, hlt, ?_, ⟨hm, ha⟩, hl⟩
          cases hb70 : m_alone_b70 x1 x2 (nI b) ms with
          | none => rw [hb70] at e1; rw [wh_none F e1]; rfl
          | some t => rw [hb70] at e1; rw [wh_inr F e1]; rfl
        · rw [if_neg hm] at e1
          have := ih (b + 1) (by omega) (fun b' hb' => by
            by_cases q : b' = b
            · subst q; exact fun x => hm x.1
            · exact hl b' (by omega)) F (by omega)
          rw [wh_inl F e1]; exact this
  refine ⟨_, rfl, ?_⟩
  exact key (X.2.2.2.1 0) 0 (by omega) (fun b' hb' => by omega) hx_FU (by have := hx_FU_ge; omega)
theorem op_alone (S : SIM V h W T G gt ms bk lk my L As) (hr : RM V h W T) (x : Int32) : OP V h W T G (c_X0_alone V (W.1 0 0) x h) (m_alone x ms) := by
  have S' := S
  obtain ⟨C, gl, G0, E, Z, h13, Zt, ⟨P, R, M, Em, O⟩, hb, A⟩ := S
  have h6 := Z.1.1
  have h8 := Z.1.2.1
  unfold c_X0_alone m_alone
  rw [show (0 : Int64) = (0 : Int32).toInt64 from rfl, show (1 : Int64) = (1 : Int32).toInt64 from rfl, c_isIn_z, Option.bind_some, m_is_z, Option.bind_some]
  by_cases hz : zin x 0 1 = 0
  · rw [if_pos hz, if_pos hz]
    exact OP.same S' (-1)
  · rw [if_neg hz, if_neg hz, if_pos C.k_x]
    obtain ⟨n0, hn0, hh, e26⟩ := S'.hr
    obtain ⟨k1, G1, c, ms1, a1, a2, Q, gl1, g1, sp, a3, a4, f1⟩ := S'.thinks (by have := hr.1; omega) (by have := hr.2; omega)
    rw [a1, Option.bind_some, a2, Option.bind_some]
    have key : yes2 (hx_wh (c_X0_alone_s25 V (W.1 0 0) x (some h.1)) hx_FU ((-1 : Int32), (0 : Int32), (0 : Int32), k1)) (hx_wh (m_alone_s19 x) hx_FU ((0 : Int32), ms1)) (fun r r' => r.1 = r'.1 ∧ ∃ W', SIM V r.2 W' T G1 gt r'.2 bk lk my L As ∧ W'.1 = W.1 ∧ zeq W W' ∧ r.2.1 = h.1 + 1 ∧ r.2.2.1 = h.2.1 + 157) := by
      -- the end, whatever has been found
      have fin : ∀ (hx : hx_S) (X : zW) (mx : mx_S) (wh at_ : Int32), CS V hx X T G1 → ZI X → GEg V G1 → znow (zA W 0 0 13 1) X → mfr 1 ms mx → hx.1 = h.1 + 1 → hx.2.1 = h.2.1 + 157 → ∃ hy, c_X0_alone_b71 V (W.1 0 0) x (some h.1) wh at_ hx = some ((if wh = -1 then -1 else if x = 0 then at_ else wh), hy) ∧ ∃ W', SIM V hy W' T G1 gt mx bk lk my L As ∧ W'.1 = W.1 ∧ zeq W W' ∧ hy.1 = h.1 + 1 ∧ hy.2.1 = h.2.1 + 157 := by
        intro hx X mx wh at_ Dx ZX GX nX fX q1 q2
        obtain ⟨h3, W', c1, c2, c3, c4, c5, c6⟩ := TQ.done S' Dx ZX GX nX gl1 g1 sp fX
        have kx := Dx.k_x
        rw [nX.1] at kx
        refine ⟨h3, ?_, W', c2, c3, c4, by omega, by omega⟩
        unfold c_X0_alone_b71
        rw [if_pos (show hk hx (W.1 0 0) [0] = true from kx), c1, Option.bind_some]
        by_cases q : wh = -1
        · rw [if_pos q, if_pos q]
        · rw [if_neg q, if_neg q]
          by_cases q3 : x = 0
          · rw [if_pos q3, if_pos q3]
          · rw [if_neg q3, if_neg q3]
      refine yes2.whA (I := fun m s s' => ∃ j X at_, m = 100 - j ∧ j ≤ 100 ∧ s.1 = -1 ∧ s.2.1 = at_ ∧ s.2.2.1 = nI j ∧ s'.1 = nI j ∧ TQ V s.2.2.2 X T G1 s'.2 bk lk my ∧ znow (zA W 0 0 13 1) X ∧ zhr X (n0 + j) ∧ mfr 1 ms s'.2 ∧ s.2.2.2.1 = h.1 + 1 ∧ s.2.2.2.2.1 = h.2.1 + 157) (n := 100) ⟨0, _, _, rfl, by decide, rfl, rfl, rfl, rfl, Q, znow.refl _, hh, f1, a3, a4⟩ (by decide) ?_
      rintro m ⟨y1, y2, y3, hx⟩ ⟨z1, mx⟩ ⟨j, X, at_, rfl, hj, e1, e2, e3, e4, Qx, nX, hX, fX, q1, q2⟩
      simp only at e1 e2 e3 e4 Qx fX q1 q2
      subst e1 e2 e3 e4
      have x0 : X.1 = W.1 := nX.1
      have e26' : mx.2.2.1 26 0 = nI n0 := by
        rw [fX.2.2.1 26 0 (by decide) (fun _ _ => by decide)]; exact e26
      have ha := ml_isAhead (ms := mx) (lo := 0) (hi := 99) (k := j) e26' (by omega) (by omega)
      have zj : zin (nI j) 0 99 = if j ≤ 99 then 1 else 0 := by
        unfold zin
        rw [if_neg (show ¬ nI j < (0 : Int32) from nI_pos (by omega))]
        by_cases q : j ≤ 99
        · rw [if_neg (show ¬ (99 : Int32) < nI j from nI_nlt (a := 99) q (by decide)), if_pos q]
        · rw [if_pos (show (99 : Int32) < nI j from nI_lt (a := 99) (by omega) (by omega)), if_neg q]
      have kx := Qx.1.k_x
      have kd := Qx.1.x_day
      rw [x0] at kx kd
      obtain ⟨d, t, d1, d2, d3, d4⟩ := hX
      obtain ⟨-, ZX, -, -, GX, -⟩ := id Qx
      have eM : m_alone_s19 x (nI j, mx) = if (if (if j ≤ 99 then (1 : Int32) else 0) = 0 then 0 else zah n0 j) = 0 then some (.inr ((-1 : Int32), mx)) else (m_asking (1 : Int32) mx).bind fun q6_ => hx_wh (m_alone_s38 x (nI j) q6_.2) hx_FU (0 : Int32) := by
        unfold m_alone_s19
        simp only
        rw [ha, Option.bind_some, zj]
      -- the end without a find
      have none_ : m_alone_s19 x (nI j, mx) = some (.inr ((-1 : Int32), mx)) → c_X0_alone_s25 V (W.1 0 0) x (some h.1) (-1, y2, nI j, hx) = (c_X0_alone_b71 V (W.1 0 0) x (some h.1) (-1) y2 hx).map Sum.inr → (∃ t t', c_X0_alone_s25 V (W.1 0 0) x (some h.1) (-1, y2, nI j, hx) = some (.inl t) ∧ m_alone_s19 x (nI j, mx) = some (.inl t') ∧ ∃ m, m < 100 - j ∧ ∃ j X at_, m = 100 - j ∧ j ≤ 100 ∧ t.1 = -1 ∧ t.2.1 = at_ ∧ t.2.2.1 = nI j ∧ t'.1 = nI j ∧ TQ V t.2.2.2 X T G1 t'.2 bk lk my ∧ znow (zA W 0 0 13 1) X ∧ zhr X (n0 + j) ∧ mfr 1 ms t'.2 ∧ t.2.2.2.1 = h.1 + 1 ∧ t.2.2.2.2.1 = h.2.1 + 157) ∨ ∃ r r', (c_X0_alone_s25 V (W.1 0 0) x (some h.1) (-1, y2, nI j, hx) = some (.inr r) ∨ ∃ t, c_X0_alone_s25 V (W.1 0 0) x (some h.1) (-1, y2, nI j, hx) = some (.inl t) ∧ c_X0_alone_s25 V (W.1 0 0) x (some h.1) t = some (.inr r)) ∧ m_alone_s19 x (nI j, mx) = some (.inr r') ∧ r.1 = r'.1 ∧ ∃ W', SIM V r.2 W' T G1 gt r'.2 bk lk my L As ∧ W'.1 = W.1 ∧ zeq W W' ∧ r.2.1 = h.1 + 1 ∧ r.2.2.1 = h.2.1 + 157 := by
        intro n1 n2
        obtain ⟨hy, w1, W', w2, w3, w4, w5, w6⟩ := fin hx X mx (-1) y2 Qx.1 ZX GX nX fX q1 q2
        refine Or.inr ⟨(-1, hy), (-1, mx), Or.inl ?_, n1, rfl, W', w2, w3, w4, w5, w6⟩
        rw [n2, w1, if_pos rfl]
        rfl
      by_cases h100 : j < 100
      · rw [if_pos (show j ≤ 99 by omega), if_neg (show ¬ (1 : Int32) = 0 by decide)] at eM
        have eC : c_X0_alone_s25 V (W.1 0 0) x (some h.1) (-1, y2, nI j, hx) = if (999 : Int32) < nI d then (c_X0_alone_b71 V (W.1 0 0) x (some h.1) (-1) y2 hx).map Sum.inr else (c_X0_askings V (W.1 0 0) hx).bind fun q14_ => if hk q14_.2 (W.1 0 0) [0] = true then (c_X0_lonely V (W.1 0 0) q14_.2).bind fun q16_ => if hk q14_.2 (W.1 0 0) [0] = true then (c_X0_hourEnds V (W.1 0 0) q14_.2).bind fun q18_ => some (.inl (q16_, nI j, nI j + (1 : Int32), q18_)) else none else none := by
          unfold c_X0_alone_s25
          simp only
          rw [if_neg (show ¬ (100 : Int32) ≤ nI j from nI_ge (b := 100) h100 (by decide)), if_pos trivial, kd, Option.bind_some, d1]
          simp only [if_pos kx]
        by_cases hd : n0 + j ≤ 23999
        · rw [if_neg (show ¬ (999 : Int32) < nI d from nI_nlt (a := 999) (by omega) (by decide))] at eC
          unfold zah at eM
          rw [if_pos hd, if_neg (show ¬ (1 : Int32) = 0 by decide)] at eM
          obtain ⟨r, h2, ms2, b1, b2, b3, b4, b5, b6, b7⟩ := Qx.ask
          have y0 : (zaskd lk my X).1 = W.1 := (zaskd_now ZX).1.trans x0
          have hX' : zhr (zaskd lk my X) (n0 + j) := zaskd_hr ZX ⟨d, t, d1, d2, d3, d4⟩
          have hnu : (zaskd lk my X).2.2.2.1 = X.2.2.2.1 := by rw [(zaskd_now (lk := lk) (my := my) ZX).2.1]
          obtain ⟨rl, l1, l2⟩ := b3.1.lonely b3.2.1
          obtain ⟨tt, m1, m2⟩ := ml_lonely b3.2.2.2.2.2.1 b3.2.2.2.2.2.2.1 b3.2.1 (by rw [hnu]; exact b7) x (nI j)
          obtain ⟨h3, ms3, c1, c2, c3, c4, c5, c6, c7, c8⟩ := b3.end hX' (by omega)
          have k2 := b3.1.k_x
          rw [x0] at b1
          rw [y0] at k2 l1 c1
          rw [b1, Option.bind_some, if_pos (show hk h2 (W.1 0 0) [0] = true from k2), l1, Option.bind_some, if_pos (show hk h2 (W.1 0 0) [0] = true from k2), c1, Option.bind_some] at eC
          rw [b2, Option.bind_some] at eM
          replace eM := eM.trans m1
          have nX3 : znow (zA W 0 0 13 1) (zend (zaskd lk my X)) := (nX.trans (zaskd_now ZX)).trans (zend_now _)
          rcases l2 with ⟨u1, u2⟩ | ⟨b, u1, u2, u3, u4⟩
          · rcases m2 with ⟨v1, v2⟩ | ⟨c, v1, v2, v3, v4⟩
            · refine Or.inl ⟨_, (nI j + 1, ms3), eC, ?_, 100 - (j + 1), by omega, j + 1, zend (zaskd lk my X), nI j, rfl, by omega, u1, rfl, nI_1 j, ?_, c3, nX3, c7, (fX.trans b6).trans c6, by dsimp only; omega, by dsimp only; omega⟩
              · rw [eM, v1]
                unfold m_alone_b86
                rw [c2, Option.bind_some]
              · exact nI_1 j
            · exact absurd v3 (u2 c v1)
          · rcases m2 with ⟨v1, v2⟩ | ⟨c, v1, v2, v3, v4⟩
            · exact absurd u3 (v2 b u1)
            · have hbc : b = c := by
                rcases Nat.lt_trichotomy b c with q | q | q
                · exact absurd u3 (v4 b q)
                · exact q
                · exact absurd v3 (u4 c q)
              subst hbc
              -- the class goes one turn more
              obtain ⟨hy, w1, W', w2, w3, w4, w5, w6⟩ := fin h3 (zend (zaskd lk my X)) ms2 rl (nI j) c3.1 c3.2.1 c3.2.2.2.2.1 nX3 (fX.trans b6) (by omega) (by omega)
              have hbm : ¬ rl = -1 := by rw [u2]; exact nI_nm1 (by rw [hnu] at u1; have := ZX.1.1; omega)
              rw [if_neg hbm] at w1
              refine Or.inr ⟨(if x = 0 then nI j else rl, hy), (if x = 0 then nI j else nI b, ms2), Or.inr ⟨_, eC, ?_⟩, ?_, by rw [u2], W', w2, w3, w4, w5, w6⟩
              · unfold c_X0_alone_s25
                simp only
                rw [if_neg hbm, w1]
                split <;> rfl
              · rw [eM, v2]
                unfold m_alone_b70
                by_cases q3 : x = 0
                · rw [if_pos q3, if_pos q3]; rfl
                · rw [if_neg q3, if_neg q3]; rfl
        · rw [if_pos (show (999 : Int32) < nI d from nI_lt (a := 999) (by omega) (by omega))] at eC
          unfold zah at eM
          rw [if_neg hd, if_pos rfl] at eM
          exact none_ eM eC
      · have hje : j = 100 := by omega
        subst hje
        rw [if_neg (show ¬ 100 ≤ 99 by decide), if_pos rfl, if_pos rfl] at eM
        refine none_ eM ?_
        unfold c_X0_alone_s25
        simp only
        rw [if_pos (show (100 : Int32) ≤ nI 100 from nI_le (Nat.le_refl _) (by decide))]
    obtain ⟨⟨r, h'⟩, ⟨r', ms'⟩, d1, d2, d3, W', d4, d5, d6, d7, d8⟩ := key
    simp only at d3 d4 d7 d8
    subst d3
    have zp := zpc_eq d6
    exact ⟨r, h', ms', W', T, G1, gt, bk, lk, my, L, As, d1, d2, d4, by rw [d5], gl1, by omega, by rw [zp.1]; omega, by rw [zp.2]; omega⟩
end AL1

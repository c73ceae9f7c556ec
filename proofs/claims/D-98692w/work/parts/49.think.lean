/-! PURE SIDE: what is thought of: asks, alone -/
set_option maxRecDepth 100000
theorem zask_th (th th' : Int32) (lk my : zL) (W : zW) (L L' : List (Nat → Int32)) (b : Nat) : (zask th lk my W L b).1 = (zask th' lk my W L' b).1 ∧ (zask th lk my W L b).2.1 = (zask th' lk my W L' b).2.1 ∧ (zask th lk my W L b).2.2.1 = (zask th' lk my W L' b).2.2.1 := by
  induction b with
  | zero => exact ⟨rfl, rfl, rfl⟩
  | succ b ih =>
    obtain ⟨i1, i2, i3⟩ := ih
    show (zstep th lk my b (zask th lk my W L b)).1 = (zstep th' lk my b (zask th' lk my W L' b)).1 ∧ (zstep th lk my b (zask th lk my W L b)).2.1 = (zstep th' lk my b (zask th' lk my W L' b)).2.1 ∧ (zstep th lk my b (zask th lk my W L b)).2.2.1 = (zstep th' lk my b (zask th' lk my W L' b)).2.2.1
    have hs : zsel lk my b (zask th lk my W L b) = zsel lk my b (zask th' lk my W L' b) := by unfold zsel; rw [i1, i2, i3]
    unfold zstep
    rw [hs]
    split
    · exact ⟨i1, i2, by rw [i3]⟩
    · refine ⟨?_, ?_, ?_⟩
      · show _ ||| _ = _ ||| _
        rw [i1]
      · show _ + _ = _ + _
        rw [i2]
      · show zA _ _ _ _ _ = zA _ _ _ _ _
        rw [i3]
/-- n hours have gone -/
def zhr (W : zW) (n : Nat) : Prop := ∃ d t, W.2.1 0 0 6 = nI d ∧ W.2.1 0 0 7 = nI t ∧ t < 24 ∧ 24 * d + t = n
theorem zend_hr {W : zW} {n : Nat} (h : zhr W n) : zhr (zend W) (n + 1) := by
  obtain ⟨d, t, h1, h2, h3, h4⟩ := h
  unfold zend
  have hp : W.2.1 0 0 7 + 1 = nI (t + 1) := by rw [h2, nI_1]
  by_cases h24 : t + 1 = 24
  · rw [if_pos (show (24 : Int32) ≤ W.2.1 0 0 7 + 1 by rw [hp, h24]; exact nI_le (Nat.le_refl _) (by decide))]
    exact ⟨d + 1, 0, by show W.2.1 0 0 6 + 1 = _; rw [h1, nI_1], rfl, by decide, by omega⟩
  · rw [if_neg (show ¬ (24 : Int32) ≤ W.2.1 0 0 7 + 1 by rw [hp]; exact nI_ge (b := 24) (by omega) (by decide))]
    exact ⟨d, t + 1, h1, hp, by omega, by omega⟩
/-- thinking: the class's state, and the reference's layer 1, tell X -/
def TQ (V : hx_V) (h : hx_S) (X T : zW) (G : Nat → Option hx_C) (ms : mx_S) (bk : Nat) (lk my : zL) : Prop :=
  CS V h X T G ∧ ZI X ∧ X.2.1 0 0 13 = 1 ∧ ELC V X G lk my ∧ GEg V G ∧ MP ms X bk ∧ MR ms 1 X ∧ (∃ L1, MT ms 1 L1) ∧ ELM ms bk lk my
section TK
variable {V : hx_V} {h : hx_S} {W X T : zW} {G gt : Nat → Option hx_C} {ms : mx_S} {bk : Nat} {lk my : zL} {L : List (Nat → Int32)} {As : List (zW × List (Nat → Int32))}
/-- for whom all beasts ask -/
def zaskd (lk my : zL) (X : zW) : zW := (zask 1 lk my X [] (X.2.2.2.1 0)).2.2.1
theorem zaskd_now (Z : ZI X) : znow X (zaskd lk my X) := (zask_inv (th := 1) (lk := lk) (my := my) (L := []) Z (X.2.2.2.1 0) (Nat.le_refl _)).2.1
theorem zaskd_I (Z : ZI X) : ZI (zaskd lk my X) := (zask_inv (th := 1) (lk := lk) (my := my) (L := []) Z (X.2.2.2.1 0) (Nat.le_refl _)).1
theorem zaskd_hr (Z : ZI X) {n : Nat} (h : zhr X n) : zhr (zaskd lk my X) n := by
  have := (zask_inv (th := 1) (lk := lk) (my := my) (L := []) Z (X.2.2.2.1 0) (Nat.le_refl _)).2.2.2
  obtain ⟨d, t, h1, h2, h3, h4⟩ := h
  exact ⟨d, t, (this 6 (Or.inl rfl)).trans h1, (this 7 (Or.inr rfl)).trans h2, h3, h4⟩
theorem TQ.ask (Q : TQ V h X T G ms bk lk my) : ∃ n h' ms', c_X0_askings V (X.1 0 0) h = some (n, h') ∧ m_asking (1 : Int32) ms = some (n, ms') ∧ TQ V h' (zaskd lk my X) T G ms' bk lk my ∧ h'.1 = h.1 ∧ h'.2.1 = h.2.1 ∧ mfr 1 ms ms' ∧ MAq ms' (zaskd lk my X) (X.2.2.2.1 0) := by
  obtain ⟨C, Z, h13, E, G0, P, R, ⟨L1, M⟩, Em⟩ := Q
  obtain ⟨⟨n, h'⟩, a1, a2, T', g', a3, a4, a5, a6, a7, a8, a9, a10, a11, a12⟩ := C.askings (L := []) Z E G0 h13 (Or.inr rfl) (fun q => absurd q (by decide))
  obtain ⟨⟨m, ms'⟩, b1, b2, b3, b4, b5, b6⟩ := ml_asking (v := 1) P R Z Em M
  simp only at a2 a3 a9 a10 a11 b2 b3 b4 b5 b6
  obtain ⟨rfl, rfl⟩ := a8 rfl
  obtain ⟨e1, e2, e3⟩ := zask_th 1 0 lk my X [] L1 (X.2.2.2.1 0)
  have eW : (zask 0 lk my X L1 (X.2.2.2.1 0)).2.2.1 = zaskd lk my X := e3.symm
  have en : m = n := by rw [a2, b2, e2]
  subst en
  rw [eW] at b3 b6
  refine ⟨m, h', ms', a1, b1, ⟨a3, zaskd_I Z, (((zaskd_now Z).2.2 0 0 13 rfl)).trans h13, E.now (zaskd_now Z), G0, (P.fr b5).now (zaskd_now Z), b3, ⟨_, b4⟩, Em.fr b5⟩, (a11 trivial).1, (a11 trivial).2, b5, b6⟩
theorem TQ.end (Q : TQ V h X T G ms bk lk my) {n : Nat} (hh : zhr X n) (hn : n < 40000) : ∃ h' ms', c_X0_hourEnds V (X.1 0 0) h = some h' ∧ m_isOver (1 : Int32) ms = some ms' ∧ TQ V h' (zend X) T G ms' bk lk my ∧ h'.1 = h.1 ∧ h'.2.1 = h.2.1 ∧ mfr 1 ms ms' ∧ zhr (zend X) (n + 1) ∧ ∀ a i, a = 38 ∨ a = 39 → ms'.2.2.1 a i = ms.2.2.1 a i := by
  obtain ⟨C, Z, h13, E, G0, P, R, ⟨L1, M⟩, Em⟩ := Q
  obtain ⟨h', a1, a2, a3, a4⟩ := C.hourEnds Z
  have hd : zle (X.2.1 0 0 6) 1998 := by
    obtain ⟨d, t, h1, h2, h3, h4⟩ := hh
    exact ⟨d, by omega, h1⟩
  obtain ⟨ms', b1, b2, b3, b4, b5⟩ := ml_over (v := 1) R Z hd
  exact ⟨h', ms', a1, b1, ⟨a2, zend_I Z, (((zend_now X).2.2 0 0 13 rfl)).trans h13, E.now (zend_now X), G0, (P.fr b3).now (zend_now X), b2, ⟨_, b4 L1 M⟩, Em.fr b3⟩, a3, a4, b3, zend_hr hh, b5⟩
/-- thinking begins -/
theorem SIM.thinks (S : SIM V h W T G gt ms bk lk my L As) (h1 : h.1 + 1 ≤ V.2.2.1) (h2 : h.2.1 + 157 ≤ V.2.2.2.1) : ∃ h1 G1 c ms1, c_X0_thinks V (W.1 0 0) h = some (some h.1, h1) ∧ m_copies (1 : Int32) (0 : Int32) ms = some ms1 ∧ TQ V h1 (zA W 0 0 13 1) T G1 ms1 bk lk my ∧ gle G G1 ∧ G1 h.1 = some (100, 157, c) ∧ SP W c ∧ h1.1 = h.1 + 1 ∧ h1.2.1 = h.2.1 + 157 ∧ mfr 1 ms ms1 := by
  obtain ⟨C, gl, G0, E, Z, h13, Zt, ⟨P, R, M, Em, O⟩, hb, A⟩ := S
  obtain ⟨k1, G1, c, a1, a2, a3, a4, a5, a6, a7⟩ := C.thinks Z h1 h2
  obtain ⟨ms1, b1, b2⟩ := ml_copies (ms := ms) (t := 1) (f := 0) (by decide) (by decide) (by decide) M.1 M.2.1
  have R1 := R.cx b2 (by decide) Z.1.1 Z.1.2.1
  refine ⟨k1, G1, c, ms1, a1, b1, ⟨a2, Z.Ax (by decide), by simp [zA, zset], ?_, G0.mono a3, (P.fr b2.1.fr).A _ (by decide) (by simp) (by simp), R1.A _ (by decide) (by simp) (by simp), ⟨L, M.cx b2⟩, Em.fr b2.1.fr⟩, a3, a4, a5, a6, a7, b2.1.fr⟩
  have := (E.mono gl).mono a3
  unfold ELC at this ⊢
  exact this
/-- thinking ends -/
theorem TQ.done (S : SIM V h W T G gt ms bk lk my L As) {h1 : hx_S} {G1 : Nat → Option hx_C} {c : Nat → Value} {ms1 : mx_S} (D : CS V h1 X T G1) (ZX : ZI X) (GX : GEg V G1) (hX : znow (zA W 0 0 13 1) X) (gl1 : gle G G1) (g1 : G1 h.1 = some (100, 157, c)) (sp : SP W c) (f1 : mfr 1 ms ms1) :
    ∃ h' W', c_X0_thoughtOf V (W.1 0 0) (some h.1) h1 = some h' ∧ SIM V h' W' T G1 gt ms1 bk lk my L As ∧ W'.1 = W.1 ∧ zeq W W' ∧ h'.1 = h1.1 ∧ h'.2.1 = h1.2.1 := by
  obtain ⟨C, gl, G0, E, Z, h13, Zt, ⟨P, R, M, Em, O⟩, ⟨d, t, hb⟩, A⟩ := S
  have nu : X.2.2.2.1 = W.2.2.2.1 := by rw [hX.2.1]; rfl
  obtain ⟨h', a1, a2, a3, a4⟩ := D.thought ZX Z (by rw [nu]; exact ⟨rfl, rfl⟩) g1 sp
  have ze := zcp_eq hX h13
  rw [show X.1 = W.1 from hX.1] at a1
  refine ⟨h', _, a1, ⟨a2, gl.trans gl1, GX, E.eq ze, Z.eq ze, ?_, Zt.mono gl1, ⟨(P.fr f1).eq ze, (R.oth f1 (by decide) Z.1.1 Z.1.2.1).eq ze Z.1.2.1, M.oth f1 (by decide), Em.fr f1, O.fr ze f1⟩, ⟨d, t, ?_⟩, A.mv (Tsame.refl 3 T) gl1 (by rw [ze.1]) (by rw [ze.2.1]; exact ⟨rfl, rfl⟩) f1 (by decide)⟩, ze.1, ze, a3, a4⟩
  · rw [ze.2.2 0 0 13 (by simp [zrel])]; exact h13
  · rw [ze.2.2 0 0 6 (by simp [zrel]), ze.2.2 0 0 7 (by simp [zrel])]; exact hb
end TK
theorem wh_inl {σ τ : Type} {step : σ → Option (σ ⊕ τ)} {s t : σ} (F : Nat) (e : step s = some (.inl t)) : hx_wh step (F + 1) s = hx_wh step F t := by
  rw [hx_wh, e]
theorem wh_inr {σ τ : Type} {step : σ → Option (σ ⊕ τ)} {s : σ} {t : τ} (F : Nat) (e : step s = some (.inr t)) : hx_wh step (F + 1) s = some t := by
  rw [hx_wh, e]
theorem wh_none {σ τ : Type} {step : σ → Option (σ ⊕ τ)} {s : σ} (F : Nat) (e : step s = none) : hx_wh step (F + 1) s = none := by
  rw [hx_wh, e]

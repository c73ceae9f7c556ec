/-! PURE SIDE: an act is kept -/
set_option maxRecDepth 100000
section AK
variable {V : hx_V} {h : hx_S} {W X T : zW} {G gt : Nat → Option hx_C} {ms : mx_S} {bk : Nat} {lk my : zL} {L : List (Nat → Int32)} {As : List (zW × List (Nat → Int32))}
/-- cells that stay are changed, or new -/
theorem CS.fset (C : CS V h W T G) {h' : hx_S} {G' : Nat → Option hx_C} (hh : h.1 ≤ h'.1) (h1 : ∀ q, q < h.1 → G q = none → h'.2.2 q = h.2.2 q) (h2 : ∀ q c, G' q = some c → h'.2.2 q = some c ∧ q < h'.1 ∧ ((G q).isSome = true ∨ h.1 ≤ q)) : CS V h' W T G' := by
  obtain ⟨f, C⟩ := C
  have nr : ∀ k j, j < zn (zmix W T f) k → G ((zmix W T f).1 k j) = none := by
    intro k j hj
    cases e : G ((zmix W T f).1 k j) with
    | none => rfl
    | some c => exact absurd rfl ((C.2.2.2 _ c e).2.2 k j hj)
  refine ⟨f, fun k j hj => ?_, fun k j hj => ?_, C.2.2.1, fun q c hq => ?_⟩
  · obtain ⟨c, e1, e2⟩ := C.1 k j hj
    exact ⟨c, by rw [h1 _ (C.2.1 k j hj).2 (nr k j hj)]; exact e1, e2⟩
  · have := C.2.1 k j hj
    exact ⟨this.1, by omega⟩
  · obtain ⟨a1, a2, a3⟩ := h2 q c hq
    refine ⟨a1, a2, fun k j hj x => ?_⟩
    rcases a3 with a3 | a3
    · rw [← x, nr k j hj] at a3; cases a3
    · have := (C.2.1 k j hj).2
      omega
/-- the rows told so far are laid into a new act -/
theorem CS.actRows (C : CS V h W T G) (G0 : GEg V G) (Zt : ZT V T G L) {act ra : Nat} {fa f : Nat → Value} (ha : G act = some (20, 3, fa)) (hf1 : fa 1 = .ref ra) (hra : h.2.2 ra = some (24, 3, f)) (f0 : f 0 = .int 0) (f1 : f 1 = V.2.2.2.2 0) (f2 : f 2 = .int 0) (hro : G ra = none) (hr1 : ra < h.1) (hr2 : V.2.1.size ≤ ra) (hnr : CS V h W T (fun q => if q = ra then some (24, 3, f) else G q)) (h1 : h.1 + 60 ≤ V.2.2.1) (h2 : h.2.1 + 500 ≤ V.2.2.2.1) :
    yes (hx_wh (c_X20_init_s33 V act (some (W.1 0 0))) hx_FU ((0 : Int32), h)) (fun h' => ∃ G', CS V h' W T G' ∧ gle G G' ∧ FL V G' ra L ∧ h'.1 ≤ h.1 + 60 ∧ h.1 ≤ h'.1 ∧ h'.2.1 ≤ h.2.1 + 500 ∧ ∀ q, q < h.1 → q ≠ ra → G' q = G q) := by
  obtain ⟨d0, e0, g1, g2, g3, mi, g4⟩ := id G0
  have hl := Zt.2.1
  have lc : L.length ≤ T.2.2.2.1 4 := Zt.1.2.1
  have hgn : ∀ q c, G q = some c → q < h.1 := fun q c hq => (C.fro hq).2
  have A0 : AL V h ra d0 0 0 e0 := ⟨f, 0, hra, f0, by rw [f1, g1], f2, (C.fro g2).1, Nat.le_refl _, by decide, hr2, by omega, Or.inr ⟨rfl, g1⟩, hr1, (C.fro g2).2⟩
  refine yes.wh (I := fun m s => ∃ k Gk d cap e, m = L.length - k ∧ k ≤ L.length ∧ s.1 = nI k ∧ CS V s.2 W T Gk ∧ gle G Gk ∧ AL V s.2 ra d cap k e ∧ (∃ c, s.2.2.2 ra = some c ∧ Gk ra = some c) ∧ Gk d = some (105, cap, e) ∧ (∀ i, i < cap → ∃ r, e i = va_rf r) ∧ (∀ i r, i < k → L[i]? = some r → ∃ (b : Nat) (c : Nat → Value), e i = .ref b ∧ G b = some (100, 5, c) ∧ ∀ j, j < 5 → c j = .int (r j)) ∧ (d = d0 ∧ cap = 0 ∨ h.1 ≤ d) ∧ cap ≤ 110 ∧ s.2.1 ≤ h.1 + k ∧ h.1 ≤ s.2.1 ∧ s.2.2.1 + zph cap ≤ h.2.1 + 500 ∧ ∀ q, q < h.1 → q ≠ ra → Gk q = G q) (n := L.length)
    ⟨0, _, d0, 0, e0, by omega, by omega, rfl, hnr, fun q c hq => ?_, A0, ⟨_, hra, by rw [if_pos rfl]⟩, by rw [if_neg (by omega)]; exact g2, fun i hi => by omega, fun i r hi => by omega, Or.inl ⟨rfl, rfl⟩, by omega, by dsimp only; omega, by dsimp only; omega, by unfold zph; dsimp only; omega, fun q hq hq2 => by rw [if_neg hq2]⟩ (by omega) ?_
  · show (if q = ra then _ else G q) = _
    rw [if_neg (fun x => by rw [x, hro] at hq; cases hq)]
    exact hq
  rintro m ⟨x, hx⟩ ⟨k, Gk, d, cap, e, rfl, hk, e1, D, gl, A, ⟨cr, cr1, cr2⟩, cd, hrf, hel, hd, hcap, q1, q2, q3, q4⟩
  simp only at e1 D A cr1 q1 q2 q3
  subst e1
  have Gk0 := G0.mono gl
  have Ztk := Zt.mono gl
  obtain ⟨eT, AT, hT⟩ := D.al Gk0 (kk := 3) (Or.inl rfl) Ztk.1
  replace AT : AL V hx (T.1 3 0) (T.1 4 0) (T.2.2.2.1 4) L.length eT := AT
  replace hT : ∀ i, i < T.2.2.2.1 4 → eT i = va_rf (T.2.2.2.2 4 0 i) := hT
  have hak : Gk act = some (20, 3, fa) := gl _ _ ha
  have r1 : hgR hx act [20] 1 = some (some ra) := p_gR (D.fro hak).1 rfl (by decide) hf1
  unfold c_X20_init_s33
  simp only [Option.bind_some, D.x_told, D.k_told, AT.size, if_true, r1]
  by_cases hlt : k < L.length
  · obtain ⟨b, c, b1, b2, b3⟩ := Zt.2.2.2 k L[k] (List.getElem?_eq_getElem hlt)
    have bk' : Gk b = some (100, 5, c) := gl _ _ b2
    have gt' : c_J2_get V (T.1 3 0) (nI k) hx = some (some b) := AT.get hlt (by rw [hT k (by omega), b1])
    have hc : hck hx (some b) [100] = true := p_k (D.fro bk').1 rfl
    have brn : b ≠ ra := fun q => by rw [q, hro] at b2; cases b2
    rw [if_neg (nI_ge hlt (by omega)), gt', Option.bind_some, hc, if_pos rfl, if_pos A.k]
    have hz : zph cap = 500 - 4 * cap := rfl
    obtain ⟨h', d', cap', e', a1, a2, a3, a4, a5, a6, a7, a8, a9⟩ := A.add (D.GE Gk0) (fun i hi => by
      obtain ⟨b', c', u1, u2, u3⟩ := hel i L[i] hi (List.getElem?_eq_getElem (by omega))
      refine ⟨b', u1, p_k (D.fro (gl _ _ u2)).1 rfl, (fun q => by rw [q, hro] at u2; cases u2), (D.fro (gl _ _ u2)).2⟩) (b := b) (p_k (D.fro bk').1 rfl) brn (D.fro bk').2 (by omega) (fun _ => by omega) (by omega) hrf
    have hbd : cap' ≤ 110 ∧ h'.1 ≤ hx.1 + 1 ∧ hx.1 ≤ h'.1 ∧ h'.2.1 + zph cap' ≤ hx.2.1 + zph cap ∧ (h.1 ≤ d') ∧ (d' = hx.1 ∨ (d' = d ∧ cap' = cap)) := by
      unfold zph at q3 ⊢
      rcases a7 with ⟨u1, u2, u3, u4⟩ | ⟨u1, u2, u3, u4, u5, u6, u7⟩
      · rw [u2, u3, u4]
        refine ⟨by omega, by omega, by omega, by omega, ?_, Or.inr ⟨u1, rfl⟩⟩
        rcases hd with ⟨v1, v2⟩ | v
        · omega
        · omega
      · exact ⟨by omega, by omega, by omega, by omega, by omega, Or.inl u1⟩
    obtain ⟨p1, p2, p3, p4, p5, p6⟩ := hbd
    obtain ⟨fn, mc, A1, A2, A3, A4, A5, -⟩ := id a2
    rw [a1, Option.bind_some]
    refine yes.ret ⟨L.length - (k + 1), by omega, k + 1, (fun q => if q = ra then some (24, 3, fn) else if q = d' then some (105, cap', e') else Gk q), d', cap', e', rfl, by omega, nI_1 k, ?_, ?_, a2, ⟨_, A1, if_pos rfl⟩, ?_, a3, fun i r hi hr => ?_, Or.inr p5, p1, by dsimp only; omega, by dsimp only; omega, by dsimp only; omega, fun q hq hq2 => ?_⟩
    · refine D.fset p3 (fun q hq hn => a6 q hq (fun x => by rw [x, cr2] at hn; cases hn) (fun x => ?_)) (fun q cc hq => ?_)
      · rcases p6 with y | ⟨y, -⟩
        · omega
        · rw [x, y, cd] at hn; cases hn
      · replace hq : (if q = ra then some ((24, 3, fn) : hx_C) else if q = d' then some (105, cap', e') else Gk q) = some cc := hq
        by_cases x1 : q = ra
        · rw [if_pos x1] at hq
          rw [x1]
          exact ⟨A1.trans hq, by (try dsimp only); omega, Or.inl (by rw [cr2]; rfl)⟩
        · rw [if_neg x1] at hq
          by_cases x2 : q = d'
          · rw [if_pos x2] at hq
            rw [x2]
            refine ⟨A5.trans hq, ?_, ?_⟩
            · obtain ⟨_, _, _, _, _, _, _, _, _, _, _, _, _, l2⟩ := a2
              exact l2
            · rcases p6 with y | ⟨y, -⟩
              · exact Or.inr (by omega)
              · exact Or.inl (by rw [y, cd]; rfl)
          · rw [if_neg x2] at hq
            have := D.fro hq
            exact ⟨(a6 q this.2 x1 x2).trans this.1, by (try dsimp only); omega, Or.inl (by rw [hq]; rfl)⟩
    · intro q cc hq
      have hqh := hgn q cc hq
      show (if q = ra then _ else if q = d' then _ else Gk q) = _
      rw [if_neg (fun x => by rw [x, hro] at hq; cases hq), if_neg (fun x => by omega)]
      exact gl q cc hq
    · show (if d' = ra then _ else if d' = d' then some ((105, cap', e') : hx_C) else Gk d') = _
      rw [if_neg (by omega), if_pos rfl]
    · by_cases x : i = k
      · subst x
        rw [List.getElem?_eq_getElem hlt] at hr
        cases hr
        exact ⟨b, c, a5, b2, b3⟩
      · obtain ⟨b', c', u1, u2, u3⟩ := hel i r (by omega) hr
        exact ⟨b', c', by rw [a4 i (by omega)]; exact u1, u2, u3⟩
    · show (if q = ra then _ else if q = d' then _ else Gk q) = _
      rw [if_neg hq2, if_neg (by omega)]
      exact q4 q hq hq2
  · have hke : k = L.length := by omega
    subst hke
    rw [if_pos (nI_le (Nat.le_refl _) (by omega))]
    obtain ⟨fn, mc, A1, A2, A3, A4, A5, A6, -⟩ := id A
    refine yes.ret ⟨Gk, D, gl, ⟨fn, d, cap, e, ?_, A3, A4, cd, A6, by omega, fun i r hr => ?_⟩, by omega, q2, by omega, q4⟩
    · rw [cr2]
      rw [A1] at cr1
      exact cr1.symm
    · obtain ⟨b, c, u1, u2, u3⟩ := hel i r (List.getElem?_eq_some_iff.mp hr).1 hr
      exact ⟨b, c, u1, gl _ _ u2, u3⟩
end AK

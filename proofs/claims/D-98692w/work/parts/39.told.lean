/-! PURE SIDE: the lists told and acts in the state -/
set_option maxRecDepth 100000
section ALc
variable {V : hx_V} {h : hx_S} {a d cap n : Nat} {e : Nat → Value}
theorem AL.clear (A : AL V h a d cap n e) (hrf : ∀ i, i < cap → ∃ r, e i = va_rf r) :
    ∃ h' e', c_J2_clear V a h = some h' ∧ AL V h' a d cap 0 e' ∧ (∀ i, i < cap → ∃ r, e' i = va_rf r) ∧ (∀ q, q ≠ a → (q = d → cap = 0) → h'.2.2 q = h.2.2 q) ∧ h'.1 = h.1 ∧ h'.2.1 = h.2.1 := by
  obtain ⟨f, mc, c1, f0, f1, f2, c2, n1, n2, B1, ad, B2, l1, l2⟩ := A
  unfold c_J2_clear
  rw [p_gI c1 rfl (by decide) f0, Option.bind_some, p_p c1 _ rfl rfl B1, Option.bind_some]
  have c3 := hs_at h a (24, 3, updV f 0 (.int (mc + 1)))
  generalize hh2 : hx_set h a (24, 3, updV f 0 (.int (mc + 1))) = k at c3
  have k1 : k.1 = h.1 ∧ k.2.1 = h.2.1 := by rw [← hh2]; exact ⟨rfl, rfl⟩
  have kne : ∀ q, q ≠ a → k.2.2 q = h.2.2 q := fun q hq => by rw [← hh2]; exact hs_ne h _ hq
  have F1 : updV f 0 (.int (mc + 1)) 1 = .ref d := by rw [updV_ne _ _ (by decide)]; exact f1
  have F2 : updV f 0 (.int (mc + 1)) 2 = .int (nI n) := by rw [updV_ne _ _ (by decide)]; exact f2
  have F0 : updV f 0 (.int (mc + 1)) 0 = .int (mc + 1) := updV_at _ _ _
  generalize updV f 0 (.int (mc + 1)) = F at c3 F0 F1 F2
  have c4 : k.2.2 d = some (105, cap, e) := (kne d (Ne.symm ad)).trans c2
  rw [p_gR (x := some d) c3 rfl (by decide) F1, Option.bind_some, p_gI c3 rfl (by decide) F2, Option.bind_some, p_p c3 _ rfl rfl B1, Option.bind_some]
  have key : yes (hx_wh (c_J2_clear_s27 V a (some d) (nI n)) hx_FU (nI 0, hx_set k a (24, 3, updV F 2 (.int (0 : Int32))))) (fun h' => ∃ e', AL V h' a d cap 0 e' ∧ (∀ i, i < cap → ∃ r, e' i = va_rf r) ∧ (∀ q, q ≠ a → (q = d → cap = 0) → h'.2.2 q = h.2.2 q) ∧ h'.1 = h.1 ∧ h'.2.1 = h.2.1) := by
    refine yes.wh (I := fun m s => ∃ i u, m = n - i ∧ i ≤ n ∧ s.1 = nI i ∧ s.2.2.2 a = some (24, 3, updV F 2 (.int (0 : Int32))) ∧ s.2.2.2 d = some (105, cap, u) ∧ (∀ i, i < cap → ∃ r, u i = va_rf r) ∧ (∀ q, q ≠ a → (q = d → cap = 0) → s.2.2.2 q = h.2.2 q) ∧ s.2.1 = h.1 ∧ s.2.2.1 = h.2.1) (n := n) ⟨0, e, by omega, by omega, rfl, hs_at _ _ _, (hs_ne _ _ (Ne.symm ad)).trans c4, hrf, fun q q1 q2 => (hs_ne _ _ q1).trans (kne q q1), k1.1, k1.2⟩ (by omega) ?_
    rintro m ⟨x, kx⟩ ⟨i, u, rfl, hi, hs, a1, a2, a3, a4, a5, a6⟩
    simp only at hs a1 a2 a4 a5 a6
    subst hs
    unfold c_J2_clear_s27
    by_cases hlt : i < n
    · have hd : V.2.1.size ≤ d := by
        rcases B2 with q | ⟨q, -⟩
        · exact q.1
        · omega
      simp only
      rw [if_neg (nI_ge hlt (by omega)), Option.bind_some, p_pQ a2 (show i < cap by omega) (by omega) hd (fun b' hb' => by cases hb'), Option.bind_some]
      refine yes.ret ⟨n - (i + 1), by omega, i + 1, _, rfl, by omega, nI_1 i, (hs_ne _ _ ad).trans a1, hs_at _ _ _, fun j hj => ?_, fun q q1 q2 => (hs_ne _ _ (fun x => by have := q2 x; omega)).trans (a4 q q1 q2), a5, a6⟩
      by_cases q : j = i
      · subst q; exact ⟨none, updV_at _ _ _⟩
      · rw [updV_ne _ _ q]; exact a3 j hj
    · simp only
      rw [if_pos (nI_le (by omega) (by omega))]
      refine yes.ret ⟨u, ⟨_, mc + 1, a1, ?_, ?_, ?_, a2, by omega, n2, B1, ad, B2, ?_, ?_⟩, a3, a4, a5, a6⟩
      · rw [updV_ne _ _ (by decide)]; exact F0
      · rw [updV_ne _ _ (by decide)]; exact F1
      · rw [updV_at]; rfl
      · rw [a5]; exact l1
      · rw [a5]; exact l2
  obtain ⟨h', e1, e', A', r1, r2, r3, r4⟩ := key
  exact ⟨h', e', e1, A', r1, r2, r3, r4⟩
end ALc
/-- the static empty row, among what stays -/
def GEg (V : hx_V) (g : Nat → Option hx_C) : Prop := ∃ (d : Nat) (e : Nat → Value), V.2.2.2.2 0 = .ref d ∧ g d = some (105, 0, e) ∧ d < V.2.1.size ∧ ∃ mi : Nat, V.2.2.2.2 90 = .ref mi
/-- list kk (3 told, 9 acts) of n things -/
def ZL (V : hx_V) (T : zW) (kk n : Nat) : Prop := T.2.1 kk 0 2 = nI n ∧ n ≤ T.2.2.2.1 (kk + 1) ∧ T.2.2.2.1 (kk + 1) < 1000 ∧ (T.2.2.2.1 (kk + 1) = 0 → V.2.2.2.2 0 = .ref (T.1 (kk + 1) 0))
/-- the other list is as it was -/
def Tsame (kk : Nat) (T T' : zW) : Prop := ∀ k, zk k = true → k ≠ kk → k ≠ kk + 1 → (∀ j, T'.1 k j = T.1 k j) ∧ (∀ j i, T'.2.1 k j i = T.2.1 k j i) ∧ T'.2.2.2.1 k = T.2.2.2.1 k ∧ ∀ j i, T'.2.2.2.2 k j i = T.2.2.2.2 k j i
section CL
variable {V : hx_V} {h : hx_S} {W T : zW} {g : Nat → Option hx_C}
theorem CS.GE (C : CS V h W T g) (G : GEg V g) : GE V h := by
  obtain ⟨f, C⟩ := C
  obtain ⟨d, e, g1, g2, g3, g4⟩ := G
  exact ⟨d, e, g1, (C.2.2.2 d _ g2).1, g3, g4⟩
theorem CS.al (C : CS V h W T g) (G : GEg V g) {kk n : Nat} (hkk : kk = 3 ∨ kk = 9) (Z : ZL V T kk n) : ∃ e, AL V h (T.1 kk 0) (T.1 (kk + 1) 0) (T.2.2.2.1 (kk + 1)) n e ∧ (∀ i, i < T.2.2.2.1 (kk + 1) → e i = va_rf (T.2.2.2.2 (kk + 1) 0 i)) := by
  obtain ⟨f, C⟩ := C
  obtain ⟨z1, z2, z3, z4⟩ := Z
  obtain ⟨d0, e0, g1, g2, g3, -⟩ := G
  have key : ∀ (hl : 0 < zn (zmix W T f) kk) (hl2 : zn (zmix W T f) (kk + 1) = if T.2.2.2.1 (kk + 1) = 0 then 0 else 1) (ha : ztag kk = 24) (ha2 : ztag (kk + 1) = 105) (hb : zlen (zmix W T f) kk = 3) (hb2 : zlen (zmix W T f) (kk + 1) = T.2.2.2.1 (kk + 1)) (p1 : (zmix W T f).1 kk 0 = T.1 kk 0) (p2 : (zmix W T f).1 (kk + 1) 0 = T.1 (kk + 1) 0) (v0 : zv (zmix W T f) kk 0 0 = .int (T.2.1 kk 0 0)) (v1 : zv (zmix W T f) kk 0 1 = .ref (T.1 (kk + 1) 0)) (v2 : zv (zmix W T f) kk 0 2 = .int (T.2.1 kk 0 2)) (v3 : ∀ i, zv (zmix W T f) (kk + 1) 0 i = va_rf (T.2.2.2.2 (kk + 1) 0 i)) (hne : kk ≠ kk + 1), ∃ e, AL V h (T.1 kk 0) (T.1 (kk + 1) 0) (T.2.2.2.1 (kk + 1)) n e ∧ (∀ i, i < T.2.2.2.1 (kk + 1) → e i = va_rf (T.2.2.2.2 (kk + 1) 0 i)) := by
    intro hl hl2 ha ha2 hb hb2 p1 p2 v0 v1 v2 v3 hne
    obtain ⟨u, a1, a2⟩ := C.at hl
    obtain ⟨b1, b2⟩ := C.2.1 kk 0 hl
    rw [p1, ha, hb] at a1
    rw [p1] at b1 b2
    rw [hb] at a2
    by_cases hc : T.2.2.2.1 (kk + 1) = 0
    · have hd := z4 hc
      rw [g1] at hd
      have hd' : d0 = T.1 (kk + 1) 0 := by cases hd; rfl
      obtain ⟨g4, g5, g6⟩ := C.2.2.2 d0 _ g2
      refine ⟨e0, ⟨u, _, a1, (a2 0 (by decide)).trans v0, (a2 1 (by decide)).trans v1, ((a2 2 (by decide)).trans v2).trans (by rw [z1]), ?_, z2, by omega, b1, ?_, Or.inr ⟨hc, by rw [g1, hd']⟩, b2, ?_⟩, fun i hi => by omega⟩
      · rw [hc, ← hd']; exact g4
      · rw [← hd']; omega
      · rw [← hd']; exact g5
    · have hl3 : 0 < zn (zmix W T f) (kk + 1) := by rw [hl2, if_neg hc]; decide
      obtain ⟨u2, a3, a4⟩ := C.at hl3
      obtain ⟨b3, b4⟩ := C.2.1 (kk + 1) 0 hl3
      rw [p2, ha2, hb2] at a3
      rw [hb2] at a4
      rw [p2] at b3 b4
      refine ⟨u2, ⟨u, _, a1, (a2 0 (by decide)).trans v0, (a2 1 (by decide)).trans v1, ((a2 2 (by decide)).trans v2).trans (by rw [z1]), a3, z2, by omega, b1, ?_, Or.inl ⟨b3, by omega⟩, b2, b4⟩, fun i hi => (a4 i hi).trans (v3 i)⟩
      intro q
      exact hne (C.2.2.1 kk 0 (kk + 1) 0 hl hl3 (by rw [p1, p2]; exact q)).1
  rcases hkk with rfl | rfl
  · exact key (show 0 < 1 from Nat.zero_lt_one) rfl rfl rfl rfl rfl rfl rfl rfl rfl rfl (fun _ => rfl) (by decide)
  · exact key (show 0 < 1 from Nat.zero_lt_one) rfl rfl rfl rfl rfl rfl rfl rfl rfl rfl (fun _ => rfl) (by decide)
theorem zn_mix {W T T' : zW} {f : Nat → Int64} {k : Nat} (h : zk k = true → T'.2.2.2.1 k = T.2.2.2.1 k) : zn (zmix W T' f) k = zn (zmix W T f) k := by
  have e0 : (zmix W T' f).2.2.2.1 0 = (zmix W T f).2.2.2.1 0 := rfl
  have e1 : (zmix W T' f).2.2.2.1 1 = (zmix W T f).2.2.2.1 1 := rfl
  have ek : (zmix W T' f).2.2.2.1 k = (zmix W T f).2.2.2.1 k := by
    show (if zk k = true then T'.2.2.2.1 k else _) = (if zk k = true then T.2.2.2.1 k else _)
    by_cases q : zk k = true
    · rw [if_pos q, if_pos q, h q]
    · rw [if_neg q, if_neg q]
  unfold zn
  split <;> first | rfl | rw [ek] | exact e0 | exact e1
theorem zlen_mix {W T T' : zW} {f : Nat → Int64} {k : Nat} (h : zk k = true → T'.2.2.2.1 k = T.2.2.2.1 k) : zlen (zmix W T' f) k = zlen (zmix W T f) k := by
  have ek : (zmix W T' f).2.2.2.1 k = (zmix W T f).2.2.2.1 k := by
    show (if zk k = true then T'.2.2.2.1 k else _) = (if zk k = true then T.2.2.2.1 k else _)
    by_cases q : zk k = true
    · rw [if_pos q, if_pos q, h q]
    · rw [if_neg q, if_neg q]
  unfold zlen
  split <;> first | rfl | exact ek
/-- a place of another kind than the list's own -/
theorem zv_mix {W T T' : zW} {f : Nat → Int64} {k j i : Nat} (h1 : ∀ j, T'.1 3 j = T.1 3 j ∧ T'.1 9 j = T.1 9 j) (h2 : zk k = true → T'.2.1 k j i = T.2.1 k j i ∧ T'.2.2.2.2 k j i = T.2.2.2.2 k j i) (h3 : k = 3 → T'.1 4 0 = T.1 4 0) (h4 : k = 9 → T'.1 10 0 = T.1 10 0) : zv (zmix W T' f) k j i = zv (zmix W T f) k j i := by
  have eA : (zmix W T' f).2.1 k j i = (zmix W T f).2.1 k j i := by
    show (if zk k = true then T'.2.1 k j i else _) = (if zk k = true then T.2.1 k j i else _)
    by_cases q : zk k = true
    · rw [if_pos q, if_pos q, (h2 q).1]
    · rw [if_neg q, if_neg q]
  have eF : (zmix W T' f).2.2.2.2 k j i = (zmix W T f).2.2.2.2 k j i := by
    show (if zk k = true then T'.2.2.2.2 k j i else _) = (if zk k = true then T.2.2.2.2 k j i else _)
    by_cases q : zk k = true
    · rw [if_pos q, if_pos q, (h2 q).2]
    · rw [if_neg q, if_neg q]
  have e3 : (zmix W T' f).1 3 0 = (zmix W T f).1 3 0 := (h1 0).1
  have e9 : (zmix W T' f).1 9 0 = (zmix W T f).1 9 0 := (h1 0).2
  have eR : zr (zmix W T' f) k j i = zr (zmix W T f) k j i := by
    unfold zr
    split
    · split <;> first | rfl | rw [e3] | rw [e9]
    · exact congrArg some (h3 rfl)
    · exact congrArg some (h4 rfl)
    all_goals rfl
  have eE : ∀ x, zenc (zmix W T' f) (zek k) x = zenc (zmix W T f) (zek k) x := by
    intro x
    unfold zenc zek
    split
    · rfl
    · split <;> rfl
  simp only [zv, eA, eF, eR, eE]
  split <;> rfl
/-- a list in a changed heap: the state with it -/
theorem CS.alset (C : CS V h W T g) {kk n' d' cap' : Nat} {h' : hx_S} {e' : Nat → Value} (hkk : kk = 3 ∨ kk = 9) (A : AL V h' (T.1 kk 0) d' cap' n' e') (hrf : ∀ i, i < cap' → ∃ r, e' i = va_rf r) (hfr : ∀ q, q < h.1 → q ≠ T.1 kk 0 → (q = d' → cap' = 0) → h'.2.2 q = h.2.2 q) (hh : h.1 ≤ h'.1) (hc : cap' < 1000) (hd : (d' = T.1 (kk + 1) 0 ∧ cap' = T.2.2.2.1 (kk + 1)) ∨ d' = h.1) :
    ∃ T', CS V h' W T' g ∧ Tsame kk T T' ∧ T'.1 kk 0 = T.1 kk 0 ∧ ZL V T' kk n' ∧ T'.2.2.2.1 (kk + 1) = cap' ∧ ∀ i, i < cap' → va_rf (T'.2.2.2.2 (kk + 1) 0 i) = e' i := by
  obtain ⟨f, C⟩ := C
  obtain ⟨u, mc, c1, f0, f1, f2, c2, n1, n2, B1, ad, B2, l1, l2⟩ := A
  obtain ⟨r, hr⟩ : ∃ r : Nat → Option Nat, ∀ i, i < cap' → e' i = va_rf (r i) := ⟨fun i => if h : i < cap' then Classical.choose (hrf i h) else none, fun i h => by show e' i = va_rf (dite _ _ _); rw [dif_pos h]; exact Classical.choose_spec (hrf i h)⟩
  obtain ⟨T', t1, t2, t4, t5⟩ : ∃ T' : zW, (∀ k j, T'.1 k j = if k = kk + 1 then d' else T.1 k j) ∧ (∀ k j i, T'.2.1 k j i = if k = kk then (if i = 0 then mc else nI n') else T.2.1 k j i) ∧ (∀ k, T'.2.2.2.1 k = if k = kk + 1 then cap' else T.2.2.2.1 k) ∧ (∀ k j i, T'.2.2.2.2 k j i = if k = kk + 1 then r i else T.2.2.2.2 k j i) :=
    ⟨(fun k j => if k = kk + 1 then d' else T.1 k j, fun k j i => if k = kk then (if i = 0 then mc else nI n') else T.2.1 k j i, T.2.2.1, fun k => if k = kk + 1 then cap' else T.2.2.2.1 k, fun k j i => if k = kk + 1 then r i else T.2.2.2.2 k j i), fun _ _ => rfl, fun _ _ _ => rfl, fun _ => rfl, fun _ _ _ => rfl⟩
  have hne : kk ≠ kk + 1 := by omega
  have d1 : T'.1 (kk + 1) 0 = d' := by rw [t1, if_pos rfl]
  have d2 : T'.1 kk 0 = T.1 kk 0 := by rw [t1, if_neg hne]
  have d3 : T'.2.2.2.1 (kk + 1) = cap' := by rw [t4, if_pos rfl]
  have hs : Tsame kk T T' := fun k _ h1 h2 => ⟨fun j => by rw [t1, if_neg h2], fun j i => by rw [t2, if_neg h1], by rw [t4, if_neg h2], fun j i => by rw [t5, if_neg h2]⟩
  refine ⟨T', ⟨f, ?_⟩, hs, d2, ⟨by rw [t2, if_pos rfl, if_neg (by decide)], by rw [d3]; exact n1, by rw [d3]; exact hc, fun q => ?_⟩, d3, fun i hi => by rw [t5, if_pos rfl, hr i hi]⟩
  · -- where the cells lie
    have hzk : zk kk = true ∧ zk (kk + 1) = true := by rcases hkk with rfl | rfl <;> decide
    have m1 : ∀ k j, k ≠ kk + 1 → (zmix W T' f).1 k j = (zmix W T f).1 k j := by
      intro k j hk1
      show (if zk k = true then T'.1 k j else _) = (if zk k = true then T.1 k j else _)
      rw [t1, if_neg hk1]
    have m2 : ∀ j, (zmix W T' f).1 (kk + 1) j = d' := by
      intro j
      show (if zk (kk + 1) = true then T'.1 (kk + 1) j else _) = _
      rw [if_pos hzk.2, t1, if_pos rfl]
    have m3 : (zmix W T f).1 kk 0 = T.1 kk 0 := by
      show (if zk kk = true then T.1 kk 0 else _) = _
      rw [if_pos hzk.1]
    have m4 : (zmix W T f).1 (kk + 1) 0 = T.1 (kk + 1) 0 := by
      show (if zk (kk + 1) = true then T.1 (kk + 1) 0 else _) = _
      rw [if_pos hzk.2]
    have n4 : ∀ k, k ≠ kk + 1 → zn (zmix W T' f) k = zn (zmix W T f) k := fun k hk1 => zn_mix (fun _ => by rw [t4, if_neg hk1])
    have lv : ∀ k j, k ≠ kk + 1 → j < zn (zmix W T' f) k → j < zn (zmix W T f) k := fun k j hk1 hj => by rw [← n4 k hk1]; exact hj
    have l3 : 0 < zn (zmix W T f) kk := by rcases hkk with rfl | rfl <;> exact Nat.zero_lt_one
    have zk1 : zn (zmix W T' f) (kk + 1) = if cap' = 0 then 0 else 1 := by
      rw [← d3]; rcases hkk with rfl | rfl <;> rfl
    have zk0 : zn (zmix W T f) (kk + 1) = if T.2.2.2.1 (kk + 1) = 0 then 0 else 1 := by
      rcases hkk with rfl | rfl <;> rfl
    -- the row's place is no other's
    have far : ∀ k j, k ≠ kk + 1 → j < zn (zmix W T f) k → 0 < zn (zmix W T' f) (kk + 1) → (zmix W T f).1 k j ≠ d' := by
      intro k j hk1 hj hc0 q
      rcases hd with ⟨q1, q2⟩ | q1
      · have : 0 < zn (zmix W T f) (kk + 1) := by
          rw [zk0, ← q2]; rw [zk1] at hc0; exact hc0
        exact hk1 (C.2.2.1 k j (kk + 1) 0 hj this (by rw [m4, q, q1])).1
      · have := (C.2.1 k j hj).2
        rw [q, q1] at this
        omega
    have rows : 0 < zn (zmix W T' f) (kk + 1) → V.2.1.size ≤ d' := by
      intro hc0
      rcases B2 with q | ⟨q, -⟩
      · exact q.1
      · rw [zk1, if_pos q] at hc0; omega
    refine ⟨fun k j hj => ?_, fun k j hj => ?_, fun k j k' j' hj hj' he => ?_, fun q c hq => ?_⟩
    · by_cases hk1 : k = kk + 1
      · subst hk1
        have hj0 : j = 0 := by rw [zk1] at hj; split at hj <;> omega
        subst hj0
        refine ⟨_, by rw [m2]; exact c2, ?_, ?_, fun i hi => ?_⟩
        · show 105 = ztag (kk + 1)
          rcases hkk with rfl | rfl <;> rfl
        · show cap' = zlen (zmix W T' f) (kk + 1)
          rw [← d3]; rcases hkk with rfl | rfl <;> rfl
        · show e' i = zv (zmix W T' f) (kk + 1) 0 i
          have : zv (zmix W T' f) (kk + 1) 0 i = va_rf (T'.2.2.2.2 (kk + 1) 0 i) := by rcases hkk with rfl | rfl <;> rfl
          have h3 : zlen (zmix W T' f) (kk + 1) = cap' := by
            rw [← d3]
            rcases hkk with rfl | rfl <;> rfl
          have hi' : i < zlen (zmix W T' f) (kk + 1) := hi
          rw [h3] at hi'
          rw [this, t5, if_pos rfl, hr i hi']
      · by_cases hk2 : k = kk
        · subst hk2
          have hj0 : j = 0 := by replace hj := lv k j hne hj; rcases hkk with rfl | rfl <;> exact Nat.lt_one_iff.mp hj
          subst hj0
          refine ⟨_, by rw [m1 k 0 hne, m3]; exact c1, ?_, ?_, fun i hi => ?_⟩
          · show 24 = ztag k
            rcases hkk with rfl | rfl <;> rfl
          · show 3 = zlen (zmix W T' f) k
            rcases hkk with rfl | rfl <;> rfl
          · have hi3 : i < 3 := by
              have : zlen (zmix W T' f) k = 3 := by rcases hkk with rfl | rfl <;> rfl
              have hi' : i < zlen (zmix W T' f) k := hi
              omega
            have hi4 : i = 0 ∨ i = 1 ∨ i = 2 := by omega
            rcases hi4 with rfl | rfl | rfl
            · have : zv (zmix W T' f) k 0 0 = .int (T'.2.1 k 0 0) := by rcases hkk with rfl | rfl <;> rfl
              show u 0 = zv (zmix W T' f) k 0 0
              rw [this, t2, if_pos rfl, if_pos rfl]; exact f0
            · have : zv (zmix W T' f) k 0 1 = .ref (T'.1 (k + 1) 0) := by rcases hkk with rfl | rfl <;> rfl
              show u 1 = zv (zmix W T' f) k 0 1
              rw [this, d1]; exact f1
            · have : zv (zmix W T' f) k 0 2 = .int (T'.2.1 k 0 2) := by rcases hkk with rfl | rfl <;> rfl
              show u 2 = zv (zmix W T' f) k 0 2
              rw [this, t2, if_pos rfl, if_neg (by decide)]; exact f2
        · have hj2 := lv k j hk1 hj
          obtain ⟨c, e1, e2⟩ := C.1 k j hj2
          have q1 := (C.2.1 k j hj2).2
          have q2 : (zmix W T f).1 k j ≠ T.1 kk 0 := fun q => hk2 (C.2.2.1 k j kk 0 hj2 l3 (by rw [q, m3])).1
          have hce : csim (zc (zmix W T f) k j) (zc (zmix W T' f) k j) := by
            unfold zc
            rw [zlen_mix (T := T) (T' := T') (fun _ => by rw [t4, if_neg hk1])]
            refine ⟨rfl, rfl, fun i _ => ?_⟩
            show zv (zmix W T f) k j i = zv (zmix W T' f) k j i
            refine (zv_mix (fun j => ⟨?_, ?_⟩) (fun q => ⟨(hs k q hk2 hk1).2.1 j i, (hs k q hk2 hk1).2.2.2 j i⟩) (fun q => ?_) (fun q => ?_)).symm
            · rw [t1, if_neg (by rcases hkk with rfl | rfl <;> decide)]
            · rw [t1, if_neg (by rcases hkk with rfl | rfl <;> decide)]
            · rw [t1, if_neg (by rcases hkk with rfl | rfl <;> omega)]
            · rw [t1, if_neg (by rcases hkk with rfl | rfl <;> omega)]
          refine ⟨c, ?_, e2.trans hce⟩
          rw [m1 k j hk1, hfr _ q1 q2 (fun q => ?_)]
          · exact e1
          · by_cases hcz : cap' = 0
            · exact hcz
            · exact (far k j hk1 hj2 (by rw [zk1, if_neg hcz]; decide) q).elim
    · by_cases hk1 : k = kk + 1
      · subst hk1
        rw [m2]
        refine ⟨rows (by omega), l2⟩
      · rw [m1 k j hk1]
        have := C.2.1 k j (lv k j hk1 hj)
        exact ⟨this.1, by omega⟩
    · by_cases hk1 : k = kk + 1
      · by_cases hk2 : k' = kk + 1
        · subst hk1 hk2
          rw [zk1] at hj hj'
          refine ⟨rfl, ?_⟩
          split at hj <;> split at hj' <;> omega
        · subst hk1
          rw [m2, m1 k' j' hk2] at he
          exact (far k' j' hk2 (lv k' j' hk2 hj') (by omega) he.symm).elim
      · by_cases hk2 : k' = kk + 1
        · subst hk2
          rw [m2, m1 k j hk1] at he
          exact (far k j hk1 (lv k j hk1 hj) (by omega) he).elim
        · rw [m1 k j hk1, m1 k' j' hk2] at he
          exact C.2.2.1 k j k' j' (lv k j hk1 hj) (lv k' j' hk2 hj') he
    · obtain ⟨e1, e2, e3⟩ := C.2.2.2 q c hq
      have q1 : q ≠ T.1 kk 0 := fun x => e3 kk 0 l3 (by rw [m3, x])
      have q2 : ¬ cap' = 0 → q ≠ d' := by
        intro hcz x
        rcases hd with ⟨a1, a2⟩ | a1
        · exact e3 (kk + 1) 0 (by show 0 < zn (zmix W T f) (kk + 1); rw [zk0, ← a2, if_neg hcz]; decide) (by rw [m4, x, a1])
        · rw [x, a1] at e2; omega
      refine ⟨?_, by omega, fun k j hj => ?_⟩
      · rw [hfr q e2 q1 (fun x => ?_)]
        · exact e1
        · by_cases hcz : cap' = 0
          · exact hcz
          · exact (q2 hcz x).elim
      · by_cases hk1 : k = kk + 1
        · subst hk1
          rw [m2]
          intro x
          refine q2 (fun hcz => ?_) x.symm
          replace hj : j < zn (zmix W T' f) (kk + 1) := hj
          rw [zk1, if_pos hcz] at hj
          omega
        · rw [m1 k j hk1]
          exact e3 k j (lv k j hk1 hj)
  · rw [d3] at q
    rw [d1]
    rcases B2 with x | x
    · omega
    · exact x.2
end CL

/-! PURE SIDE: acts: kept, dropped -/
set_option maxRecDepth 100000
abbrev zU : Type := zW × List (Nat → Int32)
/-- the acts, as the class holds them -/
def ACc (V : hx_V) (T : zW) (g : Nat → Option hx_C) (x : Nat) (As : List zU) : Prop :=
  ZL V T 9 As.length ∧ As.length ≤ 20 ∧ T.2.2.2.1 10 ≤ 110 ∧ ∀ i u, As[i]? = some u → ∃ a : Nat, T.2.2.2.2 10 0 i = some a ∧ FA V g x a u.1 u.2
section KC
variable {V : hx_V} {h : hx_S} {W X T : zW} {G gt : Nat → Option hx_C} {ms : mx_S} {bk : Nat} {lk my : zL} {L : List (Nat → Int32)} {As : List zU}
theorem ACc.mono {g' : Nat → Option hx_C} {x : Nat} (A : ACc V T G x As) (hg : gle G g') : ACc V T g' x As := ⟨A.1, A.2.1, A.2.2.1, fun i u hi => by obtain ⟨a, a1, a2⟩ := A.2.2.2 i u hi; exact ⟨a, a1, a2.mono hg⟩⟩
theorem ACc.el {x : Nat} (A : ACc V T G x As) (C : CS V h W T G) {e : Nat → Value} (he : ∀ i, i < T.2.2.2.1 10 → e i = va_rf (T.2.2.2.2 10 0 i)) : ∀ i, i < As.length → ∃ b : Nat, e i = .ref b ∧ hk h b hx_obs = true ∧ b ≠ T.1 9 0 ∧ b < h.1 := by
  intro i hi
  obtain ⟨a, a1, f, sp, ra, c, a2, -⟩ := A.2.2.2 i As[i] (List.getElem?_eq_getElem hi)
  have lc : As.length ≤ T.2.2.2.1 10 := A.1.2.1
  refine ⟨a, ?_, p_k (C.fro a2).1 rfl, (C.far3 a2).2, (C.fro a2).2⟩
  rw [he i (by omega), a1]; rfl
theorem CS.addAct (C : CS V h W T G) (G0 : GEg V G) {x : Nat} (A : ACc V T G x As) (hl : As.length < 20) {a : Nat} {u : zU} (ha : FA V G x a u.1 u.2) (h1 : h.1 + 1 ≤ V.2.2.1) (h2 : h.2.1 + zph (T.2.2.2.1 10) ≤ V.2.2.2.1) :
    ∃ h' T', c_J2_add V (T.1 9 0) (some a) h = some (1, h') ∧ CS V h' W T' G ∧ ACc V T' G x (As ++ [u]) ∧ Tsame 9 T T' ∧ h'.1 ≤ h.1 + 1 ∧ h.1 ≤ h'.1 ∧ h'.2.1 + zph (T'.2.2.2.1 10) ≤ h.2.1 + zph (T.2.2.2.1 10) ∧ T'.1 9 0 = T.1 9 0 := by
  have A' := A
  obtain ⟨z1, z2, z3, z4⟩ := A
  obtain ⟨e, AL1, he⟩ := C.al G0 (kk := 9) (Or.inr rfl) z1
  replace AL1 : AL V h (T.1 9 0) (T.1 10 0) (T.2.2.2.1 10) As.length e := AL1
  replace he : ∀ i, i < T.2.2.2.1 10 → e i = va_rf (T.2.2.2.2 10 0 i) := he
  have hrf : ∀ i, i < T.2.2.2.1 10 → ∃ r, e i = va_rf r := fun i hi => ⟨_, he i hi⟩
  have lc : As.length ≤ T.2.2.2.1 10 := z1.2.1
  have hz : zph (T.2.2.2.1 10) = 500 - 4 * T.2.2.2.1 10 := rfl
  obtain ⟨f, sp, ra, c, fa, -⟩ := id ha
  obtain ⟨h', d', cap', e', q1, AL2, q2, q3, q4, q5, q6, q7, q8⟩ := AL1.add (C.GE G0) (A'.el C he) (p_k (C.fro fa).1 rfl) (C.far3 fa).2 (C.fro fa).2 h1 (fun q => by omega) (by omega) hrf
  have hcap : cap' < 1000 ∧ cap' ≤ 110 ∧ h'.1 ≤ h.1 + 1 ∧ h.1 ≤ h'.1 ∧ h'.2.1 + zph cap' ≤ h.2.1 + zph (T.2.2.2.1 10) := by
    unfold zph
    rcases q6 with ⟨a1, a2, a3, a4⟩ | ⟨a1, a2, a3, a4, a5, a6, a7⟩
    · rw [a2, a3, a4]
      omega
    · omega
  obtain ⟨T', C', s1, s2, s3, s4, s5⟩ := C.alset (kk := 9) (Or.inr rfl) AL2 q2 (fun q b1 b2 b3 => q5 q b1 b2 (fun x => by have := b3 x; omega)) hcap.2.2.2.1 hcap.1 (q6.imp (fun x => ⟨x.1, x.2.1⟩) (fun x => x.1))
  refine ⟨h', T', q1, C', ⟨by rw [List.length_append]; exact s3, by rw [List.length_append]; show As.length + 1 ≤ 20; omega, by rw [show T'.2.2.2.1 10 = _ from s4]; exact hcap.2.1, fun i u' hr => ?_⟩, s1, hcap.2.2.1, hcap.2.2.2.1, by rw [show T'.2.2.2.1 10 = _ from s4]; exact hcap.2.2.2.2, s2⟩
  have hi : i < As.length + 1 := by
    have := (List.getElem?_eq_some_iff.mp hr).1
    rw [List.length_append] at this
    exact this
  have hn : As.length + 1 ≤ cap' := by
    have := s3.2.1
    rw [s4] at this
    exact this
  by_cases hlt : i < As.length
  · rw [List.getElem?_append_left hlt] at hr
    obtain ⟨a', b1, b2⟩ := z4 i u' hr
    refine ⟨a', ?_, b2⟩
    have e1 := s5 i (by omega)
    rw [q3 i hlt, he i (by omega), b1] at e1
    cases hx : T'.2.2.2.2 10 0 i with
    | none => rw [show T'.2.2.2.2 (9 + 1) 0 i = none from hx] at e1; cases e1
    | some y => rw [show T'.2.2.2.2 (9 + 1) 0 i = some y from hx] at e1; cases e1; rfl
  · have hie : i = As.length := by omega
    subst hie
    rw [List.getElem?_append_right (Nat.le_refl _), Nat.sub_self] at hr
    cases hr
    refine ⟨a, ?_, ha⟩
    have e1 := s5 As.length (by omega)
    rw [q4] at e1
    cases hx : T'.2.2.2.2 10 0 As.length with
    | none => rw [show T'.2.2.2.2 (9 + 1) 0 As.length = none from hx] at e1; cases e1
    | some y => rw [show T'.2.2.2.2 (9 + 1) 0 As.length = some y from hx] at e1; cases e1; rfl
/-- the act at i goes -/
theorem CS.remAct (C : CS V h W T G) (G0 : GEg V G) {x : Nat} (A : ACc V T G x As) {i : Nat} (hi : i < As.length) (As' : List zU) (hA : As'.length = As.length - 1) (hA2 : ∀ j, j < As'.length → As'[j]? = if j < i then As[j]? else As[j + 1]?) :
    ∃ h' T' b, c_J2_remove V (T.1 9 0) (nI i) h = some (some b, h') ∧ FA V G x b As[i].1 As[i].2 ∧ CS V h' W T' G ∧ ACc V T' G x As' ∧ Tsame 9 T T' ∧ h'.1 = h.1 ∧ h'.2.1 = h.2.1 ∧ T'.2.2.2.1 10 = T.2.2.2.1 10 ∧ T'.1 9 0 = T.1 9 0 := by
  have A' := A
  obtain ⟨z1, z2, z3, z4⟩ := A
  obtain ⟨e, AL1, he⟩ := C.al G0 (kk := 9) (Or.inr rfl) z1
  replace AL1 : AL V h (T.1 9 0) (T.1 10 0) (T.2.2.2.1 10) As.length e := AL1
  replace he : ∀ i, i < T.2.2.2.1 10 → e i = va_rf (T.2.2.2.2 10 0 i) := he
  have hlc : As.length ≤ T.2.2.2.1 10 := z1.2.1
  have hrf : ∀ i, i < T.2.2.2.1 10 → ∃ r, e i = va_rf r := fun i hi => ⟨_, he i hi⟩
  obtain ⟨h', e', b, q1, q2, AL2, q3, q4, q5, q6, q7, q8⟩ := AL1.remove (A'.el C he) hrf hi
  obtain ⟨T', C', s1, s2, s3, s4, s5⟩ := C.alset (kk := 9) (Or.inr rfl) AL2 q3 (fun q b1 b2 b3 => q6 q b2 (fun x => by have := b3 x; omega)) (by omega) (by omega) (Or.inl ⟨rfl, rfl⟩)
  obtain ⟨ai, ai1, ai2⟩ := z4 i As[i] (List.getElem?_eq_getElem hi)
  have hb : b = ai := by
    rw [he i (by omega), ai1] at q2
    cases q2; rfl
  refine ⟨h', T', b, q1, by rw [hb]; exact ai2, C', ⟨by rw [hA]; exact s3, by omega, by rw [show T'.2.2.2.1 10 = _ from s4]; exact z3, fun j u hr => ?_⟩, s1, q7, q8, s4, s2⟩
  have hj := (List.getElem?_eq_some_iff.mp hr).1
  rw [hA2 j hj] at hr
  have e1 := s5 j (by omega)
  by_cases hji : j < i
  · rw [if_pos hji] at hr
    obtain ⟨a', b1, b2⟩ := z4 j u hr
    refine ⟨a', ?_, b2⟩
    rw [q4 j hji, he j (by omega), b1] at e1
    cases hx : T'.2.2.2.2 10 0 j with
    | none => rw [show T'.2.2.2.2 (9 + 1) 0 j = none from hx] at e1; cases e1
    | some y => rw [show T'.2.2.2.2 (9 + 1) 0 j = some y from hx] at e1; cases e1; rfl
  · rw [if_neg hji] at hr
    obtain ⟨a', b1, b2⟩ := z4 (j + 1) u hr
    refine ⟨a', ?_, b2⟩
    rw [q5 j (by omega) (by omega), he (j + 1) (by omega), b1] at e1
    cases hx : T'.2.2.2.2 10 0 j with
    | none => rw [show T'.2.2.2.2 (9 + 1) 0 j = none from hx] at e1; cases e1
    | some y => rw [show T'.2.2.2.2 (9 + 1) 0 j = some y from hx] at e1; cases e1; rfl
/-- a new act: what is now -/
theorem CS.newAct (C : CS V h W T G) (Z : ZI W) (G0 : GEg V G) (Zt : ZT V T G L) (h1 : h.1 + 64 ≤ V.2.2.1) (h2 : h.2.1 + 670 ≤ V.2.2.2.1) :
    ∃ h1, hn V h 3 (20, 3, fun k => defaultValue (tyX20 k)) = some h1 ∧ yes (c_X20_init V h.1 (some (W.1 0 0)) h1) (fun h' => ∃ G', CS V h' W T G' ∧ gle G G' ∧ FA V G' (W.1 0 0) h.1 W L ∧ h'.1 ≤ h.1 + 63 ∧ h.1 ≤ h'.1 ∧ h'.2.1 ≤ h.2.1 + 663) := by
  have hV := C.low
  have gn := C.new
  obtain ⟨d0, e0, g1, g2, g3, mi, g4⟩ := id G0
  refine ⟨_, p_n _ (by omega) (by omega), ?_⟩
  have C1 := C.push 3 (20, 3, fun k => defaultValue (tyX20 k))
  unfold c_X20_init
  -- this$0
  have a1 : (hx_push h 3 (20, 3, fun k => defaultValue (tyX20 k))).2.2 h.1 = some (20, 3, fun k => defaultValue (tyX20 k)) := hu_at _ _ _
  rw [p_p a1 (va_rf (some (W.1 0 0))) (ts := [20]) (k := 2) rfl rfl hV, Option.bind_some]
  have C2 := C1.wfro (a := h.1) (20, 3, updV (fun k => defaultValue (tyX20 k)) 2 (va_rf (some (W.1 0 0)))) (if_pos rfl)
  have gE2 : (fun q => if q = h.1 then some ((20, 3, updV (fun k => defaultValue (tyX20 k)) 2 (va_rf (some (W.1 0 0)))) : hx_C) else if q = h.1 then some (20, 3, fun k => defaultValue (tyX20 k)) else G q) = fun q => if q = h.1 then some (20, 3, updV (fun k => defaultValue (tyX20 k)) 2 (va_rf (some (W.1 0 0)))) else G q := by
    funext q
    by_cases x : q = h.1
    · rw [if_pos x, if_pos x]
    · rw [if_neg x, if_neg x, if_neg x]
  rw [gE2] at C2
  generalize hk2 : hx_set (hx_push h 3 (20, 3, fun k => defaultValue (tyX20 k))) h.1 (20, 3, updV (fun k => defaultValue (tyX20 k)) 2 (va_rf (some (W.1 0 0)))) = k2 at C2
  have k21 : k2.1 = h.1 + 1 ∧ k2.2.1 = h.2.1 + 3 := by rw [← hk2]; exact ⟨rfl, rfl⟩
  have b1 := (C2.fro (a := h.1) (if_pos rfl)).1
  rw [p_gR (x := some (W.1 0 0)) b1 rfl (by decide) (updV_at _ _ _), Option.bind_some, Option.bind_some, if_pos C2.k_x]
  -- what is now
  refine (C2.written Z (by omega) (by omega)).bind fun q5 ⟨w1, c, sp, g5, D5, d5, gl5, w2, w3⟩ => ?_
  rw [w1]
  have gA5 : g5 h.1 = some (20, 3, updV (fun k => defaultValue (tyX20 k)) 2 (va_rf (some (W.1 0 0)))) := gl5 _ _ (if_pos rfl)
  rw [p_p (D5.fro gA5).1 (va_rf (some k2.1)) (ts := [20]) (k := 0) rfl rfl hV, Option.bind_some]
  have C6 := D5.wfro (20, 3, updV (updV (fun k => defaultValue (tyX20 k)) 2 (va_rf (some (W.1 0 0)))) 0 (va_rf (some k2.1))) gA5
  generalize hk6 : hx_set q5.2 h.1 (20, 3, updV (updV (fun k => defaultValue (tyX20 k)) 2 (va_rf (some (W.1 0 0)))) 0 (va_rf (some k2.1))) = k6 at C6
  have k61 : k6.1 = h.1 + 2 ∧ k6.2.1 = h.2.1 + 160 := by rw [← hk6]; exact ⟨by show q5.2.1 = _; omega, by show q5.2.2.1 = _; omega⟩
  -- the list of rows
  rw [p_n _ (by omega) (by omega), Option.bind_some]
  unfold c_J2_init c_J1_init c_J0_init
  have r0 : (hx_push k6 3 (24, 3, fun k => defaultValue (tyJ2 k))).2.2 k6.1 = some (24, 3, fun k => defaultValue (tyJ2 k)) := hu_at _ _ _
  have hV6 : V.2.1.size ≤ k6.1 := by omega
  rw [Option.bind_some, p_p r0 (.int 0) (ts := [24]) (k := 0) rfl rfl hV6, Option.bind_some, Option.bind_some, g1]
  simp only [hvR, Option.bind_some]
  have r1 := hs_at (hx_push k6 3 (24, 3, fun k => defaultValue (tyJ2 k))) k6.1 (24, 3, updV (fun k => defaultValue (tyJ2 k)) 0 (.int 0))
  rw [p_p r1 (va_rf (some d0)) (ts := [24]) (k := 1) rfl rfl hV6, Option.bind_some, Option.bind_some]
  generalize hk8 : hx_set (hx_set (hx_push k6 3 (24, 3, fun k => defaultValue (tyJ2 k))) k6.1 (24, 3, updV (fun k => defaultValue (tyJ2 k)) 0 (.int 0))) k6.1 (24, 3, updV (updV (fun k => defaultValue (tyJ2 k)) 0 (.int 0)) 1 (va_rf (some d0))) = k8
  have k81 : k8.1 = h.1 + 3 ∧ k8.2.1 = h.2.1 + 163 := by rw [← hk8]; exact ⟨by show k6.1 + 1 = _; omega, by show k6.2.1 + 3 = _; omega⟩
  have r8 : k8.2.2 k6.1 = some (24, 3, updV (updV (fun k => defaultValue (tyJ2 k)) 0 (.int 0)) 1 (va_rf (some d0))) := by rw [← hk8]; exact hs_at _ _ _
  have r8n : ∀ q, q ≠ k6.1 → k8.2.2 q = k6.2.2 q := fun q hq => by rw [← hk8, hs_ne _ _ hq, hs_ne _ _ hq, hu_ne _ _ _ hq]
  -- the act holds it
  have hne : h.1 ≠ k6.1 := by omega
  have gA6 : (fun q => if q = h.1 then some ((20, 3, updV (updV (fun k => defaultValue (tyX20 k)) 2 (va_rf (some (W.1 0 0)))) 0 (va_rf (some k2.1))) : hx_C) else g5 q) h.1 = some (20, 3, updV (updV (fun k => defaultValue (tyX20 k)) 2 (va_rf (some (W.1 0 0)))) 0 (va_rf (some k2.1))) := if_pos rfl
  have a8 : k8.2.2 h.1 = some (20, 3, updV (updV (fun k => defaultValue (tyX20 k)) 2 (va_rf (some (W.1 0 0)))) 0 (va_rf (some k2.1))) := (r8n _ hne).trans (C6.fro gA6).1
  rw [p_p a8 (va_rf (some k6.1)) (ts := [20]) (k := 1) rfl rfl hV, Option.bind_some]
  generalize hfa : updV (updV (updV (fun k => defaultValue (tyX20 k)) 2 (va_rf (some (W.1 0 0)))) 0 (va_rf (some k2.1))) 1 (va_rf (some k6.1)) = fa
  generalize hk9 : hx_set k8 h.1 (20, 3, fa) = k9
  have fa0 : fa 0 = .ref k2.1 ∧ fa 1 = .ref k6.1 ∧ fa 2 = .ref (W.1 0 0) := by rw [← hfa]; simp [updV, va_rf]
  have k91 : k9.1 = h.1 + 3 ∧ k9.2.1 = h.2.1 + 163 := by rw [← hk9]; exact k81
  have r9 : k9.2.2 k6.1 = some (24, 3, updV (updV (fun k => defaultValue (tyJ2 k)) 0 (.int 0)) 1 (va_rf (some d0))) := by rw [← hk9, hs_ne _ _ (Ne.symm hne)]; exact r8
  -- what stays now
  have g5n : g5 k6.1 = none := by
    cases e : g5 k6.1 with
    | none => rfl
    | some c => have := (D5.fro e).2; omega
  have C9 : CS V k9 W T (fun q => if q = h.1 then some (20, 3, fa) else g5 q) := by
    refine D5.fset (by omega) (fun q hq hn => ?_) (fun q cc hq => ?_)
    · have q1 : q ≠ h.1 := fun x => by rw [x, gA5] at hn; cases hn
      have q2 : q ≠ k6.1 := by omega
      rw [← hk9, hs_ne _ _ q1, r8n _ q2, ← hk6, hs_ne _ _ q1]
    · replace hq : (if q = h.1 then some ((20, 3, fa) : hx_C) else g5 q) = some cc := hq
      by_cases x : q = h.1
      · rw [if_pos x] at hq
        rw [x, ← hk9]
        exact ⟨(hs_at _ _ _).trans hq, by rw [hk9]; omega, Or.inl (by rw [gA5]; rfl)⟩
      · rw [if_neg x] at hq
        have := D5.fro hq
        have q2 : q ≠ k6.1 := by omega
        refine ⟨?_, by omega, Or.inl (by rw [hq]; rfl)⟩
        rw [← hk9, hs_ne _ _ x, r8n _ q2, ← hk6, hs_ne _ _ x]
        exact this.1
  have gl9 : gle G (fun q => if q = h.1 then some ((20, 3, fa) : hx_C) else g5 q) := by
    intro q cc hq
    have x : q ≠ h.1 := fun x => by rw [x, gn] at hq; cases hq
    show (if q = h.1 then _ else g5 q) = _
    rw [if_neg x]
    exact gl5 q cc (by show (if q = h.1 then _ else G q) = _; rw [if_neg x]; exact hq)
  have C9r : CS V k9 W T (fun q => if q = k6.1 then some (24, 3, updV (updV (fun k => defaultValue (tyJ2 k)) 0 (.int 0)) 1 (va_rf (some d0))) else (fun q => if q = h.1 then some ((20, 3, fa) : hx_C) else g5 q) q) := by
    refine D5.fset (by omega) (fun q hq hn => ?_) (fun q cc hq => ?_)
    · have q1 : q ≠ h.1 := fun x => by rw [x, gA5] at hn; cases hn
      have q2 : q ≠ k6.1 := by omega
      rw [← hk9, hs_ne _ _ q1, r8n _ q2, ← hk6, hs_ne _ _ q1]
    · replace hq : (if q = k6.1 then some ((24, 3, updV (updV (fun k => defaultValue (tyJ2 k)) 0 (.int 0)) 1 (va_rf (some d0))) : hx_C) else if q = h.1 then some (20, 3, fa) else g5 q) = some cc := hq
      by_cases x6 : q = k6.1
      · rw [if_pos x6] at hq
        rw [x6]
        exact ⟨r9.trans hq, by omega, Or.inr (by omega)⟩
      · rw [if_neg x6] at hq
        by_cases x : q = h.1
        · rw [if_pos x] at hq
          have := C9.fro (a := h.1) (c := (20, 3, fa)) (if_pos rfl)
          rw [x]
          exact ⟨this.1.trans hq, this.2, Or.inl (by rw [gA5]; rfl)⟩
        · rw [if_neg x] at hq
          have := C9.fro (a := q) (c := cc) (by show (if q = h.1 then _ else g5 q) = _; rw [if_neg x]; exact hq)
          exact ⟨this.1, this.2, Or.inl (by rw [hq]; rfl)⟩
  have main := C9.actRows (act := h.1) (ra := k6.1) (fa := fa) (f := updV (updV (fun k => defaultValue (tyJ2 k)) 0 (.int 0)) 1 (va_rf (some d0))) (G0.mono gl9) (Zt.mono gl9) (if_pos rfl) fa0.2.1 r9 (by simp [updV]) (by rw [g1]; simp [updV, va_rf]) (by simp [updV, tyJ2, defaultValue]) (by show (if k6.1 = h.1 then _ else g5 k6.1) = _; rw [if_neg (Ne.symm hne)]; exact g5n) (by omega) hV6 C9r (by omega) (by omega)
  refine main.imp fun h' ⟨G', D, gl', F, q1, q2, q3, q4⟩ => ⟨G', D, gl9.trans gl', ⟨fa, k2.1, k6.1, c, ?_, fa0.1, fa0.2.1, fa0.2.2, ?_, sp, F⟩, by omega, by omega, by omega⟩
  · exact gl' _ _ (if_pos rfl)
  · refine gl' _ _ ?_
    show (if k2.1 = h.1 then _ else g5 k2.1) = _
    rw [if_neg (by omega)]
    exact d5
end KC

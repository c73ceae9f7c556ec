/-! PURE SIDE: a row is kept -/
set_option maxRecDepth 100000
def ZT (V : hx_V) (T : zW) (g : Nat → Option hx_C) (L : List (Nat → Int32)) : Prop :=
  ZL V T 3 L.length ∧ L.length ≤ 60 ∧ T.2.2.2.1 4 ≤ 110 ∧ ∀ i r, L[i]? = some r → ∃ (a : Nat) (c : Nat → Value), T.2.2.2.2 4 0 i = some a ∧ g a = some (100, 5, c) ∧ ∀ k, k < 5 → c k = .int (r k)
/-- what growing may still cost -/
def zph (c : Nat) : Nat := 500 - 4 * c
/-- g' holds all that g holds -/
def gle (g g' : Nat → Option hx_C) : Prop := ∀ q c, g q = some c → g' q = some c
theorem gle.refl (g : Nat → Option hx_C) : gle g g := fun _ _ h => h
theorem gle.trans {a b c : Nat → Option hx_C} (h : gle a b) (k : gle b c) : gle a c := fun q x hx => k q x (h q x hx)
section KP
variable {V : hx_V} {h : hx_S} {W T : zW} {g : Nat → Option hx_C}
theorem CS.push (C : CS V h W T g) (n : Nat) (c : hx_C) : CS V (hx_push h n c) W T (fun q => if q = h.1 then some c else g q) := by
  obtain ⟨f, C⟩ := C
  exact ⟨f, RS.push C n c⟩
theorem CS.less (C : CS V h W T g) {g' : Nat → Option hx_C} (hg : gle g' g) : CS V h W T g' := by
  obtain ⟨f, C⟩ := C
  exact ⟨f, RS.less C hg⟩
/-- a frozen cell is written: it is another frozen cell -/
theorem CS.wfro (C : CS V h W T g) {a : Nat} {c : hx_C} (c' : hx_C) (ha : g a = some c) : CS V (hx_set h a c') W T (fun q => if q = a then some c' else g q) := by
  obtain ⟨f, C⟩ := C
  obtain ⟨d1, d2, d3⟩ := C.2.2.2 a c ha
  refine ⟨f, fun k j hj => ?_, C.2.1, C.2.2.1, fun q x hq => ?_⟩
  · obtain ⟨c0, e1, e2⟩ := C.1 k j hj
    exact ⟨c0, by rw [hs_ne _ _ (d3 k j hj)]; exact e1, e2⟩
  · replace hq : (if q = a then some c' else g q) = some x := hq
    by_cases e : q = a
    · subst e
      rw [if_pos rfl] at hq
      exact ⟨(hs_at _ _ _).trans hq, d2, d3⟩
    · rw [if_neg e] at hq
      obtain ⟨e1, e2, e3⟩ := C.2.2.2 q x hq
      exact ⟨(hs_ne _ _ e).trans e1, e2, e3⟩
theorem CS.fro (C : CS V h W T g) {a : Nat} {c : hx_C} (ha : g a = some c) : h.2.2 a = some c ∧ a < h.1 := by
  obtain ⟨f, C⟩ := C
  exact ⟨(C.2.2.2 a c ha).1, (C.2.2.2 a c ha).2.1⟩
theorem CS.low (C : CS V h W T g) : V.2.1.size ≤ h.1 := by
  obtain ⟨f, C⟩ := C
  have := C.2.1 0 0 (show 0 < 1 from Nat.zero_lt_one)
  omega
theorem CS.far3 (C : CS V h W T g) {a : Nat} {c : hx_C} (ha : g a = some c) : a ≠ T.1 3 0 ∧ a ≠ T.1 9 0 := by
  obtain ⟨f, C⟩ := C
  obtain ⟨d1, d2, d3⟩ := C.2.2.2 a c ha
  exact ⟨fun q => d3 3 0 (show 0 < 1 from Nat.zero_lt_one) q.symm, fun q => d3 9 0 (show 0 < 1 from Nat.zero_lt_one) q.symm⟩
theorem ZT.el {L : List (Nat → Int32)} (Z : ZT V T g L) (C : CS V h W T g) {e : Nat → Value} (he : ∀ i, i < T.2.2.2.1 4 → e i = va_rf (T.2.2.2.2 4 0 i)) : ∀ i, i < L.length → ∃ b : Nat, e i = .ref b ∧ hk h b hx_obs = true ∧ b ≠ T.1 3 0 ∧ b < h.1 := by
  intro i hi
  obtain ⟨z1, z2, z3, z4⟩ := Z
  obtain ⟨a, c, a1, a2, a3⟩ := z4 i L[i] (List.getElem?_eq_getElem hi)
  refine ⟨a, ?_, ?_, (C.far3 a2).1, (C.fro a2).2⟩
  · rw [he i (by have : L.length ≤ T.2.2.2.1 4 := z1.2.1; omega), a1]; rfl
  · exact p_k (C.fro a2).1 rfl
end KP
/-- the row that is kept -/
def zrow (d t b k w : Int32) : Nat → Int32 := fun i => if i = 4 then w else if i = 3 then k else if i = 2 then b else if i = 1 then t else if i = 0 then d else 0
def zkeep (L : List (Nat → Int32)) (r : Nat → Int32) : List (Nat → Int32) := (if L.length = 60 then L.tail else L) ++ [r]
section KQ
variable {V : hx_V} {h : hx_S} {W T : zW} {g : Nat → Option hx_C} {L : List (Nat → Int32)}
/-- a row of five is added to told -/
theorem CS.addRow (C : CS V h W T g) (G : GEg V g) (Z : ZT V T g L) (hl : L.length < 60) {a : Nat} {c : Nat → Value} {r : Nat → Int32} (ha : g a = some (100, 5, c)) (hc : ∀ k, k < 5 → c k = .int (r k)) (h1 : h.1 + 1 ≤ V.2.2.1) (h2 : h.2.1 + zph (T.2.2.2.1 4) ≤ V.2.2.2.1) :
    ∃ h' T', c_J2_add V (T.1 3 0) (some a) h = some (1, h') ∧ CS V h' W T' g ∧ ZT V T' g (L ++ [r]) ∧ Tsame 3 T T' ∧ h'.1 ≤ h.1 + 1 ∧ h.1 ≤ h'.1 ∧ h'.2.1 + zph (T'.2.2.2.1 4) ≤ h.2.1 + zph (T.2.2.2.1 4) ∧ T'.1 3 0 = T.1 3 0 := by
  have Z' := Z
  obtain ⟨z1, z2, z3, z4⟩ := Z
  obtain ⟨e, A, he⟩ := C.al G (kk := 3) (Or.inl rfl) z1
  replace A : AL V h (T.1 3 0) (T.1 4 0) (T.2.2.2.1 4) L.length e := A
  replace he : ∀ i, i < T.2.2.2.1 4 → e i = va_rf (T.2.2.2.2 4 0 i) := he
  have hrf : ∀ i, i < T.2.2.2.1 4 → ∃ r, e i = va_rf r := fun i hi => ⟨_, he i hi⟩
  have hz : zph (T.2.2.2.1 4) = 500 - 4 * T.2.2.2.1 4 := rfl
  obtain ⟨h', d', cap', e', q1, A', q2, q3, q4, q5, q6, q7, q8⟩ := A.add (C.GE G) (Z'.el C he) (p_k (C.fro ha).1 rfl) (C.far3 ha).1 (C.fro ha).2 h1 (fun q => by omega) (by omega) hrf
  have hcap : cap' < 1000 ∧ cap' ≤ 110 ∧ h'.1 ≤ h.1 + 1 ∧ h.1 ≤ h'.1 ∧ h'.2.1 + zph cap' ≤ h.2.1 + zph (T.2.2.2.1 4) := by
    unfold zph
    rcases q6 with ⟨a1, a2, a3, a4⟩ | ⟨a1, a2, a3, a4, a5, a6, a7⟩
    · rw [a2, a3, a4]
      omega
    · omega
  obtain ⟨T', C', s1, s2, s3, s4, s5⟩ := C.alset (kk := 3) (Or.inl rfl) A' q2 (fun q b1 b2 b3 => q5 q b1 b2 (fun x => by have := b3 x; omega)) hcap.2.2.2.1 hcap.1 (q6.imp (fun x => ⟨x.1, x.2.1⟩) (fun x => x.1))
  refine ⟨h', T', q1, C', ⟨by rw [List.length_append]; exact s3, by rw [List.length_append]; show L.length + 1 ≤ 60; omega, by rw [s4]; exact hcap.2.1, fun i r' hr => ?_⟩, s1, hcap.2.2.1, hcap.2.2.2.1, by rw [s4]; exact hcap.2.2.2.2, s2⟩
  have hi : i < L.length + 1 := by
    have := (List.getElem?_eq_some_iff.mp hr).1
    rw [List.length_append] at this
    exact this
  have hn : L.length + 1 ≤ cap' := by
    have := s3.2.1
    rw [s4] at this
    exact this
  by_cases hlt : i < L.length
  · rw [List.getElem?_append_left hlt] at hr
    obtain ⟨a', c', b1, b2, b3⟩ := z4 i r' hr
    refine ⟨a', c', ?_, b2, b3⟩
    have e1 := s5 i (by omega)
    rw [q3 i hlt, he i (by have : L.length ≤ T.2.2.2.1 4 := z1.2.1; omega), b1] at e1
    cases hx : T'.2.2.2.2 4 0 i with
    | none => rw [show T'.2.2.2.2 (3 + 1) 0 i = none from hx] at e1; cases e1
    | some y => rw [show T'.2.2.2.2 (3 + 1) 0 i = some y from hx] at e1; cases e1; rfl
  · have hie : i = L.length := by omega
    subst hie
    rw [List.getElem?_append_right (Nat.le_refl _), Nat.sub_self] at hr
    cases hr
    refine ⟨a, c, ?_, ha, hc⟩
    have e1 := s5 L.length (by omega)
    rw [q4] at e1
    cases hx : T'.2.2.2.2 4 0 L.length with
    | none => rw [show T'.2.2.2.2 (3 + 1) 0 L.length = none from hx] at e1; cases e1
    | some y => rw [show T'.2.2.2.2 (3 + 1) 0 L.length = some y from hx] at e1; cases e1; rfl
/-- the first row falls out of told -/
theorem CS.remRow (C : CS V h W T g) (G : GEg V g) (Z : ZT V T g L) (hl : 0 < L.length) :
    ∃ h' T' b, c_J2_remove V (T.1 3 0) (nI 0) h = some (some b, h') ∧ CS V h' W T' g ∧ ZT V T' g L.tail ∧ Tsame 3 T T' ∧ h'.1 = h.1 ∧ h'.2.1 = h.2.1 ∧ T'.2.2.2.1 4 = T.2.2.2.1 4 ∧ T'.1 3 0 = T.1 3 0 := by
  have Z' := Z
  obtain ⟨z1, z2, z3, z4⟩ := Z
  obtain ⟨e, A, he⟩ := C.al G (kk := 3) (Or.inl rfl) z1
  replace A : AL V h (T.1 3 0) (T.1 4 0) (T.2.2.2.1 4) L.length e := A
  replace he : ∀ i, i < T.2.2.2.1 4 → e i = va_rf (T.2.2.2.2 4 0 i) := he
  have hlc : L.length ≤ T.2.2.2.1 4 := z1.2.1
  have hrf : ∀ i, i < T.2.2.2.1 4 → ∃ r, e i = va_rf r := fun i hi => ⟨_, he i hi⟩
  obtain ⟨h', e', b, q1, q2, A', q3, q4, q5, q6, q7, q8⟩ := A.remove (Z'.el C he) hrf hl
  obtain ⟨T', C', s1, s2, s3, s4, s5⟩ := C.alset (kk := 3) (Or.inl rfl) A' q3 (fun q b1 b2 b3 => q6 q b2 (fun x => by have := b3 x; omega)) (by omega) (by omega) (Or.inl ⟨rfl, rfl⟩)
  have hlt : L.tail.length = L.length - 1 := List.length_tail
  refine ⟨h', T', b, q1, C', ⟨by rw [hlt]; exact s3, by omega, by rw [show T'.2.2.2.1 4 = _ from s4]; exact z3, fun i r' hr => ?_⟩, s1, q7, q8, s4, s2⟩
  rw [List.getElem?_tail] at hr
  obtain ⟨a', c', b1, b2, b3⟩ := z4 (i + 1) r' hr
  have hi : i + 1 < L.length := (List.getElem?_eq_some_iff.mp hr).1
  refine ⟨a', c', ?_, b2, b3⟩
  have e1 := s5 i (by omega)
  rw [q5 i (by omega) (by omega), he (i + 1) (by omega), b1] at e1
  cases hx : T'.2.2.2.2 4 0 i with
  | none => rw [show T'.2.2.2.2 (3 + 1) 0 i = none from hx] at e1; cases e1
  | some y => rw [show T'.2.2.2.2 (3 + 1) 0 i = some y from hx] at e1; cases e1; rfl
theorem ZT.mono {g' : Nat → Option hx_C} (Z : ZT V T g L) (hg : gle g g') : ZT V T g' L := ⟨Z.1, Z.2.1, Z.2.2.1, fun i r hr => by obtain ⟨a, c, a1, a2, a3⟩ := Z.2.2.2 i r hr; exact ⟨a, c, a1, hg _ _ a2, a3⟩⟩
theorem GEg.mono {g' : Nat → Option hx_C} (G : GEg V g) (hg : gle g g') : GEg V g' := by
  obtain ⟨d, e, g1, g2, g3⟩ := G
  exact ⟨d, e, g1, hg _ _ g2, g3⟩
/-- a cell beyond the heap is not yet frozen -/
theorem CS.new (C : CS V h W T g) : g h.1 = none := by
  cases e : g h.1 with
  | none => rfl
  | some c => have := (C.fro e).2; omega
theorem CS.isKept (C : CS V h W T g) (S : ZS W) (G : GEg V g) (Z : ZT V T g L) (hth : W.2.1 0 0 13 = 0) {b k : Nat} (hb : b < W.2.2.2.1 0) (hk : k < W.2.2.2.1 1) (w : Int32) (h1 : h.1 + 2 ≤ V.2.2.1) (h2 : h.2.1 + 5 + zph (T.2.2.2.1 4) ≤ V.2.2.2.1) :
    yes (c_X0_isKept V (W.1 0 0) (some (W.1 25 b)) (some (W.1 29 k)) w h) (fun h' => ∃ T' g', CS V h' W T' g' ∧ ZT V T' g' (zkeep L (zrow (W.2.1 0 0 6) (W.2.1 0 0 7) (nI b) (nI k) w)) ∧ Tsame 3 T T' ∧ gle g g' ∧ T'.1 3 0 = T.1 3 0 ∧ h'.1 ≤ h.1 + 2 ∧ h.1 ≤ h'.1 ∧ h'.2.1 + zph (T'.2.2.2.1 4) ≤ h.2.1 + 5 + zph (T.2.2.2.1 4)) := by
  unfold c_X0_isKept
  rw [C.x_isThought, Option.bind_some, if_pos hth, show (5 : Int32) = nI 5 from rfl, p_na 100 (.int 0) (by omega) (by omega) (by decide), Option.bind_some]
  have hV := C.low
  have gn := C.new
  -- the new row, written place by place
  have C1 := C.push 5 (100, 5, fun _ => .int 0)
  have step : ∀ (k1 : hx_S) (gx : Nat → Option hx_C) (c : Nat → Value) (i : Nat) (x : Int32), CS V k1 W T gx → gx h.1 = some (100, 5, c) → i < 5 → ∃ k2 gx', hpA V k1 h.1 100 (nI i) (.int x) = some k2 ∧ CS V k2 W T gx' ∧ gx' h.1 = some (100, 5, updV c i (.int x)) ∧ (∀ q, q ≠ h.1 → gx' q = gx q) ∧ k2.1 = k1.1 ∧ k2.2.1 = k1.2.1 := by
    intro k1 gx c i x Cx hx hi
    refine ⟨_, _, p_pA (Cx.fro hx).1 (.int x) hi (by decide) hV, Cx.wfro (100, 5, updV c i (.int x)) hx, by rw [if_pos rfl], fun q hq => by rw [if_neg hq], rfl, rfl⟩
  rw [show (fun q => if q = h.1 then some ((100, 5, fun _ => .int 0) : hx_C) else g q) = fun q => if q = h.1 then some (100, 5, fun _ => .int 0) else g q from rfl] at C1
  obtain ⟨k1, g1, e1, D1, d1, d1', r1, r1'⟩ := step _ _ _ 0 (W.2.1 0 0 6) C1 (by rw [if_pos rfl]) (by decide)
  rw [C1.x_day, Option.bind_some, (show hpA V _ h.1 100 (0 : Int32) _ = some k1 from e1), Option.bind_some]
  obtain ⟨k2, g2, e2, D2, d2, d2', r2, r2'⟩ := step _ _ _ 1 (W.2.1 0 0 7) D1 d1 (by decide)
  rw [D1.x_hour, Option.bind_some, (show hpA V _ h.1 100 (1 : Int32) _ = some k2 from e2), Option.bind_some, Option.bind_some]
  obtain ⟨k3, g3, e3, D3, d3, d3', r3, r3'⟩ := step _ _ _ 2 (nI b) D2 d2 (by decide)
  rw [D2.b_number hb (ts := [8]) rfl, Option.bind_some, S.2.2.2.2.2.2.1 b hb, (show hpA V _ h.1 100 (2 : Int32) _ = some k3 from e3), Option.bind_some, Option.bind_some]
  obtain ⟨k4, g4, e4, D4, d4, d4', r4, r4'⟩ := step _ _ _ 3 (nI k) D3 d3 (by decide)
  rw [D3.g_number hk (ts := [9]) rfl, Option.bind_some, S.2.2.2.2.2.2.2 k hk, (show hpA V _ h.1 100 (3 : Int32) _ = some k4 from e4), Option.bind_some]
  obtain ⟨k5, g5, e5, D5, d5, d5', r5, r5'⟩ := step _ _ _ 4 w D4 d4 (by decide)
  rw [(show hpA V _ h.1 100 (4 : Int32) _ = some k5 from e5), Option.bind_some, D5.x_told, Option.bind_some, Option.bind_some, if_pos D5.k_told]
  have hg5 : gle g g5 := by
    intro q c hq
    have hne : q ≠ h.1 := fun x => by rw [x, gn] at hq; cases hq
    rw [d5' q hne, d4' q hne, d3' q hne, d2' q hne, d1' q hne, if_neg hne]
    exact hq
  have k51 : k5.1 = h.1 + 1 := by rw [r5, r4, r3, r2, r1]; rfl
  have k52 : k5.2.1 = h.2.1 + 5 := by rw [r5', r4', r3', r2', r1']; rfl
  have Z5 := Z.mono hg5
  have G5 := G.mono hg5
  unfold c_J2_size
  rw [D5.l_told_size, Option.bind_some, Option.bind_some, Z.1.1]
  have hrow : ∀ i, i < 5 → (updV (updV (updV (updV (updV (fun _ => .int 0) 0 (.int (W.2.1 0 0 6))) 1 (.int (W.2.1 0 0 7))) 2 (.int (nI b))) 3 (.int (nI k))) 4 (.int w)) i = .int (zrow (W.2.1 0 0 6) (W.2.1 0 0 7) (nI b) (nI k) w i) := by
    intro i hi
    have hi' : i = 0 ∨ i = 1 ∨ i = 2 ∨ i = 3 ∨ i = 4 := by omega
    rcases hi' with rfl | rfl | rfl | rfl | rfl <;> simp [updV, zrow]
  unfold zkeep c_X0_isKept_b66
  by_cases h60 : L.length = 60
  · rw [if_pos (by rw [h60]; rfl), if_pos h60, Option.bind_some, Option.bind_some, if_pos D5.k_told]
    obtain ⟨k6, T6, b6, e6, D6, Z6, s6, r6, r6', c6, t6⟩ := D5.remRow G5 Z5 (by omega)
    rw [(show c_J2_remove V (T.1 3 0) (0 : Int32) k5 = _ from e6), Option.bind_some]
    simp only
    rw [D6.x_told, Option.bind_some, Option.bind_some, if_pos D6.k_told]
    obtain ⟨k7, T7, e7, D7, Z7, s7, r7, r7', c7, t7⟩ := D6.addRow G5 Z6 (by rw [List.length_tail]; omega) d5 hrow (by omega) (by rw [c6]; omega)
    rw [e7, Option.bind_some]
    refine yes.ret ⟨T7, g5, D7, Z7, ?_, hg5, t7.trans t6, by (try dsimp only); omega, by (try dsimp only); omega, by rw [c6] at c7; (try dsimp only); omega⟩
    intro x hx hx1 hx2
    obtain ⟨a1, a2, a3, a4⟩ := s6 x hx hx1 hx2
    obtain ⟨b1, b2, b3, b4⟩ := s7 x hx hx1 hx2
    exact ⟨fun j => (b1 j).trans (a1 j), fun j i => (b2 j i).trans (a2 j i), b3.trans a3, fun j i => (b4 j i).trans (a4 j i)⟩
  · rw [if_neg (show ¬ nI L.length = (60 : Int32) from fun q => h60 ((nI_eq (by have := Z.2.1; omega) (by decide)).mp (show nI L.length = nI 60 from q))), if_neg h60, D5.x_told, Option.bind_some, Option.bind_some, if_pos D5.k_told]
    obtain ⟨k7, T7, e7, D7, Z7, s7, r7, r7', c7, t7⟩ := D5.addRow G5 Z5 (by have := Z.2.1; omega) d5 hrow (by omega) (by omega)
    rw [e7, Option.bind_some]
    exact yes.ret ⟨T7, g5, D7, Z7, s7, hg5, t7, by (try dsimp only); omega, by (try dsimp only); omega, by (try dsimp only); omega⟩
/-- what is thought of is not kept -/
theorem CS.isKept1 (C : CS V h W T g) (hth : W.2.1 0 0 13 = 1) (b k : Option Nat) (w : Int32) : c_X0_isKept V (W.1 0 0) b k w h = some h := by
  unfold c_X0_isKept
  rw [C.x_isThought, Option.bind_some, if_neg (by rw [hth]; decide)]
end KQ

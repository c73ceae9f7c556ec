/-! PURE SIDE: the class and the reference side by side -/
set_option maxRecDepth 100000
/-- what matters of a place -/
def zrel (W : zW) (k j i : Nat) : Prop := k ≠ 7 ∧ k ≠ 8 ∧ (k = 30 → j < W.2.2.2.1 1 ∧ i < 3) ∧ (k = 29 → i = 6 ∨ i = 7 → j < W.2.2.2.1 1) ∧ (k = 26 → j < W.2.2.2.1 0 ∧ i < 3) ∧ (k = 27 ∨ k = 28 → j < W.2.2.2.1 0 ∧ i < 8) ∧ (k = 0 → j = 0)
/-- the same in all that matters -/
def zeq (W W' : zW) : Prop := W'.1 = W.1 ∧ W'.2.2 = W.2.2 ∧ ∀ k j i, zrel W k j i → W'.2.1 k j i = W.2.1 k j i
theorem zeq.refl (W : zW) : zeq W W := ⟨rfl, rfl, fun _ _ _ _ => rfl⟩
theorem zeq.trans {a b c : zW} (h : zeq a b) (k : zeq b c) : zeq a c := ⟨k.1.trans h.1, k.2.1.trans h.2.1, fun x j i hr => (k.2.2 x j i (by unfold zrel at hr ⊢; rw [h.2.1]; exact hr)).trans (h.2.2 x j i hr)⟩
section ZE
variable {W W' : zW}
theorem ZI.eq (Z : ZI W) (h : zeq W W') : ZI W' := by
  obtain ⟨h1, h2, h3⟩ := h
  have n : W'.2.2.2.1 = W.2.2.2.1 := by rw [h2]
  obtain ⟨⟨s1, s2, s3, s4, s5, s6, s7, s8⟩, ⟨z1, z2, z3, z4⟩, z5, z6, z7, z8⟩ := Z
  have e20 : ∀ i, W'.2.1 20 0 i = W.2.1 20 0 i := fun i => h3 20 0 i (by simp [zrel])
  have e25 : ∀ j i, W'.2.1 25 j i = W.2.1 25 j i := fun j i => h3 25 j i (by simp [zrel])
  have e29 : ∀ j, j < W.2.2.2.1 1 → ∀ i, W'.2.1 29 j i = W.2.1 29 j i := fun j hj i => h3 29 j i (by simp [zrel, hj])
  have e0 : ∀ i, W'.2.1 0 0 i = W.2.1 0 0 i := fun i => h3 0 0 i (by simp [zrel])
  refine ⟨⟨by rw [n]; exact s1, by rw [n]; exact s2, by rw [n, h3 21 0 2 (by simp [zrel])]; exact s3, by rw [n, h3 23 0 2 (by simp [zrel])]; exact s4, by rw [n]; exact s5, by rw [n]; exact s6, fun b hb => ?_, fun b hb => ?_⟩, ⟨fun b hb i hi => ?_, fun k hk i hi => ?_, fun b hb i hi => ?_, ?_⟩, ?_, ?_, fun k hk => ?_, fun b hb => ?_⟩
  · rw [n] at hb; rw [e25]; exact s7 b hb
  · rw [n] at hb; rw [e29 b hb]; exact s8 b hb
  · rw [n] at hb; rw [h3 26 b i (by simp [zrel, hb, hi])]; exact z1 b hb i hi
  · rw [n] at hk; rw [h3 30 k i (by simp [zrel, hk, hi])]; exact z2 k hk i hi
  · rw [n] at hb; rw [h3 27 b i (by simp [zrel, hb, hi]), h3 28 b i (by simp [zrel, hb, hi])]; exact z3 b hb i hi
  · rw [e0]; exact z4
  · rw [e0]; exact z5
  · rw [e20, e20, e20, e20, e20]; exact z6
  · rw [n] at hk; rw [e29 k hk, e29 k hk, e29 k hk, e29 k hk, e29 k hk, n]; exact z7 k hk
  · rw [n] at hb; rw [e25, e25, e25]; exact z8 b hb
theorem MP.eq {ms : mx_S} {bk : Nat} (M : MP ms W bk) (h : zeq W W') : MP ms W' bk :=
  M.Wx (by rw [h.2.1]; exact ⟨rfl, rfl⟩) (fun j i _ => h.2.2 25 j i (by simp [zrel])) (fun j i hi => h.2.2 29 j i (by rcases hi with rfl | rfl | rfl <;> simp [zrel])) (fun i => h.2.2 20 0 i (by simp [zrel]))
theorem MR.eq {ms : mx_S} {v : Nat} (R : MR ms v W) (h : zeq W W') (h8 : W.2.2.2.1 1 ≤ 8) : MR ms v W' := by
  obtain ⟨h1, h2, h3⟩ := h
  have n : W'.2.2.2.1 = W.2.2.2.1 := by rw [h2]
  obtain ⟨r0, r1, r2, r3, r4, r5, d, t, r6, r7, r8, r9, r10⟩ := R
  have e29 : ∀ j, j < W.2.2.2.1 1 → ∀ i, W'.2.1 29 j i = W.2.1 29 j i := fun j hj i => h3 29 j i (by simp [zrel, hj])
  have e0 : ∀ i, W'.2.1 0 0 i = W.2.1 0 0 i := fun i => h3 0 0 i (by simp [zrel])
  refine ⟨r0, fun k hk i hi => ?_, fun k hk => ?_, fun b hb i hi => ?_, fun b hb k hk => ?_, by rw [e0]; exact r5, d, t, by rw [e0]; exact r6, by rw [e0]; exact r7, r8, r9, r10⟩
  · rw [n] at hk; rw [h3 30 k i (by simp [zrel, hk, hi])]; exact r1 k hk i hi
  · rw [n] at hk; rw [e29 k hk, e29 k hk]; exact r2 k hk
  · rw [n] at hb; rw [h3 26 b i (by simp [zrel, hb, hi])]; exact r3 b hb i hi
  · rw [n] at hb hk
    have hk8 : k < 8 := by omega
    rw [h3 27 b k (by simp [zrel, hb, hk8]), h3 28 b k (by simp [zrel, hb, hk8])]; exact r4 b hb k hk
theorem ELC.eq {V : hx_V} {g : Nat → Option hx_C} {lk my : zL} (E : ELC V W g lk my) (h : zeq W W') : ELC V W' g lk my := by
  unfold ELC at E ⊢
  rw [h.2.1]
  exact E
end ZE
/-- what both keep beside -/
def MO (ms : mx_S) (W : zW) : Prop :=
  (∃ n, n ≤ 1600 ∧ W.2.1 0 0 1 = nI n ∧ ms.1 1 = nI n) ∧ (∀ i, i < 1600 → ms.2.2.1 0 i = W.2.1 1 0 i ∧ zle (W.2.1 1 0 i) 255) ∧ (∀ k, k < 6 → ms.2.2.1 25 k = W.2.1 2 0 k) ∧ ms.1 10 = W.2.1 0 0 4 ∧ ms.1 11 = W.2.1 0 0 5 ∧
  (∃ n, n < 2 ^ 31 ∧ W.2.2.1 0 0 15 = lN n ∧ ms.2.1 58 = lN n) ∧
  (∃ m, m ≤ 16 ∧ W.2.1 0 0 18 = nI m ∧ ms.1 65 = nI m ∧ ∀ k, k < m → (∃ j, j < W.2.2.2.1 1 ∧ W.2.1 14 0 (2 * k) = nI j ∧ ms.2.2.1 42 k = nI j) ∧ ∃ j, j < W.2.2.2.1 1 ∧ W.2.1 14 0 (2 * k + 1) = nI j ∧ ms.2.2.1 43 k = nI j) ∧
  (∃ p, p ≤ 160 ∧ W.2.1 0 0 20 = nI p ∧ ms.1 76 = nI p ∧ ∀ k, k < p → ms.2.2.1 51 k = W.2.1 15 0 k)
theorem MO.eq {ms ms' : mx_S} {W W' : zW} (M : MO ms W) (h : zeq W W') (h1 : ms'.1 = ms.1) (h2 : ms'.2.1 = ms.2.1) (h3 : ∀ a i, a = 0 ∨ a = 25 ∨ a = 42 ∨ a = 43 ∨ a = 51 → ms'.2.2.1 a i = ms.2.2.1 a i) : MO ms' W' := by
  have e0 : ∀ i, W'.2.1 0 0 i = W.2.1 0 0 i := fun i => h.2.2 0 0 i (by simp [zrel])
  have e1 : ∀ i, W'.2.1 1 0 i = W.2.1 1 0 i := fun i => h.2.2 1 0 i (by simp [zrel])
  have e2 : ∀ i, W'.2.1 2 0 i = W.2.1 2 0 i := fun i => h.2.2 2 0 i (by simp [zrel])
  have e14 : ∀ i, W'.2.1 14 0 i = W.2.1 14 0 i := fun i => h.2.2 14 0 i (by simp [zrel])
  have e15 : ∀ i, W'.2.1 15 0 i = W.2.1 15 0 i := fun i => h.2.2 15 0 i (by simp [zrel])
  simp only [MO, e0, e1, e2, e14, e15, h1, h2, h.2.1, h3 0 _ (by decide), h3 25 _ (by decide), h3 42 _ (by decide), h3 43 _ (by decide), h3 51 _ (by decide)]
  exact M
theorem MO.fr {v : Nat} {ms ms' : mx_S} {W W' : zW} (M : MO ms W) (h : zeq W W') (f : mfr v ms ms') : MO ms' W' :=
  M.eq h f.1 f.2.1 (fun a i ha => f.2.2.1 a i (by omega) (fun _ _ => by omega))
/-- a list that stays, of rows that stay: Lu's -/
def FL (V : hx_V) (g : Nat → Option hx_C) (a : Nat) (Lu : List (Nat → Int32)) : Prop :=
  ∃ (f : Nat → Value) (d cap : Nat) (e : Nat → Value), g a = some (24, 3, f) ∧ f 1 = .ref d ∧ f 2 = .int (nI Lu.length) ∧ g d = some (105, cap, e) ∧ Lu.length ≤ cap ∧ cap < 1000 ∧ ∀ i r, Lu[i]? = some r → ∃ (b : Nat) (c : Nat → Value), e i = .ref b ∧ g b = some (100, 5, c) ∧ ∀ k, k < 5 → c k = .int (r k)
/-- an act that can be undone: it holds U and Lu -/
def FA (V : hx_V) (g : Nat → Option hx_C) (x a : Nat) (U : zW) (Lu : List (Nat → Int32)) : Prop :=
  ∃ (f : Nat → Value) (sp ra : Nat) (c : Nat → Value), g a = some (20, 3, f) ∧ f 0 = .ref sp ∧ f 1 = .ref ra ∧ f 2 = .ref x ∧ g sp = some (100, 157, c) ∧ SP U c ∧ FL V g ra Lu
/-- the acts -/
def AC (V : hx_V) (T : zW) (g : Nat → Option hx_C) (W : zW) (ms : mx_S) (As : List (zW × List (Nat → Int32))) : Prop :=
  ZL V T 9 As.length ∧ As.length ≤ 20 ∧ T.2.2.2.1 10 ≤ 110 ∧ ms.1 57 = nI As.length ∧ ∃ uf, uf < 20 ∧ ms.1 56 = nI uf ∧
  ∀ i U Lu, As[i]? = some (U, Lu) → (∃ a : Nat, T.2.2.2.2 10 0 i = some a ∧ FA V g (W.1 0 0) a U Lu) ∧ ZI U ∧ (U.2.2.2.1 0 = W.2.2.2.1 0 ∧ U.2.2.2.1 1 = W.2.2.2.1 1) ∧ MR ms (2 + (uf + i) % 20) U ∧ MT ms (2 + (uf + i) % 20) Lu ∧ ∃ d t, U.2.1 0 0 6 = nI d ∧ U.2.1 0 0 7 = nI t ∧ t < 24 ∧ 24 * d + t ≤ 23999
theorem FL.mono {V : hx_V} {g g' : Nat → Option hx_C} {a : Nat} {Lu : List (Nat → Int32)} (F : FL V g a Lu) (hg : gle g g') : FL V g' a Lu := by
  obtain ⟨f, d, cap, e, f1, f2, f3, f4, f5, f6, f7⟩ := F
  exact ⟨f, d, cap, e, hg _ _ f1, f2, f3, hg _ _ f4, f5, f6, fun i r hr => by obtain ⟨b, c, b1, b2, b3⟩ := f7 i r hr; exact ⟨b, c, b1, hg _ _ b2, b3⟩⟩
theorem FA.mono {V : hx_V} {g g' : Nat → Option hx_C} {x a : Nat} {U : zW} {Lu : List (Nat → Int32)} (F : FA V g x a U Lu) (hg : gle g g') : FA V g' x a U Lu := by
  obtain ⟨f, sp, ra, c, f1, f2, f3, f4, f5, f6, f7⟩ := F
  exact ⟨f, sp, ra, c, hg _ _ f1, f2, f3, f4, hg _ _ f5, f6, f7.mono hg⟩
/-- acts are untouched: told may be other (T), more may stay (g), layers below 2 may be other -/
theorem AC.mv {V : hx_V} {T T' : zW} {g g' : Nat → Option hx_C} {W W' : zW} {ms ms' : mx_S} {As : List (zW × List (Nat → Int32))} {v : Nat} (A : AC V T g W ms As) (hT : Tsame 3 T T') (hg : gle g g') (hx : W'.1 0 0 = W.1 0 0) (hn : W'.2.2.2.1 0 = W.2.2.2.1 0 ∧ W'.2.2.2.1 1 = W.2.2.2.1 1) (hm : mfr v ms ms') (hv : v < 2) : AC V T' g' W' ms' As := by
  obtain ⟨⟨z1, z2, z3, z4⟩, a1, a2, a3, uf, a4, a5, a6⟩ := A
  obtain ⟨t1, t2, t3, t4⟩ := hT 9 rfl (by decide) (by decide)
  obtain ⟨t5, t6, t7, t8⟩ := hT 10 rfl (by decide) (by decide)
  refine ⟨⟨by rw [t2]; exact z1, by rw [t7]; exact z2, by rw [t7]; exact z3, fun q => by rw [t5]; rw [t7] at q; exact z4 q⟩, a1, by rw [t7]; exact a2, by rw [hm.1]; exact a3, uf, a4, by rw [hm.1]; exact a5, fun i U Lu hi => ?_⟩
  obtain ⟨⟨a, b1, b2⟩, b3, b4, b5, b6, b7⟩ := a6 i U Lu hi
  refine ⟨⟨a, by rw [t8]; exact b1, by rw [hx]; exact b2.mono hg⟩, b3, by rw [hn.1, hn.2]; exact b4, b5.oth hm (by omega) b3.1.1 b3.1.2.1, b6.oth hm (by omega), b7⟩
/-- between the calls -/
def SIM (V : hx_V) (h : hx_S) (W T : zW) (G gt : Nat → Option hx_C) (ms : mx_S) (bk : Nat) (lk my : zL) (L : List (Nat → Int32)) (As : List (zW × List (Nat → Int32))) : Prop :=
  CS V h W T G ∧ gle gt G ∧ GEg V G ∧ ELC V W gt lk my ∧ ZI W ∧ W.2.1 0 0 13 = 0 ∧ ZT V T G L ∧ (MP ms W bk ∧ MR ms 0 W ∧ MT ms 0 L ∧ ELM ms bk lk my ∧ MO ms W) ∧ (∃ d t, W.2.1 0 0 6 = nI d ∧ W.2.1 0 0 7 = nI t ∧ t < 24 ∧ 24 * d + t ≤ 23999) ∧ AC V T G W ms As
/-- what the lists may still cost -/
def zpot (T : zW) : Nat := zph (T.2.2.2.1 4) + zph (T.2.2.2.1 10)
section TH
variable {V : hx_V} {h : hx_S} {W X U T : zW} {G : Nat → Option hx_C}
theorem SP.A13 {c : Nat → Value} {v : Int32} (P : SP (zA W 0 0 13 v) c) : SP W c := P
theorem ZI.Ax {k j i : Nat} {v : Int32} (Z : ZI W) (hk : (k = 0 ∧ i ≠ 7 ∧ i ≠ 8) ∨ (k ≠ 0 ∧ k < 18)) : ZI (zA W k j i v) := by
  obtain ⟨z1, z2, z3, z4, z5, z6⟩ := Z
  have same : ∀ k' j' i', 18 ≤ k' ∨ (k' = 0 ∧ (i' = 7 ∨ i' = 8)) → (zA W k j i v).2.1 k' j' i' = W.2.1 k' j' i' := by
    intro k' j' i' h'
    show (if k' = k ∧ j' = j ∧ i' = i then v else _) = _
    rw [if_neg (fun q => by omega)]
  refine ⟨z1.A v (by omega) (by omega) (fun q => by omega) (fun q => by omega), z2.A (fun q => by omega) (fun q => by omega) (fun q => by omega) (fun q => by omega) (fun q q' => by omega), ?_, ?_, fun k' hk' => ?_, fun b hb => ?_⟩
  · rw [same 0 0 8 (Or.inr ⟨rfl, Or.inr rfl⟩)]; exact z3
  · rw [same 20 0 0 (Or.inl (by decide)), same 20 0 1 (Or.inl (by decide)), same 20 0 2 (Or.inl (by decide)), same 20 0 3 (Or.inl (by decide)), same 20 0 4 (Or.inl (by decide))]; exact z4
  · rw [same 29 k' 7 (Or.inl (by decide)), same 29 k' 6 (Or.inl (by decide)), same 29 k' 5 (Or.inl (by decide)), same 29 k' 2 (Or.inl (by decide)), same 29 k' 3 (Or.inl (by decide))]; exact z5 k' hk'
  · rw [same 25 b 2 (Or.inl (by decide)), same 25 b 3 (Or.inl (by decide)), same 25 b 4 (Or.inl (by decide))]; exact z6 b hb
theorem CS.thinks (C : CS V h W T G) (Z : ZI W) (h1 : h.1 + 1 ≤ V.2.2.1) (h2 : h.2.1 + 157 ≤ V.2.2.2.1) : ∃ h1 G1 c, c_X0_thinks V (W.1 0 0) h = some (some h.1, h1) ∧ CS V h1 (zA W 0 0 13 1) T G1 ∧ gle G G1 ∧ G1 h.1 = some (100, 157, c) ∧ SP W c ∧ h1.1 = h.1 + 1 ∧ h1.2.1 = h.2.1 + 157 := by
  unfold c_X0_thinks
  obtain ⟨k1, e1, C1, r1, r1'⟩ := C.wx (i := 13) rfl 1
  have Z1 : ZI (zA W 0 0 13 1) := Z.Ax (by decide)
  have w := C1.written Z1 (by omega) (by omega)
  obtain ⟨⟨r, k2⟩, w1, w2, c, w3, g, D, d1, d2, d3, d4⟩ := w
  simp only at w2 D d3 d4
  have kx := C1.k_x
  rw [show (zA W 0 0 13 1).1 = W.1 from rfl] at kx w1
  rw [e1, Option.bind_some, if_pos kx, w1, Option.bind_some]
  rw [r1] at d1 d3 w2
  rw [r1'] at d4
  exact ⟨k2, g, c, by rw [w2], D, d2, d1, w3, d3, d4⟩
theorem CS.thought (C : CS V h X T G) (Z : ZI X) (Y : ZI U) (hn : U.2.2.2.1 0 = X.2.2.2.1 0 ∧ U.2.2.2.1 1 = X.2.2.2.1 1) {a : Nat} {c : Nat → Value} (ha : G a = some (100, 157, c)) (P : SP U c) : ∃ h', c_X0_thoughtOf V (X.1 0 0) (some a) h = some h' ∧ CS V h' (zcp (zA X 0 0 13 0) U) T G ∧ h'.1 = h.1 ∧ h'.2.1 = h.2.1 := by
  unfold c_X0_thoughtOf
  obtain ⟨k1, e1, C1, r1, r1'⟩ := C.wx (i := 13) rfl 0
  have Z1 : ZI (zA X 0 0 13 0) := Z.Ax (by decide)
  obtain ⟨k2, w1, w2, w3, w4⟩ := C1.reads Z1 Y hn ha P
  have kx := C1.k_x
  rw [show (zA X 0 0 13 0).1 = X.1 from rfl] at kx w1
  rw [e1, Option.bind_some, if_pos kx, w1, Option.bind_some]
  exact ⟨k2, rfl, w2, by omega, by omega⟩
/-- behind a thought all is as it was -/
theorem zcp_eq (hX : znow (zA W 0 0 13 1) X) (h13 : W.2.1 0 0 13 = 0) : zeq W (zcp (zA X 0 0 13 0) W) := by
  obtain ⟨x1, x2, x3⟩ := hX
  refine ⟨x1, x2, fun k j i hr => ?_⟩
  have nu : (zA X 0 0 13 0).2.2.2.1 = W.2.2.2.1 := by show X.2.2.2.1 = _; rw [x2]; rfl
  show (if zpb ((zA X 0 0 13 0).2.2.2.1 1) ((zA X 0 0 13 0).2.2.2.1 0) 0 0 k j i = true then W.2.1 k j i else (zA X 0 0 13 0).2.1 k j i) = _
  rw [nu]
  by_cases hp : zpb (W.2.2.2.1 1) (W.2.2.2.1 0) 0 0 k j i = true
  · rw [if_pos hp]
  · rw [if_neg hp]
    show (if k = 0 ∧ j = 0 ∧ i = 13 then (0 : Int32) else X.2.1 k j i) = _
    by_cases h0 : k = 0 ∧ j = 0 ∧ i = 13
    · obtain ⟨rfl, rfl, rfl⟩ := h0
      rw [if_pos ⟨rfl, rfl, rfl⟩, h13]
    · rw [if_neg h0]
      have hw : znw k i = false := by
        cases hz : znw k i with
        | false => rfl
        | true =>
          exfalso
          apply hp
          obtain ⟨c1, c2, c3, c4, c5, c6, c7⟩ := hr
          unfold zpb zpg
          rw [Bool.or_eq_true, decide_eq_true_eq, decide_eq_true_eq]
          unfold znw at hz
          split at hz
          · exact absurd rfl c1
          · exact absurd rfl c2
          · have := c5 rfl; omega
          · have := c6 (Or.inl rfl); omega
          · have := c6 (Or.inr rfl); omega
          · have := c3 rfl; omega
          · simp only [Bool.or_eq_true, decide_eq_true_eq] at hz
            have := c4 rfl hz
            omega
          · simp only [Bool.or_eq_true, decide_eq_true_eq] at hz
            have := c7 rfl
            omega
          · cases hz
      rw [x3 k j i hw]
      show (if k = 0 ∧ j = 0 ∧ i = 13 then (1 : Int32) else W.2.1 k j i) = _
      rw [if_neg h0]
end TH

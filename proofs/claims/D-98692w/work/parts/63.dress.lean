/-! PURE SIDE: the call dress -/
set_option maxRecDepth 100000
/-- so many turns of a loop -/
def mit {σ τ : Type} (step : σ → Option (σ ⊕ τ)) : Nat → σ → Option σ
  | 0, s => some s
  | n + 1, s => match step s with
    | some (.inl t) => mit step n t
    | _ => none
theorem mit_add {σ τ : Type} {step : σ → Option (σ ⊕ τ)} {l : Nat} {u : σ} : ∀ {k : Nat} {s t : σ}, mit step k s = some t → mit step l t = some u → mit step (k + l) s = some u := by
  intro k
  induction k with
  | zero =>
    intro s t h1 h2
    have : s = t := Option.some.inj h1
    subst this
    rw [Nat.zero_add]; exact h2
  | succ k ih =>
    intro s t h1 h2
    rw [show k + 1 + l = (k + l) + 1 by omega]
    unfold mit at h1 ⊢
    split at h1
    · exact ih h1 h2
    · cases h1
theorem mit_1 {σ τ : Type} {step : σ → Option (σ ⊕ τ)} {s t : σ} (e : step s = some (.inl t)) : mit step 1 s = some t := by
  unfold mit
  rw [e]
  rfl
theorem mit_wh {σ τ : Type} {step : σ → Option (σ ⊕ τ)} : ∀ {k : Nat} {s t : σ} {F : Nat}, mit step k s = some t → hx_wh step (F + k) s = hx_wh step F t := by
  intro k
  induction k with
  | zero =>
    intro s t F h1
    have : s = t := Option.some.inj h1
    subst this
    rfl
  | succ k ih =>
    intro s t F h1
    unfold mit at h1
    split at h1
    · rename_i t' e
      rw [show F + (k + 1) = (F + k) + 1 by omega, wh_inl _ e]
      exact ih h1
    · cases h1
theorem mit_end {σ τ : Type} {step : σ → Option (σ ⊕ τ)} {k : Nat} {s t : σ} {r : Option τ} (h1 : mit step k s = some t) (h2 : step t = r.map .inr) (hk : k < 1000000) : hx_wh step hx_FU s = r := by
  have := hx_FU_ge
  obtain ⟨F, hF⟩ : ∃ F, hx_FU = (F + 1) + k := ⟨hx_FU - k - 1, by omega⟩
  rw [hF, mit_wh h1]
  cases r with
  | none => exact wh_none F h2
  | some r => exact wh_inr F h2
/-- g with one cell more, or other -/
def gset (g : Nat → Option hx_C) (a : Nat) (c : hx_C) : Nat → Option hx_C := fun q => if q = a then some c else g q
theorem gset_at (g : Nat → Option hx_C) (a : Nat) (c : hx_C) : gset g a c a = some c := by simp [gset]
theorem gset_gset (g : Nat → Option hx_C) (a : Nat) (c c' : hx_C) : gset (gset g a c) a c' = gset g a c' := funext fun q => by
  unfold gset
  by_cases e : q = a
  · rw [if_pos e, if_pos e]
  · rw [if_neg e, if_neg e, if_neg e]
theorem gset_le {g : Nat → Option hx_C} {a : Nat} {c : hx_C} (h : g a = none) : gle g (gset g a c) := fun q x hq => by
  unfold gset
  rw [if_neg (fun e => by rw [e, h] at hq; cases hq)]
  exact hq
def zab (a b : Nat) : Nat := if a ≤ b then b - a else a - b
theorem zab_le {a b : Nat} (ha : a ≤ 9) (hb : b ≤ 9) : zab a b ≤ 9 := by unfold zab; split <;> omega
theorem i32_abs : ∀ a, a < 10 → ∀ b, b < 10 → (0 ≤ nI a - nI b ∧ nI a - nI b = nI (zab a b)) ∨ (¬ 0 ≤ nI a - nI b ∧ -(nI a - nI b) = nI (zab a b)) := by decide +kernel
section DR
variable {V : hx_V} {h : hx_S} {W X Y T : zW} {G G1 gt : Nat → Option hx_C} {ms : mx_S} {bk : Nat} {lk my : zL} {L : List (Nat → Int32)} {As : List zU}
theorem c_abs_z {a b : Nat} (ha : a ≤ 9) (hb : b ≤ 9) : c_J11_abs V (nI a - nI b) h = some (nI (zab a b)) := by
  unfold c_J11_abs
  rcases i32_abs a (by omega) b (by omega) with ⟨h1, h2⟩ | ⟨h1, h2⟩
  · rw [if_pos h1, h2]
  · rw [if_neg h1, h2]
theorem m_off_z {a b : Nat} (ha : a ≤ 9) (hb : b ≤ 9) : m_off (nI a) (nI b) = some (nI (zab a b)) := by
  unfold m_off zab
  by_cases q : b ≤ a
  · rw [if_pos (nI_le q (by omega)), pk_sub q]
    by_cases q2 : a ≤ b
    · rw [if_pos q2, show a - b = b - a by omega]
    · rw [if_neg q2]
  · rw [if_neg (nI_ge (by omega) (by omega)), pk_sub (by omega), if_pos (by omega)]
theorem m_digit_z {w i : Nat} (hw : w < 1000) (hi : i < 3) : m_digit (nI w) (nI i) = some (nI (if i = 0 then w / 100 else if i = 1 then w / 10 % 10 else w % 10)) := by
  unfold m_digit
  have d1 : nI w / (100 : Int32) = nI (w / 100) := pk_div (d := 100) (by omega) (by decide) (by decide)
  have d2 : nI w / (10 : Int32) = nI (w / 10) := pk_div (d := 10) (by omega) (by decide) (by decide)
  have d3 : nI (w / 10) - nI (w / 10) / (10 : Int32) * (10 : Int32) = nI (w / 10 % 10) := pk_rem (d := 10) (by omega) (by decide) (by decide)
  have d4 : nI w - nI w / (10 : Int32) * (10 : Int32) = nI (w % 10) := pk_rem (d := 10) (by omega) (by decide) (by decide)
  have cs : i = 0 ∨ i = 1 ∨ i = 2 := by omega
  rcases cs with rfl | rfl | rfl
  · rw [if_pos (show nI 0 = 0 from rfl), d1, if_pos rfl]
  · rw [if_neg (show ¬ nI 1 = 0 by decide), if_pos (show nI 1 = 1 from rfl), d2, d3, if_neg (by decide), if_pos rfl]
  · rw [if_neg (show ¬ nI 2 = 0 by decide), if_neg (show ¬ nI 2 = 1 by decide), d4, if_neg (by decide), if_neg (by decide)]
theorem CS.fw (C : CS V h W T G) {a i N : Nat} {c : Nat → Value} (ha : G a = some (100, N, c)) (hi : i < N) (hN : N < 2 ^ 31) (hB : V.2.1.size ≤ a) (x : Int32) : ∃ h', hpA V h a 100 (nI i) (.int x) = some h' ∧ CS V h' W T (gset G a (100, N, updV c i (.int x))) ∧ h'.1 = h.1 ∧ h'.2.1 = h.2.1 :=
  ⟨_, p_pA (C.fro ha).1 _ hi hN hB, C.wfro _ ha, rfl, rfl⟩
theorem zcp_eq1 (hX : znow (zA W 0 0 13 1) Y) : zeq (zA W 0 0 13 1) (zcp Y W) := by
  obtain ⟨x1, x2, x3⟩ := hX
  refine ⟨x1, x2, fun k j i hr => ?_⟩
  have nu : Y.2.2.2.1 = W.2.2.2.1 := by rw [x2]; rfl
  show (if zpb (Y.2.2.2.1 1) (Y.2.2.2.1 0) 0 0 k j i = true then W.2.1 k j i else Y.2.1 k j i) = _
  rw [nu]
  by_cases hp : zpb (W.2.2.2.1 1) (W.2.2.2.1 0) 0 0 k j i = true
  · rw [if_pos hp]
    show _ = if k = 0 ∧ j = 0 ∧ i = 13 then (1 : Int32) else W.2.1 k j i
    rw [if_neg]
    rintro ⟨rfl, rfl, rfl⟩
    simp [zpb, zpg] at hp
  · rw [if_neg hp]
    refine x3 k j i ?_
    cases hz : znw k i with
    | false => rfl
    | true =>
      exfalso
      apply hp
      obtain ⟨c1, c2, c3, c4, c5, c6, c7⟩ := hr
      unfold zpb zpg
      rw [Bool.or_eq_true, decide_eq_true_eq, decide_eq_true_eq]
      have nu' : (zA W 0 0 13 1).2.2.2.1 = W.2.2.2.1 := rfl
      rw [nu'] at c3 c4 c5 c6
      unfold znw at hz
      split at hz
      · exact absurd rfl c1
      · exact absurd rfl c2
      · have := c5 rfl; omega
      · have := c6 (Or.inl rfl); omega
      · have := c6 (Or.inr rfl); omega
      · have := c3 rfl; omega
      · simp only [Bool.or_eq_true, decide_eq_true_eq] at hz
        have := c4 rfl hz
        omega
      · simp only [Bool.or_eq_true, decide_eq_true_eq] at hz
        have := c7 rfl
        omega
      · cases hz
theorem CS.off_z (C : CS V h X T G) {wa x y z : Nat} {t : Nat → Nat} {cw : Nat → Value} (hw : G wa = some (100, 3, cw)) (hc : ∀ i, i < 3 → cw i = .int (nI (t i)) ∧ t i ≤ 9) (hx : x ≤ 9) (hy : y ≤ 9) (hz : z ≤ 9) : c_X0_off V (some wa) (nI x) (nI y) (nI z) h = some (nI (zab (t 0) x + zab (t 1) y + zab (t 2) z)) := by
  have rd : ∀ i, i < 3 → hgAI h wa 100 (nI i) = some (nI (t i)) := fun i hi => p_gAI (C.fro hw).1 hi (by decide) (hc i hi).1
  unfold c_X0_off
  rw [Option.bind_some, (show hgAI h wa 100 (0 : Int32) = _ from rd 0 (by decide)), Option.bind_some, c_abs_z (hc 0 (by decide)).2 hx, Option.bind_some, (show hgAI h wa 100 (1 : Int32) = _ from rd 1 (by decide)), Option.bind_some, c_abs_z (hc 1 (by decide)).2 hy, Option.bind_some, (show hgAI h wa 100 (2 : Int32) = _ from rd 2 (by decide)), Option.bind_some, c_abs_z (hc 2 (by decide)).2 hz, Option.bind_some, nI_add, nI_add]
/-- the reference's way: how far it is off -/
theorem ml_off {g x y z w : Nat} {t : Nat → Nat} (hw : w = 100 * x + 10 * y + z) (hx : x ≤ 9) (hy : y ≤ 9) (hz : z ≤ 9) (hg : g < 8) (ht : ∀ i, i < 3 → ms.2.2.1 28 (24 * 0 + 3 * g + i) = nI (t i) ∧ t i ≤ 9) (x1 x2 x4 x5 : Int32) : hx_wh (m_dress_s52 (nI g) x1 x2 x4 x5 (nI w) ms) hx_FU ((0 : Int32), (0 : Int32)) = m_dress_b87 (nI g) x1 x2 x4 x5 (nI w) (nI (zab (t 0) x + zab (t 1) y + zab (t 2) z)) ms := by
  have sy : ∀ a b, zab a b = zab b a := fun a b => by unfold zab; split <;> split <;> omega
  have st : ∀ i n, i < 3 → m_dress_s52 (nI g) x1 x2 x4 x5 (nI w) ms (nI n, nI i) = some (.inl (nI (n + zab (t i) (if i = 0 then x else if i = 1 then y else z)), nI (i + 1))) := by
    intro i n hi
    unfold m_dress_s52
    simp only
    have hd : (if i = 0 then w / 100 else if i = 1 then w / 10 % 10 else w % 10) = (if i = 0 then x else if i = 1 then y else z) := by
      split
      · omega
      · split
        · omega
        · omega
    have h9 : (if i = 0 then x else if i = 1 then y else z) ≤ 9 := by
      split
      · exact hx
      · split
        · exact hy
        · exact hz
    rw [if_neg (show ¬ (3 : Int32) ≤ nI i from nI_ge (b := 3) hi (by decide)), m_digit_z (by omega) hi, Option.bind_some, (show m_look (0 : Int32) (nI g) (nI i) ms = _ from pl_look (v := 0) (by decide) hg hi), Option.bind_some, (ht i hi).1, hd, m_off_z h9 (ht i hi).2, Option.bind_some, nI_add, nI_1, sy]
  refine pl_loop (fun i => (nI (if i = 0 then 0 else if i = 1 then zab (t 0) x else if i = 2 then zab (t 0) x + zab (t 1) y else zab (t 0) x + zab (t 1) y + zab (t 2) z), nI i)) 3 _ (fun i hi => ?_) ?_ (by decide)
  · have cs : i = 0 ∨ i = 1 ∨ i = 2 := by omega
    rcases cs with rfl | rfl | rfl
    · simpa using st 0 0 (by decide)
    · simpa using st 1 (zab (t 0) x) (by decide)
    · simpa using st 2 (zab (t 0) x + zab (t 1) y) (by decide)
  · unfold m_dress_s52
    rw [if_pos (show (3 : Int32) ≤ nI 3 by decide)]
    rfl
theorem ml_dresses {g x y z w : Nat} (hw : w = 100 * x + 10 * y + z) (hx : x ≤ 9) (hy : y ≤ 9) (hz : z ≤ 9) (hg : g < 8) (x1 x2 x4 x5 x7 : Int32) : hx_wh (m_dress_s106 (nI g) x1 x2 x4 x5 (nI w) x7) hx_FU ((0 : Int32), ms) = m_dress_b139 (nI g) x1 x2 x4 x5 (nI w) x7 (mx_A (mx_A (mx_A ms 28 (24 + 3 * g) (nI x)) 28 (24 + 3 * g + 1) (nI y)) 28 (24 + 3 * g + 2) (nI z)) := by
  have st : ∀ i (mx : mx_S), i < 3 → m_dress_s106 (nI g) x1 x2 x4 x5 (nI w) x7 (nI i, mx) = some (.inl (nI (i + 1), mx_A mx 28 (24 + 3 * g + i) (nI (if i = 0 then x else if i = 1 then y else z)))) := by
    intro i mx hi
    unfold m_dress_s106
    simp only
    have hd : (if i = 0 then w / 100 else if i = 1 then w / 10 % 10 else w % 10) = (if i = 0 then x else if i = 1 then y else z) := by
      split
      · omega
      · split
        · omega
        · omega
    have ix : ((24 : Int32) + ((3 : Int32) * nI g)) + nI i = nI (24 + 3 * g + i) := by simp only [pl_lit, pk_mul, nI_add]
    rw [if_neg (show ¬ (3 : Int32) ≤ nI i from nI_ge (b := 3) hi (by decide)), m_digit_z (by omega) hi, Option.bind_some, ix, if_pos (pl_in (by omega) (by decide)), pl_cl (by omega), hd, nI_1]
  refine pl_loop (fun i => (nI i, if i = 0 then ms else if i = 1 then mx_A ms 28 (24 + 3 * g) (nI x) else if i = 2 then mx_A (mx_A ms 28 (24 + 3 * g) (nI x)) 28 (24 + 3 * g + 1) (nI y) else mx_A (mx_A (mx_A ms 28 (24 + 3 * g) (nI x)) 28 (24 + 3 * g + 1) (nI y)) 28 (24 + 3 * g + 2) (nI z))) 3 _ (fun i hi => ?_) ?_ (by decide)
  · have cs : i = 0 ∨ i = 1 ∨ i = 2 := by omega
    rcases cs with rfl | rfl | rfl
    · simpa using st 0 ms (by decide)
    · simpa using st 1 (mx_A ms 28 (24 + 3 * g) (nI x)) (by decide)
    · simpa using st 2 (mx_A (mx_A ms 28 (24 + 3 * g) (nI x)) 28 (24 + 3 * g + 1) (nI y)) (by decide)
  · unfold m_dress_s106
    rw [if_pos (show (3 : Int32) ≤ nI 3 by decide)]
    rfl
/-- the class and the reference, ways below way having been tried -/
def DRel (V : hx_V) (W T : zW) (G1 : Nat → Option hx_C) (ba : Nat) (ms : mx_S) (N1 N2 way : Nat) (hx : hx_S) (s' : Int32 × Int32 × Int32 × mx_S) : Prop :=
  ∃ X c, CS V hx X T (gset G1 ba (100, 4, c)) ∧ znow (zA W 0 0 13 1) X ∧ zeq (zA W 0 0 13 1) X ∧ mfr 1 ms s'.2.2.2 ∧ s'.2.2.1 = nI way ∧ hx.1 = N1 ∧ hx.2.1 = N2 ∧
  ((s'.1 = -1 ∧ s'.2.1 = 100000000 ∧ ∀ i, i < 4 → c i = .int (-1)) ∨ ∃ w l, w < 1000 ∧ l ≤ 27 ∧ s'.1 = nI w ∧ s'.2.1 = nI l ∧ c 0 = .int (nI l) ∧ c 1 = .int (nI (w / 100)) ∧ c 2 = .int (nI (w / 10 % 10)) ∧ c 3 = .int (nI (w % 10)))
theorem SIM.dress1 (S : SIM V h W T G gt ms bk lk my L As) {g b sp wa ba N1 N2 : Nat} {c cw : Nat → Value} (gl1 : gle G G1) (hsp : G1 sp = some (100, 157, c)) (P0 : SP W c) (hwa : G1 wa = some (100, 3, cw)) (hcw : ∀ i, i < 3 → cw i = .int (W.2.1 30 g i)) (hba : G1 ba = none) (hB : V.2.1.size ≤ ba) (hg : g < W.2.2.2.1 1) (hb : b < W.2.2.2.1 0) (x3 : Int32) {x y z : Nat} (hx9 : x ≤ 9) (hy9 : y ≤ 9) (hz9 : z ≤ 9) {hx : hx_S} {s' : Int32 × Int32 × Int32 × mx_S} (D : DRel V W T G1 ba ms N1 N2 (100 * x + 10 * y + z) hx s') :
    ∃ h' s'', c_X0_dress_s119 V (W.1 0 0) (nI b) x3 (some (W.1 29 g)) (some sp) (some wa) (some ba) (nI x) (nI y) (nI z, hx) = some (.inl (nI (z + 1), h')) ∧ m_dress_s38 (nI g) (nI b) x3 s' = some (.inl s'') ∧ DRel V W T G1 ba ms N1 N2 (100 * x + 10 * y + z + 1) h' s'' := by
  obtain ⟨X, cb, C, nX, eX, fX, ew, n1, n2, br⟩ := D
  obtain ⟨s1, s2, s3, mx⟩ := s'
  simp only at fX ew br
  subst ew
  obtain ⟨C0, gl, G0, E, Z, h13, Zt, ⟨P, R, M, Em, O⟩, hbd, A⟩ := S
  have h6 := Z.1.1
  have h8 := Z.1.2.1
  have x0 : X.1 = W.1 := nX.1
  have nu : X.2.2.2.1 = W.2.2.2.1 := by rw [nX.2.1]; rfl
  have gb : gle G1 (gset G1 ba (100, 4, cb)) := gset_le hba
  have glb : gle G (gset G1 ba (100, 4, cb)) := gl1.trans gb
  have ZX : ZI X := (Z.Ax (by decide)).eq eX
  -- the traits as numbers
  obtain ⟨t, ht⟩ : ∃ t : Nat → Nat, ∀ i, i < 3 → W.2.1 30 g i = nI (t i) ∧ t i ≤ 9 := by
    have z2 := Z.2.1.2.1 g hg
    refine ⟨fun i => (W.2.1 30 g i).toNatClampNeg, fun i hi => ?_⟩
    obtain ⟨n, hn, e⟩ := z2 i hi
    have : (W.2.1 30 g i).toNatClampNeg = n := by rw [e]; exact pl_cl (by omega)
    exact ⟨by show _ = nI (W.2.1 30 g i).toNatClampNeg; rw [this]; exact e, by show (W.2.1 30 g i).toNatClampNeg ≤ 9; rw [this]; exact hn⟩
  have R' : MR mx 0 W := R.oth fX (by decide) h6 h8
  have M' : MT mx 0 L := M.oth fX (by decide)
  have of := C.off_z (x := x) (y := y) (z := z) (gb _ _ hwa) (fun i hi => ⟨by rw [hcw i hi, (ht i hi).1], (ht i hi).2⟩) hx9 hy9 hz9
  have om := ml_off (ms := mx) (g := g) (w := 100 * x + 10 * y + z) (t := t) rfl hx9 hy9 hz9 (by omega) (fun i hi => ⟨(R'.2.1 g hg i hi).trans (ht i hi).1, (ht i hi).2⟩) (nI b) x3 s1 s2
  have o27 : zab (t 0) x + zab (t 1) y + zab (t 2) z ≤ 27 := by
    have a0 := zab_le (ht 0 (by decide)).2 hx9
    have a1 := zab_le (ht 1 (by decide)).2 hy9
    have a2 := zab_le (ht 2 (by decide)).2 hz9
    omega
  generalize zab (t 0) x + zab (t 1) y + zab (t 2) z = o at *
  have kx := C.k_x
  have ktr := C.g_traits (j := g) (by rw [nu]; exact hg) (ts := [9]) rfl
  rw [x0] at kx ktr
  have rb : ∀ i v, i < 4 → cb i = .int v → hgAI hx ba 100 (nI i) = some v := fun i v hi hv => p_gAI (C.fro (gset_at _ _ _)).1 hi (by decide) hv
  -- it is tried
  have tries : (s1 = -1 ∨ ∃ l, s2 = nI l ∧ o < l) → ∃ h' s'', c_X0_dress_b159 V (W.1 0 0) (nI b) x3 (some (W.1 29 g)) (some sp) (some wa) (some ba) (nI x) (nI y) (nI z) (nI o) hx = some (.inl (nI (z + 1), h')) ∧ ((m_copies (1 : Int32) (0 : Int32) mx).bind fun q13_ => hx_wh (m_dress_s106 (nI g) (nI b) x3 s1 s2 (nI (100 * x + 10 * y + z)) (nI o)) hx_FU ((0 : Int32), q13_)) = some (.inl s'') ∧ DRel V W T G1 ba ms N1 N2 (100 * x + 10 * y + z + 1) h' s'' := by
    intro _
    obtain ⟨k2, e2, C2, r2, r2'⟩ := C.becomes30 (k := g) (by rw [nu]; exact hg) (nI x) (nI y) (nI z)
    obtain ⟨ms4, b1, b2⟩ := ml_copies (ms := mx) (t := 1) (f := 0) (by decide) (by decide) (by decide) M'.1 M'.2.1
    have f4 : mfr 1 mx ms4 := b2.1.fr
    have ds := ml_dresses (ms := ms4) (g := g) (w := 100 * x + 10 * y + z) rfl hx9 hy9 hz9 (by omega) (nI b) x3 s1 s2 (nI o)
    have nw2 : znow X (z3 X 30 g (nI x) (nI y) (nI z)) := z3_now X _ _ _ (fun _ => rfl)
    have f5 : mfr 1 ms4 (mx_A (mx_A (mx_A ms4 28 (24 + 3 * g) (nI x)) 28 (24 + 3 * g + 1) (nI y)) 28 (24 + 3 * g + 2) (nI z)) := m3_mfr (by decide) (by show _ / 24 = _; omega) (by show _ / 24 = _; omega) (by show _ / 24 = _; omega)
    have R4 : MR ms4 1 X := ((R'.cx b2 (by decide) h6 h8).A _ (by decide) (by simp) (by simp)).eq eX h8
    have R5 := ((R4.look (k := g) (i := 0) (by decide) (nI x)).look (k := g) (i := 1) (by decide) (nI y)).look (k := g) (i := 2) (by decide) (nI z)
    rw [show 24 * 1 + 3 * g + 0 = 24 + 3 * g by omega, show 24 * 1 + 3 * g + 1 = 24 + 3 * g + 1 by omega, show 24 * 1 + 3 * g + 2 = 24 + 3 * g + 2 by omega] at R5
    have M5 : MT (mx_A (mx_A (mx_A ms4 28 (24 + 3 * g) (nI x)) 28 (24 + 3 * g + 1) (nI y)) 28 (24 + 3 * g + 2) (nI z)) 1 L := (((M'.cx b2).A _ (by decide)).A _ (by decide)).A _ (by decide)
    have fa : mfr 1 ms _ := (fX.trans f4).trans f5
    generalize hms5 : mx_A (mx_A (mx_A ms4 28 (24 + 3 * g) (nI x)) 28 (24 + 3 * g + 1) (nI y)) 28 (24 + 3 * g + 2) (nI z) = ms5 at *
    have nwW : znow (zA W 0 0 13 1) (z3 X 30 g (nI x) (nI y) (nI z)) := nX.trans nw2
    have EW : ELC V (zA W 0 0 13 1) (gset G1 ba (100, 4, cb)) lk my := by
      have := (E.mono gl).mono glb
      unfold ELC at this ⊢
      exact this
    have PW : MP ms5 (zA W 0 0 13 1) bk := (P.fr fa).A _ (by decide) (by simp) (by simp)
    have z9 : ∀ n, n ≤ 9 → zle (nI n) 9 := fun n hn => ⟨n, hn, rfl⟩
    have Q : TQ V k2 (z3 X 30 g (nI x) (nI y) (nI z)) T (gset G1 ba (100, 4, cb)) ms5 bk lk my := ⟨C2, z3_I ZX (by decide) (z9 x hx9) (z9 y hy9) (z9 z hz9), (nwW.2.2 0 0 13 rfl).trans (by simp [zA, zset]), EW.now nwW, G0.mono glb, PW.now nwW, R5, ⟨L, M5⟩, Em.fr fa⟩
    obtain ⟨r, k3, ms6, a1, a2, Q3, a4, a5, f6, aq⟩ := Q.ask
    have y0 : (zaskd lk my (z3 X 30 g (nI x) (nI y) (nI z))).1 = W.1 := (zaskd_now Q.2.1).1.trans (nw2.1.trans x0)
    have ynu : (zaskd lk my (z3 X 30 g (nI x) (nI y) (nI z))).2.2.2.1 = W.2.2.2.1 := by rw [(zaskd_now (lk := lk) (my := my) Q.2.1).2.1]; exact nu
    have nwY : znow (zA W 0 0 13 1) (zaskd lk my (z3 X 30 g (nI x) (nI y) (nI z))) := nwW.trans (zaskd_now Q.2.1)
    obtain ⟨k4, d1, C4, d2, d3⟩ := Q3.1.reads Q3.2.1 Z (by rw [ynu]; exact ⟨rfl, rfl⟩) (gb _ _ hsp) P0
    have kx2 := C2.k_x
    have kx3 := Q3.1.k_x
    have ka := Q3.1.x_askedFor
    have gq := Q3.1.gQ7 (b := b) (by omega)
    have q7 := (aq b (by rw [show (z3 X 30 g (nI x) (nI y) (nI z)).2.2.2.1 = X.2.2.2.1 from rfl, nu]; exact hb)).1
    have i7 := zask_7 (th := 1) (lk := lk) (my := my) (L := []) Q.2.1 (X.2.2.2.1 0) (Nat.le_refl _) b (by rw [nu]; exact hb)
    have inj : (zenc (zaskd lk my (z3 X 30 g (nI x) (nI y) (nI z))) 29 ((zaskd lk my (z3 X 30 g (nI x) (nI y) (nI z))).2.1 7 0 b) = some (W.1 29 g)) ↔ (zaskd lk my (z3 X 30 g (nI x) (nI y) (nI z))).2.1 7 0 b = nI g := by
      constructor
      · intro q
        rcases i7 with i7 | ⟨k, hk, i7⟩
        · have : zenc (zaskd lk my (z3 X 30 g (nI x) (nI y) (nI z))) 29 ((zaskd lk my (z3 X 30 g (nI x) (nI y) (nI z))).2.1 7 0 b) = none := zenc_none.mpr i7
          rw [this] at q; cases q
        · replace i7 : (zaskd lk my (z3 X 30 g (nI x) (nI y) (nI z))).2.1 7 0 b = nI k := i7
          replace hk : k < X.2.2.2.1 1 := hk
          rw [nu] at hk
          rw [i7, zenc_nI (by omega), y0] at q
          obtain ⟨f, D⟩ := C0
          have := D.2.2.1 29 k 29 g hk hg (by rw [zmix_at (k := 29) rfl, zmix_at (k := 29) rfl]; exact Option.some.inj q)
          rw [i7, this.2]
      · intro q
        rw [q, zenc_nI (by omega), y0]
    have e0 : (z3 X 30 g (nI x) (nI y) (nI z)).1 = W.1 := nw2.1.trans x0
    rw [e0] at kx2 a1
    rw [y0] at kx3 ka gq d1
    have isA : ∀ v : Int32, (if (zaskd lk my (z3 X 30 g (nI x) (nI y) (nI z))).2.1 7 0 b = nI g then (1 : Int32) else 0) = v → c_X0_isAsked V (W.1 0 0) (some (W.1 29 g)) (nI b) (some sp) k2 = some (v, k4) := by
      intro v hv
      unfold c_X0_isAsked c_X0_isAsked_b20
      rw [if_pos kx2, a1, Option.bind_some, ka, Option.bind_some, Option.bind_some, gq, Option.bind_some]
      simp only [if_pos kx3, d1, Option.bind_some]
      by_cases q : (zaskd lk my (z3 X 30 g (nI x) (nI y) (nI z))).2.1 7 0 b = nI g
      · rw [if_pos q] at hv
        rw [if_pos (inj.mpr q), ← hv, if_pos (by decide)]
      · rw [if_neg q] at hv
        rw [if_neg (fun p => q (inj.mp p)), ← hv, if_pos (by decide)]
    have nw4 : znow (zA W 0 0 13 1) (zcp (zaskd lk my (z3 X 30 g (nI x) (nI y) (nI z))) W) := nwY.trans (zcp_now _ _)
    have eq4 := zcp_eq1 nwY
    rw [(show m_copies (1 : Int32) (0 : Int32) mx = _ from b1), Option.bind_some, ds]
    unfold c_X0_dress_b159 m_dress_b139
    rw [Option.bind_some, ktr, Option.bind_some, (show c_X0_becomes V (some (W.1 30 g)) (nI x) (nI y) (nI z) hx = some k2 by rw [← x0]; exact e2), Option.bind_some, if_pos kx2, isA _ rfl, Option.bind_some, a2, Option.bind_some, Option.bind_some, if_pos (pl_in (show b < 6 by omega) (by decide)), pl_cl (by omega), q7, nI_1, nI_1]
    simp only
    by_cases q : (zaskd lk my (z3 X 30 g (nI x) (nI y) (nI z))).2.1 7 0 b = nI g
    · rw [if_pos q, if_neg (by decide), if_pos q]
      obtain ⟨j1, u1, D1, v1, w1⟩ := C4.fw (i := 0) (gset_at _ _ _) (by decide) (by decide) hB (nI o)
      obtain ⟨j2, u2, D2, v2, w2⟩ := D1.fw (i := 1) (gset_at _ _ _) (by decide) (by decide) hB (nI x)
      obtain ⟨j3, u3, D3, v3, w3⟩ := D2.fw (i := 2) (gset_at _ _ _) (by decide) (by decide) hB (nI y)
      obtain ⟨j4, u4, D4, v4, w4⟩ := D3.fw (i := 3) (gset_at _ _ _) (by decide) (by decide) hB (nI z)
      rw [gset_gset, gset_gset, gset_gset, gset_gset] at D4
      rw [(show hpA V k4 ba 100 (0 : Int32) _ = some j1 from u1), Option.bind_some, (show hpA V j1 ba 100 (1 : Int32) _ = some j2 from u2), Option.bind_some, (show hpA V j2 ba 100 (2 : Int32) _ = some j3 from u3), Option.bind_some, (show hpA V j3 ba 100 (3 : Int32) _ = some j4 from u4), Option.bind_some]
      refine ⟨j4, _, rfl, rfl, _, _, D4, nw4, eq4, fa.trans f6, rfl, by omega, by omega, Or.inr ⟨100 * x + 10 * y + z, o, by omega, o27, rfl, rfl, by simp [updV], ?_, ?_, ?_⟩⟩
      · rw [show (100 * x + 10 * y + z) / 100 = x by omega]; simp [updV]
      · rw [show (100 * x + 10 * y + z) / 10 % 10 = y by omega]; simp [updV]
      · rw [show (100 * x + 10 * y + z) % 10 = z by omega]; simp [updV]
    · rw [if_neg q, if_pos rfl, if_neg q]
      exact ⟨k4, _, rfl, rfl, _, cb, C4, nw4, eq4, fa.trans f6, rfl, by omega, by omega, br⟩
  unfold c_X0_dress_s119 m_dress_s38
  simp only
  rw [if_neg (show ¬ (9 : Int32) < nI z from nI_nlt (a := 9) hz9 (by decide)), of, Option.bind_some, Option.bind_some, if_neg (show ¬ (1000 : Int32) ≤ nI (100 * x + 10 * y + z) from nI_ge (b := 1000) (by omega) (by decide)), om]
  unfold m_dress_b87
  rcases br with ⟨p1, p2, p3⟩ | ⟨w, l, p1, p2, p3, p4, p5, p6, p7, p8⟩
  · rw [(show hgAI hx ba 100 (0 : Int32) = _ from rb 0 _ (by decide) (p3 0 (by decide))), Option.bind_some, if_pos rfl, if_pos (show nI o < s2 by rw [p2]; exact nI_lt (b := 100000000) (by omega) (by decide))]
    exact tries (Or.inl p1)
  · rw [(show hgAI hx ba 100 (0 : Int32) = _ from rb 0 _ (by decide) p5), Option.bind_some, if_neg (nI_nm1 (by omega)), Option.bind_some]
    subst p4
    by_cases q : o < l
    · rw [if_pos (nI_lt q (by omega)), if_pos (nI_lt q (by omega))]
      exact tries (Or.inr ⟨l, rfl, q⟩)
    · rw [if_neg (nI_nlt (by omega) (by omega)), if_neg (nI_nlt (by omega) (by omega)), nI_1, nI_1]
      exact ⟨hx, _, rfl, rfl, X, cb, C, nX, eX, fX, rfl, n1, n2, Or.inr ⟨w, l, p1, p2, p3, rfl, p5, p6, p7, p8⟩⟩
end DR

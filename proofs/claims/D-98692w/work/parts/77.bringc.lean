/-! PURE SIDE: the call bring, in the class -/
set_option maxRecDepth 100000
/-- only the tables of the most are other -/
def BX (W X : zW) : Prop := X.1 = W.1 ∧ X.2.2 = W.2.2 ∧ ∀ k j i, k ≠ 16 → k ≠ 17 → X.2.1 k j i = W.2.1 k j i
theorem BX.refl (W : zW) : BX W W := ⟨rfl, rfl, fun _ _ _ _ _ => rfl⟩
theorem BX.A {W X : zW} (h : BX W X) {k j i : Nat} (v : Int32) (hk : k = 16 ∨ k = 17) : BX W (zA X k j i v) := ⟨h.1, h.2.1, fun k' j' i' h1 h2 => by
  rw [zA_at, if_neg (fun q => by have := q.1; omega)]
  exact h.2.2 k' j' i' h1 h2⟩
theorem zsuit_cong {W X : zW} {b k : Nat} (h26 : ∀ i, X.2.1 26 b i = W.2.1 26 b i) (h30 : ∀ i, X.2.1 30 k i = W.2.1 30 k i) : zsuit X b k = zsuit W b k := by
  unfold zsuit
  simp only [h26, h30]
theorem zlik_cong {W X : zW} {lk : zL} {b k : Nat} (h0 : X.2.1 0 0 7 = W.2.1 0 0 7) (h26 : ∀ i, X.2.1 26 b i = W.2.1 26 b i) (h27 : X.2.1 27 b k = W.2.1 27 b k) (h30 : ∀ i, X.2.1 30 k i = W.2.1 30 k i) : zlik X lk b k = zlik W lk b k := by
  have e : zenv X b k = zenv W b k := funext fun i => by
    unfold zenv
    rw [zsuit_cong h26 h30, h27, h0, h30, h30, h30]
  unfold zlik
  rw [zsuit_cong h26 h30, h27, e]
/-- how much is liked, as a number -/
def zlkI (W : zW) (lk : zL) (b k : Nat) : Int32 := if zin (W.2.1 0 0 7) (W.2.1 25 b 2) (W.2.1 25 b 3) = 0 then 0 else if zcan W b k = 0 then 0 else if zbit (W.2.1 29 k 5) (nI b) = 0 then zlik W lk b k else 0
def zlkn (W : zW) (lk : zL) (b k : Nat) : Nat := (zlkI W lk b k).toNatClampNeg
theorem zlkn_p {W : zW} {lk : zL} {b k : Nat} (Z : ZI W) (hb : b < W.2.2.2.1 0) (hk : k < W.2.2.2.1 1) : zlkI W lk b k = nI (zlkn W lk b k) ∧ zlkn W lk b k ≤ 999 := by
  have key : zle (zlkI W lk b k) 999 := by
    unfold zlkI
    split
    · exact ⟨0, by decide, rfl⟩
    · split
      · exact ⟨0, by decide, rfl⟩
      · split
        · exact zlik_le Z.2.1 hb hk Z.1.2.1
        · exact ⟨0, by decide, rfl⟩
  obtain ⟨n, n1, n2⟩ := key
  unfold zlkn
  rw [n2, pl_cl (by omega)]
  exact ⟨rfl, n1⟩
theorem BX.I {W X : zW} (h : BX W X) (Z : ZI W) : ZI X := by
  obtain ⟨x1, x2, x3⟩ := h
  have n : X.2.2.2.1 = W.2.2.2.1 := by rw [x2]
  obtain ⟨⟨s1, s2, s3, s4, s5, s6, s7, s8⟩, ⟨z1, z2, z3, z4⟩, z5, z6, z7, z8⟩ := Z
  have g : ∀ k j i, k ≠ 16 → k ≠ 17 → X.2.1 k j i = W.2.1 k j i := x3
  refine ⟨⟨by rw [n]; exact s1, by rw [n]; exact s2, by rw [n, g 21 _ _ (by decide) (by decide)]; exact s3, by rw [n, g 23 _ _ (by decide) (by decide)]; exact s4, by rw [n]; exact s5, by rw [n]; exact s6, fun b hb => ?_, fun b hb => ?_⟩, ⟨fun b hb i hi => ?_, fun k hk i hi => ?_, fun b hb i hi => ?_, ?_⟩, ?_, ?_, fun k hk => ?_, fun b hb => ?_⟩
  · rw [n] at hb; rw [g 25 _ _ (by decide) (by decide)]; exact s7 b hb
  · rw [n] at hb; rw [g 29 _ _ (by decide) (by decide)]; exact s8 b hb
  · rw [n] at hb; rw [g 26 _ _ (by decide) (by decide)]; exact z1 b hb i hi
  · rw [n] at hk; rw [g 30 _ _ (by decide) (by decide)]; exact z2 k hk i hi
  · rw [n] at hb; rw [g 27 _ _ (by decide) (by decide), g 28 _ _ (by decide) (by decide)]; exact z3 b hb i hi
  · rw [g 0 _ _ (by decide) (by decide)]; exact z4
  · rw [g 0 _ _ (by decide) (by decide)]; exact z5
  · rw [g 20 _ _ (by decide) (by decide), g 20 _ _ (by decide) (by decide), g 20 _ _ (by decide) (by decide), g 20 _ _ (by decide) (by decide), g 20 _ _ (by decide) (by decide)]; exact z6
  · rw [n] at hk; rw [g 29 _ _ (by decide) (by decide), g 29 _ _ (by decide) (by decide), g 29 _ _ (by decide) (by decide), g 29 _ _ (by decide) (by decide), g 29 _ _ (by decide) (by decide), n]; exact z7 k hk
  · rw [n] at hb; rw [g 25 _ _ (by decide) (by decide), g 25 _ _ (by decide) (by decide), g 25 _ _ (by decide) (by decide)]; exact z8 b hb
theorem BX.lkI {W X : zW} (h : BX W X) (lk : zL) (b k : Nat) : zlkI X lk b k = zlkI W lk b k := by
  have g : ∀ k j i, k ≠ 16 → k ≠ 17 → X.2.1 k j i = W.2.1 k j i := h.2.2
  unfold zlkI zcan
  rw [zlik_cong (W := W) (X := X) (g 0 _ _ (by decide) (by decide)) (fun i => g 26 _ _ (by decide) (by decide)) (g 27 _ _ (by decide) (by decide)) (fun i => g 30 _ _ (by decide) (by decide)), g 0 _ _ (by decide) (by decide), g 25 _ _ (by decide) (by decide), g 25 _ _ (by decide) (by decide), g 29 _ _ (by decide) (by decide), g 29 _ _ (by decide) (by decide), g 29 _ _ (by decide) (by decide), g 29 _ _ (by decide) (by decide), g 29 _ _ (by decide) (by decide)]
def zoe : Option Nat → Int32
  | none => -1
  | some g => nI g
section BC
variable {V : hx_V} {h : hx_S} {W X Y T : zW} {G G1 gt : Nat → Option hx_C} {ms : mx_S} {bk : Nat} {lk my : zL} {L : List (Nat → Int32)} {As : List zU}
theorem CS.mostRow (C : CS V h X T G) {j : Nat} (hj : j < 7) : hgQ h (X.1 12 0) (nI j) = some (some (X.1 16 j)) := by
  obtain ⟨f, D⟩ := C
  have := CR.gQ (W := zmix X T f) (k := 12) (j := 0) (i := j) (r := some (X.1 16 j)) D (show 0 < 1 from Nat.zero_lt_one) (by
    show va_rf (some ((zmix X T f).1 16 j)) = _
    rw [zmix_at (k := 16) rfl]) (by decide) (show j < 7 from hj) (show 7 < 2 ^ 31 by decide)
  rw [zmix_at (k := 12) rfl] at this
  exact this
theorem CS.likedRow (C : CS V h X T G) {j : Nat} (hj : j < 6) : hgQ h (X.1 13 0) (nI j) = some (some (X.1 17 j)) := by
  obtain ⟨f, D⟩ := C
  have := CR.gQ (W := zmix X T f) (k := 13) (j := 0) (i := j) (r := some (X.1 17 j)) D (show 0 < 1 from Nat.zero_lt_one) (by
    show va_rf (some ((zmix X T f).1 17 j)) = _
    rw [zmix_at (k := 17) rfl]) (by decide) (show j < 6 from hj) (show 6 < 2 ^ 31 by decide)
  rw [zmix_at (k := 13) rfl] at this
  exact this
theorem CS.liking (C : CS V h X T G) (Z : ZI X) (E : ELC V X G lk my) {b k : Nat} (hb : b < X.2.2.2.1 0) (hkk : k < X.2.2.2.1 1) : yes (c_X3_liking V (X.1 11 0) (some (X.1 25 b)) (some (X.1 29 k)) h) (fun r => r.1 = zlkI X lk b k ∧ CS V r.2 X T G ∧ r.2.1 = h.1 ∧ r.2.2.1 = h.2.1) := by
  unfold c_X3_liking c_X3_liking_b46 zlkI
  rw [C.br_this, Option.bind_some, Option.bind_some, C.x_hour, Option.bind_some, Option.bind_some, if_pos (C.k_b hb rfl), C.thereB hb, Option.bind_some]
  by_cases h1 : zin (X.2.1 0 0 7) (X.2.1 25 b 2) (X.2.1 25 b 3) = 0
  · rw [if_pos h1, if_pos h1]
    exact yes.ret ⟨rfl, C, rfl, rfl⟩
  · rw [if_neg h1, if_neg h1, Option.bind_some, Option.bind_some, if_pos C.k_x, C.canCome Z.1 hb hkk, Option.bind_some]
    by_cases h2 : zcan X b k = 0
    · rw [if_pos h2, if_pos h2]
      exact yes.ret ⟨rfl, C, rfl, rfl⟩
    · rw [if_neg h2, if_neg h2, Option.bind_some, if_pos (C.k_g hkk rfl), C.fears Z.1 hb hkk, Option.bind_some]
      by_cases h3 : zbit (X.2.1 29 k 5) (nI b) = 0
      · rw [if_pos h3, if_pos h3, Option.bind_some, Option.bind_some, if_pos C.k_x]
        obtain ⟨⟨r, h'⟩, a1, a2, a3, a4, a5⟩ := C.likes Z.1 Z.2.1 E hb hkk
        rw [a1, Option.bind_some]
        exact yes.ret ⟨a2, a3, a4, a5⟩
      · rw [if_neg h3, if_neg h3]
        exact yes.ret ⟨rfl, C, rfl, rfl⟩
variable {lik : Nat → Nat → Nat} {u : Nat} {mo : Nat → Nat}
theorem CS.by_z (C : CS V h X T G) {b s : Nat} (hb : b < 6) {n1 : Nat} (hn1 : n1 ≤ 8) (hs : s < 2 ^ n1) (hl : ∀ g, g < n1 → X.2.1 17 b g = nI (lik b g)) (hm : ∀ s, s < 2 ^ n1 → X.2.1 16 (b + 1) s = nI (mo s)) (o : Option Nat) (ho : ∀ g, o = some g → g < n1) : c_X3_by V (X.1 11 0) (nI b) (nI s) (zoe o) h = some (nI (zvo lik mo b s o)) := by
  have p8 : 2 ^ n1 ≤ 256 := Nat.pow_le_pow_right (by decide) hn1
  unfold c_X3_by
  cases o with
  | none =>
    rw [if_pos (show zoe none = -1 from rfl), C.br_most, Option.bind_some, Option.bind_some, nI_1, C.mostRow (by omega), Option.bind_some, Option.bind_some, C.mostAt (by omega) (by omega), Option.bind_some, hm s hs]
    rfl
  | some g =>
    have hg := ho g rfl
    have hor : s ||| 2 ^ g < 2 ^ n1 := Nat.or_lt_two_pow hs (Nat.pow_lt_pow_right (by decide) hg)
    rw [if_neg (show ¬ zoe (some g) = -1 from nI_nm1 (by omega)), C.br_liked, Option.bind_some, Option.bind_some, C.likedRow hb, Option.bind_some, Option.bind_some, (show hgAI h (X.1 17 b) 100 (zoe (some g)) = _ from C.likedAt hb (i := g) (by omega)), Option.bind_some, C.br_most, Option.bind_some, Option.bind_some, nI_1, C.mostRow (by omega), Option.bind_some, Option.bind_some, (show nI s ||| ((1 : Int32) <<< (zoe (some g) &&& 31)) = nI (s ||| 2 ^ g) from or_k s (by omega) g (by omega)), C.mostAt (by omega) (by omega), Option.bind_some, hl g hg, hm _ hor, nI_add]
    rfl
theorem CS.best_z (C : CS V h X T G) (Z : ZI X) {b s : Nat} (hb : b < 6) (hu : X.2.1 20 0 0 = nI u) (hu6 : u ≤ 6) (hs : s < 2 ^ X.2.2.2.1 1) (hl : ∀ g, g < X.2.2.2.1 1 → X.2.1 17 b g = nI (lik b g) ∧ lik b g ≤ 999) (hm : ∀ s, s < 2 ^ X.2.2.2.1 1 → X.2.1 16 (b + 1) s = nI (mo s)) (hm2 : ∀ s, mo s ≤ 10000) : c_X3_best V (X.1 11 0) (nI b) (nI s) h = some (zoe (zbi lik u (X.2.2.2.1 1) mo b s (X.2.2.2.1 1))) := by
  have h8 := Z.1.2.1
  have p8 : 2 ^ X.2.2.2.1 1 ≤ 256 := Nat.pow_le_pow_right (by decide) h8
  have hbc : zbc s ≤ 8 := by unfold zbc; omega
  unfold c_X3_best
  rw [C.br_this, Option.bind_some, Option.bind_some, C.x_park, Option.bind_some, Option.bind_some, C.z_guests, Option.bind_some, Option.bind_some, if_pos C.k_guests, C.sizeG Z.1, Option.bind_some, nI_m1]
  by_cases hbu : zbc s < u
  · have key : ∀ d, d < X.2.2.2.1 1 → c_X3_best_s19 V (X.1 11 0) (nI b) (nI s) h (zoe (zbi lik u (X.2.2.2.1 1) mo b s d), nI (X.2.2.2.1 1 - 1 - d)) = some (.inl (zoe (zbi lik u (X.2.2.2.1 1) mo b s (d + 1)), nI (X.2.2.2.1 1 - 1 - d) + -1)) := by
      intro d hd
      have e : zbi lik u (X.2.2.2.1 1) mo b s (d + 1) = if zcd lik u b s (X.2.2.2.1 1 - 1 - d) ∧ zvo lik mo b s (zbi lik u (X.2.2.2.1 1) mo b s d) ≤ zva lik mo b s (X.2.2.2.1 1 - 1 - d) then some (X.2.2.2.1 1 - 1 - d) else zbi lik u (X.2.2.2.1 1) mo b s d := rfl
      have hol : ∀ g, zbi lik u (X.2.2.2.1 1) mo b s d = some g → g < X.2.2.2.1 1 := fun g hg => by
        rcases (zbi_p (lik := lik) (u := u) (n1 := X.2.2.2.1 1) (mo := mo) (b := b) (s := s) d (by omega)).2.2 with ⟨q, -⟩ | ⟨g', q, -, q2, -⟩
        · rw [hg] at q; cases q
        · rw [hg] at q; cases q; exact q2
      have by1 := C.by_z hb h8 hs (fun g hg => (hl g hg).1) hm (zbi lik u (X.2.2.2.1 1) mo b s d) hol
      have by2 := C.by_z hb h8 hs (fun g hg => (hl g hg).1) hm (some (X.2.2.2.1 1 - 1 - d)) (fun g hg => by cases hg; omega)
      have v2 : zvo lik mo b s (some (X.2.2.2.1 1 - 1 - d)) = zva lik mo b s (X.2.2.2.1 1 - 1 - d) := rfl
      have bd1 : zvo lik mo b s (zbi lik u (X.2.2.2.1 1) mo b s d) ≤ 20000 := by
        cases hz : zbi lik u (X.2.2.2.1 1) mo b s d with
        | none => have := hm2 s; show mo s ≤ _; omega
        | some g => have := hm2 (s ||| 2 ^ g); have h9 := (hl g (hol g hz)).2; show lik b g + mo (s ||| 2 ^ g) ≤ _; omega
      have bd2 : zva lik mo b s (X.2.2.2.1 1 - 1 - d) ≤ 20000 := by
        have := hm2 (s ||| 2 ^ (X.2.2.2.1 1 - 1 - d)); have h9 := (hl (X.2.2.2.1 1 - 1 - d) (by omega)).2; show lik b _ + mo _ ≤ _; omega
      rw [e]
      unfold c_X3_best_s19
      simp only
      rw [if_neg (nI_pos (by omega)), c_bits_z s (by omega), Option.bind_some, C.br_this, Option.bind_some, Option.bind_some, C.x_park, Option.bind_some, Option.bind_some, C.z_ushers, Option.bind_some, hu, if_neg (nI_ge hbu (by omega)), bit_8 s (by omega) _ (by omega)]
      by_cases hbt : s / 2 ^ (X.2.2.2.1 1 - 1 - d) % 2 = 0
      · rw [if_pos (show nI (s / 2 ^ (X.2.2.2.1 1 - 1 - d) % 2) = 0 by rw [hbt]; rfl), C.br_liked, Option.bind_some, Option.bind_some, C.likedRow hb, Option.bind_some, Option.bind_some, C.likedAt hb (by omega), Option.bind_some, (hl _ (by omega)).1]
        by_cases hl0 : lik b (X.2.2.2.1 1 - 1 - d) = 0
        · rw [if_pos (show nI (lik b (X.2.2.2.1 1 - 1 - d)) ≤ 0 by rw [hl0]; decide), if_neg (fun q => q.1.2.1 hl0)]
        · rw [if_neg (show ¬ nI (lik b (X.2.2.2.1 1 - 1 - d)) ≤ 0 from nI_ge (a := 0) (by omega) (by have := (hl (X.2.2.2.1 1 - 1 - d) (by omega)).2; omega)), if_pos C.k_bringing, (show c_X3_by V (X.1 11 0) (nI b) (nI s) (nI (X.2.2.2.1 1 - 1 - d)) h = _ from by2), Option.bind_some, if_pos C.k_bringing, by1, Option.bind_some, v2]
          by_cases hle : zvo lik mo b s (zbi lik u (X.2.2.2.1 1) mo b s d) ≤ zva lik mo b s (X.2.2.2.1 1 - 1 - d)
          · rw [if_neg (nI_nlt hle (by omega)), if_pos ⟨⟨hbt, hl0, hbu⟩, hle⟩]
            rfl
          · rw [if_pos (nI_lt (by omega) (by omega)), if_neg (fun q => hle q.2)]
      · have h1 : s / 2 ^ (X.2.2.2.1 1 - 1 - d) % 2 = 1 := by omega
        rw [if_neg (show ¬ nI (s / 2 ^ (X.2.2.2.1 1 - 1 - d) % 2) = 0 by rw [h1]; decide), if_neg (fun q => hbt q.1.1)]
    have w' : hx_wh (c_X3_best_s19 V (X.1 11 0) (nI b) (nI s) h) hx_FU (zoe (zbi lik u (X.2.2.2.1 1) mo b s 0), if 0 = X.2.2.2.1 1 then (-1 : Int32) else nI (X.2.2.2.1 1 - 1 - 0)) = some (zoe (zbi lik u (X.2.2.2.1 1) mo b s (X.2.2.2.1 1))) := by
      refine pl_loop (fun d => (zoe (zbi lik u (X.2.2.2.1 1) mo b s d), if d = X.2.2.2.1 1 then (-1 : Int32) else nI (X.2.2.2.1 1 - 1 - d))) (X.2.2.2.1 1) _ (fun d hd => ?_) ?_ (by omega)
      · have k := key d hd
        rw [nI_dn] at k
        rw [if_neg (by omega), k]
        refine congrArg (fun x => some (Sum.inl (zoe (zbi lik u (X.2.2.2.1 1) mo b s (d + 1)), x))) ?_
        by_cases q : X.2.2.2.1 1 - 1 - d = 0
        · rw [if_pos q, if_pos (by omega)]
        · rw [if_neg q, if_neg (by omega), show X.2.2.2.1 1 - 1 - d - 1 = X.2.2.2.1 1 - 1 - (d + 1) by omega]
      · rw [if_pos rfl]
        unfold c_X3_best_s19
        rw [if_pos (show (-1 : Int32) < 0 by decide)]
        rfl
    rw [← w']
    refine congrArg (fun x => hx_wh (c_X3_best_s19 V (X.1 11 0) (nI b) (nI s) h) hx_FU ((-1 : Int32), x)) ?_
    by_cases q : X.2.2.2.1 1 = 0
    · rw [if_pos q, if_pos q.symm]
    · rw [if_neg q, if_neg (fun x => q x.symm), Nat.sub_zero]
  · have zn : zbi lik u (X.2.2.2.1 1) mo b s (X.2.2.2.1 1) = none := by
      rcases (zbi_p (lik := lik) (u := u) (n1 := X.2.2.2.1 1) (mo := mo) (b := b) (s := s) (X.2.2.2.1 1) (Nat.le_refl _)).2.2 with ⟨q, -⟩ | ⟨g', q, -, -, q2, -⟩
      · exact q
      · exact absurd q2.2.2 hbu
    rw [zn]
    refine wh_now (t := some (-1)) ?_
    unfold c_X3_best_s19
    simp only
    by_cases q : X.2.2.2.1 1 = 0
    · rw [if_pos q, if_pos (show (-1 : Int32) < 0 by decide)]
      rfl
    · rw [if_neg q, if_neg (nI_pos (by omega)), c_bits_z s (by omega), Option.bind_some, C.br_this, Option.bind_some, Option.bind_some, C.x_park, Option.bind_some, Option.bind_some, C.z_ushers, Option.bind_some, hu, if_pos (nI_le (by omega) (by omega))]
      rfl
/-- the table of what is liked -/
theorem CS.lays1 (C : CS V h W T G) (Z : ZI W) (E : ELC V W G lk my) :
    ∃ hx X, c_X3_lays V (W.1 11 0) h = c_X3_lays_b96 V (W.1 11 0) hx ∧ CS V hx X T G ∧ BX W X ∧ (∀ b g, b < W.2.2.2.1 0 → g < W.2.2.2.1 1 → X.2.1 17 b g = nI (zlkn W lk b g)) ∧ hx.1 = h.1 ∧ hx.2.1 = h.2.1 := by
  have h6 := Z.1.1
  have h8 := Z.1.2.1
  -- one beast
  have row : ∀ (b : Nat) (hx : hx_S) (X : zW), b < W.2.2.2.1 0 → CS V hx X T G → BX W X → yes (hx_wh (c_X3_lays_s21 V (W.1 11 0) (nI b)) hx_FU ((0 : Int32), hx)) (fun r => ∃ h' X', r = .inl (nI (b + 1), h') ∧ CS V h' X' T G ∧ BX W X' ∧ (∀ g, g < W.2.2.2.1 1 → X'.2.1 17 b g = nI (zlkn W lk b g)) ∧ (∀ b' g, b' ≠ b → X'.2.1 17 b' g = X.2.1 17 b' g) ∧ h'.1 = hx.1 ∧ h'.2.1 = hx.2.1) := by
    intro b hx X hb C B
    refine yes.wh (I := fun n s => ∃ k Y, n = W.2.2.2.1 1 - k ∧ k ≤ W.2.2.2.1 1 ∧ s.1 = nI k ∧ CS V s.2 Y T G ∧ BX W Y ∧ (∀ g, g < k → Y.2.1 17 b g = nI (zlkn W lk b g)) ∧ (∀ b' g, b' ≠ b → Y.2.1 17 b' g = X.2.1 17 b' g) ∧ s.2.1 = hx.1 ∧ s.2.2.1 = hx.2.1) (n := W.2.2.2.1 1) ⟨0, X, by omega, by omega, rfl, C, B, fun g hg => by omega, fun _ _ _ => rfl, rfl, rfl⟩ (by omega) ?_
    rintro n ⟨q, hy⟩ ⟨k, Y, rfl, hkk, e, CY, BY, t1, t2, n1, n2⟩
    simp only at e CY n1 n2
    subst e
    have y0 : Y.1 = W.1 := BY.1
    have nu : Y.2.2.2.1 = W.2.2.2.1 := by rw [BY.2.1]
    have ZY := BY.I Z
    have EY : ELC V Y G lk my := by
      unfold ELC at E ⊢
      rw [BY.2.1]; exact E
    have bt := CY.br_this
    have kp := CY.x_park
    have kz := CY.z_guests
    have kg := CY.k_guests
    have ks := CY.sizeG ZY.1
    have kb := CY.z_beasts
    have kbb := CY.k_beasts
    have bl := CY.br_liked
    have rl := CY.likedRow (j := b) (by omega)
    have kbr := CY.k_bringing
    rw [y0] at bt kp kz kg ks kb kbb bl rl kbr
    rw [nu] at ks
    unfold c_X3_lays_s21
    simp only
    rw [bt, Option.bind_some, Option.bind_some, kp, Option.bind_some, Option.bind_some, kz, Option.bind_some, Option.bind_some, if_pos kg, ks, Option.bind_some]
    by_cases hlt : k < W.2.2.2.1 1
    · have hbY : b < Y.2.2.2.1 0 := by rw [nu]; exact hb
      have hkY : k < Y.2.2.2.1 1 := by rw [nu]; exact hlt
      have gB := CY.getB ZY.1 hbY
      have gG := CY.getG ZY.1 hkY
      have cB : hck hy (some (Y.1 25 b)) [8] = true := CY.k_b hbY rfl
      have cG : hck hy (some (Y.1 29 k)) [9] = true := CY.k_g hkY rfl
      obtain ⟨⟨r, h2⟩, l1, l2, l3, l4, l5⟩ := CY.liking ZY EY hbY hkY
      simp only at l2 l3 l4 l5
      obtain ⟨h3, w1, C3, r3, r3'⟩ := l3.wliked (j := b) (by omega) (i := k) (by omega) r
      rw [y0] at gB gG cB cG l1 w1
      rw [if_neg (nI_ge hlt (by omega)), bl, Option.bind_some, Option.bind_some, rl, Option.bind_some, Option.bind_some, Option.bind_some, kp, Option.bind_some, Option.bind_some, kb, Option.bind_some, Option.bind_some, if_pos kbb, gB, Option.bind_some, if_pos cB, Option.bind_some, Option.bind_some, kp, Option.bind_some, Option.bind_some, kz, Option.bind_some, Option.bind_some, if_pos kg, gG, Option.bind_some, if_pos cG, if_pos kbr, l1, Option.bind_some, Option.bind_some, w1, Option.bind_some]
      have rv : r = nI (zlkn W lk b k) := by rw [l2, BY.lkI]; exact (zlkn_p Z hb hlt).1
      refine yes.ret ⟨W.2.2.2.1 1 - (k + 1), by omega, k + 1, _, rfl, by omega, nI_1 k, C3, BY.A _ (Or.inr rfl), fun g hg => ?_, fun b' g hb' => ?_, by dsimp only; omega, by dsimp only; omega⟩
      · rw [zA_at]
        by_cases q : g = k
        · rw [if_pos ⟨rfl, rfl, q⟩, rv, q]
        · rw [if_neg (fun x => q x.2.2)]; exact t1 g (by omega)
      · rw [zA_at, if_neg (fun x => hb' x.2.1)]; exact t2 b' g hb'
    · have hke : k = W.2.2.2.1 1 := by omega
      subst hke
      rw [if_pos (nI_le (Nat.le_refl _) (by omega)), nI_1]
      exact yes.ret ⟨hy, Y, rfl, CY, BY, t1, t2, n1, n2⟩
  -- all beasts
  have key : ∀ (d b : Nat) (hx : hx_S) (X : zW) (F : Nat), b + d = W.2.2.2.1 0 → d < F → CS V hx X T G → BX W X → (∀ b' g, b' < b → g < W.2.2.2.1 1 → X.2.1 17 b' g = nI (zlkn W lk b' g)) → hx.1 = h.1 → hx.2.1 = h.2.1 → ∃ hy Y, hx_wh (c_X3_lays_s2 V (W.1 11 0)) F (nI b, hx) = c_X3_lays_b96 V (W.1 11 0) hy ∧ CS V hy Y T G ∧ BX W Y ∧ (∀ b g, b < W.2.2.2.1 0 → g < W.2.2.2.1 1 → Y.2.1 17 b g = nI (zlkn W lk b g)) ∧ hy.1 = h.1 ∧ hy.2.1 = h.2.1 := by
    intro d
    induction d with
    | zero =>
      intro b hx X F hbd hF C B t n1 n2
      obtain ⟨F, rfl⟩ : ∃ k, F = k + 1 := ⟨F - 1, by omega⟩
      have hbe : b = W.2.2.2.1 0 := by omega
      have ZX := B.I Z
      have x0 : X.1 = W.1 := B.1
      have nu : X.2.2.2.1 = W.2.2.2.1 := by rw [B.2.1]
      have bt := C.br_this
      have kp := C.x_park
      have kz := C.z_beasts
      have kg := C.k_beasts
      have ks := C.sizeB ZX.1
      rw [x0] at bt kp kz kg ks
      rw [nu] at ks
      refine ⟨hx, X, ?_, C, B, fun b' g h1 h2 => t b' g (by omega) h2, n1, n2⟩
      have e : c_X3_lays_s2 V (W.1 11 0) (nI b, hx) = (c_X3_lays_b96 V (W.1 11 0) hx).map .inr := by
        unfold c_X3_lays_s2
        simp only
        rw [bt, Option.bind_some, Option.bind_some, kp, Option.bind_some, Option.bind_some, kz, Option.bind_some, Option.bind_some, if_pos kg, ks, Option.bind_some, if_pos (by rw [hbe]; exact nI_le (Nat.le_refl _) (by omega))]
      cases hc : c_X3_lays_b96 V (W.1 11 0) hx with
      | none => rw [hc] at e; exact wh_none F e
      | some r => rw [hc] at e; exact wh_inr F e
    | succ d ih =>
      intro b hx X F hbd hF C B t n1 n2
      obtain ⟨F, rfl⟩ : ∃ k, F = k + 1 := ⟨F - 1, by omega⟩
      have hlt : b < W.2.2.2.1 0 := by omega
      have ZX := B.I Z
      have x0 : X.1 = W.1 := B.1
      have nu : X.2.2.2.1 = W.2.2.2.1 := by rw [B.2.1]
      have bt := C.br_this
      have kp := C.x_park
      have kz := C.z_beasts
      have kg := C.k_beasts
      have ks := C.sizeB ZX.1
      rw [x0] at bt kp kz kg ks
      rw [nu] at ks
      obtain ⟨r, w1, h', X', rfl, C', B', t1, t2, n3, n4⟩ := row b hx X hlt C B
      have e : c_X3_lays_s2 V (W.1 11 0) (nI b, hx) = some (.inl (nI (b + 1), h')) := by
        unfold c_X3_lays_s2
        simp only
        rw [bt, Option.bind_some, Option.bind_some, kp, Option.bind_some, Option.bind_some, kz, Option.bind_some, Option.bind_some, if_pos kg, ks, Option.bind_some, if_neg (nI_ge hlt (by omega)), w1]
      rw [wh_inl F e]
      refine ih (b + 1) h' X' F (by omega) (by omega) C' B' (fun b' g h1 h2 => ?_) (by omega) (by omega)
      by_cases q : b' = b
      · subst q; exact t1 g h2
      · rw [t2 b' g q]; exact t b' g (by omega) h2
  have := hx_FU_ge
  exact key (W.2.2.2.1 0) 0 h W hx_FU (by omega) (by omega) C (BX.refl W) (fun b' g h1 => by omega) rfl rfl
end BC

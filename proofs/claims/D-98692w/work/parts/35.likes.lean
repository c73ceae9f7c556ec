/-! PURE SIDE: how one is liked, whether one may -/
set_option maxRecDepth 100000
/-- what stands within bounds -/
def zle (x : Int32) (n : Nat) : Prop := ∃ j, j ≤ n ∧ x = nI j
def ZV (W : zW) : Prop :=
  (∀ b, b < W.2.2.2.1 0 → ∀ i, i < 3 → zle (W.2.1 26 b i) 9) ∧ (∀ k, k < W.2.2.2.1 1 → ∀ i, i < 3 → zle (W.2.1 30 k i) 9) ∧
  (∀ b, b < W.2.2.2.1 0 → ∀ i, i < 8 → zle (W.2.1 27 b i) 99 ∧ zle (W.2.1 28 b i) 99) ∧ zle (W.2.1 0 0 7) 23
def zbd (m : Nat) (env : Nat → Int64) : Prop := ∀ i, i < m → -1000000 ≤ (env i).toInt ∧ (env i).toInt ≤ 1000000
/-- the tree at a tells f -/
def EC (V : hx_V) (g : Nat → Option hx_C) (ts : List Nat) (m : Nat) (val : Int64 → Value) (a : Nat) (f : (Nat → Int64) → Int64) : Prop :=
  ∃ c, g a = some c ∧ ts.contains c.1 = true ∧ ∀ (h : hx_S) (e t : Nat) (env : Nat → Int64) (c2 : Nat → Value), (∀ q c, g q = some c → h.2.2 q = some c) → h.2.2 e = some (2, 1, c2) → c2 0 = .ref t → (∃ c3, h.2.2 t = some (104, 9, c3) ∧ ∀ i, i < 9 → c3 i = .long (env i)) → zbd m env → c_ev V 200 c.1 a (some e) h = some (val (f env))
/-- the reference's codes tell f -/
def EM (ms : mx_S) (bk w m : Nat) (f : (Nat → Int64) → Int64) : Prop :=
  ms.2.2.1 12 (2 * bk + w) ≠ -1 ∧ ∀ ms' : mx_S, ms'.1 13 = ms.1 13 → (∀ a i, a = 12 ∨ a = 13 ∨ a = 14 ∨ a = 15 → ms'.2.2.1 a i = ms.2.2.1 a i) → zbd m (fun i => (ms'.2.2.1 37 (i + 1)).toInt64) → yes (m_reckons (nI w) ms') (fun r => r.1 = f (fun i => (ms'.2.2.1 37 (i + 1)).toInt64) ∧ msc ms' r.2 ∧ ∀ i, r.2.2.2.1 37 i = ms'.2.2.1 37 i)
def zdep (m : Nat) (f : (Nat → Int64) → Int64) : Prop := ∀ e e' : Nat → Int64, (∀ i, i < m → e i = e' i) → f e = f e'
abbrev zL : Type := Option ((Nat → Int64) → Int64)
def zlong (x : Int64) : Value := .long x
def zbool (x : Int64) : Value := .int x.toInt32
def ELC (V : hx_V) (W : zW) (g : Nat → Option hx_C) (lk my : zL) : Prop :=
  (match lk with | none => W.2.2.2.2 20 0 6 = none | some f => ∃ a, W.2.2.2.2 20 0 6 = some a ∧ EC V g [10, 11, 16, 17, 18] 6 zlong a f ∧ zdep 6 f) ∧
  (match my with | none => W.2.2.2.2 20 0 7 = none | some f => ∃ a, W.2.2.2.2 20 0 7 = some a ∧ EC V g [12, 13, 14, 15] 9 zbool a f ∧ zdep 9 f ∧ ∀ e, zbd 9 e → f e = 0 ∨ f e = 1)
def ELM (ms : mx_S) (bk : Nat) (lk my : zL) : Prop :=
  (match lk with | none => ms.2.2.1 12 (2 * bk) = -1 | some f => EM ms bk 0 6 f ∧ zdep 6 f) ∧
  (match my with | none => ms.2.2.1 12 (2 * bk + 1) = -1 | some f => EM ms bk 1 9 f ∧ zdep 9 f ∧ ∀ e, zbd 9 e → f e = 0 ∨ f e = 1)
def zclip (x : Int64) : Int32 := if x < 0 then 0 else if 999 < x then 999 else x.toInt32
def zlik (W : zW) (lk : zL) (b k : Nat) : Int32 := match lk with
  | none => zsuit W b k / (1 + W.2.1 27 b k)
  | some f => zclip (f (zenv W b k))
def zenv9 (W : zW) (b k : Nat) (li fr : Int32) : Nat → Int64 := fun i => if i = 6 then li.toInt64 else if i = 7 then (zbit (W.2.1 29 k 5) (nI b)).toInt64 else if i = 8 then fr.toInt64 else zenv W b k i
def zmay (W : zW) (my : zL) (b k : Nat) (li fr : Int32) : Int32 := match my with
  | none => 1
  | some f => (f (zenv9 W b k li fr)).toInt32
theorem zsuit_le {W : zW} (Z : ZV W) {b k : Nat} (hb : b < W.2.2.2.1 0) (hk : k < W.2.2.2.1 1) : zle (zsuit W b k) 243 := by
  obtain ⟨a0, h0, e0⟩ := Z.1 b hb 0 (by decide)
  obtain ⟨a1, h1, e1⟩ := Z.1 b hb 1 (by decide)
  obtain ⟨a2, h2, e2⟩ := Z.1 b hb 2 (by decide)
  obtain ⟨c0, g0, f0⟩ := Z.2.1 k hk 0 (by decide)
  obtain ⟨c1, g1, f1⟩ := Z.2.1 k hk 1 (by decide)
  obtain ⟨c2, g2, f2⟩ := Z.2.1 k hk 2 (by decide)
  refine ⟨0 + a0 * c0 + a1 * c1 + a2 * c2, ?_, ?_⟩
  · have := Nat.mul_le_mul h0 g0
    have := Nat.mul_le_mul h1 g1
    have := Nat.mul_le_mul h2 g2
    omega
  · simp only [zsuit, pl_s3, e0, e1, e2, f0, f1, f2, pk_mul, nI_add]
    rw [show (0 : Int32) = nI 0 from rfl]
    simp only [nI_add]
theorem zle_long {x : Int32} {n : Nat} (h : zle x n) (hn : n ≤ 1000000) : -1000000 ≤ x.toInt64.toInt ∧ x.toInt64.toInt ≤ 1000000 := by
  obtain ⟨j, hj, rfl⟩ := h
  rw [nI_l (by omega), lN_toInt (by omega)]
  omega
theorem zenv_bd {W : zW} (Z : ZV W) {b k : Nat} (hb : b < W.2.2.2.1 0) (hk : k < W.2.2.2.1 1) (h8 : W.2.2.2.1 1 ≤ 8) : zbd 6 (zenv W b k) := by
  intro i hi
  have hi' : i = 0 ∨ i = 1 ∨ i = 2 ∨ i = 3 ∨ i = 4 ∨ i = 5 := by omega
  rcases hi' with rfl | rfl | rfl | rfl | rfl | rfl
  · exact zle_long (zsuit_le Z hb hk) (by decide)
  · exact zle_long (Z.2.2.1 b hb k (by omega)).1 (by decide)
  · exact zle_long Z.2.2.2 (by decide)
  · exact zle_long (Z.2.1 k hk 0 (by decide)) (by decide)
  · exact zle_long (Z.2.1 k hk 1 (by decide)) (by decide)
  · exact zle_long (Z.2.1 k hk 2 (by decide)) (by decide)
theorem zbit_le (x k : Int32) : zle (zbit x k) 1 := by
  unfold zbit
  split
  · exact ⟨1, by decide, rfl⟩
  · exact ⟨0, by decide, rfl⟩
theorem zenv9_bd {W : zW} (Z : ZV W) {b k : Nat} (hb : b < W.2.2.2.1 0) (hk : k < W.2.2.2.1 1) (h8 : W.2.2.2.1 1 ≤ 8) {li fr : Int32} (hl : zle li 999) (hf : zle fr 6) : zbd 9 (zenv9 W b k li fr) := by
  intro i hi
  unfold zenv9
  by_cases e6 : i = 6
  · rw [if_pos e6]; exact zle_long hl (by decide)
  · rw [if_neg e6]
    by_cases e7 : i = 7
    · rw [if_pos e7]; exact zle_long (zbit_le _ _) (by decide)
    · rw [if_neg e7]
      by_cases e8 : i = 8
      · rw [if_pos e8]; exact zle_long hf (by decide)
      · rw [if_neg e8]; exact zenv_bd Z hb hk h8 i (by omega)
theorem zdiv_le {W : zW} (Z : ZV W) {b k : Nat} (hb : b < W.2.2.2.1 0) (hk : k < W.2.2.2.1 1) (h8 : W.2.2.2.1 1 ≤ 8) : zle (zsuit W b k / (1 + W.2.1 27 b k)) 243 ∧ ¬ (1 + W.2.1 27 b k) = 0 := by
  obtain ⟨n, hn, e⟩ := zsuit_le Z hb hk
  obtain ⟨m, hm, e2⟩ := (Z.2.2.1 b hb k (by omega)).1
  have e3 : (1 : Int32) + nI m = nI (1 + m) := by simp only [pl_lit, nI_add]
  rw [e, e2, e3, pk_div (by omega) (by omega) (by omega)]
  exact ⟨⟨n / (1 + m), Nat.le_trans (Nat.div_le_self _ _) hn, rfl⟩, nI_ne0 (by omega) (by omega)⟩
theorem i64_le999 {x : Int64} (h0 : ¬ x < 0) (h9 : ¬ 999 < x) : ∃ n : Nat, n ≤ 999 ∧ x = lN n := by
  obtain ⟨n, hn, rfl⟩ := pk_lOf h0
  refine ⟨n, ?_, rfl⟩
  have h : ¬ lN 999 < lN n := h9
  rw [pk_lLT (by decide) hn] at h
  omega
theorem zclip_le (x : Int64) : zle (zclip x) 999 := by
  unfold zclip
  by_cases h0 : x < 0
  · rw [if_pos h0]; exact ⟨0, by decide, rfl⟩
  · rw [if_neg h0]
    by_cases h9 : 999 < x
    · rw [if_pos h9]; exact ⟨999, by decide, rfl⟩
    · rw [if_neg h9]
      obtain ⟨n, hn, rfl⟩ := i64_le999 h0 h9
      exact ⟨n, hn, lN_i n⟩
theorem zlik_le {W : zW} (Z : ZV W) {lk : zL} {b k : Nat} (hb : b < W.2.2.2.1 0) (hk : k < W.2.2.2.1 1) (h8 : W.2.2.2.1 1 ≤ 8) : zle (zlik W lk b k) 999 := by
  cases lk with
  | none =>
    obtain ⟨n, hn, e⟩ := (zdiv_le Z hb hk h8).1
    exact ⟨n, by omega, e⟩
  | some f => exact zclip_le _
/-- the class's way of keeping within 0 and 999 -/
theorem c_clip (V : hx_V) (a : Nat) (x : Int64) (h : hx_S) : c_X0_likes_b49 V a x h = some (zclip x, h) := by
  unfold c_X0_likes_b49 c_J11_min_2 c_J11_max_2 zclip
  simp only [lc_lt, lc_gt]
  have h9 : (0 : Int64) < 999 := by decide
  by_cases h1 : x < 999
  · rw [if_pos h1, Option.bind_some]
    have h4 : ¬ 999 < x := by intro q; have := Int64.lt_iff_toInt_lt.mp q; have := Int64.lt_iff_toInt_lt.mp h1; omega
    by_cases h2 : 0 < x
    · have h3 : ¬ x < 0 := by intro q; have := Int64.lt_iff_toInt_lt.mp q; have := Int64.lt_iff_toInt_lt.mp h2; omega
      rw [if_pos h2, if_neg h3, if_neg h4]
      rfl
    · rw [if_neg h2]
      by_cases h3 : x < 0
      · rw [if_pos h3]; rfl
      · rw [if_neg h3, if_neg h4]
        have h5 : x = 0 := by
          refine Int64.toInt_inj.mp ?_
          have a1 : ¬ x.toInt < (0 : Int64).toInt := fun q => h3 (Int64.lt_iff_toInt_lt.mpr q)
          have a2 : ¬ (0 : Int64).toInt < x.toInt := fun q => h2 (Int64.lt_iff_toInt_lt.mpr q)
          omega
        subst h5
        rfl
  · rw [if_neg h1, Option.bind_some, if_pos h9]
    have h3 : ¬ x < 0 := by
      intro q
      have := Int64.lt_iff_toInt_lt.mp q
      have a2 : ¬ x.toInt < (999 : Int64).toInt := fun q => h1 (Int64.lt_iff_toInt_lt.mpr q)
      have : (999 : Int64).toInt = 999 := rfl
      have : (0 : Int64).toInt = 0 := rfl
      omega
    rw [if_neg h3]
    by_cases h4 : 999 < x
    · rw [if_pos h4]; rfl
    · rw [if_neg h4]
      have h5 : x = 999 := by
        refine Int64.toInt_inj.mp ?_
        have a1 : ¬ x.toInt < (999 : Int64).toInt := fun q => h1 (Int64.lt_iff_toInt_lt.mpr q)
        have a2 : ¬ (999 : Int64).toInt < x.toInt := fun q => h4 (Int64.lt_iff_toInt_lt.mpr q)
        omega
      subst h5
      rfl
theorem zclip_small {x : Int32} {n : Nat} (h : zle x n) (hn : n ≤ 999) : zclip x.toInt64 = x := by
  obtain ⟨j, hj, rfl⟩ := h
  unfold zclip
  rw [nI_l (by omega)]
  rw [if_neg (by show ¬ lN j < lN 0; rw [pk_lLT (by omega) (by decide)]; omega), if_neg (by show ¬ lN 999 < lN j; rw [pk_lLT (by decide) (by omega)]; omega), lN_i]
section LK
variable {V : hx_V} {h : hx_S} {W T : zW} {g : Nat → Option hx_C}
theorem CR.pal6 {f : Nat → Int64} (C : CR V h (zmix W T f) g) {i : Nat} (hi : i < 9) (v : Int64) : ∃ h', hpA V h (W.1 6 0) 104 (nI i) (.long v) = some h' ∧ CR V h' (zmix W T (fun j => if j = i then v else f j)) g ∧ h'.1 = h.1 ∧ h'.2.1 = h.2.1 := by
  obtain ⟨h', e, C', r⟩ := CR.pAL (W := zmix W T f) (k := 6) (j := 0) (i := i) C v (show 0 < 1 from Nat.zero_lt_one) rfl hi (show 9 < 2 ^ 31 by decide)
  rw [zB_mix6] at C'
  exact ⟨h', e, C', r⟩
theorem c_asked (C : CS V h W T g) (S : ZS W) {b k : Nat} (hb : b < W.2.2.2.1 0) (hk : k < W.2.2.2.1 1) : ∃ h' f, c_X0_asked V (W.1 0 0) (some (W.1 25 b)) (some (W.1 29 k)) h = some (some (W.1 5 0), h') ∧ CR V h' (zmix W T f) g ∧ (∀ i, i < 6 → f i = zenv W b k i) ∧ h'.1 = h.1 ∧ h'.2.1 = h.2.1 := by
  have D := C
  have h8 := S.2.1
  obtain ⟨f0, C0⟩ := C
  unfold c_X0_asked
  simp only [D.x_asking, D.asking_told, D.k_b hb (ts := [8]) rfl, D.suits hb hk, Option.bind_some, if_true]
  obtain ⟨h1, e1, C1, r1, r1'⟩ := C0.pal6 (i := 0) (by decide) (zsuit W b k).toInt64
  have D1 : CS V h1 W T g := ⟨_, C1⟩
  rw [show (0 : Int32) = nI 0 from rfl, e1, Option.bind_some]
  simp only [D1.b_saw hb (ts := [8]) rfl, D1.g_number hk (ts := [9]) rfl, S.2.2.2.2.2.2.2 k hk, D1.sawOf hb (show k < 8 by omega), Option.bind_some]
  obtain ⟨h2, e2, C2, r2, r2'⟩ := C1.pal6 (i := 1) (by decide) (W.2.1 27 b k).toInt64
  have D2 : CS V h2 W T g := ⟨_, C2⟩
  rw [show (1 : Int32) = nI 1 from rfl, e2, Option.bind_some]
  simp only [D2.x_hour, Option.bind_some]
  obtain ⟨h3, e3, C3, r3, r3'⟩ := C2.pal6 (i := 2) (by decide) (W.2.1 0 0 7).toInt64
  rw [show (2 : Int32) = nI 2 from rfl, e3, Option.bind_some]
  have key : yes (hx_wh (c_X0_asked_s41 V (W.1 0 0) (some (W.1 29 k)) (some (W.1 6 0))) hx_FU (nI 0, h3)) (fun r => r.1 = some (W.1 5 0) ∧ ∃ f, CR V r.2 (zmix W T f) g ∧ (∀ i, i < 6 → f i = zenv W b k i) ∧ r.2.1 = h.1 ∧ r.2.2.1 = h.2.1) := by
    refine yes.wh (I := fun n s => ∃ i f, n = 3 - i ∧ i ≤ 3 ∧ s.1 = nI i ∧ CR V s.2 (zmix W T f) g ∧ (∀ j, j < 3 + i → f j = zenv W b k j) ∧ s.2.1 = h.1 ∧ s.2.2.1 = h.2.1) (n := 3) ⟨0, _, rfl, by decide, rfl, C3, fun j hj => ?_, by (try dsimp only); omega, by (try dsimp only); omega⟩ (by decide) ?_
    · have : j = 0 ∨ j = 1 ∨ j = 2 := by omega
      rcases this with rfl | rfl | rfl <;> simp [zenv]
    · rintro n ⟨x, hx⟩ ⟨i, f, rfl, hi, hs, Ci, hf, r4, r5⟩
      simp only at hs Ci r4 r5
      subst hs
      have Di : CS V hx W T g := ⟨_, Ci⟩
      unfold c_X0_asked_s41
      by_cases h3 : i < 3
      · rw [if_neg (by simp only [pl_lit]; exact nI_ge h3 (by decide))]
        simp only [Di.g_traits hk (ts := [9]) rfl, Di.traitsOf hk h3, Option.bind_some]
        obtain ⟨h4, e4, C4, r6, r7⟩ := Ci.pal6 (i := 3 + i) (by omega) (W.2.1 30 k i).toInt64
        rw [show (3 : Int32) + nI i = nI (3 + i) by simp only [pl_lit, nI_add], e4, Option.bind_some]
        refine yes.ret ⟨3 - (i + 1), by (try dsimp only); omega, i + 1, _, rfl, by (try dsimp only); omega, by simp only [pl_lit, nI_add], C4, fun j hj => ?_, by (try dsimp only); omega, by (try dsimp only); omega⟩
        by_cases e : j = 3 + i
        · simp only [e, if_true]
          have : i = 0 ∨ i = 1 ∨ i = 2 := by omega
          rcases this with rfl | rfl | rfl <;> simp [zenv]
        · simp only [e, if_false]
          exact hf j (by omega)
      · have : i = 3 := by omega
        subst this
        rw [if_pos (by simp only [pl_lit]; exact nI_le (Nat.le_refl _) (by decide))]
        simp only [Di.x_asking, Option.bind_some]
        exact yes.ret ⟨rfl, f, Ci, hf, r4, r5⟩
  obtain ⟨⟨a, h'⟩, e, ea, f, Cf, hf, r4, r5⟩ := key
  simp only at ea
  subst ea
  exact ⟨h', f, e, Cf, hf, r4, r5⟩
theorem c_evL {f : Nat → Int64} (C : CR V h (zmix W T f) g) {ts : List Nat} {m : Nat} {val : Int64 → Value} {a : Nat} {F : (Nat → Int64) → Int64} (E : EC V g ts m val a F) (hb : zbd m f) : ∃ t, htag h a = some t ∧ ts.contains t = true ∧ c_ev V 200 t a (some (W.1 5 0)) h = some (val (F f)) := by
  obtain ⟨c, e1, e2, e3⟩ := E
  have hfr : ∀ q c, g q = some c → h.2.2 q = some c := fun q c hq => (C.2.2.2 q c hq).1
  refine ⟨c.1, ?_, e2, ?_⟩
  · simp only [htag, hfr a c e1]
    rfl
  · obtain ⟨f5, a1, a2⟩ := C.at (k := 5) (j := 0) (show 0 < 1 from Nat.zero_lt_one)
    obtain ⟨f6, b1, b2⟩ := C.at (k := 6) (j := 0) (show 0 < 1 from Nat.zero_lt_one)
    exact e3 h (W.1 5 0) (W.1 6 0) f f5 hfr a1 (a2 0 (show 0 < 1 from Nat.zero_lt_one)) ⟨f6, b1, fun i hi => b2 i hi⟩ hb
theorem CS.likes (C : CS V h W T g) (S : ZS W) (Z : ZV W) {lk my : zL} (E : ELC V W g lk my) {b k : Nat} (hb : b < W.2.2.2.1 0) (hk : k < W.2.2.2.1 1) : yes (c_X0_likes V (W.1 0 0) (some (W.1 25 b)) (some (W.1 29 k)) h) (fun r => r.1 = zlik W lk b k ∧ CS V r.2 W T g ∧ r.2.1 = h.1 ∧ r.2.2.1 = h.2.1) := by
  have h8 := S.2.1
  unfold c_X0_likes
  simp only [C.x_park, C.z_likes, Option.bind_some]
  have E1 := E.1
  cases lk with
  | none =>
    simp only at E1
    obtain ⟨d1, d2⟩ := zdiv_le Z hb hk h8
    rw [if_pos E1]
    simp only [C.k_b hb (ts := [8]) rfl, C.suits hb hk, C.b_saw hb (ts := [8]) rfl, C.g_number hk (ts := [9]) rfl, S.2.2.2.2.2.2.2 k hk, C.sawOf hb (show k < 8 by omega), Option.bind_some, if_true]
    rw [if_neg d2, c_clip, zclip_small d1 (by decide)]
    exact yes.ret ⟨rfl, C, rfl, rfl⟩
  | some F =>
    simp only at E1
    obtain ⟨a, ea, EC1, dep⟩ := E1
    rw [ea, if_neg (by simp)]
    simp only [C.k_x, if_true]
    obtain ⟨h', f, e1, C', hf, r1, r2⟩ := c_asked C S hb hk
    have hbd : zbd 6 f := fun i hi => by rw [hf i hi]; exact zenv_bd Z hb hk h8 i hi
    obtain ⟨t, t1, t2, t3⟩ := c_evL C' EC1 hbd
    simp only [e1, Option.bind_some, t1, t2, if_true, t3, zlong, hvL, c_clip]
    exact yes.ret ⟨by simp only [zlik]; rw [dep f _ hf], ⟨f, C'⟩, r1, r2⟩
theorem zbool_bit {x : Int64} (h : x = 0 ∨ x = 1) : hx_bit x.toInt32 = true := by
  rcases h with rfl | rfl <;> decide
theorem CS.may (C : CS V h W T g) (S : ZS W) (Z : ZV W) {lk my : zL} (E : ELC V W g lk my) {b k : Nat} (hb : b < W.2.2.2.1 0) (hk : k < W.2.2.2.1 1) {li fr : Int32} (hl : zle li 999) (hfr : zle fr 6) : yes (c_X0_may V (W.1 0 0) (some (W.1 25 b)) (some (W.1 29 k)) li fr h) (fun r => r.1 = zmay W my b k li fr ∧ CS V r.2 W T g ∧ r.2.1 = h.1 ∧ r.2.2.1 = h.2.1) := by
  have h8 := S.2.1
  unfold c_X0_may
  simp only [C.x_park, C.z_may, Option.bind_some]
  have E1 := E.2
  cases my with
  | none =>
    simp only at E1
    rw [if_pos E1]
    exact yes.ret ⟨rfl, C, rfl, rfl⟩
  | some F =>
    simp only at E1
    obtain ⟨a, ea, EC1, dep, h01⟩ := E1
    rw [ea, if_neg (by simp)]
    simp only [C.k_x, if_true]
    obtain ⟨h1, f, e1, C1, hf, r1, r2⟩ := c_asked C S hb hk
    have D1 : CS V h1 W T g := ⟨_, C1⟩
    simp only [e1, Option.bind_some, D1.asking_told]
    obtain ⟨h2, e2, C2, r3, r4⟩ := C1.pal6 (i := 6) (by decide) li.toInt64
    have D2 : CS V h2 W T g := ⟨_, C2⟩
    rw [show (6 : Int32) = nI 6 from rfl, e2]
    simp only [Option.bind_some, D2.k_g hk (ts := [9]) rfl, if_true, D2.fears S hb hk]
    have key : ∀ z2 : Int64, z2 = (zbit (W.2.1 29 k 5) (nI b)).toInt64 → yes (c_X0_may_b47 V (W.1 0 0) fr (some (W.1 6 0)) (some (W.1 6 0)) (7 : Int32) z2 h2) (fun r => r.1 = zmay W (some F) b k li fr ∧ CS V r.2 W T g ∧ r.2.1 = h.1 ∧ r.2.2.1 = h.2.1) := by
      intro z2 hz
      unfold c_X0_may_b47
      obtain ⟨h3, e3, C3, r5, r6⟩ := C2.pal6 (i := 7) (by decide) z2
      rw [show (7 : Int32) = nI 7 from rfl, Option.bind_some, e3]
      obtain ⟨h4, e4, C4, r7, r8⟩ := C3.pal6 (i := 8) (by decide) fr.toInt64
      have D4 : CS V h4 W T g := ⟨_, C4⟩
      rw [show (8 : Int32) = nI 8 from rfl, Option.bind_some, Option.bind_some, e4]
      simp only [Option.bind_some, D4.x_park, D4.z_may, D4.x_asking, ea]
      have hf9 : ∀ i, i < 9 → (fun j => if j = 8 then fr.toInt64 else (fun j => if j = 7 then z2 else (fun j => if j = 6 then li.toInt64 else f j) j) j) i = zenv9 W b k li fr i := by
        intro i hi
        simp only [zenv9]
        by_cases a6 : i = 6
        · subst a6; simp
        · by_cases a7 : i = 7
          · subst a7; simp [hz]
          · by_cases a8 : i = 8
            · subst a8; simp
            · simp only [a6, a7, a8, if_false]
              exact hf i (by omega)
      have hbd : zbd 9 (fun j => if j = 8 then fr.toInt64 else (fun j => if j = 7 then z2 else (fun j => if j = 6 then li.toInt64 else f j) j) j) := fun i hi => by rw [hf9 i hi]; exact zenv9_bd Z hb hk h8 hl hfr i hi
      obtain ⟨t, t1, t2, t3⟩ := c_evL C4 EC1 hbd
      have hv := h01 _ hbd
      simp only [t1, t2, t3, Option.bind_some, if_true, zbool, hvI]
      rw [if_pos (zbool_bit hv)]
      refine yes.ret ⟨?_, D4, by (try dsimp only); omega, by (try dsimp only); omega⟩
      show _ = (F (zenv9 W b k li fr)).toInt32
      rw [dep _ _ hf9]
    by_cases hz : zbit (W.2.1 29 k 5) (nI b) = 0
    · rw [if_pos hz]
      exact key _ (by rw [hz]; rfl)
    · rw [if_neg hz]
      refine key _ ?_
      unfold zbit at hz ⊢
      split
      · rfl
      · rename_i q; rw [if_neg q] at hz; exact absurd rfl hz
end LK
section LM
variable {ms : mx_S} {W : zW} {bk v : Nat}
theorem ml_isTold (P : MP ms W bk) {w : Nat} (hw : w < 2) : m_isTold (nI w) ms = some (if ms.2.2.1 12 (2 * bk + w) = -1 then 0 else 1) := by
  obtain ⟨p0, p1, -⟩ := P
  unfold m_isTold
  have e : (2 : Int32) * ms.1 13 + nI w = nI (2 * bk + w) := by rw [p1]; simp only [pl_lit, pk_mul, nI_add]
  rw [e, if_pos (pl_in (by omega) (by decide)), pl_cl (by omega)]
  split <;> rfl
theorem ml_clip (x : Int64) (ms' : mx_S) : (if 0 ≤ (lg_cmp x (0 : Int64)) then if (lg_cmp x (999 : Int64)) ≤ 0 then some (x.toInt32, ms') else some ((999 : Int32), ms') else some ((0 : Int32), ms')) = some (zclip x, ms') := by
  simp only [lc_le, lc_ge, zclip]
  by_cases h1 : x < 0
  · rw [if_neg (fun q => q h1), if_pos h1]
  · rw [if_pos h1, if_neg h1]
    by_cases h2 : 999 < x
    · rw [if_neg (fun q => q h2), if_pos h2]
    · rw [if_pos h2, if_neg h2]
theorem ml_liked (P : MP ms W bk) (R : MR ms v W) (S : ZS W) (Z : ZV W) {lk my : zL} (E : ELM ms bk lk my) {b k : Nat} (hb : b < W.2.2.2.1 0) (hk : k < W.2.2.2.1 1) : yes (m_liked (nI v) (nI b) (nI k) ms) (fun r => r.1 = zlik W lk b k ∧ msc ms r.2) := by
  have h8 := S.2.1
  have h6 := S.1
  have E1 := E.1
  unfold m_liked
  have eT : m_isTold (0 : Int32) ms = some (if ms.2.2.1 12 (2 * bk + 0) = -1 then 0 else 1) := ml_isTold P (w := 0) (by decide)
  rw [eT]
  cases lk with
  | none =>
    simp only at E1
    rw [Nat.add_zero, if_pos E1, Option.bind_some, if_pos rfl, ml_suit R hb hk h6 h8, Option.bind_some, ml_pair, Option.bind_some]
    have hv := R.1
    rw [if_pos (pl_in (by omega) (by decide)), pl_cl (by omega), (R.2.2.2.2.1 b hb k hk).1, if_neg (zdiv_le Z hb hk h8).2]
    exact yes.ret ⟨rfl, msc.refl ms⟩
  | some F =>
    simp only at E1
    obtain ⟨⟨e1, e2⟩, dep⟩ := E1
    rw [if_neg e1, Option.bind_some, if_neg (by decide)]
    have zbd1 : ∀ ms1 : mx_S, (∀ i, i < 6 → (ms1.2.2.1 37 (i + 1)).toInt64 = zenv W b k i) → zbd 6 (fun i => (ms1.2.2.1 37 (i + 1)).toInt64) := fun ms1 s2 i hi => by
      show -1000000 ≤ (ms1.2.2.1 37 (i + 1)).toInt64.toInt ∧ (ms1.2.2.1 37 (i + 1)).toInt64.toInt ≤ 1000000
      rw [s2 i hi]; exact zenv_bd Z hb hk h8 i hi
    refine (ml_tells R hb hk h6 h8).bind fun ms1 ⟨s1, s2, s3⟩ => ?_
    refine (e2 ms1 (by rw [s1.1]) (fun a i ha => s1.2.2.1 a i (by omega)) (zbd1 ms1 s2)).bind fun r ⟨r1, r2, r3⟩ => ?_
    rw [ml_clip]
    refine yes.ret ⟨?_, s1.trans r2⟩
    show zclip r.1 = zclip (F (zenv W b k))
    rw [r1, dep _ _ s2]
theorem EM.sc {ms ms' : mx_S} {bk w m : Nat} {f : (Nat → Int64) → Int64} (E : EM ms bk w m f) (h1 : ms'.1 13 = ms.1 13) (h2 : ∀ a i, a = 12 ∨ a = 13 ∨ a = 14 ∨ a = 15 → ms'.2.2.1 a i = ms.2.2.1 a i) : EM ms' bk w m f :=
  ⟨by rw [h2 12 _ (by decide)]; exact E.1, fun ms2 a1 a2 a3 => E.2 ms2 (a1.trans h1) (fun a i ha => (a2 a i ha).trans (h2 a i ha)) a3⟩
theorem ELM.mv {ms ms' : mx_S} {bk : Nat} {lk my : zL} (E : ELM ms bk lk my) (h1 : ms'.1 13 = ms.1 13) (h2 : ∀ a i, a = 12 ∨ a = 13 ∨ a = 14 ∨ a = 15 → ms'.2.2.1 a i = ms.2.2.1 a i) : ELM ms' bk lk my := by
  obtain ⟨e1, e2⟩ := E
  refine ⟨?_, ?_⟩
  · cases lk with
    | none => simp only at e1 ⊢; rw [h2 12 _ (by decide)]; exact e1
    | some f => exact ⟨e1.1.sc h1 h2, e1.2⟩
  · cases my with
    | none => simp only at e2 ⊢; rw [h2 12 _ (by decide)]; exact e2
    | some f => exact ⟨e2.1.sc h1 h2, e2.2⟩
theorem ELM.sc {ms ms' : mx_S} {bk : Nat} {lk my : zL} (E : ELM ms bk lk my) (h : msc ms ms') : ELM ms' bk lk my := E.mv (by rw [h.1]) (fun a i ha => h.2.2.1 a i (by omega))
theorem ml_allowed (P : MP ms W bk) (R : MR ms v W) (S : ZS W) (Z : ZV W) {lk my : zL} (E : ELM ms bk lk my) {b k : Nat} (hb : b < W.2.2.2.1 0) (hk : k < W.2.2.2.1 1) {fr : Int32} (hfr : zle fr 6) : yes (m_isAllowed (nI v) (nI b) (nI k) fr ms) (fun r => r.1 = zmay W my b k (zlik W lk b k) fr ∧ msc ms r.2) := by
  have h8 := S.2.1
  have h6 := S.1
  have E1 := E.2
  unfold m_isAllowed
  rw [show (1 : Int32) = nI 1 from rfl, ml_isTold P (by decide)]
  cases my with
  | none =>
    simp only at E1
    rw [if_pos E1, Option.bind_some, if_pos rfl]
    exact yes.ret ⟨rfl, msc.refl ms⟩
  | some F =>
    simp only at E1
    obtain ⟨⟨e1, e2⟩, dep, h01⟩ := E1
    rw [if_neg e1, Option.bind_some, if_neg (by decide)]
    refine (ml_liked P R S Z E hb hk).bind fun r0 ⟨q1, q2⟩ => ?_
    refine (ml_tells (R.sc q2) hb hk h6 h8).bind fun ms1 ⟨s1, s2, s3⟩ => ?_
    rw [if_pos (by decide), ml_feared ((P.sc (q2.trans s1)).sc (msc.A37 ms1 _ _)) hk h8, Option.bind_some, q1]
    have key : ∀ z2 : Int32, z2 = zbit (W.2.1 29 k 5) (nI b) → yes (m_isAllowed_b55 fr (8 : Int32) z2 (mx_A ms1 37 (7 : Int32).toNatClampNeg (zlik W lk b k))) (fun r => r.1 = zmay W (some F) b k (zlik W lk b k) fr ∧ msc ms r.2) := by
      intro z2 hz
      unfold m_isAllowed_b55
      rw [if_pos (by decide), if_pos (by decide)]
      have c7 : (7 : Int32).toNatClampNeg = 7 := rfl
      have c8 : (8 : Int32).toNatClampNeg = 8 := rfl
      have c9 : (9 : Int32).toNatClampNeg = 9 := rfl
      rw [c7, c8, c9]
      have sA : msc ms (mx_A (mx_A (mx_A ms1 37 7 (zlik W lk b k)) 37 8 z2) 37 9 fr) := (q2.trans s1).trans ((msc.A37 ms1 7 _).trans ((msc.A37 _ 8 _).trans (msc.A37 _ 9 _)))
      have hf9 : ∀ i, i < 9 → (fun i => ((mx_A (mx_A (mx_A ms1 37 7 (zlik W lk b k)) 37 8 z2) 37 9 fr).2.2.1 37 (i + 1)).toInt64) i = zenv9 W b k (zlik W lk b k) fr i := by
        intro i hi
        simp only [zenv9, mx_A]
        by_cases a6 : i = 6
        · subst a6; simp
        · by_cases a7 : i = 7
          · subst a7; simp [hz]
          · by_cases a8 : i = 8
            · subst a8; simp
            · have n1 : i + 1 ≠ 7 := by omega
              have n2 : i + 1 ≠ 8 := by omega
              have n3 : i + 1 ≠ 9 := by omega
              simp only [a6, a7, a8, n1, n2, n3, if_false, and_false]
              exact s2 i (by omega)
      have hbd : zbd 9 (fun i => ((mx_A (mx_A (mx_A ms1 37 7 (zlik W lk b k)) 37 8 z2) 37 9 fr).2.2.1 37 (i + 1)).toInt64) := fun i hi => by rw [hf9 i hi]; exact zenv9_bd Z hb hk h8 (zlik_le Z hb hk h8) hfr i hi
      rw [show (1 : Int32) = nI 1 from rfl]
      refine (e2 _ (by rw [sA.1]) (fun a i ha => sA.2.2.1 a i (by omega)) hbd).bind fun r ⟨r1, r2, r3⟩ => ?_
      have hv := h01 _ hbd
      simp only [lc_eq]
      rw [← r1] at hv
      have hz2 : F (zenv9 W b k (zlik W lk b k) fr) = r.1 := by rw [r1, dep _ _ hf9]
      rcases hv with e | e
      · rw [if_neg (by rw [e]; decide)]
        refine yes.ret ⟨?_, sA.trans r2⟩
        show (0 : Int32) = (F (zenv9 W b k (zlik W lk b k) fr)).toInt32
        rw [hz2, e]; rfl
      · rw [if_pos e]
        refine yes.ret ⟨?_, sA.trans r2⟩
        show nI 1 = (F (zenv9 W b k (zlik W lk b k) fr)).toInt32
        rw [hz2, e]; rfl
    by_cases hz : zbit (W.2.1 29 k 5) (nI b) = 0
    · rw [if_pos hz]
      exact key _ hz.symm
    · rw [if_neg hz]
      refine key _ ?_
      unfold zbit at hz ⊢
      split
      · rfl
      · rename_i q; rw [if_neg q] at hz; exact absurd rfl hz
end LM

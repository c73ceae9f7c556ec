/-! PURE SIDE: the calls change, train -/
set_option maxRecDepth 100000
/-- whether three numbers can be, and are not those that are -/
def zoth (f : Nat → Int32) (a b c : Int32) : Int32 := if zin a 0 9 = 0 ∨ zin b 0 9 = 0 ∨ zin c 0 9 = 0 ∨ (f 0 = a ∧ f 1 = b ∧ f 2 = c) then 0 else 1
theorem c_isOther_z {V : hx_V} {h : hx_S} {r : Nat} {f : Nat → Int32} (hf : ∀ i, i < 3 → hgAI h r 100 (nI i) = some (f i)) (a b c : Int32) : c_X0_isOther V (some r) a b c h = some (zoth f a b c) := by
  unfold c_X0_isOther c_X0_isOther_b61 zoth
  rw [show (0 : Int64) = (0 : Int32).toInt64 from rfl, show (9 : Int64) = (9 : Int32).toInt64 from rfl, c_isIn_z, c_isIn_z, c_isIn_z, Option.bind_some, Option.bind_some, Option.bind_some, Option.bind_some, (show hgAI h r 100 (0 : Int32) = _ from hf 0 (by decide)), (show hgAI h r 100 (1 : Int32) = _ from hf 1 (by decide)), (show hgAI h r 100 (2 : Int32) = _ from hf 2 (by decide)), Option.bind_some, Option.bind_some, Option.bind_some]
  by_cases h1 : zin a 0 9 = 0
  · rw [if_pos h1, if_pos (Or.inl h1)]
  · rw [if_neg h1]
    by_cases h2 : zin b 0 9 = 0
    · rw [if_pos h2, if_pos (Or.inr (Or.inl h2))]
    · rw [if_neg h2]
      by_cases h3 : zin c 0 9 = 0
      · rw [if_pos h3, if_pos (Or.inr (Or.inr (Or.inl h3)))]
      · rw [if_neg h3]
        by_cases e0 : f 0 = a
        · by_cases e1 : f 1 = b
          · by_cases e2 : f 2 = c
            · rw [if_pos e0, if_pos e1, if_pos e2, if_pos (Or.inr (Or.inr (Or.inr ⟨e0, e1, e2⟩)))]
            · rw [if_pos e0, if_pos e1, if_neg e2, if_neg]
              rintro (q | q | q | q)
              · exact h1 q
              · exact h2 q
              · exact h3 q
              · exact e2 q.2.2
          · rw [if_pos e0, if_neg e1, if_neg]
            rintro (q | q | q | q)
            · exact h1 q
            · exact h2 q
            · exact h3 q
            · exact e1 q.2.1
        · rw [if_neg e0, if_neg]
          rintro (q | q | q | q)
          · exact h1 q
          · exact h2 q
          · exact h3 q
          · exact e0 q.1
theorem m_areNine_z {ms : mx_S} (a b c : Int32) : m_areNine a b c ms = some (if zin a 0 9 = 0 ∨ zin b 0 9 = 0 ∨ zin c 0 9 = 0 then 0 else 1) := by
  unfold m_areNine m_areNine_b34
  rw [m_is_z, m_is_z, m_is_z, Option.bind_some, Option.bind_some, Option.bind_some]
  by_cases h1 : zin a 0 9 = 0
  · rw [if_pos h1, if_pos (Or.inl h1)]
  · rw [if_neg h1]
    by_cases h2 : zin b 0 9 = 0
    · rw [if_pos h2, if_pos (Or.inr (Or.inl h2))]
    · rw [if_neg h2]
      by_cases h3 : zin c 0 9 = 0
      · rw [if_pos h3, if_pos (Or.inr (Or.inr h3))]
      · rw [if_neg h3, if_neg]
        rintro (q | q | q)
        · exact h1 q
        · exact h2 q
        · exact h3 q
theorem zoth_ok {f : Nat → Int32} {a b c : Int32} (h : ¬ zoth f a b c = 0) : zle a 9 ∧ zle b 9 ∧ zle c 9 := by
  have key : ∀ x : Int32, ¬ zin x 0 9 = 0 → zle x 9 := by
    intro x hx
    obtain ⟨k, -, h2, rfl⟩ := zin_is (a := 0) (b := 9) hx (by decide) (by decide)
    exact ⟨k, h2, rfl⟩
  unfold zoth at h
  by_cases q : zin a 0 9 = 0 ∨ zin b 0 9 = 0 ∨ zin c 0 9 = 0 ∨ (f 0 = a ∧ f 1 = b ∧ f 2 = c)
  · rw [if_pos q] at h; exact absurd rfl h
  · exact ⟨key a (fun x => q (Or.inl x)), key b (fun x => q (Or.inr (Or.inl x))), key c (fun x => q (Or.inr (Or.inr (Or.inl x))))⟩
/-- three numbers of a place -/
def z3 (W : zW) (k j : Nat) (a b c : Int32) : zW := zA (zA (zA W k j 0 a) k j 1 b) k j 2 c
section CH
variable {V : hx_V} {h : hx_S} {W X T : zW} {G gt : Nat → Option hx_C} {ms : mx_S} {bk : Nat} {lk my : zL} {L : List (Nat → Int32)} {As : List zU}
theorem MR.look {v k i : Nat} (R : MR ms v W) (hi : i < 3) (x : Int32) : MR (mx_A ms 28 (24 * v + 3 * k + i) x) v (zA W 30 k i x) := by
  obtain ⟨r0, r1, r2, r3, r4, r5, r6⟩ := R
  refine ⟨r0, fun k' hk' i' hi' => ?_, r2, r3, r4, r5, r6⟩
  show (if 28 = 28 ∧ 24 * v + 3 * k' + i' = 24 * v + 3 * k + i then x else _) = (if 30 = 30 ∧ k' = k ∧ i' = i then x else _)
  by_cases e : k' = k ∧ i' = i
  · rw [if_pos ⟨rfl, by rw [e.1, e.2]⟩, if_pos ⟨rfl, e⟩]
  · rw [if_neg (fun q => by have := q.2; omega), if_neg (fun q => e q.2)]
    exact r1 k' hk' i' hi'
theorem MR.taste {v k i : Nat} (R : MR ms v W) (hi : i < 3) (x : Int32) : MR (mx_A ms 31 (18 * v + 3 * k + i) x) v (zA W 26 k i x) := by
  obtain ⟨r0, r1, r2, r3, r4, r5, r6⟩ := R
  refine ⟨r0, r1, r2, fun k' hk' i' hi' => ?_, r4, r5, r6⟩
  show (if 31 = 31 ∧ 18 * v + 3 * k' + i' = 18 * v + 3 * k + i then x else _) = (if 26 = 26 ∧ k' = k ∧ i' = i then x else _)
  by_cases e : k' = k ∧ i' = i
  · rw [if_pos ⟨rfl, by rw [e.1, e.2]⟩, if_pos ⟨rfl, e⟩]
  · rw [if_neg (fun q => by have := q.2; omega), if_neg (fun q => e q.2)]
    exact r3 k' hk' i' hi'
/-- what is now is other -/
theorem SIM.nw (S : SIM V h W T G gt ms bk lk my L As) {h' : hx_S} {W' : zW} {ms' : mx_S} (C' : CS V h' W' T G) (nw : znow W W') (f : mfr 0 ms ms') (Z' : ZI W') (R' : MR ms' 0 W') (M' : MT ms' 0 L) (hb' : ∃ d t, W'.2.1 0 0 6 = nI d ∧ W'.2.1 0 0 7 = nI t ∧ t < 24 ∧ 24 * d + t ≤ 23999) : SIM V h' W' T G gt ms' bk lk my L As := by
  obtain ⟨C, gl, G0, E, Z, h13, Zt, ⟨P, R, M, Em, O⟩, hb, A⟩ := S
  exact ⟨C', gl, G0, E.now nw, Z', (nw.2.2 0 0 13 rfl).trans h13, Zt, ⟨(P.fr f).now nw, R', M', Em.fr f, O.now nw f⟩, hb', A.mv (Tsame.refl 3 T) (gle.refl G) (by rw [nw.1]) (by rw [nw.2.1]; exact ⟨rfl, rfl⟩) f (by decide)⟩
theorem CS.becomes30 (C : CS V h W T G) {k : Nat} (hk : k < W.2.2.2.1 1) (a b c : Int32) : ∃ h', c_X0_becomes V (some (W.1 30 k)) a b c h = some h' ∧ CS V h' (z3 W 30 k a b c) T G ∧ h'.1 = h.1 ∧ h'.2.1 = h.2.1 := by
  obtain ⟨h1, e1, C1, r1, r1'⟩ := C.wtraits hk (i := 0) (by decide) a
  obtain ⟨h2, e2, C2, r2, r2'⟩ := C1.wtraits hk (i := 1) (by decide) b
  obtain ⟨h3, e3, C3, r3, r3'⟩ := C2.wtraits hk (i := 2) (by decide) c
  unfold c_X0_becomes
  rw [Option.bind_some, (show hpA V h (W.1 30 k) 100 (0 : Int32) _ = some h1 from e1), Option.bind_some, (show hpA V h1 (W.1 30 k) 100 (1 : Int32) _ = some h2 from e2), Option.bind_some, (show hpA V h2 (W.1 30 k) 100 (2 : Int32) _ = some h3 from e3), Option.bind_some]
  exact ⟨h3, rfl, C3, by omega, by omega⟩
theorem CS.becomes26 (C : CS V h W T G) {k : Nat} (hk : k < W.2.2.2.1 0) (a b c : Int32) : ∃ h', c_X0_becomes V (some (W.1 26 k)) a b c h = some h' ∧ CS V h' (z3 W 26 k a b c) T G ∧ h'.1 = h.1 ∧ h'.2.1 = h.2.1 := by
  obtain ⟨h1, e1, C1, r1, r1'⟩ := C.wtaste hk (i := 0) (by decide) a
  obtain ⟨h2, e2, C2, r2, r2'⟩ := C1.wtaste hk (i := 1) (by decide) b
  obtain ⟨h3, e3, C3, r3, r3'⟩ := C2.wtaste hk (i := 2) (by decide) c
  unfold c_X0_becomes
  rw [Option.bind_some, (show hpA V h (W.1 26 k) 100 (0 : Int32) _ = some h1 from e1), Option.bind_some, (show hpA V h1 (W.1 26 k) 100 (1 : Int32) _ = some h2 from e2), Option.bind_some, (show hpA V h2 (W.1 26 k) 100 (2 : Int32) _ = some h3 from e3), Option.bind_some]
  exact ⟨h3, rfl, C3, by omega, by omega⟩
theorem z3_now (W : zW) {k j : Nat} (a b c : Int32) (hk : ∀ i, znw k i = true) : znow W (z3 W k j a b c) := ((znow.A W _ (hk 0)).trans (znow.A _ _ (hk 1))).trans (znow.A _ _ (hk 2))
theorem z3_I (Z : ZI W) {k j : Nat} {a b c : Int32} (hk : k = 26 ∨ k = 30) (ha : zle a 9) (hb : zle b 9) (hc : zle c 9) : ZI (z3 W k j a b c) := by
  have step : ∀ (X : zW) (i : Nat) (v : Int32), ZI X → zle v 9 → ZI (zA X k j i v) := by
    intro X i v Z hv
    refine Z.A ?_ (fun _ => hv) (fun _ => hv) (fun q => by omega) (fun q => by omega) (fun q => by omega) (fun q => by omega) (fun q => by omega) (fun q => by omega)
    rcases hk with rfl | rfl <;> rfl
  exact step _ 2 c (step _ 1 b (step _ 0 a Z ha) hb) hc
theorem z3_hb {k j : Nat} {a b c : Int32} (hk : k ≠ 0) {i : Nat} : (z3 W k j a b c).2.1 0 0 i = W.2.1 0 0 i := by
  simp [z3, zA, zset, hk, Ne.symm hk]
theorem m3_mfr {a v i : Nat} {x y z : Int32} (ha : 26 ≤ a ∧ a ≤ 35) (h0 : i / lsz a = v) (h1 : (i + 1) / lsz a = v) (h2 : (i + 2) / lsz a = v) : mfr v ms (mx_A (mx_A (mx_A ms a i x) a (i + 1) y) a (i + 2) z) :=
  ((mfr.A ms x (Or.inr (Or.inr (Or.inr ⟨ha.1, ha.2, h0⟩)))).trans (mfr.A _ y (Or.inr (Or.inr (Or.inr ⟨ha.1, ha.2, h1⟩))))).trans (mfr.A _ z (Or.inr (Or.inr (Or.inr ⟨ha.1, ha.2, h2⟩))))
theorem OP.rfs (S : SIM V h W T G gt ms bk lk my L As) {k : Nat} (h6 : k < 6) {co : Option (Int32 × hx_S)} {mo : Option (Int32 × mx_S)} (e1 : co = (if hk h (W.1 0 0) [0] = true then (c_X0_refuses V (W.1 0 0) (nI k) h).bind fun q => if hx_bit q.1 = true then some (q.1, q.2) else none else none)) (e2 : mo = (m_refuses (nI k) ms).bind fun q2_ => if q2_.1 < 0 then some ((0 : Int32), q2_.2) else some ((1 : Int32), q2_.2)) : OP V h W T G co mo := by
  rw [e1, e2, if_pos S.1.k_x]
  exact OP.bit (OP.refuses S h6) (fun r h' q => by
    obtain ⟨k1, ms1, a1, -⟩ := S.refused h6
    unfold c_X0_refuses at q
    rw [if_pos S.1.k_x, a1, Option.bind_some, if_pos rfl] at q
    cases q
    exact Or.inl rfl)
theorem op_change (S : SIM V h W T G gt ms bk lk my L As) (hr : RM V h W T) (x a b c : Int32) : OP V h W T G (c_X0_change V (W.1 0 0) x a b c h) (m_change x a b c ms) := by
  have S' := S
  obtain ⟨C, gl, G0, E, Z, h13, Zt, ⟨P, R, M, Em, O⟩, hb, A⟩ := S
  have h6 := Z.1.1
  have h8 := Z.1.2.1
  have rf : OP V h W T G (c_X0_change_b27 V (W.1 0 0) h) (m_change_b53 ms) := OP.rfs S' (k := 3) (by decide) rfl rfl
  unfold c_X0_change m_change
  rw [if_pos C.k_x, C.guestOf Z.1, Option.bind_some, ml_isGuest P h8, Option.bind_some]
  cases eb : zof (W.2.2.2.1 1) x with
  | none =>
    rw [Option.map_none, if_pos rfl, if_pos rfl, if_pos rfl]
    exact rf
  | some k =>
    obtain ⟨hb1, rfl⟩ := zof_lt (by omega) eb
    rw [if_neg (show ¬ Option.map (W.1 29) (some k) = none by simp), if_neg (show ¬ (some k : Option Nat) = none by simp), if_neg (show ¬ (1 : Int32) = 0 by decide), Option.map_some, Option.bind_some, C.g_traits hb1 rfl, Option.bind_some, c_isOther_z (f := W.2.1 30 k) (fun i hi => C.traitsOf hb1 hi), Option.bind_some, m_areNine_z, Option.bind_some]
    have lk0 : ∀ i, i < 3 → m_look (0 : Int32) (nI k) (nI i) ms = some (W.2.1 30 k i) := fun i hi => by
      rw [show (0 : Int32) = nI 0 from rfl, pl_look (by decide) (by omega) hi]
      exact congrArg some (R.2.1 k hb1 i hi)
    rw [(show m_look (0 : Int32) (nI k) (0 : Int32) ms = _ from lk0 0 (by decide)), (show m_look (0 : Int32) (nI k) (1 : Int32) ms = _ from lk0 1 (by decide)), (show m_look (0 : Int32) (nI k) (2 : Int32) ms = _ from lk0 2 (by decide)), Option.bind_some, Option.bind_some, Option.bind_some]
    -- which way the reference goes
    have way : (if (if zin a 0 9 = 0 ∨ zin b 0 9 = 0 ∨ zin c 0 9 = 0 then (0 : Int32) else 1) = 0 then m_change_b53 ms else if W.2.1 30 k 0 = a then (if W.2.1 30 k 1 = b then (if W.2.1 30 k 2 = c then m_change_b53 ms else m_change_b67 (nI k) a b c ms) else m_change_b67 (nI k) a b c ms) else m_change_b67 (nI k) a b c ms) = if zoth (W.2.1 30 k) a b c = 0 then m_change_b53 ms else m_change_b67 (nI k) a b c ms := by
      unfold zoth
      by_cases h1 : zin a 0 9 = 0 <;> by_cases h2 : zin b 0 9 = 0 <;> by_cases h3 : zin c 0 9 = 0 <;> by_cases e0 : W.2.1 30 k 0 = a <;> by_cases e1 : W.2.1 30 k 1 = b <;> by_cases e2 : W.2.1 30 k 2 = c <;> simp [h1, h2, h3, e0, e1, e2]
    rw [way]
    by_cases ho : zoth (W.2.1 30 k) a b c = 0
    · rw [if_pos ho, if_pos ho]
      exact rf
    · rw [if_neg ho, if_neg ho, if_pos C.k_x]
      obtain ⟨za, zb, zc⟩ := zoth_ok ho
      obtain ⟨hr1, hr2⟩ := hr
      obtain ⟨k1, ms1, T1, G1, a1, a2, S1, gl1, a3, a4, a5⟩ := S'.keeps (by omega) (by omega)
      have C1 := S1.1
      have R1 := S1.2.2.2.2.2.2.2.1.2.1
      have M1 := S1.2.2.2.2.2.2.2.1.2.2.1
      obtain ⟨k2, e2, C2, r2, r2'⟩ := C1.becomes30 hb1 a b c
      unfold m_change_b67
      have i0 : (3 : Int32) * nI k = nI (3 * k) := pk_mul 3 k
      have i1 : nI (3 * k) + (1 : Int32) = nI (3 * k + 1) := nI_1 _
      have i2 : nI (3 * k) + (2 : Int32) = nI (3 * k + 2) := nI_add _ 2
      rw [a1, Option.bind_some, C1.g_traits hb1 rfl, Option.bind_some, e2, Option.bind_some, a2, Option.bind_some, i0, i1, i2, if_pos (pl_in (by omega) (by decide)), if_pos (pl_in (by omega) (by decide)), if_pos (pl_in (by omega) (by decide)), pl_cl (by omega), pl_cl (by omega), pl_cl (by omega)]
      have nw : znow W (z3 W 30 k a b c) := z3_now W a b c (fun _ => rfl)
      have zp := zp_now nw
      have R0 := R1.look (k := k) (i := 0) (by decide) a
      have R2 := R0.look (k := k) (i := 1) (by decide) b
      have R3 := R2.look (k := k) (i := 2) (by decide) c
      rw [show 24 * 0 + 3 * k + 0 = 3 * k by omega, show 24 * 0 + 3 * k + 1 = 3 * k + 1 by omega, show 24 * 0 + 3 * k + 2 = 3 * k + 2 by omega] at R3
      refine ⟨1, k2, _, _, T1, G1, gt, bk, lk, my, L, _, rfl, rfl, S1.nw C2 nw (m3_mfr (by decide) (by show _ / 24 = _; omega) (by show _ / 24 = _; omega) (by show _ / 24 = _; omega)) (z3_I Z (by decide) za zb zc) R3 (((M1.A _ (by decide)).A _ (by decide)).A _ (by decide)) (by rw [z3_hb (by decide), z3_hb (by decide)]; exact hb), rfl, gl1, by omega, by rw [zp.1]; omega, by rw [zp.2]; omega⟩
theorem op_train (S : SIM V h W T G gt ms bk lk my L As) (hr : RM V h W T) (x a b c : Int32) : OP V h W T G (c_X0_train V (W.1 0 0) x a b c h) (m_train x a b c ms) := by
  have S' := S
  obtain ⟨C, gl, G0, E, Z, h13, Zt, ⟨P, R, M, Em, O⟩, hb, A⟩ := S
  have h6 := Z.1.1
  have h8 := Z.1.2.1
  have rf : OP V h W T G (c_X0_train_b27 V (W.1 0 0) h) (m_train_b53 ms) := OP.rfs S' (k := 3) (by decide) rfl rfl
  unfold c_X0_train m_train
  rw [if_pos C.k_x, C.beastOf Z.1, Option.bind_some, ml_isBeast P h6, Option.bind_some]
  cases eb : zof (W.2.2.2.1 0) x with
  | none =>
    rw [Option.map_none, if_pos rfl, if_pos rfl, if_pos rfl]
    exact rf
  | some k =>
    obtain ⟨hb1, rfl⟩ := zof_lt (by omega) eb
    rw [if_neg (show ¬ Option.map (W.1 25) (some k) = none by simp), if_neg (show ¬ (some k : Option Nat) = none by simp), if_neg (show ¬ (1 : Int32) = 0 by decide), Option.map_some, Option.bind_some, C.b_taste hb1 rfl, Option.bind_some, c_isOther_z (f := W.2.1 26 k) (fun i hi => C.tasteOf hb1 hi), Option.bind_some, m_areNine_z, Option.bind_some]
    have lk0 : ∀ i, i < 3 → m_tasteIn (0 : Int32) (nI k) (nI i) ms = some (W.2.1 26 k i) := fun i hi => by
      rw [show (0 : Int32) = nI 0 from rfl, pl_tasteIn (by decide) (by omega) hi]
      exact congrArg some (R.2.2.2.1 k hb1 i hi)
    rw [(show m_tasteIn (0 : Int32) (nI k) (0 : Int32) ms = _ from lk0 0 (by decide)), (show m_tasteIn (0 : Int32) (nI k) (1 : Int32) ms = _ from lk0 1 (by decide)), (show m_tasteIn (0 : Int32) (nI k) (2 : Int32) ms = _ from lk0 2 (by decide)), Option.bind_some, Option.bind_some, Option.bind_some]
    -- which way the reference goes
    have way : (if (if zin a 0 9 = 0 ∨ zin b 0 9 = 0 ∨ zin c 0 9 = 0 then (0 : Int32) else 1) = 0 then m_train_b53 ms else if W.2.1 26 k 0 = a then (if W.2.1 26 k 1 = b then (if W.2.1 26 k 2 = c then m_train_b53 ms else m_train_b67 (nI k) a b c ms) else m_train_b67 (nI k) a b c ms) else m_train_b67 (nI k) a b c ms) = if zoth (W.2.1 26 k) a b c = 0 then m_train_b53 ms else m_train_b67 (nI k) a b c ms := by
      unfold zoth
      by_cases h1 : zin a 0 9 = 0 <;> by_cases h2 : zin b 0 9 = 0 <;> by_cases h3 : zin c 0 9 = 0 <;> by_cases e0 : W.2.1 26 k 0 = a <;> by_cases e1 : W.2.1 26 k 1 = b <;> by_cases e2 : W.2.1 26 k 2 = c <;> simp [h1, h2, h3, e0, e1, e2]
    rw [way]
    by_cases ho : zoth (W.2.1 26 k) a b c = 0
    · rw [if_pos ho, if_pos ho]
      exact rf
    · rw [if_neg ho, if_neg ho, if_pos C.k_x]
      obtain ⟨za, zb, zc⟩ := zoth_ok ho
      obtain ⟨hr1, hr2⟩ := hr
      obtain ⟨k1, ms1, T1, G1, a1, a2, S1, gl1, a3, a4, a5⟩ := S'.keeps (by omega) (by omega)
      have C1 := S1.1
      have R1 := S1.2.2.2.2.2.2.2.1.2.1
      have M1 := S1.2.2.2.2.2.2.2.1.2.2.1
      obtain ⟨k2, e2, C2, r2, r2'⟩ := C1.becomes26 hb1 a b c
      unfold m_train_b67
      have i0 : (3 : Int32) * nI k = nI (3 * k) := pk_mul 3 k
      have i1 : nI (3 * k) + (1 : Int32) = nI (3 * k + 1) := nI_1 _
      have i2 : nI (3 * k) + (2 : Int32) = nI (3 * k + 2) := nI_add _ 2
      rw [a1, Option.bind_some, C1.b_taste hb1 rfl, Option.bind_some, e2, Option.bind_some, a2, Option.bind_some, i0, i1, i2, if_pos (pl_in (by omega) (by decide)), if_pos (pl_in (by omega) (by decide)), if_pos (pl_in (by omega) (by decide)), pl_cl (by omega), pl_cl (by omega), pl_cl (by omega)]
      have nw : znow W (z3 W 26 k a b c) := z3_now W a b c (fun _ => rfl)
      have zp := zp_now nw
      have R0 := R1.taste (k := k) (i := 0) (by decide) a
      have R2 := R0.taste (k := k) (i := 1) (by decide) b
      have R3 := R2.taste (k := k) (i := 2) (by decide) c
      rw [show 18 * 0 + 3 * k + 0 = 3 * k by omega, show 18 * 0 + 3 * k + 1 = 3 * k + 1 by omega, show 18 * 0 + 3 * k + 2 = 3 * k + 2 by omega] at R3
      refine ⟨1, k2, _, _, T1, G1, gt, bk, lk, my, L, _, rfl, rfl, S1.nw C2 nw (m3_mfr (by decide) (by show _ / 18 = _; omega) (by show _ / 18 = _; omega) (by show _ / 18 = _; omega)) (z3_I Z (by decide) za zb zc) R3 (((M1.A _ (by decide)).A _ (by decide)).A _ (by decide)) (by rw [z3_hb (by decide), z3_hb (by decide)]; exact hb), rfl, gl1, by omega, by rw [zp.1]; omega, by rw [zp.2]; omega⟩
end CH

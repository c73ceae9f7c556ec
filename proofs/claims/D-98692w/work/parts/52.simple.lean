/-! PURE SIDE: calls that only touch registers: status, fault, octet, seed, end, feed, kept, between, guest -/
set_option maxRecDepth 100000
/-- both answer a number and touch nothing -/
def OPV (co : Option Int32) (mo : Option Int32) : Prop := ∃ r, co = some r ∧ mo = some r
section SR
variable {V : hx_V} {h : hx_S} {W X T : zW} {G gt : Nat → Option hx_C} {ms : mx_S} {bk : Nat} {lk my : zL} {L : List (Nat → Int32)} {As : List (zW × List (Nat → Int32))}
/-- registers are other, all else is as it was -/
theorem SIM.reg (S : SIM V h W T G gt ms bk lk my L As) {h' : hx_S} {W' : zW} {ms' : mx_S} (C' : CS V h' W' T G) (w1 : W'.1 = W.1) (w2 : W'.2.2.2 = W.2.2.2) (w3 : ∀ k j i, 18 ≤ k ∨ (k = 0 ∧ (i = 6 ∨ i = 7 ∨ i = 8 ∨ i = 13)) → W'.2.1 k j i = W.2.1 k j i)
    (m1 : ms'.1 13 = ms.1 13 ∧ ms'.1 56 = ms.1 56 ∧ ms'.1 57 = ms.1 57) (m2 : ∀ a i, 1 ≤ a → a ≤ 35 → a ≠ 25 → ms'.2.2.1 a i = ms.2.2.1 a i) (O' : MO ms' W') : SIM V h' W' T G gt ms' bk lk my L As := by
  obtain ⟨C, gl, G0, E, Z, h13, Zt, ⟨P, R, M, Em, O⟩, ⟨d, t, hb⟩, A⟩ := S
  have n : W'.2.2.2.1 = W.2.2.2.1 := by rw [w2]
  have z : ∀ i, i = 6 ∨ i = 7 ∨ i = 8 ∨ i = 13 → W'.2.1 0 0 i = W.2.1 0 0 i := fun i hi => w3 0 0 i (Or.inr ⟨rfl, hi⟩)
  have g : ∀ k j i, 18 ≤ k → W'.2.1 k j i = W.2.1 k j i := fun k j i hk => w3 k j i (Or.inl hk)
  have Z' : ZI W' := by
    obtain ⟨⟨s1, s2, s3, s4, s5, s6, s7, s8⟩, ⟨z1, z2, z3, z4⟩, z5, z6, z7, z8⟩ := Z
    refine ⟨⟨by rw [n]; exact s1, by rw [n]; exact s2, by rw [n, g 21 _ _ (by decide)]; exact s3, by rw [n, g 23 _ _ (by decide)]; exact s4, by rw [n]; exact s5, by rw [n]; exact s6, fun b hb => ?_, fun b hb => ?_⟩, ⟨fun b hb i hi => ?_, fun k hk i hi => ?_, fun b hb i hi => ?_, ?_⟩, ?_, ?_, fun k hk => ?_, fun b hb => ?_⟩
    · rw [n] at hb; rw [g 25 _ _ (by decide)]; exact s7 b hb
    · rw [n] at hb; rw [g 29 _ _ (by decide)]; exact s8 b hb
    · rw [n] at hb; rw [g 26 _ _ (by decide)]; exact z1 b hb i hi
    · rw [n] at hk; rw [g 30 _ _ (by decide)]; exact z2 k hk i hi
    · rw [n] at hb; rw [g 27 _ _ (by decide), g 28 _ _ (by decide)]; exact z3 b hb i hi
    · rw [z 7 (by decide)]; exact z4
    · rw [z 8 (by decide)]; exact z5
    · rw [g 20 _ _ (by decide), g 20 _ _ (by decide), g 20 _ _ (by decide), g 20 _ _ (by decide), g 20 _ _ (by decide)]; exact z6
    · rw [n] at hk; rw [g 29 _ _ (by decide), g 29 _ _ (by decide), g 29 _ _ (by decide), g 29 _ _ (by decide), g 29 _ _ (by decide), n]; exact z7 k hk
    · rw [n] at hb; rw [g 25 _ _ (by decide), g 25 _ _ (by decide), g 25 _ _ (by decide)]; exact z8 b hb
  have P' : MP ms' W' bk := by
    have q : MP ms' W bk := by
      simp only [MP, m1.1, m2 1 _ (by decide) (by decide) (by decide), m2 2 _ (by decide) (by decide) (by decide), m2 3 _ (by decide) (by decide) (by decide), m2 4 _ (by decide) (by decide) (by decide), m2 6 _ (by decide) (by decide) (by decide), m2 8 _ (by decide) (by decide) (by decide), m2 9 _ (by decide) (by decide) (by decide), m2 10 _ (by decide) (by decide) (by decide), m2 11 _ (by decide) (by decide) (by decide)]
      exact P
    exact q.Wx (by rw [n]; exact ⟨rfl, rfl⟩) (fun j i _ => g 25 j i (by decide)) (fun j i _ => g 29 j i (by decide)) (fun i => g 20 0 i (by decide))
  have mr : ∀ v U, MR ms v U → MR ms' v U := by
    intro v U q
    simp only [MR, m2 26 _ (by decide) (by decide) (by decide), m2 27 _ (by decide) (by decide) (by decide), m2 28 _ (by decide) (by decide) (by decide), m2 29 _ (by decide) (by decide) (by decide), m2 30 _ (by decide) (by decide) (by decide), m2 31 _ (by decide) (by decide) (by decide), m2 32 _ (by decide) (by decide) (by decide), m2 33 _ (by decide) (by decide) (by decide)]
    exact q
  have mt : ∀ v Lu, MT ms v Lu → MT ms' v Lu := by
    intro v Lu q
    simp only [MT, m2 34 _ (by decide) (by decide) (by decide), m2 35 _ (by decide) (by decide) (by decide)]
    exact q
  have R' : MR ms' 0 W' := (mr 0 W R).Wx (by rw [n]; exact ⟨rfl, rfl⟩) (fun k j i hk => g k j i (by omega)) (fun j i _ => g 29 j i (by decide)) (fun i hi => z i (by omega))
  refine ⟨C', gl, G0, ?_, Z', by rw [z 13 (by decide)]; exact h13, Zt, ⟨P', R', mt 0 L M, Em.mv m1.1 (fun a i ha => m2 a i (by omega) (by omega) (by omega)), O'⟩, ⟨d, t, by rw [z 6 (by decide), z 7 (by decide)]; exact hb⟩, ?_⟩
  · unfold ELC at E ⊢
    rw [w2]; exact E
  · obtain ⟨a1, a2, a3, a4, uf, a5, a6, a7⟩ := A
    refine ⟨a1, a2, a3, by rw [m1.2.2]; exact a4, uf, a5, by rw [m1.2.1]; exact a6, fun i U Lu hi => ?_⟩
    obtain ⟨b1, b2, b3, b4, b5, b6⟩ := a7 i U Lu hi
    exact ⟨by rw [w1]; exact b1, b2, by rw [n]; exact b3, mr _ _ b4, mt _ _ b5, b6⟩
/-- one register of W: taped, fault, rows, image and the like -/
theorem w3_A {k j i : Nat} {v : Int32} (hk : k < 18) (h0 : k = 0 → ¬ (i = 6 ∨ i = 7 ∨ i = 8 ∨ i = 13)) : ∀ k' j' i', 18 ≤ k' ∨ (k' = 0 ∧ (i' = 6 ∨ i' = 7 ∨ i' = 8 ∨ i' = 13)) → (zA W k j i v).2.1 k' j' i' = W.2.1 k' j' i' := by
  intro k' j' i' h'
  show (if k' = k ∧ j' = j ∧ i' = i then v else _) = _
  rw [if_neg]
  rintro ⟨rfl, -, rfl⟩
  rcases h' with h' | h'
  · omega
  · exact h0 h'.1 h'.2
theorem SIM.O (S : SIM V h W T G gt ms bk lk my L As) : MO ms W := S.2.2.2.2.2.2.2.1.2.2.2.2
/-- one more is refused -/
theorem SIM.refused (S : SIM V h W T G gt ms bk lk my L As) {k : Nat} (hk : k < 6) : ∃ h' ms', c_X0_refused V (W.1 0 0) (nI k) h = some (-1, h') ∧ m_refuses (nI k) ms = some (-1, ms') ∧ SIM V h' (zA W 2 0 k (W.2.1 2 0 k + 1)) T G gt ms' bk lk my L As ∧ h'.1 = h.1 ∧ h'.2.1 = h.2.1 := by
  have C := S.1
  have O := S.O
  unfold c_X0_refused m_refuses
  rw [C.x_refusals, Option.bind_some, Option.bind_some, C.refusalsAt hk, Option.bind_some, if_pos (pl_in hk (by decide)), if_pos (pl_in hk (by decide)), pl_cl (by omega)]
  obtain ⟨h1, e1, C1, r1, r1'⟩ := C.wrefusals hk (W.2.1 2 0 k + 1)
  rw [e1, Option.bind_some]
  obtain ⟨o1, o2, o3, o4, o5, o6, o7, o8⟩ := O
  refine ⟨h1, _, rfl, rfl, S.reg C1 rfl rfl (w3_A (by decide) (by simp)) ⟨rfl, rfl, rfl⟩ (fun a i a1 a2 a3 => ?_) ⟨o1, o2, fun k' hk' => ?_, o4, o5, o6, o7, o8⟩, r1, r1'⟩
  · show (if a = 25 ∧ i = k then _ else _) = _
    rw [if_neg (fun q => a3 q.1)]
  · show (if 25 = 25 ∧ k' = k then ms.2.2.1 25 k + 1 else ms.2.2.1 25 k') = (if 2 = 2 ∧ 0 = 0 ∧ k' = k then W.2.1 2 0 k + 1 else W.2.1 2 0 k')
    by_cases q : k' = k
    · rw [if_pos ⟨rfl, q⟩, if_pos ⟨rfl, rfl, q⟩, o3 k hk]
    · rw [if_neg (fun x => q x.2), if_neg (fun x => q x.2.2), o3 k' hk']
theorem zpc_A {k j i : Nat} {v : Int32} (h : ¬ (k = 0 ∧ j = 0 ∧ i = 1)) : zpc (zA W k j i v) = zpc W ∧ zps (zA W k j i v) = zps W := by
  have : (zA W k j i v).2.1 0 0 1 = W.2.1 0 0 1 := by
    show (if 0 = k ∧ 0 = j ∧ 1 = i then v else _) = _
    rw [if_neg (fun q => h ⟨q.1.symm, q.2.1.symm, q.2.2.symm⟩)]
  unfold zpc zps
  rw [this]
  exact ⟨rfl, rfl⟩
theorem OP.refused (S : SIM V h W T G gt ms bk lk my L As) {k : Nat} (hk : k < 6) : OP V h W T G (c_X0_refused V (W.1 0 0) (nI k) h) (m_refuses (nI k) ms) := by
  obtain ⟨h', ms', a1, a2, a3, a4, a5⟩ := S.refused hk
  have zp := zpc_A (W := W) (k := 2) (j := 0) (i := k) (v := W.2.1 2 0 k + 1) (by simp)
  exact ⟨-1, h', ms', _, T, G, gt, bk, lk, my, L, As, a1, a2, a3, rfl, gle.refl G, by omega, by rw [zp.1]; omega, by rw [zp.2]; omega⟩
theorem OP.refuses (S : SIM V h W T G gt ms bk lk my L As) {k : Nat} (hk : k < 6) : OP V h W T G (c_X0_refuses V (W.1 0 0) (nI k) h) ((m_refuses (nI k) ms).bind fun q2_ => if q2_.1 < 0 then some ((0 : Int32), q2_.2) else some ((1 : Int32), q2_.2)) := by
  obtain ⟨h', ms', a1, a2, a3, a4, a5⟩ := S.refused hk
  have zp := zpc_A (W := W) (k := 2) (j := 0) (i := k) (v := W.2.1 2 0 k + 1) (by simp)
  refine ⟨0, h', ms', _, T, G, gt, bk, lk, my, L, As, ?_, ?_, a3, rfl, gle.refl G, by omega, by rw [zp.1]; omega, by rw [zp.2]; omega⟩
  · unfold c_X0_refuses
    rw [if_pos S.1.k_x, a1, Option.bind_some, if_pos rfl]
  · rw [a2, Option.bind_some, if_pos (show (-1 : Int32) < 0 by decide)]
/-- the class says so with a check that it is 0 or 1 -/
theorem OP.bit {co : Option (Int32 × hx_S)} {mo : Option (Int32 × mx_S)} (O : OP V h W T G co mo) (hb : ∀ r h', co = some (r, h') → r = 0 ∨ r = 1) : OP V h W T G (co.bind fun q => if hx_bit q.1 = true then some (q.1, q.2) else none) mo := by
  obtain ⟨r, h', ms', W', T', G', gt', bk', lk', my', L', As', a1, a2, a3⟩ := O
  refine ⟨r, h', ms', W', T', G', gt', bk', lk', my', L', As', ?_, a2, a3⟩
  rw [a1, Option.bind_some, if_pos (show hx_bit r = true by rcases hb r h' a1 with q | q <;> rw [q] <;> decide)]
theorem op_status (S : SIM V h W T G gt ms bk lk my L As) (x : Int32) : OPV (c_X0_status V (W.1 0 0) x h) (m_status x ms) := by
  unfold c_X0_status m_status
  rw [show (0 : Int64) = (0 : Int32).toInt64 from rfl, show (5 : Int64) = (5 : Int32).toInt64 from rfl, c_isIn_z, Option.bind_some, m_is_z, Option.bind_some]
  by_cases hz : zin x 0 5 = 0
  · rw [if_pos hz, if_pos hz]; exact ⟨_, rfl, rfl⟩
  · rw [if_neg hz, if_neg hz]
    obtain ⟨k, -, hk, rfl⟩ := zin_is (a := 0) (b := 5) hz (by decide) (by decide)
    rw [S.1.x_refusals, Option.bind_some, Option.bind_some, S.1.refusalsAt (by omega), Option.bind_some, if_pos (pl_in (by omega) (by decide)), pl_cl (by omega), S.O.2.2.1 k (by omega)]
    exact ⟨_, rfl, rfl⟩
theorem op_fault (S : SIM V h W T G gt ms bk lk my L As) (x : Int32) : OPV (c_X0_fault V (W.1 0 0) x h) (m_fault x ms) := by
  unfold c_X0_fault m_fault
  rw [S.1.x_fault, S.1.x_faultPlace, S.O.2.2.2.1, S.O.2.2.2.2.1]
  by_cases h0 : x = 0
  · rw [if_pos h0, if_pos h0]; exact ⟨_, rfl, rfl⟩
  · rw [if_neg h0, if_neg h0]
    by_cases h1 : x = 1
    · rw [if_pos h1, if_pos h1]; exact ⟨_, rfl, rfl⟩
    · rw [if_neg h1, if_neg h1]; exact ⟨_, rfl, rfl⟩
theorem op_octet (S : SIM V h W T G gt ms bk lk my L As) (x : Int32) : OPV (c_X0_octet V (W.1 0 0) x h) (m_octet x ms) := by
  obtain ⟨p, p1, p2, p3, p4⟩ := S.O.2.2.2.2.2.2.2
  unfold c_X0_octet m_octet
  rw [S.1.x_imaged, Option.bind_some, p2, p3, show (0 : Int64) = (0 : Int32).toInt64 from rfl, c_isIn_z, Option.bind_some, m_is_z, Option.bind_some]
  cases e : zof p x with
  | none =>
    have := (zof_pos (by omega) e).1
    rw [if_pos this, if_pos this]; exact ⟨_, rfl, rfl⟩
  | some k =>
    obtain ⟨k1, rfl⟩ := zof_lt (by omega) e
    have := zof_some e
    rw [if_neg this, if_neg this, S.1.x_image, Option.bind_some, Option.bind_some, S.1.imageAt (by omega), Option.bind_some, if_pos (pl_in (by omega) (by decide)), pl_cl (by omega), p4 k k1]
    exact ⟨_, rfl, rfl⟩
theorem op_seed (S : SIM V h W T G gt ms bk lk my L As) (x : Int32) : OP V h W T G (c_X0_seed V (W.1 0 0) x h) (m_seed x ms) := by
  unfold c_X0_seed m_seed
  by_cases h0 : 0 ≤ x
  · rw [if_pos h0, if_pos h0]
    obtain ⟨h1, e1, C1, r1, r1'⟩ := S.1.wxL x.toInt64
    rw [e1, Option.bind_some]
    have hx : ¬ x < 0 := by intro q; have := Int32.lt_iff_toInt_lt.mp q; have := Int32.le_iff_toInt_le.mp h0; omega
    obtain ⟨k, hk, rfl⟩ := nI_of hx
    obtain ⟨o1, o2, o3, o4, o5, o6, o7, o8⟩ := S.O
    refine ⟨1, h1, _, _, T, G, gt, bk, lk, my, L, As, rfl, rfl, S.reg C1 rfl rfl (fun _ _ _ _ => rfl) ⟨rfl, rfl, rfl⟩ (fun _ _ _ _ _ => rfl) ⟨o1, o2, o3, o4, o5, ⟨k, hk, ?_, ?_⟩, o7, o8⟩, rfl, gle.refl G, by omega, ?_, ?_⟩
    · simp [zB, zset, nI_l hk]
    · simp [mx_L, nI_l hk]
    · have : zpc (zB W 0 0 15 (nI k).toInt64) = zpc W := rfl
      rw [this]; omega
    · have : zps (zB W 0 0 15 (nI k).toInt64) = zps W := rfl
      rw [this]; omega
  · rw [if_neg h0, if_neg h0, if_pos S.1.k_x]
    have := OP.refuses S (k := 5) (by decide)
    refine (show OP V h W T G (c_X0_refuses V (W.1 0 0) (5 : Int32) h) _ from this).bit (fun r h' e => ?_)
    obtain ⟨h2, ms', a1, -⟩ := S.refused (k := 5) (by decide)
    unfold c_X0_refuses at e
    rw [if_pos S.1.k_x, (show c_X0_refused V (W.1 0 0) (5 : Int32) h = _ from a1), Option.bind_some, if_pos rfl] at e
    cases e
    exact Or.inl rfl
theorem op_end (S : SIM V h W T G gt ms bk lk my L As) (x : Int32) : OP V h W T G (c_X0_end V (W.1 0 0) x h) (m_end x ms) := by
  obtain ⟨o1, o2, o3, o4, o5, o6, o7, o8⟩ := S.O
  obtain ⟨n, n1, n2, n3⟩ := o1
  have ref : OP V h W T G (c_X0_end_b12 V (W.1 0 0) h) (m_end_b12 ms) := by
    unfold c_X0_end_b12 m_end_b12
    rw [if_pos S.1.k_x]
    have := OP.refuses S (k := 0) (by decide)
    refine (show OP V h W T G (c_X0_refuses V (W.1 0 0) (0 : Int32) h) _ from this).bit (fun r h' e => ?_)
    obtain ⟨h2, ms', a1, -⟩ := S.refused (k := 0) (by decide)
    unfold c_X0_refuses at e
    rw [if_pos S.1.k_x, (show c_X0_refused V (W.1 0 0) (0 : Int32) h = _ from a1), Option.bind_some, if_pos rfl] at e
    cases e
    exact Or.inl rfl
  unfold c_X0_end m_end
  by_cases h0 : x < 0
  · rw [if_pos h0, if_pos h0]; exact ref
  · rw [if_neg h0, if_neg h0, S.1.x_taped, Option.bind_some, n2, n3]
    by_cases h1 : x ≤ nI n
    · rw [if_pos h1, if_pos h1]
      obtain ⟨k, hk, rfl⟩ := nI_of h0
      rw [nI_leI hk (by omega)] at h1
      obtain ⟨h2, e2, C2, r2, r2'⟩ := S.1.wx (i := 1) rfl (nI k)
      rw [e2, Option.bind_some]
      have zl : zpc (zA W 0 0 1 (nI k)) = 30 * k ∧ zps (zA W 0 0 1 (nI k)) = 300 * k := by
        have : (zA W 0 0 1 (nI k)).2.1 0 0 1 = nI k := by simp [zA, zset]
        unfold zpc zps
        rw [this, nI_clamp hk]
        exact ⟨rfl, rfl⟩
      have zw : zpc W = 30 * n ∧ zps W = 300 * n := by
        unfold zpc zps
        rw [n2, nI_clamp (by omega)]
        exact ⟨rfl, rfl⟩
      refine ⟨1, h2, _, _, T, G, gt, bk, lk, my, L, As, rfl, rfl, S.reg C2 rfl rfl (w3_A (by decide) (by simp)) ⟨rfl, rfl, rfl⟩ (fun _ _ _ _ _ => rfl) ⟨⟨k, by omega, by simp [zA, zset], by simp [mx_F]⟩, o2, o3, o4, o5, o6, o7, o8⟩, rfl, gle.refl G, by omega, by rw [zl.1, zw.1]; omega, by rw [zl.2, zw.2]; omega⟩
    · rw [if_neg h1, if_neg h1]; exact ref
/-- four bytes of a word are laid on the tape -/
theorem SIM.lays (S : SIM V h W T G gt ms bk lk my L As) (w : Int32) {n : Nat} (hn : W.2.1 0 0 1 = nI n) (h4 : n + 4 ≤ 1600) : ∃ h' ms' W', c_X0_lays V (W.1 0 0) w h = some h' ∧ m_put w ms = some ms' ∧ SIM V h' W' T G gt ms' bk lk my L As ∧ W'.1 = W.1 ∧ W'.2.1 0 0 1 = nI (n + 4) ∧ h'.1 = h.1 ∧ h'.2.1 = h.2.1 := by
  have key : yes2 (hx_wh (c_X0_lays_s3 V (W.1 0 0) w) hx_FU ((24 : Int32), h)) (hx_wh (m_put_s3 w) hx_FU ((24 : Int32), ms)) (fun h' ms' => ∃ W', SIM V h' W' T G gt ms' bk lk my L As ∧ W'.1 = W.1 ∧ W'.2.1 0 0 1 = nI (n + 4) ∧ h'.1 = h.1 ∧ h'.2.1 = h.2.1) := by
    refine yes2.wh (I := fun m s s' => ∃ j W', m = 4 - j ∧ j ≤ 4 ∧ s.1 = nI (32 - 8 * j) - 8 ∧ s'.1 = s.1 ∧ SIM V s.2 W' T G gt s'.2 bk lk my L As ∧ W'.1 = W.1 ∧ W'.2.1 0 0 1 = nI (n + j) ∧ s.2.1 = h.1 ∧ s.2.2.1 = h.2.1) (n := 4) ⟨0, W, rfl, by decide, rfl, rfl, S, rfl, hn, rfl, rfl⟩ (by decide) ?_
    rintro m ⟨x2, hx⟩ ⟨x1, mx⟩ ⟨j, W1, rfl, hj, e1, e2, S1, w1, w2, q1, q2⟩
    simp only at e1 e2 S1 q1 q2
    subst e2
    unfold c_X0_lays_s3 m_put_s3
    simp only
    by_cases hlt : j < 4
    · have hx1 : ∃ b, b < 32 ∧ x1 = nI b := ⟨24 - 8 * j, by omega, by rw [e1]; rw [show (8 : Int32) = nI 8 from rfl, pk_sub (by omega)]; congr 1; omega⟩
      obtain ⟨b, hb, eb⟩ := hx1
      have C1 := S1.1
      have t1 := C1.x_tape
      have t2 := C1.x_taped
      rw [w1] at t1 t2
      rw [w2] at t2
      obtain ⟨o1, o2, o3, o4, o5, o6, o7, o8⟩ := S1.O
      obtain ⟨n', n1, n2, n3⟩ := o1
      have hnn : n' = n + j := by
        rw [w2, nI_eq (by omega) (by omega)] at n2
        exact n2.symm
      subst hnn
      obtain ⟨v, hv, ev⟩ := pk_andE (w >>> (x1 &&& 31)) (m := (255 : Int32)) 8 (by decide)
      have hchr : ((((w >>> (x1 &&& 31)) &&& (255 : Int32)).toUInt32 % 65536).toInt32) = nI v := by
        rw [ev, pk_char, pk_tn (by omega), Nat.mod_eq_of_lt (by omega)]
      have hc : hx_chr (nI v) = true := by
        unfold hx_chr
        rw [pk_char, pk_tn (by omega), Nat.mod_eq_of_lt (by omega)]
        simp
      rw [if_neg (show ¬ x1 < 0 by rw [eb]; exact nI_pos (by omega)), if_neg (show ¬ x1 < 0 by rw [eb]; exact nI_pos (by omega)), t1, Option.bind_some, t2, Option.bind_some, Option.bind_some, hchr, if_pos hc, n3, if_pos (pl_in (show n + j < 1800 by omega) (by decide)), pl_cl (by omega), ev]
      obtain ⟨h2, e2, C2, r2, r2'⟩ := C1.wtape (i := n + j) (by omega) (nI v)
      rw [w1] at e2
      have t3 := C2.x_taped
      rw [show (zA W1 1 0 (n + j) (nI v)).1 = W.1 from w1, show (zA W1 1 0 (n + j) (nI v)).2.1 0 0 1 = nI (n + j) from w2] at t3
      rw [e2, Option.bind_some, t3, Option.bind_some]
      obtain ⟨h3, e3, C3, r3, r3'⟩ := C2.wx (i := 1) rfl (nI (n + j) + 1)
      rw [show (zA W1 1 0 (n + j) (nI v)).1 = W.1 from w1] at e3
      rw [e3, Option.bind_some]
      have hF : (mx_A mx 0 (n + j) (nI v)).1 1 = nI (n + j) := n3
      rw [hF]
      refine yes2.ret ⟨4 - (j + 1), by omega, j + 1, _, rfl, by omega, ?_, rfl, S1.reg C3 rfl rfl ?_ ⟨rfl, rfl, rfl⟩ ?_ ⟨⟨n + j + 1, by omega, ?_, ?_⟩, ?_, o3, o4, o5, o6, o7, o8⟩, w1, ?_, by dsimp only; omega, by dsimp only; omega⟩
      · show x1 + (-8 : Int32) = _
        rw [e1]
        have hj' : j = 0 ∨ j = 1 ∨ j = 2 ∨ j = 3 := by omega
        rcases hj' with rfl | rfl | rfl | rfl <;> decide
      · intro k' j' i' h'
        rw [w3_A (by decide) (by simp) k' j' i' h', w3_A (by decide) (by simp) k' j' i' h']
      · intro a i a1 a2 a3
        show (if a = 0 ∧ i = n + j then nI v else _) = _
        rw [if_neg (fun q => by omega)]
      · have : (zA (zA W1 1 0 (n + j) (nI v)) 0 0 1 (nI (n + j) + 1)).2.1 0 0 1 = nI (n + j) + 1 := by simp [zA, zset]
        rw [this, nI_1]
      · have : (mx_F (mx_A mx 0 (n + j) (nI v)) 1 (nI (n + j) + 1)).1 1 = nI (n + j) + 1 := by simp [mx_F]
        rw [this, nI_1]
      · intro i hi
        show (if 0 = 0 ∧ i = n + j then nI v else mx.2.2.1 0 i) = (if 1 = 0 ∧ 0 = 0 ∧ i = 1 then nI (n + j) + 1 else if 1 = 1 ∧ 0 = 0 ∧ i = n + j then nI v else W1.2.1 1 0 i) ∧ zle (if 1 = 0 ∧ 0 = 0 ∧ i = 1 then nI (n + j) + 1 else if 1 = 1 ∧ 0 = 0 ∧ i = n + j then nI v else W1.2.1 1 0 i) 255
        rw [if_neg (show ¬ (1 = 0 ∧ 0 = 0 ∧ i = 1) by omega)]
        by_cases q : i = n + j
        · rw [if_pos ⟨rfl, q⟩, if_pos ⟨rfl, rfl, q⟩]
          exact ⟨rfl, v, by omega, rfl⟩
        · rw [if_neg (fun x => q x.2), if_neg (fun x => q x.2.2)]
          exact o2 i hi
      · have : (zA (zA W1 1 0 (n + j) (nI v)) 0 0 1 (nI (n + j) + 1)).2.1 0 0 1 = nI (n + j) + 1 := by simp [zA, zset]
        rw [this, nI_1]
        rfl
    · have hje : j = 4 := by omega
      subst hje
      rw [if_pos (show x1 < 0 by rw [e1]; decide), if_pos (show x1 < 0 by rw [e1]; decide)]
      exact yes2.ret ⟨W1, S1, w1, w2, q1, q2⟩
  obtain ⟨h', ms', a1, a2, W', a3, a4, a5, a6, a7⟩ := key
  exact ⟨h', ms', W', a1, a2, a3, a4, a5, a6, a7⟩
theorem op_feed (S : SIM V h W T G gt ms bk lk my L As) (a b c d e : Int32) : OP V h W T G (c_X0_feed V (W.1 0 0) a b c d e h) (m_feed a b c d e ms) := by
  obtain ⟨n, n1, n2, n3⟩ := S.O.1
  unfold c_X0_feed m_feed
  rw [S.1.x_taped, Option.bind_some, n2, n3, show nI n + (20 : Int32) = nI (n + 20) from nI_add n 20]
  by_cases hle : n + 20 ≤ 1600
  · rw [if_pos (show nI (n + 20) ≤ (1600 : Int32) from nI_le hle (by decide)), if_pos (show nI (n + 20) ≤ (1600 : Int32) from nI_le hle (by decide)), if_pos S.1.k_x]
    obtain ⟨h1, m1, W1, a1, b1, S1, x1, y1, p1, q1⟩ := S.lays a n2 (by omega)
    obtain ⟨h2, m2, W2, a2, b2, S2, x2, y2, p2, q2⟩ := S1.lays b y1 (by omega)
    obtain ⟨h3, m3, W3, a3, b3, S3, x3, y3, p3, q3⟩ := S2.lays c y2 (by omega)
    obtain ⟨h4, m4, W4, a4, b4, S4, x4, y4, p4, q4⟩ := S3.lays d y3 (by omega)
    obtain ⟨h5, m5, W5, a5, b5, S5, x5, y5, p5, q5⟩ := S4.lays e y4 (by omega)
    have k1 := S1.1.k_x
    have k2 := S2.1.k_x
    have k3 := S3.1.k_x
    have k4 := S4.1.k_x
    have k5 := S5.1.x_taped
    rw [x1] at a2 k1
    rw [x2, x1] at a3 k2
    rw [x3, x2, x1] at a4 k3
    rw [x4, x3, x2, x1] at a5 k4
    rw [x5, x4, x3, x2, x1, y5] at k5
    rw [a1, Option.bind_some, if_pos k1, a2, Option.bind_some, if_pos k2, a3, Option.bind_some, if_pos k3, a4, Option.bind_some, if_pos k4, a5, Option.bind_some, k5, Option.bind_some, b1, Option.bind_some, b2, Option.bind_some, b3, Option.bind_some, b4, Option.bind_some, b5, Option.bind_some]
    have zw : zpc W = 30 * n ∧ zps W = 300 * n := by
      unfold zpc zps
      rw [n2, nI_clamp (by omega)]
      exact ⟨rfl, rfl⟩
    have z5 : zpc W5 = 30 * (n + 20) ∧ zps W5 = 300 * (n + 20) := by
      unfold zpc zps
      rw [y5, nI_clamp (by omega)]
      exact ⟨rfl, rfl⟩
    obtain ⟨n', m1', m2', m3'⟩ := S5.O.1
    refine ⟨nI (n + 4 + 4 + 4 + 4 + 4), h5, m5, W5, T, G, gt, bk, lk, my, L, As, rfl, ?_, S5, by rw [x5, x4, x3, x2, x1], gle.refl G, by omega, by rw [z5.1, zw.1]; omega, by rw [z5.2, zw.2]; omega⟩
    rw [m3', ← m2', y5]
  · rw [if_neg (show ¬ nI (n + 20) ≤ (1600 : Int32) from nI_ge (a := 1600) (b := n + 20) (by omega) (by omega)), if_neg (show ¬ nI (n + 20) ≤ (1600 : Int32) from nI_ge (a := 1600) (b := n + 20) (by omega) (by omega)), if_pos S.1.k_x]
    obtain ⟨r, h', ms', W', T', G', gt', bk', lk', my', L', As', a1, a2, a3⟩ := OP.refused S (k := 0) (by decide)
    refine ⟨r, h', ms', W', T', G', gt', bk', lk', my', L', As', ?_, ?_, a3⟩
    · rw [(show c_X0_refused V (W.1 0 0) (0 : Int32) h = _ from a1), Option.bind_some]
    · rw [(show m_refuses (0 : Int32) ms = _ from a2), Option.bind_some]
end SR

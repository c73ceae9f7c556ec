/-! PURE SIDE: the call undo -/
set_option maxRecDepth 100000
section UN
variable {V : hx_V} {h : hx_S} {W X U T : zW} {G gt : Nat → Option hx_C} {ms : mx_S} {bk : Nat} {lk my : zL} {L Lu : List (Nat → Int32)} {As : List zU}
theorem FL.size {a : Nat} (C : CS V h W T G) (F : FL V G a Lu) : c_J2_size V a h = some (nI Lu.length) := by
  obtain ⟨f, d, cap, e, f1, f2, f3, f4, f5, f6, f7⟩ := F
  unfold c_J2_size
  rw [p_gI (C.fro f1).1 rfl (by decide) f3]
  rfl
theorem FL.k {a : Nat} (C : CS V h W T G) (F : FL V G a Lu) : hk h a [24] = true := by
  obtain ⟨f, d, cap, e, f1, f2, f3, f4, f5, f6, f7⟩ := F
  exact p_k (C.fro f1).1 rfl
theorem FL.get {a i : Nat} (C : CS V h W T G) (F : FL V G a Lu) (hi : i < Lu.length) : ∃ (b : Nat) (c : Nat → Value), c_J2_get V a (nI i) h = some (some b) ∧ G b = some (100, 5, c) ∧ ∀ k, k < 5 → c k = .int (Lu[i] k) := by
  have F' := F
  obtain ⟨f, d, cap, e, f1, f2, f3, f4, f5, f6, f7⟩ := F
  obtain ⟨b, c, b1, b2, b3⟩ := f7 i Lu[i] (List.getElem?_eq_getElem hi)
  refine ⟨b, c, ?_, b2, b3⟩
  unfold c_J2_get c_J2_elementData
  rw [p_gI (C.fro f1).1 rfl (by decide) f3, Option.bind_some, c_ck hi (by omega), Option.bind_some, FL.k C F', if_pos rfl, p_gR (x := some d) (C.fro f1).1 rfl (by decide) f2, Option.bind_some, Option.bind_some, p_gQ (x := some b) (C.fro f4).1 (by decide) (by decide) (by omega) (by omega) b1]
  rfl
/-- told is cleared -/
theorem CS.clear3 (C : CS V h W T G) (G0 : GEg V G) (Z : ZT V T G L) : ∃ h' T', c_J2_clear V (T.1 3 0) h = some h' ∧ CS V h' W T' G ∧ ZT V T' G [] ∧ Tsame 3 T T' ∧ T'.1 3 0 = T.1 3 0 ∧ T'.2.2.2.1 4 = T.2.2.2.1 4 ∧ h'.1 = h.1 ∧ h'.2.1 = h.2.1 := by
  obtain ⟨z1, z2, z3, z4⟩ := Z
  obtain ⟨e, A, he⟩ := C.al G0 (kk := 3) (Or.inl rfl) z1
  obtain ⟨h', e', a1, a2, a3, a4, a5, a6⟩ := A.clear (fun i hi => ⟨_, he i hi⟩)
  obtain ⟨T', b1, b2, b3, b4, b5, b6⟩ := C.alset (kk := 3) (Or.inl rfl) a2 a3 (fun q _ hq hq2 => a4 q hq hq2) (by omega) z1.2.2.1 (Or.inl ⟨rfl, rfl⟩)
  exact ⟨h', T', a1, b1, ⟨b4, by decide, by rw [b5]; exact z3, fun i r hi => by simp at hi⟩, b2, b3, b5, a5, a6⟩
theorem CS.isUndone (C : CS V h W T G) (G0 : GEg V G) (Z : ZI W) (Y : ZI U) (hn : U.2.2.2.1 0 = W.2.2.2.1 0 ∧ U.2.2.2.1 1 = W.2.2.2.1 1) (Zt : ZT V T G L) {a : Nat} (F : FA V G (W.1 0 0) a U Lu) (hL : Lu.length ≤ 60) (h1 : h.1 + 60 ≤ V.2.2.1) (h2 : h.2.1 + zph (T.2.2.2.1 4) ≤ V.2.2.2.1) :
    yes (c_X20_isUndone V a h) (fun h' => ∃ T', CS V h' (zcp W U) T' G ∧ ZT V T' G Lu ∧ Tsame 3 T T' ∧ T'.1 3 0 = T.1 3 0 ∧ h.1 ≤ h'.1 ∧ h'.1 ≤ h.1 + 60 ∧ h'.2.1 + zph (T'.2.2.2.1 4) ≤ h.2.1 + zph (T.2.2.2.1 4)) := by
  obtain ⟨f, sp, ra, c, f1, f2, f3, f4, f5, f6, f7⟩ := F
  have r0 : ∀ (k : hx_S) (Wk Tk : zW), CS V k Wk Tk G → hgR k a [20] 0 = some (some sp) := fun k Wk Tk Ck => p_gR (Ck.fro f1).1 rfl (by decide) f2
  have r1 : ∀ (k : hx_S) (Wk Tk : zW), CS V k Wk Tk G → hgR k a [20] 1 = some (some ra) := fun k Wk Tk Ck => p_gR (Ck.fro f1).1 rfl (by decide) f3
  have r2 : ∀ (k : hx_S) (Wk Tk : zW), CS V k Wk Tk G → hgR k a [20] 2 = some (some (W.1 0 0)) := fun k Wk Tk Ck => p_gR (Ck.fro f1).1 rfl (by decide) f4
  unfold c_X20_isUndone
  obtain ⟨k1, a1, C1, a2, a3⟩ := C.reads Z Y hn f5 f6
  have x0 : (zcp W U).1 = W.1 := (zcp_now W U).1
  obtain ⟨k2, T2, b1, C2, Z2, s2, t2, c2, b2, b3⟩ := C1.clear3 G0 Zt
  have kt := C1.x_told
  rw [x0] at kt
  rw [r2 _ _ _ C, Option.bind_some, r0 _ _ _ C, Option.bind_some, Option.bind_some, if_pos C.k_x, a1, Option.bind_some, r2 _ _ _ C1, Option.bind_some, Option.bind_some, kt, Option.bind_some, Option.bind_some, if_pos C1.k_told, b1, Option.bind_some]
  refine yes.wh (I := fun m s => ∃ k Tk, m = Lu.length - k ∧ k ≤ Lu.length ∧ s.1 = nI k ∧ CS V s.2 (zcp W U) Tk G ∧ ZT V Tk G (Lu.take k) ∧ Tsame 3 T Tk ∧ Tk.1 3 0 = T.1 3 0 ∧ h.1 ≤ s.2.1 ∧ s.2.1 ≤ h.1 + k ∧ s.2.2.1 + zph (Tk.2.2.2.1 4) ≤ h.2.1 + zph (T.2.2.2.1 4)) (n := Lu.length) ⟨0, T2, by omega, by omega, rfl, C2, Z2, s2, t2, by dsimp only; omega, by dsimp only; omega, by dsimp only; rw [c2]; omega⟩ (by omega) ?_
  rintro m ⟨x, hx⟩ ⟨k, Tk, rfl, hk, e1, D, Zk, sk, tk, q1, q2, q3⟩
  simp only at e1 D q1 q2 q3
  subst e1
  unfold c_X20_isUndone_s23
  simp only
  rw [r1 _ _ _ D, Option.bind_some, Option.bind_some, if_pos (f7.k D), f7.size D, Option.bind_some]
  by_cases hlt : k < Lu.length
  · obtain ⟨b, cb, g1, g2, g3⟩ := f7.get D hlt
    have kt := D.x_told
    rw [x0] at kt
    have hc : hck hx (some b) [100] = true := p_k (D.fro g2).1 rfl
    obtain ⟨k3, T3, u1, u2, u3, u4, u5, u6, u7, u8⟩ := D.addRow G0 Zk (by rw [List.length_take]; omega) g2 g3 (by omega) (by omega)
    rw [if_neg (nI_ge hlt (by omega)), r2 _ _ _ D, Option.bind_some, Option.bind_some, kt, Option.bind_some, Option.bind_some, Option.bind_some, if_pos (f7.k D), g1, Option.bind_some, if_pos hc, Option.bind_some, if_pos D.k_told, u1, Option.bind_some]
    rw [← List.take_succ_eq_append_getElem hlt] at u3
    exact yes.ret ⟨Lu.length - (k + 1), by omega, k + 1, T3, rfl, by omega, nI_1 k, u2, u3, sk.trans u4, u8.trans tk, by dsimp only; omega, by dsimp only; omega, by dsimp only; omega⟩
  · have : k = Lu.length := by omega
    subst this
    rw [if_pos (nI_le (Nat.le_refl _) (by omega))]
    rw [List.take_length] at Zk
    exact yes.ret ⟨Tk, D, Zk, sk, tk, q1, by omega, q3⟩
theorem MR.cp {v : Nat} (R : MR ms v U) (hn : U.2.2.2.1 0 = W.2.2.2.1 0 ∧ U.2.2.2.1 1 = W.2.2.2.1 1) (h8 : W.2.2.2.1 1 ≤ 8) : MR ms v (zcp W U) := by
  have at' : ∀ k j i, zpb (W.2.2.2.1 1) (W.2.2.2.1 0) 0 0 k j i = true → (zcp W U).2.1 k j i = U.2.1 k j i := fun k j i hp => by
    show (if zpb (W.2.2.2.1 1) (W.2.2.2.1 0) 0 0 k j i = true then _ else _) = _
    rw [if_pos hp]
  have nu : (zcp W U).2.2.2.1 = W.2.2.2.1 := by rw [(zcp_now W U).2.1]
  obtain ⟨r0, r1, r2, r3, r4, r5, d, t, r6, r7, r8, r9, r10⟩ := R
  refine ⟨r0, fun k hk i hi => ?_, fun k hk => ?_, fun b hb i hi => ?_, fun b hb k hk => ?_, ?_, d, t, ?_, ?_, r8, r9, r10⟩
  · rw [nu] at hk; rw [at' _ _ _ (by simp [zpb, zpg, hk, hi])]; exact r1 k (by rw [hn.2]; exact hk) i hi
  · rw [nu] at hk; rw [at' _ _ _ (by simp [zpb, zpg, hk]), at' _ _ _ (by simp [zpb, zpg, hk])]; exact r2 k (by rw [hn.2]; exact hk)
  · rw [nu] at hb; rw [at' _ _ _ (by simp [zpb, zpg, hb, hi])]; exact r3 b (by rw [hn.1]; exact hb) i hi
  · rw [nu] at hb hk; rw [at' _ _ _ (by simp [zpb, zpg, hb, Nat.lt_of_lt_of_le hk h8]), at' _ _ _ (by simp [zpb, zpg, hb, Nat.lt_of_lt_of_le hk h8])]; exact r4 b (by rw [hn.1]; exact hb) k (by rw [hn.2]; exact hk)
  · rw [at' _ _ _ (by simp [zpb, zpg])]; exact r5
  · rw [at' _ _ _ (by simp [zpb, zpg])]; exact r6
  · rw [at' _ _ _ (by simp [zpb, zpg])]; exact r7
theorem op_undo (S : SIM V h W T G gt ms bk lk my L As) (hr : RM V h W T) : OP V h W T G (c_X0_undo V (W.1 0 0) h) (m_undo ms) := by
  have S' := S
  obtain ⟨C, gl, G0, E, Z, h13, Zt, ⟨P, R, M, Em, O⟩, hb, A⟩ := S
  have h6 := Z.1.1
  have h8 := Z.1.2.1
  have Ac := A.c
  obtain ⟨mm1, uf, mm2, mm3, mm4⟩ := A.m
  have al := A.2.1
  obtain ⟨e, AL1, he⟩ := C.al G0 (kk := 9) (Or.inr rfl) Ac.1
  unfold c_X0_undo m_undo
  rw [C.x_acts, Option.bind_some, Option.bind_some, if_pos C.k_acts]
  have em : c_J2_isEmpty V (T.1 9 0) h = some (if nI As.length = 0 then 1 else 0) := by
    have := AL1.size
    unfold c_J2_size at this
    unfold c_J2_isEmpty
    obtain ⟨f, mc, c1, f0, f1, f2, -⟩ := AL1
    rw [p_gI c1 rfl (by decide) f2, Option.bind_some]
    split <;> rfl
  rw [em, Option.bind_some, mm1]
  by_cases h0 : As.length = 0
  · rw [h0, if_pos (show nI 0 = 0 from rfl), if_neg (by decide), if_pos (show nI 0 = 0 from rfl)]
    exact OP.rfs S' (k := 4) (by decide) rfl rfl
  · have hn0 : ¬ nI As.length = 0 := fun q => h0 ((nI_eq (by omega) (by decide)).mp (show nI As.length = nI 0 from q))
    rw [if_neg hn0, if_pos rfl, if_neg hn0, Option.bind_some, Option.bind_some, Option.bind_some, if_pos C.k_acts, AL1.size, Option.bind_some, Option.bind_some, if_pos C.k_acts]
    have hl1 : As.length - 1 < As.length := by omega
    have n1 : nI As.length - (1 : Int32) = nI (As.length - 1) := pk_sub (b := 1) (by omega)
    obtain ⟨hr1, hr2⟩ := hr
    have hz : zpot T = zph (T.2.2.2.1 4) + zph (T.2.2.2.1 10) := rfl
    obtain ⟨k1, T1, b, a1, F, C1, A1, s1, r1, r2, r3, r4⟩ := C.remAct G0 Ac (i := As.length - 1) hl1 As.dropLast (by simp) (fun j hj => by
      rw [List.length_dropLast] at hj
      rw [if_pos hj, List.getElem?_dropLast, if_pos hj])
    obtain ⟨y1, y2, y3, y4, y5⟩ := mm4 (As.length - 1) As[As.length - 1] (List.getElem?_eq_getElem hl1)
    have F' := F
    obtain ⟨fb, spb, rab, cb, fb1, -⟩ := F'
    have hkb : hk k1 b [20] = true := p_k (C1.fro fb1).1 rfl
    obtain ⟨t1, t2, t3, t4⟩ := s1 3 rfl (by decide) (by decide)
    obtain ⟨t5, t6, t7, t8⟩ := s1 4 rfl (by decide) (by decide)
    have Zt1 : ZT V T1 G L := by
      obtain ⟨⟨u1, u2, u3, u4⟩, u5, u6, u7⟩ := Zt
      refine ⟨⟨by rw [t2]; exact u1, by rw [show T1.2.2.2.1 (3 + 1) = _ from t7]; exact u2, by rw [show T1.2.2.2.1 (3 + 1) = _ from t7]; exact u3, fun q => by rw [show T1.1 (3 + 1) 0 = _ from t5 0]; rw [show T1.2.2.2.1 (3 + 1) = _ from t7] at q; exact u4 q⟩, u5, by rw [t7]; exact u6, fun i r hr => ?_⟩
      obtain ⟨a, c, w1, w2, w3⟩ := u7 i r hr
      exact ⟨a, c, by rw [t8]; exact w1, w2, w3⟩
    have hLu : As[As.length - 1].2.length ≤ 60 := y4.2.1
    obtain ⟨k2, d1, T2, C2, Zt2, s2, d2, d3, d4, d5⟩ := C1.isUndone G0 Z y1 y2 Zt1 F hLu (by omega) (by rw [t7]; omega)
    rw [n1, a1, Option.bind_some, if_pos (show hck k1 (some b) [20] = true from hkb), Option.bind_some, if_pos hkb, d1, Option.bind_some]
    -- the reference
    have f57 : (mx_F ms 57 (nI (As.length - 1))).1 57 = nI (As.length - 1) := by simp [mx_F]
    have f56 : (mx_F ms 57 (nI (As.length - 1))).1 56 = nI uf := by rw [← mm3]; simp [mx_F]
    have fo : ∀ k, k ≠ 57 → (mx_F ms 57 (nI (As.length - 1))).1 k = ms.1 k := fun k hk => by simp [mx_F, hk]
    have sl : m_slot (nI (As.length - 1)) (mx_F ms 57 (nI (As.length - 1))) = some (nI (2 + (uf + (As.length - 1)) % 20)) := by
      unfold m_slot
      rw [f56, nI_add, nI_rem20 (by omega), show (2 : Int32) = nI 2 from rfl, nI_add]
    obtain ⟨m5, c1, c2⟩ := ml_copies (ms := mx_F ms 57 (nI (As.length - 1))) (t := 0) (f := 2 + (uf + (As.length - 1)) % 20) (by decide) (by omega) (by omega) y4.1 y4.2.1
    rw [f57, sl, Option.bind_some, (show m_copies (0 : Int32) (nI (2 + (uf + (As.length - 1)) % 20)) _ = _ from c1), Option.bind_some]
    have fr5 : mfr 0 (mx_F ms 57 (nI (As.length - 1))) m5 := c2.1.fr
    have R5 : MR m5 0 As[As.length - 1].1 := MR.cx (ms := mx_F ms 57 (nI (As.length - 1))) y3 c2 (by decide) y1.1.1 y1.1.2.1
    have M5 : MT m5 0 As[As.length - 1].2 := MT.cx (ms := mx_F ms 57 (nI (As.length - 1))) y4 c2
    have nw := zcp_now W As[As.length - 1].1
    have P1 : MP (mx_F ms 57 (nI (As.length - 1))) W bk := by
      simp only [MP, fo 13 (by decide)]
      exact P
    have O1 : MO (mx_F ms 57 (nI (As.length - 1))) W := by
      simp only [MO, fo 1 (by decide), fo 10 (by decide), fo 11 (by decide), fo 65 (by decide), fo 76 (by decide)]
      exact O
    have Em1 : ELM (mx_F ms 57 (nI (As.length - 1))) bk lk my := Em.mv (fo 13 (by decide)) (fun _ _ _ => rfl)
    have cpx : ∀ i, i = 6 ∨ i = 7 ∨ i = 8 → (zcp W As[As.length - 1].1).2.1 0 0 i = As[As.length - 1].1.2.1 0 0 i := fun i hi => by
      show (if zpb _ _ 0 0 0 0 i = true then _ else _) = _
      rw [if_pos (by rcases hi with rfl | rfl | rfl <;> simp [zpb, zpg])]
    obtain ⟨d, t, v1, v2, v3⟩ := y5
    have A2 : ACc V T2 G (W.1 0 0) As.dropLast := by
      obtain ⟨⟨u1, u2, u3, u4⟩, u5, u6, u7⟩ := A1
      obtain ⟨w1, w2, w3, w4⟩ := s2 9 rfl (by decide) (by decide)
      obtain ⟨w5, w6, w7, w8⟩ := s2 10 rfl (by decide) (by decide)
      refine ⟨⟨by rw [w2]; exact u1, by rw [show T2.2.2.2.1 (9 + 1) = _ from w7]; exact u2, by rw [show T2.2.2.2.1 (9 + 1) = _ from w7]; exact u3, fun q => by rw [show T2.1 (9 + 1) 0 = _ from w5 0]; rw [show T2.2.2.2.1 (9 + 1) = _ from w7] at q; exact u4 q⟩, u5, by rw [w7]; exact u6, fun i u hi => ?_⟩
      obtain ⟨a, x1, x2⟩ := u7 i u hi
      exact ⟨a, by rw [w8]; exact x1, x2⟩
    have Am : ACm (zcp W As[As.length - 1].1) m5 As.dropLast := by
      refine ⟨by rw [fr5.1, f57, List.length_dropLast], uf, mm2, by rw [fr5.1, f56], fun i u hi => ?_⟩
      have hi1 : i < As.length - 1 := by
        have := (List.getElem?_eq_some_iff.mp hi).1
        rw [List.length_dropLast] at this
        exact this
      rw [List.getElem?_dropLast, if_pos hi1] at hi
      obtain ⟨x1, x2, x3, x4, x5⟩ := mm4 i u hi
      exact ⟨x1, by rw [nw.2.1]; exact x2, MR.oth (ms := mx_F ms 57 (nI (As.length - 1))) x3 fr5 (by omega) x1.1.1 x1.1.2.1, MT.oth (ms := mx_F ms 57 (nI (As.length - 1))) x4 fr5 (by omega), x5⟩
    have zp := zp_now nw
    have z2 : zpot T2 = zph (T2.2.2.2.1 4) + zph (T.2.2.2.1 10) := by
      show _ + zph (T2.2.2.2.1 10) = _
      rw [(s2 10 rfl (by decide) (by decide)).2.2.1, r3]
    have hx0 : (zcp W As[As.length - 1].1).1 = W.1 := nw.1
    refine ⟨1, k2, m5, _, T2, G, gt, bk, lk, my, _, As.dropLast, rfl, rfl, ⟨C2, gl, G0, E.now nw, zcp_I Z y1 y2, (nw.2.2 0 0 13 rfl).trans h13, Zt2, ⟨(P1.fr fr5).now nw, R5.cp y2 h8, M5, Em1.fr fr5, O1.now nw fr5⟩, ⟨d, t, by rw [cpx 6 (by decide)]; exact v1, by rw [cpx 7 (by decide)]; exact v2, v3⟩, AC.of (by rw [hx0]; exact A2) Am⟩, by rw [hx0], gle.refl G, by omega, by rw [zp.1]; omega, ?_⟩
    rw [zp.2, z2]
    rw [t7] at d5
    omega
end UN

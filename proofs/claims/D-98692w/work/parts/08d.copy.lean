/-! System.arraycopy -/
set_option maxRecDepth 100000
/-- may v stand in an array of the kind t -/
def hx_vf (h : hx_S) (t : Nat) (v : Value) : Bool := match t, v with
  | 100, .int _ => true
  | 101, .int x => hx_chr x
  | 102, .int x => hx_byt x
  | 104, .long _ => true
  | 105, .null => true
  | 105, .ref b => hk h b hx_obs
  | _, _ => false
def hcp (V : hx_V) (h : hx_S) (a0 : Nat) (sp : Int32) (a : Nat) (dp n : Int32) : Option hx_S := match h.2.2 a0, h.2.2 a with
  | some x, some z => if (decide (x.1 = z.1) && (decide (100 ≤ x.1) && (decide (x.1 < 106) && (!decide (sp < 0) && (!decide (dp < 0) && (!decide (n < 0) && (decide (sp.toNatClampNeg + n.toNatClampNeg ≤ x.2.1) && (decide (dp.toNatClampNeg + n.toNatClampNeg ≤ z.2.1) && (decide (V.2.1.size ≤ a) && (List.range n.toNatClampNeg).all (fun i => hx_vf h x.1 (x.2.2 (sp.toNatClampNeg + i)))))))))))) = true then some (hx_set h a (z.1, z.2.1, va_cpy x.2.2 z.2.2 sp.toNatClampNeg dp.toNatClampNeg n.toNatClampNeg)) else none
  | _, _ => none
section CP
variable {V : hx_V} {d : Nat} {y : MethodName} {cc : ByteArray} {nL : Nat} {rt : Option FieldType} {pc : Nat} {ls : List (Nat × Value)} {st : List Value} {h h1 : hx_S} {r : Outcome × hx_S}
theorem hx_vf_fits {t : Nat} {v : Value} (e : hx_vf h t v = true) : fits (hx_aty t) v = true := by
  unfold hx_vf at e
  split at e
  · rfl
  · exact (hx_chr_n e).2
  · exact (hx_byt_n e).2
  · rfl
  · rfl
  · rfl
  · cases e
theorem hx_vf_ref {t b : Nat} (e : hx_vf h t (.ref b) = true) : t = 105 ∧ hk h b hx_obs = true := by
  unfold hx_vf at e
  split at e <;> simp_all
theorem cx_copy {index a0 a : Nat} {sp dp n : Int32} (hd : decode cc pc = .ok (.invokestatic index, 3)) (ec : hcp V h a0 sp a dp n = some h1) (q1 : Cond.methodLink y.cls index arraycopyName ∈ lw_all) (q2 : Cond.native arraycopyName ∈ lw_all) (q3 : Cond.static arraycopyName ∈ lw_all) (q4 : Cond.initialized "java/lang/System" ∈ lw_all) (hr : (st.map fun v => v.category).sum ≤ 8)
    (k : hx_X V (d + 1) y cc nL rt (pc + 3) ls st h1 r) : hx_X V (d + 1) y cc nL rt pc ls (.int n :: .int dp :: .ref a :: .int sp :: .ref a0 :: st) h r := by
  intro p l e R s m args below meth c H locs A C Dn hl
  unfold hcp at ec
  cases hx : h.2.2 a0 with
  | none => rw [hx] at ec; cases ec
  | some x =>
  cases hz : h.2.2 a with
  | none => rw [hx, hz] at ec; cases ec
  | some z =>
  rw [hx, hz] at ec
  obtain ⟨q, e9⟩ := hx_if ec
  have e9 := (Option.some.inj e9).symm
  simp only [Bool.and_eq_true, decide_eq_true_eq, Bool.not_eq_true', decide_eq_false_iff_not, List.all_eq_true, List.mem_range] at q
  obtain ⟨u0, u1, u2, u3, u4, u5, u6, u7, u8, u9⟩ := q
  obtain ⟨t, N0, f⟩ := x
  obtain ⟨t2, N1, g⟩ := z
  simp only at u0 u1 u2 u6 u7 u9 e9
  subst u0
  obtain ⟨cs, b1, b2, b3, b4, b5, b6⟩ := hx_arr C Dn hx u1 (by omega)
  obtain ⟨cd, g1, g2, g3, g4, g5, g6⟩ := hx_arr C Dn hz u1 (by omega)
  obtain ⟨-, ks, hks, sc, hsk⟩ := b4
  obtain ⟨-, kd, hkd, dc, hdk⟩ := g4
  have nn : ∀ z : Int32, ¬ z < 0 → z.toInt = (z.toNatClampNeg : Int) := by
    intro z hz
    have hz0 : (0 : Int) ≤ z.toInt := by
      have := Int32.not_lt.mp hz
      simpa using Int32.le_iff_toInt_le.mp this
    show z.toInt = ((z.toInt.toNat : Nat) : Int)
    omega
  have hval : ∀ i, i < n.toNatClampNeg → cs.slots.getD (sp.toNatClampNeg + i) .null = f (sp.toNatClampNeg + i) := by
    intro i hi
    rw [Array.getD_eq_getD_getElem?, b6 _ (by omega)]
    rfl
  have hty : ((refKind (hx_aty t) != refKind (hx_aty t)) || (!refKind (hx_aty t) && hx_aty t != hx_aty t)) = false := by simp
  intro T hT X
  obtain ⟨vm', X', step⟩ := X.arraycopy C.1.1 C.2.1.1 (C.2.1.2.2.1 _ q1) (C.2.1.2.2.1 _ q2) (C.2.1.2.2.1 _ q3) (C.2.1.2.2.1 _ q4) (src := a0) (dst := a) (cs := cs) (cd := cd) (srcPos := sp) (destPos := dp) (n := n) (by rw [hT]; exact b1) (by rw [hT]; exact g1)
    b3 g3 b2 g2 hks hkd hsk hdk hty u3 u4 u5 (by rw [nn sp u3, nn n u5, b5]; omega) (by rw [nn dp u4, nn n u5, g5]; omega)
    (fun vm₁ hA i hi => by
      rw [hval i hi]
      have hv := u9 i hi
      refine ⟨hx_vf_fits hv, ?_⟩
      cases hfv : f (sp.toNatClampNeg + i) with
      | ref b =>
        rw [hfv] at hv
        obtain ⟨ht, hv⟩ := hx_vf_ref hv
        subst ht
        obtain ⟨xb, w1, w2⟩ := hk_ok hv
        obtain ⟨o1, o2, o3⟩ := hx_obs_ok _ w2
        obtain ⟨cv, v1, v2, v3, v4, v5, kv, v6⟩ := hx_named C Dn w1 o1 o2
        obtain ⟨⟨k0, comp, e1, e2, e3, -⟩, e4⟩ := C.2.1.2.2.2.2.1 105 (by omega) (by omega)
        have e3 := e3 "java/lang/Object" rfl
        obtain ⟨cell2, w1', -, -, -, w5⟩ := Dn.1.2.2.1 a _ hz
        cases g1.symm.trans w1'
        have w6 : cd.cls = V.1.2.2 105 := by
          rcases w5 with w5 | w5
          · have := w5.1; simp only at this; omega
          · exact w5.2.1
        rw [w6] at hkd
        cases e1.symm.trans hkd
        rw [e2] at hdk
        cases hdk
        obtain ⟨kcomp, hkcomp, -⟩ := Vm.findClass_spec e3
        obtain ⟨c0, t0, f1, f2, f3⟩ := Cond.castable_spec (va_Nw.use (A := #[]) rfl (C.2.1.2.2.2.2.2.1 _ o3))
        cases v5.symm.trans f1
        cases e3.symm.trans f2
        obtain ⟨kv', hkv', -⟩ := hA.2.2 _ _ v6
        obtain ⟨kc', hkc', -⟩ := hA.2.2 _ _ hkcomp
        exact ⟨cv, by show T.heap[b]? = some cv; rw [hT]; exact v1, v3, ⟨kv', hkv'⟩, ⟨kc', hkc'⟩, by show vm₁.assignable _ _ = true; rw [hA.assignable]; exact f3⟩
      | _ => exact trivial)
    (g := F0 m pc A (.int n :: .int dp :: .ref a :: .int sp :: .ref a0 :: st)) rfl (by show A.size = _; rw [C.1.2.2.1]; exact hl.1) (rest := st) rfl (by rw [C.1.2.1]; exact hd) (by rw [C.2.2.1.1]; omega) (by
      rw [C.2.2.1.2.1]
      have := lv_room (m := m) (pc := pc) (ls := A) (rest := st) hr
      have e5 : nativeFrameWords "java/lang/System" "arraycopy" 5 + 11 ≤ 35 := by decide +kernel
      show 2 * 0 + _ + _ ≤ _
      omega)
  have hlen : (cs.stretch sp.toNatClampNeg n.toNatClampNeg).length = n.toNatClampNeg := by simp [Cell.stretch]
  obtain ⟨sf1, sf2, sf3, -, -⟩ := cd.storeRun_facts dp.toNatClampNeg (cs.stretch sp.toNatClampNeg n.toNatClampNeg)
  have hlt : a < H.size := (Array.getElem?_eq_some_iff.mp g1).1
  have hheap : ((T.setVm vm').setCell a (copied cs cd sp dp n)).heap = H.setIfInBounds a (copied cs cd sp dp n) := by rw [← hT]; rfl
  have oq : ∀ q : Nat, q ≠ a → (H.setIfInBounds a (copied cs cd sp dp n))[q]? = H[q]? := fun q hq => by simp [Array.getElem?_setIfInBounds, Ne.symm hq]
  have oa : (H.setIfInBounds a (copied cs cd sp dp n))[a]? = some (copied cs cd sp dp n) := by simp [Array.getElem?_setIfInBounds, hlt]
  have hcell : hx_at V.1 V.2.1.size a (t, N1, va_cpy f g sp.toNatClampNeg dp.toNatClampNeg n.toNatClampNeg) (H.setIfInBounds a (copied cs cd sp dp n)) := by
    obtain ⟨cell2, w1, w2, w3, w4, w5⟩ := Dn.1.2.2.1 a _ hz
    cases g1.symm.trans w1
    rcases w5 with w5 | w5
    · have := w5.1; simp only at this; omega
    · obtain ⟨-, w6, w7, w8⟩ := w5
      refine ⟨_, oa, by show (cd.storeRun _ _).vm ≠ _; rw [sf2]; exact w2, fun k => by show (cd.storeRun _ _).vm ≠ _; rw [sf2]; exact w3 k, fun hq => by show (cd.storeRun _ _).vm = _; rw [sf2]; exact w4 hq, Or.inr ⟨u1, by show (cd.storeRun _ _).cls = _; rw [sf1]; exact w6, by show (cd.storeRun _ _).slots.size = _; rw [sf3]; exact w7, fun k hk => ?_⟩⟩
      show (cd.storeRun dp.toNatClampNeg (cs.stretch sp.toNatClampNeg n.toNatClampNeg)).slots[k]? = some (va_cpy f g sp.toNatClampNeg dp.toNatClampNeg n.toNatClampNeg k)
      rw [Cell.storeRun_get _ _ _ _ (by rw [hlen, g5]; omega), hlen]
      unfold va_cpy
      by_cases hk2 : dp.toNatClampNeg ≤ k ∧ k < dp.toNatClampNeg + n.toNatClampNeg
      · rw [if_pos hk2, if_pos hk2]
        simp only [Cell.stretch, List.getElem?_map]
        rw [List.getElem?_range (by omega)]
        simp only [Option.map_some]
        rw [hval _ (by omega)]
      · rw [if_neg hk2, if_neg hk2]
        exact g6 k hk
  have hR1 : hx_R V h1 (H.setIfInBounds a (copied cs cd sp dp n)) := by
    rw [e9]
    exact Dn.1.set u8 (by simp) g1 oa sf3 oq hcell
  have Dn1 : hx_Dyn V s (H.setIfInBounds a (copied cs cd sp dp n)) h1 (locs ++ (cs.stretch sp.toNatClampNeg n.toNatClampNeg).zipIdx.map fun q => ⟨a, dp.toNatClampNeg + q.2⟩) := by
    obtain ⟨d1, d2, d3, d4, d5, d6⟩ := Dn
    refine ⟨hR1, by rw [e9]; exact d2, by rw [e9]; exact d3, by rw [e9]; exact d4, by rw [e9]; exact d5, fun q hq => ?_⟩
    rcases List.mem_append.mp hq with hq | hq
    · exact d6 q hq
    · obtain ⟨w, -, rfl⟩ := List.mem_map.mp hq
      exact u8
  have w := k p l e R s m args below meth c _ _ A C Dn1 hl
  have ee : h1.1 = h.1 ∧ h1.2.1 = h.2.1 := by rw [e9]; exact ⟨rfl, rfl⟩
  rw [ee.1, ee.2] at w
  obtain ⟨t', a1, b1⟩ := w _ hheap X'
  exact ⟨t', step t' a1, b1⟩
end CP

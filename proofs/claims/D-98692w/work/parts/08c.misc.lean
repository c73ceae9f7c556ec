/-! MORE ROWS: ldc_w of a String, a nest mate's static field, instanceof, a super's method, Always -/
set_option maxRecDepth 100000
def tyX12 : Nat → FieldType := fun _ => .int
theorem in_X12 : ∀ w ∈ u_ws RX12 TX12 0, w ∈ lw_all := fun w hw => by cases hw
theorem tyX12_ok : ∀ k, k < 0 → parseFieldDescriptor (TX12 k).2.2.1 = some (tyX12 k) := fun k hk => by omega
theorem hx_ldcw0 {p : Program} {l : Launch} {e : Env} {R : Room} {s : State} {m : MethodId} {args : Array Value} {below : List Frame} {meth : Method} {c : Code} {T : State} {locs : List Loc} {cells slots : Nat}
    (X : Stand p l e R s m args below meth c T locs cells slots) (hexec : p.tables.exec = Jvm.exec) {own tx : String} {index : Nat} {a : Addr} (hown : s.vm.findClass own = some m.cls)
    (hconst : (Cond.stringRef own index tx).before args s = true) (hev : (Term.string own index).eval args s none [] s = some (.ref a)) {g : JFrame} (hg : g.method = m) (hdg : decode c.code g.pc = .ok (.ldc_w index, 3)) :
    ∀ target, Steps p.tables e below (T.setTop { g with pc := g.pc + 3, stack := .ref a :: g.stack }) target → Steps p.tables e below (T.setTop g) target := by
  obtain ⟨k, cf, i, a', hk, hcf, hcp, -, hr, hev'⟩ := Cond.stringRef_spec hown hconst
  cases hev.symm.trans hev'
  obtain ⟨k', hk', he⟩ := X.warmed.alike.2.2 _ _ hk
  have hr' : k'.resolved[index]? = some (some (.string a)) := by
    rcases X.warmed.entry hk hk' index with h | ⟨h, -⟩
    · rw [h]; exact hr
    · rw [hr] at h; cases h
  intro target hrest
  subst hg
  jvm_step X.here [hexec, hdg, ldc_w.wp_string (e := e) (s := T) (f := g) X.here.top hk' (by rw [he]; exact hcf) hcp hr']
  exact hrest
section MI
variable {V : hx_V} {d : Nat} {y : MethodName} {cc : ByteArray} {nL : Nat} {rt : Option FieldType} {pc : Nat} {ls : List (Nat × Value)} {st : List Value} {h h1 : hx_S} {r : Outcome × hx_S}
theorem cx_ldcwS {v : Value} (q : Nat × String × Nat × String) (hd : decode cc pc = .ok (.ldc_w q.2.2.1, 3)) (e : V.2.2.2.2 q.1 = v) (hq : q ∈ hx_strs) (ho : y.cls = q.2.1)
    (kk : hx_X V d y cc nL rt (pc + 3) ls (v :: st) h r) : hx_X V d y cc nL rt pc ls st h r := by
  subst e
  intro p l e R s m args below meth c H locs A C Dn hl
  obtain ⟨a, e1, e2⟩ := C.2.1.2.2.2.2.2.2.2.2.2 q hq
  have w := kk p l e R s m args below meth c H locs A C Dn hl
  rw [e1] at w
  intro T hT X
  obtain ⟨t, a1, b1⟩ := w T hT X
  exact ⟨t, hx_ldcw0 X C.1.1 (own := q.2.1) (tx := q.2.2.2) (a := a) (by rw [← ho]; exact C.2.1.1) e2.1 e2.2 (g := F0 m pc A st) rfl (by rw [C.1.2.1]; exact hd) t a1, b1⟩
theorem cx_getsN {index : Nat} {ref host : String} {v : Value} (q : Nat × String × String × String) (hd : decode cc pc = .ok (.getstatic index, 3)) (e : V.2.2.2.2 q.1 = v) (hq : q ∈ hx_sts) (q1 : Cond.fieldLinkNest y.cls index ref q.2.2.1 q.2.2.2 host ∈ hx_nest) (hsame : ref = q.2.1 ∨ Cond.sameField ref q.2.1 q.2.2.1 q.2.2.2 ∈ lw_all)
    (kk : hx_X V d y cc nL rt (pc + 3) ls (v :: st) h r) : hx_X V d y cc nL rt pc ls st h r := by
  subst e
  intro p l e R s m args below meth c H locs A C Dn hl
  obtain ⟨cf, kf, fi, f, a, cell, h1, h2, h3, h4, h5, h6, h7, h8⟩ := C.2.1.2.2.2.2.2.2.2.2.1 q hq
  have hi2 : s.fieldFound? ref q.2.2.1 q.2.2.2 = some (cf, kf, fi, f) := by
    rcases hsame with e | e
    · rw [e]; exact h1
    · exact u_same (C.2.1.2.2.1 _ e) _ h1
  exact va_WgetsN C.1.1 C.1.2.1 C.2.1.1 (va_Nw.use rfl (C.2.1.2.2.2.2.2.1 _ q1)) hi2 h2 h3 h4 (by rw [Dn.1.2.2.2.2 a (by omega)]; exact h5) (fun e => by rw [e] at h6; cases h6) h7 rfl hd (kk p l e R s m args below meth c H locs A C Dn hl)
theorem cx_inst {index a t : Nat} {q : vw_C} (hd : decode cc pc = .ok (.instanceof index, 3)) (ek : hk h a [t] = true) (ht : t < 100) (hc : hx_cls t = some q) (q1 : Cond.classLink y.cls index (hx_cn t) ∈ lw_all) (k : hx_X V d y cc nL rt (pc + 3) ls (.int 1 :: st) h r) : hx_X V d y cc nL rt pc ls (.ref a :: st) h r := fun p l e R s m args below meth c H locs A C Dn hl => by
  obtain ⟨x, w1, w2⟩ := hk_ok ek
  have w3 : x.1 = t := by simpa using w2
  subst w3
  obtain ⟨cell, b1, b2, b3, b4, b5, b6⟩ := hx_named C Dn w1 (by omega) (fun _ => by rw [hc]; rfl)
  have hca : ClassAt s (hx_cn x.1) (V.1.1 x.1) := by
    unfold hx_cn
    rw [if_pos ht, hc]
    exact (C.2.1.2.2.2.1 x.1 q hc).2
  exact va_instS C.1.1 C.1.2.1 C.2.1.1 (C.2.1.2.2.1 _ q1) hca ⟨cell, b1, b4, b5⟩ hd (k p l e R s m args below meth c H locs A C Dn hl)
theorem cx_callSU {x : MethodName} {bx : ByteArray} {nx : Nat} {rx : Option FieldType} {v : Option Value} {index b : Nat} {ts : List Nat} (avs : List Value)
    (hd : decode cc pc = .ok (.invokespecial index, 3)) (M : hx_M V d x bx nx rx (.ref b :: avs) h (.returned v) h1) (e : hk h b ts = true) (hS : ∀ t ∈ ts, t < 109 ∧ (t < 100 → (hx_cls t).isSome = true))
    (q1 : Cond.methodLink y.cls index x ∈ lw_all) (q6 : Cond.sameMethod x.cls x.cls x.name x.desc ∈ lw_all) (q7 : Cond.superclass y.cls x.cls ∈ lw_all) (hno : x.name ≠ "<init>") (q2 : Cond.instanceMethod x ∈ lw_all) (q4 : Cond.initialized x.cls ∈ lw_all) (q5 : Cond.code x bx nx rx ∈ lw_all)
    (hp : (x.cls ≠ "java/lang/invoke/MethodHandle" ∧ x.cls ≠ "java/lang/invoke/VarHandle") ∧ (parseMethodDescriptor x.desc).map (fun d => d.parameters.length) = some avs.length) (hn : nx ≤ 24)
    {st0 : List Value} (hst : st0 = avs.reverse ++ .ref b :: st) (hr : (st.map fun v => v.category).sum ≤ 8)
    {stk : List Value} (hv : v.toList ++ st = stk) (k : hx_X V (d + 1) y cc nL rt (pc + 3) ls stk h1 r) : hx_X V (d + 1) y cc nL rt pc ls st0 h r := by
  obtain ⟨cf, hb, w2⟩ := hk_ok e
  obtain ⟨hx, hci⟩ := hS _ w2
  subst hst
  subst hv
  intro p l e R s m args below meth c H locs A C Dn hl T hT X
  obtain ⟨⟨c1, c2, c3, c4, c5⟩, ⟨c6, c7, c8, c9⟩, c10, c11⟩ := id C
  obtain ⟨d1, d2, d3, d4, d5, d6⟩ := id Dn
  have hK := hx_back (l := l) (e := e) (below := below) (len := 3) C M d4 d5 hn q5 q4
  obtain ⟨cell, b1, b2, b3, hst, hcls, kB, hkB⟩ := hx_named C Dn hb hx hci
  have z1 : s.heap.size + R.cells = V.2.2.1 := c10.2.2.1
  have z2 : hx_tot s.heap + R.slots = V.2.2.2.1 := c10.2.2.2.1
  have hsize : A.size = c.maxLocals := by rw [c3]; exact hl.1
  have hlen : ∀ sig, parseMethodDescriptor x.desc = some sig → avs.length = sig.parameters.length := by
    intro sig hs
    have h2 := hp.2
    rw [hs] at h2
    exact (Option.some.inj h2).symm
  obtain ⟨v', vm₁, P, w1, X', hpost, hsteps⟩ := va_callSU X c1 (own := y.cls) (index := index) (bytes := bx) (maxL := nx) c6 (c8 _ q1) (c8 _ q6) (c8 _ q7) (c8 _ q2) (c8 _ q5) hno hK (b := b) (cellB := cell) (by rw [hT]; exact b1) hst hkB
    (g := F0 m pc A (avs.reverse ++ .ref b :: st)) rfl hsize (argsL := avs) (rest := st) hlen rfl (lv_room (m := m) (pc := pc) (ls := A) (rest := avs.reverse ++ .ref b :: st) hr) (by rw [c2]; exact hd)
    (fun vm₁ hw => ⟨by show h.1 - s.heap.size + (V.2.2.1 - h.1) ≤ R.cells; omega, by show h.2.1 - hx_tot s.heap + (V.2.2.2.1 - h.2.1) ≤ R.slots; omega, rfl, by show hx_R V h T.heap; rw [hT]; exact d1, hx_K.warm (u := s) (U := T.setVm vm₁) hw c9, by show V.2.1.size ≤ T.heap.size; rw [hT, d1.1]; have := c10.2.2.2.2; omega⟩)
  obtain ⟨t, a1, a2⟩ := hx_behind (vm₁ := vm₁) (T := T) (av := .ref b :: avs) (pc2 := pc + 3) C Dn hl X' hpost k
  exact ⟨t, hsteps t a1, a2⟩
theorem cx_ldcM {index : Nat} {v : Value} (hd : decode cc pc = .ok (.ldc index, 2)) (ev : V.2.2.2.2 90 = v) (q1 : Cond.classLink y.cls index "[Ljava/lang/Object;" ∈ lw_all)
    (kk : hx_X V d y cc nL rt (pc + 2) ls (v :: st) h r) : hx_X V d y cc nL rt pc ls st h r := by
  subst ev
  intro p l e R s m args below meth c H locs A C Dn hl
  obtain ⟨mi, e1, e2⟩ := C.2.1.2.2.2.2.2.2.2.1.2.2
  have w := kk p l e R s m args below meth c H locs A C Dn hl
  rw [e1] at w
  exact va_ldcM C.1.1 C.1.2.1 C.2.1.1 (C.2.1.2.2.1 _ q1) e2 hd w
theorem cx_getC {index a : Nat} {v : Value} (hd : decode cc pc = .ok (.invokevirtual index, 3)) (ev : V.2.2.2.2 90 = v) (ek : hk h a [105] = true)
    (q1 : Cond.methodLink y.cls index ⟨"java/lang/Object", "getClass", "()Ljava/lang/Class;"⟩ ∈ lw_all) (q2 : Cond.declares ⟨"java/lang/Object", "getClass", "()Ljava/lang/Class;"⟩ ∈ hx_nest) (q3 : Cond.selects "[Ljava/lang/Object;" ⟨"java/lang/Object", "getClass", "()Ljava/lang/Class;"⟩ ⟨"java/lang/Object", "getClass", "()Ljava/lang/Class;"⟩ ∈ lw_all) (q4 : Cond.instanceMethod ⟨"java/lang/Object", "getClass", "()Ljava/lang/Class;"⟩ ∈ lw_all) (q5 : Cond.native ⟨"java/lang/Object", "getClass", "()Ljava/lang/Class;"⟩ ∈ lw_all) (hr : (st.map fun v => v.category).sum ≤ 8)
    (kk : hx_X V (d + 1) y cc nL rt (pc + 3) ls (v :: st) h r) : hx_X V (d + 1) y cc nL rt pc ls (.ref a :: st) h r := by
  subst ev
  intro p l e R s m args below meth c H locs A C Dn hl
  obtain ⟨mi, e1, e2⟩ := C.2.1.2.2.2.2.2.2.2.1.2.2
  have w := kk p l e R s m args below meth c H locs A C Dn hl
  rw [e1] at w
  obtain ⟨x, w1, w2⟩ := hk_ok ek
  have w3 : x.1 = 105 := by simpa using w2
  obtain ⟨cell, b1, b2, b3, b4, b5, b6⟩ := hx_named C Dn w1 (by omega) (fun q => by omega)
  rw [w3] at b5
  exact va_getC C.1.1 C.1.2.1 (by rw [C.1.2.2.1]; exact hl.1.symm) C.2.1.1 (C.2.1.2.2.1 _ q1) (va_Nw.use rfl (C.2.1.2.2.2.2.2.1 _ q2)) (C.2.1.2.2.1 _ q3) (C.2.1.2.2.1 _ q4) (C.2.1.2.2.1 _ q5) e2 ⟨cell, b1, b4, b5⟩ (by rw [C.2.2.1.1]; omega) (by rw [C.2.2.1.2.1]; omega) hd w
end MI

/-! THROWING: athrow, and a call that throws -/
set_option maxRecDepth 100000
section TH
variable {V : hx_V} {d : Nat} {y : MethodName} {cc : ByteArray} {nL : Nat} {rt : Option FieldType} {pc : Nat} {ls : List (Nat × Value)} {st : List Value} {h h1 : hx_S} {r : Outcome × hx_S}
theorem hx_athrow {a : Nat} (hd : decode cc pc = .ok (.athrow, 1)) : hx_X V d y cc nL rt pc ls (.ref a :: st) h (.threw a, h) := fun p l e R s m args below meth c H locs A C Dn hl T hT X => by
  obtain ⟨w1, w2, w3, w4, w5⟩ := X.athrowLeaves C.1.1 (g := F0 m pc A (.ref a :: st)) rfl rfl rfl (fun x hx => C.2.2.2 x hx pc) rfl (by rw [C.1.2.1]; exact hd) C.1.2.2.2.2
  obtain ⟨d1, d2, d3, d4, d5, d6⟩ := Dn
  have z1 : s.heap.size + R.cells = V.2.2.1 := C.2.2.1.2.2.1
  have z2 : hx_tot s.heap + R.slots = V.2.2.2.1 := C.2.2.1.2.2.2.1
  exact ⟨_, w1, w2, w3, by show hx_R V h T.heap; rw [hT]; exact d1, w4, locs, w5.mono (by omega) (by omega), d6⟩
theorem hx_thrown {p : Program} {l : Launch} {e : Env} {R : Room} {s : State} {m : MethodId} {args : Array Value} {below : List Frame} {meth : Method} {c : Code} {H : Heap} {locs : List Loc} {U : State} {x : MethodName} {bx : ByteArray} {nx : Nat} {rx : Option FieldType} {av : List Value} {a : Nat} {g : JFrame} {ig : Instr} {len : Nat} {mk : MethodId}
    (C : hx_Ctx V (d + 1) y cc nL rt p R s m args meth c) (Dn : hx_Dyn V s H h locs) (hU : U.heap = H) (M : hx_M V d x bx nx rx av h (.threw a) h1) (hn : nx ≤ 24) (q1 : Cond.code x bx nx rx ∈ lw_all) (q2 : Cond.initialized x.cls ∈ lw_all)
    (X : Stand p l e R s m args below meth c U locs (h.1 - s.heap.size) (h.2.1 - hx_tot s.heap)) (hg : g.method = m) (hlo : g.locked = none) (hen : g.entered = []) (hsize : g.locals.size = c.maxLocals) (hdg : decode c.code g.pc = .ok (ig, len)) (hW : 2 * g.monitorRoom + (g.stack.map fun v => v.category).sum ≤ 8) (hnm : U.methodNamed? x = some mk) :
    ∃ t, Steps p.tables e below (doInvoke e (U.setTop g) [] mk av.toArray).1 t ∧ hx_Q V (.threw a) h1 below s R t := by
  obtain ⟨⟨c1, c2, c3, c4, c5⟩, ⟨c6, c7, c8, c9⟩, ⟨c10, c11, c12, c13, c14⟩, c15⟩ := id C
  obtain ⟨d1, d2, d3, d4, d5, d6⟩ := id Dn
  have hpre : (allAtoms (ws_ x bx nx rx)).before av.toArray U = true := atoms_intro fun w hw => hx_words c8 q1 w hw _ _ X.warmed
  have hcode : (Cond.code x bx nx rx).before av.toArray U = true := hx_words c8 q1 _ List.mem_cons_self _ _ X.warmed
  have hini : (Cond.initialized x.cls).before av.toArray U = true := by
    obtain ⟨g1, g2⟩ := lw_self _ q2
    exact word_at X.warmed g2 (c8 _ g1)
  obtain ⟨methY, cY, hmY, hcY, -, hlY, -, -, -, -⟩ := Cond.code_spec hnm hcode
  obtain ⟨kY, hkY, -⟩ := className_of_methodNamed hnm
  have hinitY : kY.init = .initialized := Cond.initialized_spec (findClass_of_methodNamed hnm) hkY hini
  have hh : At U g.method c below := by rw [hg]; exact X.here
  have happ : (headSpec (ws_ x bx nx rx) (hx_rm V d h)).appliesLoose x e.platform (U.calling g mk av.toArray) = true :=
    Spec.appliesLoose_calling (g := g) hh hdg hnm hkY hinitY
      (X.room_calling (g := g) (R' := hx_rm V d h) hsize hmY hcY (by show d + 1 ≤ R.frames; omega) (by rw [hlY]; show _ + 43 * d ≤ R.locals; omega) (by show h.1 - s.heap.size + (V.2.2.1 - h.1) ≤ R.cells; omega) (by show h.2.1 - hx_tot s.heap + (V.2.2.2.1 - h.2.1) ≤ R.slots; omega)) hpre
  obtain ⟨mid, hmid⟩ := hh.above
  have hfr : (U.setTop g).frames = (.java g :: mid) ++ below := by rw [State.frames_setTop' g hh.top, hmid]; rfl
  have hPp : hx_P V av h av.toArray (U.calling g mk av.toArray) := ⟨rfl, by show hx_R V h U.heap; rw [hU]; exact d1, hx_K.same (u := U) (U := U.calling g mk av.toArray) rfl (hx_K.warm (u := s) (U := U) X.warmed c9), by show V.2.1.size ≤ U.heap.size; rw [hU, d1.1]; omega⟩
  obtain ⟨o, s₂, hsteps, -, hend, hq⟩ := Steps.callFree (M d4 d5 l) p X.admits X.cas X.clock (acts := []) hfr happ hPp trivial
  obtain ⟨rfl, hR1, hW₂, L, ⟨e2, k2, k3, k4, k5, k6⟩, hL⟩ : hx_O V (.threw a) h h1 av.toArray (U.calling g mk av.toArray) o s₂ := hq
  rw [State.frames_setTop' g hh.top] at hend
  have hf₂ : s₂.frames = .throwing a :: (.java g :: U.frames.tail) := hend
  have e3 : s₂ = ({ (U.calling g mk av.toArray).setFrames s₂.frames with heap := s₂.heap, slotsUsed := s₂.slotsUsed } : State).setVm s₂.vm := by
    have : s₂ = ({ s₂ with vm := (U.calling g mk av.toArray).vm } : State).setVm s₂.vm := rfl
    rw [e2] at this
    exact this
  have hW' : U.WarmedH s₂.vm := hW₂
  obtain ⟨g₀, hg0⟩ := Option.isSome_iff_exists.mp hh.top
  obtain ⟨rr, hr⟩ := State.topJava?_eq_some.mp hg0
  have hs₂ : s₂ = ((({ U with heap := s₂.heap, slotsUsed := s₂.slotsUsed } : State).setVm s₂.vm).setTop g).pushFrame (.throwing a) := by
    have hr' : (({ U with heap := s₂.heap, slotsUsed := s₂.slotsUsed } : State).setVm s₂.vm).frames = .java g₀ :: rr := hr
    have hcur : (({ U with heap := s₂.heap, slotsUsed := s₂.slotsUsed } : State).setVm s₂.vm).cur < (({ U with heap := s₂.heap, slotsUsed := s₂.slotsUsed } : State).setVm s₂.vm).threads.size := State.cur_lt_of_frames hr'
    refine e3.trans ?_
    rw [hf₂, State.calling_eq hh.top, State.setFrames_setFrames, State.setTop_of_frames _ hr', State.pushFrame, State.frames_setFrames _ hcur, State.setFrames_setFrames, hr]
    rfl
  have hsame : U.sameButNew ({ U with heap := s₂.heap, slotsUsed := s₂.slotsUsed } : State) L (V.2.2.1 - h.1) (V.2.2.2.1 - h.2.1) := by
    refine ⟨?_, k2, k3, k4, k5, k6⟩
    obtain ⟨t, ht, -⟩ := State.frames_cons hr
    show ({ U with heap := s₂.heap, slotsUsed := s₂.slotsUsed } : State) = { U.setFrames U.frames with heap := s₂.heap, slotsUsed := s₂.slotsUsed }
    rw [State.setFrames_self ht]
  have X' : Stand p l e R s m args below meth c (({ U with heap := s₂.heap, slotsUsed := s₂.slotsUsed } : State).setVm s₂.vm) (locs ++ L) (h.1 - s.heap.size + (V.2.2.1 - h.1)) (h.2.1 - hx_tot s.heap + (V.2.2.2.1 - h.2.1)) :=
    ⟨X.admits, X.cas, X.clock, X.frames, X.room, X.hears, X.method, X.code, (X.here.setHeapUsed s₂.heap s₂.slotsUsed).setVm hW'.alike, X.tail, State.WarmedH.trans X.warmed hW', X.limits, X.bytes, X.same.trans (hsame.setVm s.vm)⟩
  obtain ⟨w1, w2, w3, w4, w5⟩ := X'.leaveThrown a (g := g) hg hlo hen (fun x hx => c15 x hx g.pc) c5
  rw [← hs₂] at w1
  refine ⟨_, hsteps.trans w1, w2, w3, hR1, w4, locs ++ L, w5.mono (by omega) (by omega), fun q hq => ?_⟩
  rcases List.mem_append.mp hq with hq | hq
  · exact d6 q hq
  · exact hL q hq
theorem hx_callWT {x : MethodName} {bx : ByteArray} {nx : Nat} {rx : Option FieldType} {index b a : Nat} {cf : hx_C} (avs : List Value)
    (hd : decode cc pc = .ok (.invokevirtual index, 3)) (M : hx_M V d x bx nx rx (.ref b :: avs) h (.threw a) h1)
    (hb : h.2.2 b = some cf) (hx : cf.1 < 109) (hci : cf.1 < 100 → (hx_cls cf.1).isSome = true) (q1 : Cond.methodLink y.cls index x ∈ lw_all) (q3 : Cond.selects (hx_cn cf.1) x x ∈ lw_all ∨ Cond.selects (hx_cn cf.1) x x ∈ hx_sel2) (q2 : Cond.instanceMethod x ∈ lw_all) (q4 : Cond.initialized x.cls ∈ lw_all) (q5 : Cond.code x bx nx rx ∈ lw_all)
    (hp : (x.cls ≠ "java/lang/invoke/MethodHandle" ∧ x.cls ≠ "java/lang/invoke/VarHandle") ∧ (parseMethodDescriptor x.desc).map (fun d => d.parameters.length) = some avs.length) (hn : nx ≤ 24)
    {st0 : List Value} (hst : st0 = avs.reverse ++ .ref b :: st) (hr : (st.map fun v => v.category).sum ≤ 8) : hx_X V (d + 1) y cc nL rt pc ls st0 h (.threw a, h1) := by
  subst hst
  intro p l e R s m args below meth c H locs A C Dn hl T hT X
  obtain ⟨⟨c1, c2, c3, c4, c5⟩, ⟨c6, c7, c8, c9⟩, c10, c11⟩ := id C
  obtain ⟨cell, b1, b2, b3, hst, hcls, kB, hkB⟩ := hx_named C Dn hb hx hci
  have hsize : A.size = c.maxLocals := by rw [c3]; exact hl.1
  have hlen : ∀ sig, parseMethodDescriptor x.desc = some sig → avs.length = sig.parameters.length := by
    intro sig hs
    have h2 := hp.2
    rw [hs] at h2
    exact (Option.some.inj h2).symm
  obtain ⟨mk, methM, hnamed, hmethM, hstM, habM⟩ := Cond.instanceMethod_spec (c8 _ q2)
  obtain ⟨methM', cM, hmethM', -, -, -, -, -, -, hsigM⟩ := Cond.code_spec hnamed (c8 _ q5)
  cases hmethM.symm.trans hmethM'
  obtain ⟨cc2, r2, m2, u1, u2, u3, u4, kP, hkP, hkPi⟩ := Cond.selects_spec (hx_selw C q3)
  cases hcls.symm.trans u1
  cases (State.methodFound?_of_named hnamed hp.1).symm.trans u2
  cases hnamed.symm.trans u3
  have hselP : selectMethod e.platform s.vm cell.cls mk = .method mk := by rw [Launch.admits_selectMethod X.admits]; exact u4
  obtain ⟨vm₁, X₁, hstep₁⟩ := X.invokevirtual c1 c6 (c8 _ q1) hnamed hmethM hstM hkP hkPi hp.1 (a := b) (cell := cell) (by rw [hT]; exact b1)
    (fun z hz => by rw [hz] at hst; cases hst) hselP hmethM habM hkP hkPi (g := F0 m pc A (avs.reverse ++ .ref b :: st)) rfl (argsL := avs) (rest := st) (hlen _ hsigM) rfl (by rw [c2]; exact hd)
  obtain ⟨t, a1, a2⟩ := hx_thrown (g := { F0 m pc A (avs.reverse ++ .ref b :: st) with stack := st }) (av := .ref b :: avs) C Dn (show (T.setVm vm₁).heap = H from hT) M hn q5 q4 X₁ rfl rfl rfl hsize (by rw [c2]; exact hd) (lv_room (m := m) (pc := pc) (ls := A) (rest := st) hr) (X₁.named hnamed)
  exact ⟨t, hstep₁ _ fun acts => by rw [doInvoke_state]; exact a1, a2⟩
theorem cx_callVT {x : MethodName} {bx : ByteArray} {nx : Nat} {rx : Option FieldType} {index b a : Nat} {ts : List Nat} (avs : List Value)
    (hd : decode cc pc = .ok (.invokevirtual index, 3)) (M : hx_M V d x bx nx rx (.ref b :: avs) h (.threw a) h1) (e : hk h b ts = true) (hS : ∀ t ∈ ts, hx_Sok x x t)
    (q1 : Cond.methodLink y.cls index x ∈ lw_all) (q2 : Cond.instanceMethod x ∈ lw_all) (q4 : Cond.initialized x.cls ∈ lw_all) (q5 : Cond.code x bx nx rx ∈ lw_all)
    (hp : (x.cls ≠ "java/lang/invoke/MethodHandle" ∧ x.cls ≠ "java/lang/invoke/VarHandle") ∧ (parseMethodDescriptor x.desc).map (fun d => d.parameters.length) = some avs.length) (hn : nx ≤ 24)
    {st0 : List Value} (hst : st0 = avs.reverse ++ .ref b :: st) (hr : (st.map fun v => v.category).sum ≤ 8) : hx_X V (d + 1) y cc nL rt pc ls st0 h (.threw a, h1) := by
  obtain ⟨cf, w1, w2⟩ := hk_ok e
  obtain ⟨o1, o2, o3⟩ := hS _ w2
  exact hx_callWT avs hd M w1 o1 o2 q1 o3 q2 q4 q5 hp hn hst hr
end TH
/-- an outcome: returned, or thrown -/
def hx_ot {α : Type} (k : α → Option Value) (x : α ⊕ Nat) : Outcome := match x with
  | .inl v => .returned (k v)
  | .inr a => .threw a
/-- behind a call that may throw -/
def hx_th {α β : Type} (q : (α ⊕ Nat) × hx_S) (thr : Nat → hx_S → Option β) (ret : α → hx_S → Option β) : Option β := match q.1 with
  | .inl v => ret v q.2
  | .inr a => thr a q.2
theorem hx_th_ok {α β : Type} {q : (α ⊕ Nat) × hx_S} {thr : Nat → hx_S → Option β} {ret : α → hx_S → Option β} {t : β} (e : hx_th q thr ret = some t) : (∃ a h, q = (.inr a, h) ∧ thr a h = some t) ∨ (∃ v h, q = (.inl v, h) ∧ ret v h = some t) := by
  obtain ⟨x, h⟩ := q
  cases x with
  | inl v => exact Or.inr ⟨v, h, rfl, e⟩
  | inr a => exact Or.inl ⟨a, h, rfl, e⟩
/-- the kind of a cell -/
def htag (h : hx_S) (a : Nat) : Option Nat := (h.2.2 a).map (fun x => x.1)
theorem htag_ok {h : hx_S} {a t : Nat} (e : htag h a = some t) : ∃ x, h.2.2 a = some x ∧ x.1 = t := by
  unfold htag at e
  cases hx : h.2.2 a with
  | none => rw [hx] at e; cases e
  | some x => rw [hx] at e; exact ⟨x, rfl, Option.some.inj e⟩
/-- what an interface's call needs of a class -/
def hx_Iok (x0 x : MethodName) (bx : ByteArray) (nx : Nat) (rx : Option FieldType) (t : Nat) : Prop := t < 109 ∧ (t < 100 → (hx_cls t).isSome = true) ∧ (hx_cn t, x0, x) ∈ hx_ifs ∧ Cond.selects (hx_cn t) x0 x ∈ lw_all ∧ Cond.instanceMethod x ∈ lw_all ∧ Cond.initialized x.cls ∈ lw_all ∧ Cond.code x bx nx rx ∈ lw_all ∧ nx ≤ 24
section TI
variable {V : hx_V} {d : Nat} {y : MethodName} {cc : ByteArray} {nL : Nat} {rt : Option FieldType} {pc : Nat} {ls : List (Nat × Value)} {st : List Value} {h h1 : hx_S} {r : Outcome × hx_S}
theorem cx_callIF {x0 x : MethodName} {bx : ByteArray} {nx : Nat} {rx : Option FieldType} {v : Option Value} {index b t count : Nat} (avs : List Value)
    (hd : decode cc pc = .ok (.invokeinterface index count, 5)) (M : hx_M V d x bx nx rx (.ref b :: avs) h (.returned v) h1) (e : htag h b = some t) (hI : hx_Iok x0 x bx nx rx t)
    (q1 : Cond.methodLink y.cls index x0 ∈ lw_all)
    (hp : (x0.cls ≠ "java/lang/invoke/MethodHandle" ∧ x0.cls ≠ "java/lang/invoke/VarHandle") ∧ (parseMethodDescriptor x0.desc).map (fun d => d.parameters.length) = some avs.length)
    {st0 : List Value} (hst : st0 = avs.reverse ++ .ref b :: st) (hr : (st.map fun v => v.category).sum ≤ 8)
    {stk : List Value} (hv : v.toList ++ st = stk) (k : hx_X V (d + 1) y cc nL rt (pc + 5) ls stk h1 r) : hx_X V (d + 1) y cc nL rt pc ls st0 h r := by
  obtain ⟨cf, w1, rfl⟩ := htag_ok e
  obtain ⟨i1, i2, i3, i4, i5, i6, i7, i8⟩ := hI
  exact hx_callIF avs hd M w1 i1 i2 q1 i3 i4 i5 i6 i7 hp i8 hst hr hv k
end TI
theorem hx_mv {V : hx_V} {d : Nat} {y : MethodName} {cc : ByteArray} {nL : Nat} {rt : Option FieldType} {args : List Value} {h h1 : hx_S} {w v : Value} (e : w = v) (M : hx_M V d y cc nL rt args h (.returned (some w)) h1) : hx_M V d y cc nL rt args h (.returned (some v)) h1 := e ▸ M

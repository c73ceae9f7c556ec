/-! a row of arrays of whole numbers (multianewarray) -/
set_option maxRecDepth 100000
/-- the outer array when k rows hang in it -/
def mu_o (cO : ClassId) (n A : Nat) : Nat → Cell
  | 0 => { cls := cO, slots := Array.replicate n .null, vm := .none }
  | k + 1 => (mu_o cO n A k).setSlot k (.ref (A + 1 + k))
/-- the state when k rows have been made -/
def mu_st (cO cI : ClassId) (n m : Nat) (s : State) : Nat → State
  | 0 => s.pushCell (mu_o cO n s.heap.size 0)
  | k + 1 => ((mu_st cO cI n m s k).pushCell { cls := cI, slots := Array.replicate m (.int 0), vm := .none }).setCell s.heap.size (mu_o cO n s.heap.size (k + 1))
section MU
variable {E : CtlPost} {e : Env} {d : Bool} {acts : List Action} {s : State}
theorem mu_inner {cI comp : ClassId} {kI : Class} {m : Int32} {Q : Addr → Pre} (hk : s.vm.classes[cI]? = some kI) (hkind : kI.kind = .array comp .int) (hm : ¬ m < 0) (hlimit : ¬ m.toNatClampNeg > e.platform.arrayLengthLimit) (hheap : ¬ m.toNatClampNeg * componentBytes .int > e.platform.maxHeapBytes)
    (hcells : s.heap.size < e.platform.maxCells) (hslots : s.slotsUsed + m.toNatClampNeg ≤ e.platform.maxSlots)
    (hq : ∀ acts', Q s.heap.size d acts' (s.pushCell { cls := cI, slots := Array.replicate m.toNatClampNeg (.int 0) })) : wp (Op.multianewarray.make cI [m]) Q E e d acts s := by
  unfold Op.multianewarray.make
  simp only [hm, if_false, wp_bind', wp_pure', W.theClass, hk, hkind, Option.some.injEq, exists_eq_left']
  exact W.newArray_of hk hkind hlimit hheap hcells hslots rfl hq
theorem mu_o_facts (cO : ClassId) (n A k : Nat) : (mu_o cO n A k).cls = cO ∧ (mu_o cO n A k).vm = .none ∧ (mu_o cO n A k).slots.size = n := by
  induction k with
  | zero => exact ⟨rfl, rfl, by simp [mu_o]⟩
  | succ k ih => exact ⟨ih.1, ih.2.1, by simp [mu_o, Cell.setSlot]; exact ih.2.2⟩
theorem mu_st_facts (cO cI : ClassId) (n m : Nat) (s : State) (k : Nat) : (mu_st cO cI n m s k).vm = s.vm ∧ (mu_st cO cI n m s k).heap.size = s.heap.size + 1 + k ∧ (mu_st cO cI n m s k).slotsUsed = s.slotsUsed + n + k * m ∧ (mu_st cO cI n m s k).heap[s.heap.size]? = some (mu_o cO n s.heap.size k) := by
  induction k with
  | zero => exact ⟨rfl, by simp [mu_st, State.pushCell], by simp [mu_st, State.pushCell, mu_o], by simp [mu_st, State.pushCell]⟩
  | succ k ih =>
    obtain ⟨h1, h2, h3, h4⟩ := ih
    refine ⟨h1, ?_, ?_, ?_⟩
    · show (((mu_st cO cI n m s k).heap.push _).setIfInBounds _ _).size = _
      simp [h2]; omega
    · show (mu_st cO cI n m s k).slotsUsed + (Array.replicate m (Value.int 0)).size = _
      rw [h3, Array.size_replicate, Nat.succ_mul]; omega
    · show (((mu_st cO cI n m s k).heap.push _).setIfInBounds _ _)[s.heap.size]? = _
      rw [Array.getElem?_setIfInBounds]
      simp [h2]
      omega
theorem mu_make {cO cI comp : ClassId} {kO kI : Class} {n m : Int32} {Q : Addr → Pre} (hk : s.vm.classes[cO]? = some kO) (hkind : kO.kind = .array cI (.array .int)) (hkI : s.vm.classes[cI]? = some kI) (hkindI : kI.kind = .array comp .int) (hn : ¬ n < 0) (hn0 : ¬ n = 0) (hm : ¬ m < 0)
    (hl1 : ¬ n.toNatClampNeg > e.platform.arrayLengthLimit) (hl2 : ¬ m.toNatClampNeg > e.platform.arrayLengthLimit) (hh1 : ¬ n.toNatClampNeg * componentBytes (.array .int) > e.platform.maxHeapBytes) (hh2 : ¬ m.toNatClampNeg * componentBytes .int > e.platform.maxHeapBytes)
    (hcells : s.heap.size + 1 + n.toNatClampNeg ≤ e.platform.maxCells) (hslots : s.slotsUsed + n.toNatClampNeg + n.toNatClampNeg * m.toNatClampNeg ≤ e.platform.maxSlots)
    (hq : ∀ d' acts', Q s.heap.size d' acts' (mu_st cO cI n.toNatClampNeg m.toNatClampNeg s n.toNatClampNeg)) : wp (Op.multianewarray.make cO [n, m]) Q E e d acts s := by
  unfold Op.multianewarray.make
  simp only [hn, if_false, wp_bind', wp_pure', W.theClass, hk, hkind, Option.some.injEq, exists_eq_left', beq_iff_eq, hn0]
  refine W.newArray_of hk hkind hl1 hh1 (by omega) (by omega) rfl (fun acts' => ?_)
  simp only [wp_bind', Std.Legacy.Range.forIn_eq_forIn_range', Std.Legacy.Range.size]
  generalize hN : n.toNatClampNeg = N at *
  generalize hM : m.toNatClampNeg = M at *
  refine wp_forIn_inv (fun rest s' => ∃ k, k ≤ N ∧ rest = List.range' k (N - k) 1 ∧ s' = mu_st cO cI N M s k) _ _ ⟨0, Nat.zero_le _, by simp, rfl⟩ ?_ ?_
  · rintro x rest s' d' acts' Q' ⟨k, hk1, hk2, rfl⟩ hnext
    have hlt : k < N := by
      rcases Nat.lt_or_ge k N with q | q
      · exact q
      · rw [show N - k = 0 by omega] at hk2
        cases hk2
    rw [show N - k = (N - (k + 1)) + 1 by omega, List.range'_succ] at hk2
    injection hk2 with e1 e2
    subst e1
    obtain ⟨f1, f2, f3, f4⟩ := mu_st_facts cO cI N M s x
    obtain ⟨o1, o2, o3⟩ := mu_o_facts cO N s.heap.size x
    have hmul : (x + 1) * M ≤ N * M := Nat.mul_le_mul_right _ hlt
    rw [Nat.succ_mul] at hmul
    simp only [wp_bind']
    refine mu_inner (kI := kI) (by rw [f1]; exact hkI) hkindI hm (by rw [hM]; exact hl2) (by rw [hM]; exact hh2) (by rw [f2]; omega) (by rw [f3, hM]; omega) (fun acts'' => ?_)
    show wp _ _ _ _ _ _ _
    simp only [wp_bind', W.writeLoc, wp_pure']
    refine ⟨mu_o cO N s.heap.size x, ?_, by rw [o2]; exact (fun q => by cases q), by rw [o3]; exact hlt, ?_, ?_⟩
    · show ((mu_st cO cI N M s x).heap.push _)[s.heap.size]? = _
      rw [Array.getElem?_push, if_neg (by rw [f2]; omega)]
      exact f4
    · have hk' : (mu_st cO cI N M s x).vm.classes[cO]? = some kO := by rw [f1]; exact hk
      simp [State.fitsSlot, State.slotType?, State.pushCell, o1, o2, hk', hkind, fits]
    · refine hnext _ _ _ ⟨x + 1, hlt, e2, ?_⟩
      rw [hM, f2]
      rfl
  · rintro s' d' acts' ⟨k, hk1, hk2, rfl⟩
    have : k = N := by
      rcases Nat.lt_or_ge k N with q | q
      · rw [show N - k = (N - (k + 1)) + 1 by omega, List.range'_succ] at hk2
        cases hk2
      · omega
    subst this
    exact hq _ _
end MU
section MS
variable {p : Program} {l : Launch} {e : Env} {R : Room} {s : State} {m : MethodId} {args : Array Value} {below : List Frame} {meth : Method} {c : Code} {T : State} {locs : List Loc} {cells slots : Nat}
theorem mu_stand {cO cI : ClassId} {n m0 : Nat} (X : Stand p l e R s m args below meth c T locs cells slots) (k : Nat) :
    Stand p l e R s m args below meth c (mu_st cO cI n m0 T k) (locs ++ (List.range k).map fun i => ⟨T.heap.size, i⟩) (cells + 1 + k) (slots + n + k * m0) := by
  induction k with
  | zero =>
    have X1 := X.pushed (mu_o cO n T.heap.size 0)
    have hz : (mu_o cO n T.heap.size 0).slots.size = n := (mu_o_facts cO n T.heap.size 0).2.2
    rw [hz] at X1
    simpa [mu_st] using X1
  | succ k ih =>
    obtain ⟨f1, f2, f3, f4⟩ := mu_st_facts cO cI n m0 T k
    have X1 := ih.pushed { cls := cI, slots := Array.replicate m0 (.int 0), vm := .none }
    have hc : ((mu_st cO cI n m0 T k).pushCell { cls := cI, slots := Array.replicate m0 (.int 0), vm := .none }).heap[T.heap.size]? = some (mu_o cO n T.heap.size k) := by
      show ((mu_st cO cI n m0 T k).heap.push _)[T.heap.size]? = _
      rw [Array.getElem?_push, if_neg (by rw [f2]; omega)]
      exact f4
    have X2 := X1.stored hc k (.ref (T.heap.size + 1 + k))
    rw [List.range_succ, List.map_append, ← List.append_assoc]
    rw [show cells + 1 + (k + 1) = cells + 1 + k + 1 by omega, show slots + n + (k + 1) * m0 = slots + n + k * m0 + (Array.replicate m0 (Value.int 0)).size by rw [Array.size_replicate, Nat.succ_mul]; omega]
    exact X2
end MS
theorem mu_top (cO cI : ClassId) (n m : Nat) (s : State) (f : JFrame) (k : Nat) : mu_st cO cI n m (s.setTop f) k = (mu_st cO cI n m s k).setTop f := by
  induction k with
  | zero => rfl
  | succ k ih =>
    show ((mu_st cO cI n m (s.setTop f) k).pushCell _).setCell _ _ = _
    rw [ih]
    rfl
theorem mu_javatop {cO cI : ClassId} {n m k : Nat} {s : State} (hs : s.topJava?.isSome) : (mu_st cO cI n m s k).topJava?.isSome := by
  induction k with
  | zero => exact hs
  | succ k ih => exact ih
section MR
variable {E : CtlPost} {e : Env} {d : Bool} {acts : List Action} {s : State} {f : JFrame} {Q : Unit → Pre}
theorem mu_cold {index dims c : Nat} {vm' : Vm} (hs : s.topJava?.isSome) (hg : (Jvm.resolveClass f.method.cls index).Gives e.toSetting s.vm (.ok c) vm') (hr : vm'.classReady f.method.cls index c) (hsz : vm'.classes.size ≤ s.vm.classes.size) :
    wp (Op.multianewarray.sem index dims) Q E e d acts (s.setTop f) ↔ wp (Op.multianewarray.sem index dims) Q E e d acts ((s.setVm vm').setTop f) := by
  simp only [Op.multianewarray.sem, wp_bind']
  exact W.resolveClassAt_transfer (s := s.setTop f) (State.method?_setTop f hs) hg hr hsz
theorem mu_ready {index : Nat} {cO cI comp : ClassId} {kO kI : Class} {n m : Int32} {rest : List Value} (hs : s.topJava?.isSome) (hr : s.vm.classReady f.method.cls index cO) (hk : s.vm.classes[cO]? = some kO) (hkind : kO.kind = .array cI (.array .int)) (hkI : s.vm.classes[cI]? = some kI) (hkindI : kI.kind = .array comp .int) (hn : ¬ n < 0) (hn0 : ¬ n = 0) (hm : ¬ m < 0)
    (hl1 : ¬ n.toNatClampNeg > e.platform.arrayLengthLimit) (hl2 : ¬ m.toNatClampNeg > e.platform.arrayLengthLimit) (hh1 : ¬ n.toNatClampNeg * componentBytes (.array .int) > e.platform.maxHeapBytes) (hh2 : ¬ m.toNatClampNeg * componentBytes .int > e.platform.maxHeapBytes)
    (hcells : s.heap.size + 1 + n.toNatClampNeg ≤ e.platform.maxCells) (hslots : s.slotsUsed + n.toNatClampNeg + n.toNatClampNeg * m.toNatClampNeg ≤ e.platform.maxSlots) (hstack : f.stack = .int m :: .int n :: rest)
    (hq : ∀ d' acts', Q () d' acts' ((mu_st cO cI n.toNatClampNeg m.toNatClampNeg s n.toNatClampNeg).setTop { f with stack := .ref s.heap.size :: rest })) : wp (Op.multianewarray.sem index 2) Q E e d acts (s.setTop f) := by
  have hst : f.stack = ([Value.int n, Value.int m] : List Value).reverse ++ rest := hstack
  simp only [Op.multianewarray.sem, wp_bind', W.resolveClassAt_ready (State.method?_setTop f hs) hr]
  rw [show (2 : Nat) = ([Value.int n, Value.int m] : List Value).length from rfl, popN_top hs hst]
  simp only [List.mapM_cons, List.mapM_nil, wp_bind', wp_pure']
  refine mu_make (s := s.setTop { f with stack := rest }) hk hkind hkI hkindI hn hn0 hm hl1 hl2 hh1 hh2 hcells hslots (fun d' acts' => ?_)
  rw [mu_top]
  have hs2 : (mu_st cO cI n.toNatClampNeg m.toNatClampNeg s n.toNatClampNeg).topJava?.isSome := mu_javatop hs
  show wp _ _ _ _ _ _ _
  simp only [wp_bind', W.mark, W.pushRef, State.topJava?_setTop' _ hs2, Option.some.injEq, exists_eq_left', State.setTop_setTop]
  exact hq _ _
end MR
theorem mu_o_get (cO : ClassId) (n A k i : Nat) (hk : k ≤ n) : (mu_o cO n A k).slots[i]? = if i < k then some (.ref (A + 1 + i)) else if i < n then some .null else none := by
  induction k with
  | zero =>
    simp [mu_o]
    by_cases h : i < n <;> simp [h]
  | succ k ih =>
    have ih := ih (by omega)
    have hz := (mu_o_facts cO n A k).2.2
    show ((mu_o cO n A k).setSlot k (.ref (A + 1 + k))).slots[i]? = _
    rw [hx_setslot_get (by rw [hz]; omega), ih]
    by_cases e : i = k
    · subst e
      simp
    · by_cases h : i < k
      · rw [if_neg e, if_pos h, if_pos (by omega)]
      · rw [if_neg e, if_neg h]
        simp [show ¬ i < k + 1 by omega]
theorem mu_heap (cO cI : ClassId) (n m : Nat) (s : State) (k : Nat) (hk : k ≤ n) (q : Nat) : (mu_st cO cI n m s k).heap[q]? = if q = s.heap.size then some (mu_o cO n s.heap.size k) else if s.heap.size < q ∧ q ≤ s.heap.size + k then some { cls := cI, slots := Array.replicate m (.int 0), vm := .none } else s.heap[q]? := by
  induction k with
  | zero =>
    show (s.heap.push _)[q]? = _
    rw [Array.getElem?_push]
    by_cases e : q = s.heap.size
    · rw [if_pos e, if_pos e]
    · rw [if_neg e, if_neg e, if_neg (by omega)]
  | succ k ih =>
    have ih := ih (by omega)
    obtain ⟨f1, f2, f3, f4⟩ := mu_st_facts cO cI n m s k
    show (((mu_st cO cI n m s k).heap.push _).setIfInBounds s.heap.size _)[q]? = _
    rw [Array.getElem?_setIfInBounds, Array.size_push, f2, Array.getElem?_push, f2, ih]
    by_cases e : q = s.heap.size
    · rw [if_pos e.symm, if_pos (by omega), if_pos e]
    · by_cases h : q = s.heap.size + 1 + k
      · rw [if_neg (fun x => e x.symm), if_pos h, if_neg e, if_pos (by omega)]
      · rw [if_neg (fun x => e x.symm), if_neg h, if_neg e, if_neg e]
        by_cases h2 : s.heap.size < q ∧ q ≤ s.heap.size + k
        · rw [if_pos h2, if_pos (by omega)]
        · rw [if_neg h2, if_neg (by omega)]
theorem mu_tot (cO cI : ClassId) (n m : Nat) (s : State) (k : Nat) (hk : k ≤ n) : hx_tot (mu_st cO cI n m s k).heap = hx_tot s.heap + n + k * m := by
  induction k with
  | zero =>
    show hx_tot (s.heap.push _) = _
    rw [hx_tot_push, (mu_o_facts cO n s.heap.size 0).2.2]
    omega
  | succ k ih =>
    obtain ⟨f1, f2, f3, f4⟩ := mu_st_facts cO cI n m s k
    have e : hx_tot (mu_st cO cI n m s (k + 1)).heap = hx_tot ((mu_st cO cI n m s k).heap.push { cls := cI, slots := Array.replicate m (.int 0), vm := .none }) := by
      refine hx_tot_set (a := s.heap.size) (c := mu_o cO n s.heap.size k) (c' := mu_o cO n s.heap.size (k + 1)) ?_ ?_ (mu_st_facts cO cI n m s (k + 1)).2.2.2 ((mu_o_facts cO n s.heap.size (k + 1)).2.2.trans (mu_o_facts cO n s.heap.size k).2.2.symm) ?_
      · show (((mu_st cO cI n m s k).heap.push _).setIfInBounds _ _).size = _
        simp
      · rw [Array.getElem?_push, if_neg (by rw [f2]; omega)]
        exact f4
      · intro q hq
        show (((mu_st cO cI n m s k).heap.push _).setIfInBounds s.heap.size _)[q]? = _
        rw [Array.getElem?_setIfInBounds, if_neg (fun x => hq x.symm)]
    rw [e, hx_tot_push, ih (by omega), Array.size_replicate, Nat.succ_mul]
    omega

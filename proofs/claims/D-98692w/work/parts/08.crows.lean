/-! ROWS: references, objects, statics, constants, calls -/
set_option maxRecDepth 100000
section CR
variable {V : hx_V} {d : Nat} {y : MethodName} {cc : ByteArray} {nL : Nat} {rt : Option FieldType} {pc : Nat} {ls : List (Nat × Value)} {st : List Value} {h h1 : hx_S} {r : Outcome × hx_S}
theorem hx_cat (x : Option Nat) : (va_rf x).category = 1 := by cases x <;> rfl
theorem hx_cI (x : Int32) : (Value.int x).category = 1 := rfl
theorem hx_cL (x : Int64) : (Value.long x).category = 2 := rfl
theorem hx_cA (x : Nat) : (Value.ref x).category = 1 := rfl
theorem hx_st {st2 : List Value} (he : st = st2) (k : hx_X V d y cc nL rt pc ls st2 h r) : hx_X V d y cc nL rt pc ls st h r := he ▸ k
theorem hx_null (hd : decode cc pc = .ok (.aconst_null, 1)) (k : hx_X V d y cc nL rt (pc + 1) ls (.null :: st) h r) : hx_X V d y cc nL rt pc ls st h r := fun p l e R s m args below meth c H locs A C Dn hl => lv_null C.1.1 C.1.2.1 hd (k p l e R s m args below meth c H locs A C Dn hl)
theorem hx_aloadR_n {k0 : Fin 4} {i : Nat} {x : Option Nat} (j : Nat) (hd : decode cc pc = .ok (.aload_n k0, 1)) (hi : (k0 : Nat) = i) (hj : ls[j]? = some (i, va_rf x)) (k : hx_X V d y cc nL rt (pc + 1) ls (va_rf x :: st) h r) : hx_X V d y cc nL rt pc ls st h r := fun p l e R s m args below meth c H locs A C Dn hl => by
  cases x with
  | none => exact lv_aload_nN C.1.1 C.1.2.1 hd hi (lv_at hl j hj) (k p l e R s m args below meth c H locs A C Dn hl)
  | some a => exact lv_aload_n C.1.1 C.1.2.1 hd hi (lv_at hl j hj) (k p l e R s m args below meth c H locs A C Dn hl)
theorem hx_aloadR {i : Nat} {x : Option Nat} (j : Nat) (hd : decode cc pc = .ok (.aload i, 2)) (hj : ls[j]? = some (i, va_rf x)) (k : hx_X V d y cc nL rt (pc + 2) ls (va_rf x :: st) h r) : hx_X V d y cc nL rt pc ls st h r := fun p l e R s m args below meth c H locs A C Dn hl => by
  cases x with
  | none => exact lv_aloadN C.1.1 C.1.2.1 hd (lv_at hl j hj) (k p l e R s m args below meth c H locs A C Dn hl)
  | some a => exact lv_aload C.1.1 C.1.2.1 hd (lv_at hl j hj) (k p l e R s m args below meth c H locs A C Dn hl)
theorem hx_astoreR_n {k0 : Fin 4} {i : Nat} {x : Option Nat} {ls2 : List (Nat × Value)} (hd : decode cc pc = .ok (.astore_n k0, 1)) (hi : (k0 : Nat) = i) (hn : i < nL) (he : (i, va_rf x) :: ls.filter (fun q => !(q.1 == i) && !(q.1 + 1 == i && q.2.category == 2)) = ls2) (k : hx_X V d y cc nL rt (pc + 1) ls2 st h r) : hx_X V d y cc nL rt pc ls (va_rf x :: st) h r := fun p l e R s m args below meth c H locs A C Dn hl => by
  cases x with
  | none => exact lv_astore_nN C.1.1 C.1.2.1 hd hi hl hn he (fun A2 hl2 => k p l e R s m args below meth c H locs A2 C Dn hl2)
  | some a => exact lv_astore_n C.1.1 C.1.2.1 hd hi hl hn he (fun A2 hl2 => k p l e R s m args below meth c H locs A2 C Dn hl2)
theorem hx_astoreR {i : Nat} {x : Option Nat} {ls2 : List (Nat × Value)} (hd : decode cc pc = .ok (.astore i, 2)) (hn : i < nL) (he : (i, va_rf x) :: ls.filter (fun q => !(q.1 == i) && !(q.1 + 1 == i && q.2.category == 2)) = ls2) (k : hx_X V d y cc nL rt (pc + 2) ls2 st h r) : hx_X V d y cc nL rt pc ls (va_rf x :: st) h r := fun p l e R s m args below meth c H locs A C Dn hl => by
  cases x with
  | none => exact lv_astoreN C.1.1 C.1.2.1 hd hl hn he (fun A2 hl2 => k p l e R s m args below meth c H locs A2 C Dn hl2)
  | some a => exact lv_astore C.1.1 C.1.2.1 hd hl hn he (fun A2 hl2 => k p l e R s m args below meth c H locs A2 C Dn hl2)
theorem hx_ifnull {x : Option Nat} {off : Int} (tgt : Nat) (hd : decode cc pc = .ok (.ifnull off, 3)) (ht : (pc : Int) + off = (tgt : Int)) (kt : x = none → hx_X V d y cc nL rt tgt ls st h r) (kf : ¬ x = none → hx_X V d y cc nL rt (pc + 3) ls st h r) : hx_X V d y cc nL rt pc ls (va_rf x :: st) h r := fun p l e R s m args below meth c H locs A C Dn hl => by
  cases x with
  | none => exact lv_ifnullN C.1.1 C.1.2.1 hd ht (kt rfl p l e R s m args below meth c H locs A C Dn hl)
  | some a => exact lv_ifnull C.1.1 C.1.2.1 hd (kf (fun q => by cases q) p l e R s m args below meth c H locs A C Dn hl)
theorem hx_ifnonnull {x : Option Nat} {off : Int} (tgt : Nat) (hd : decode cc pc = .ok (.ifnonnull off, 3)) (ht : (pc : Int) + off = (tgt : Int)) (kt : ¬ x = none → hx_X V d y cc nL rt tgt ls st h r) (kf : x = none → hx_X V d y cc nL rt (pc + 3) ls st h r) : hx_X V d y cc nL rt pc ls (va_rf x :: st) h r := fun p l e R s m args below meth c H locs A C Dn hl => by
  cases x with
  | none => exact lv_ifnonnullN C.1.1 C.1.2.1 hd (kf rfl p l e R s m args below meth c H locs A C Dn hl)
  | some a => exact lv_ifnonnull C.1.1 C.1.2.1 hd ht (kt (fun q => by cases q) p l e R s m args below meth c H locs A C Dn hl)
theorem hx_acmp_eq {x z : Option Nat} {off : Int} (tgt : Nat) (hd : decode cc pc = .ok (.if_acmp .eq off, 3)) (ht : (pc : Int) + off = (tgt : Int)) (kt : x = z → hx_X V d y cc nL rt tgt ls st h r) (kf : ¬ x = z → hx_X V d y cc nL rt (pc + 3) ls st h r) : hx_X V d y cc nL rt pc ls (va_rf z :: va_rf x :: st) h r := fun p l e R s m args below meth c H locs A C Dn hl => lv_acmp_eq C.1.1 C.1.2.1 hd ht (fun q => kt q p l e R s m args below meth c H locs A C Dn hl) (fun q => kf q p l e R s m args below meth c H locs A C Dn hl)
theorem hx_acmp_ne {x z : Option Nat} {off : Int} (tgt : Nat) (hd : decode cc pc = .ok (.if_acmp .ne off, 3)) (ht : (pc : Int) + off = (tgt : Int)) (kt : ¬ x = z → hx_X V d y cc nL rt tgt ls st h r) (kf : x = z → hx_X V d y cc nL rt (pc + 3) ls st h r) : hx_X V d y cc nL rt pc ls (va_rf z :: va_rf x :: st) h r := fun p l e R s m args below meth c H locs A C Dn hl => lv_acmp_ne C.1.1 C.1.2.1 hd ht (fun q => kt q p l e R s m args below meth c H locs A C Dn hl) (fun q => kf q p l e R s m args below meth c H locs A C Dn hl)
theorem hx_rret {x : Option Nat} {ty : FieldType} (hrt : ty.isReference = true) (hd : decode cc pc = .ok (.areturn, 1)) : hx_X V d y cc nL (some ty) pc ls [va_rf x] h (.returned (some (va_rf x)), h) :=
  hx_aret (by cases ty <;> first | exact Or.inl ⟨_, rfl⟩ | exact Or.inr ⟨_, rfl⟩ | cases hrt) (by cases x with | none => exact Or.inl rfl | some a => exact Or.inr ⟨a, rfl⟩) hd
theorem hx_getfN {Cn host : String} {T0 : u_T} {N0 ci N index a k : Nat} {f : Nat → Value} {ref : String} (hd : decode cc pc = .ok (.getfield index, 3)) (ha : h.2.2 a = some (ci, N, f)) (hk : k < N) (hcl : hx_cls ci = some (Cn, T0, N0)) (hk0 : k < N0) (hin : ∀ w ∈ u_ws Cn T0 N0, w ∈ lw_all) (hci : ci < 100)
    (q1 : Cond.fieldLinkNest y.cls index ref (T0 k).2.1 (T0 k).2.2.1 host ∈ hx_nest) (hsame : ref = (T0 k).1 ∨ Cond.sameField ref (T0 k).1 (T0 k).2.1 (T0 k).2.2.1 ∈ lw_all)
    (kk : hx_X V d y cc nL rt (pc + 3) ls (f k :: st) h r) : hx_X V d y cc nL rt pc ls (.ref a :: st) h r := fun p l e R s m args below meth c H locs A C Dn hl => by
  obtain ⟨⟨c1, c2, c3, c4, c5⟩, ⟨c6, c7, c8, c9⟩, c10, c11⟩ := id C
  obtain ⟨cell, b1, b2, b3, b4, b5⟩ := Dn.1.2.2.1 a _ ha
  have b5 : cell.slots[V.1.2.1 ci k]? = some (f k) := by
    rcases b5 with b5 | b5
    · exact b5.2.2 k hk
    · have := b5.1; simp only at this; omega
  obtain ⟨hS, hfc, kC, hkC, hkind⟩ := c9.1 ci _ hcl
  obtain ⟨cf, kf, fi, fd, hi, hsl⟩ := hS k hk0
  have hi2 : s.fieldFound? ref (T0 k).2.1 (T0 k).2.2.1 = some (cf, kf, fi, fd) := by
    rcases hsame with e | e
    · rw [e]; exact hi
    · exact u_same (c8 _ e) _ hi
  exact va_Wgetf c1 c2 c6 (va_Nw.use rfl (c9.2.2.1 _ q1)) hi2 (u_facts hfc hkC (u_lays c8 hin hk0) hi).1 b1 b2 (v := f k) (by rw [hsl]; exact b5) rfl rfl hd (kk p l e R s m args below meth c H locs A C Dn hl)
theorem hx_gets {q : Nat × String × String × String} {index : Nat} {ref : String} (hd : decode cc pc = .ok (.getstatic index, 3)) (hq : q ∈ hx_sts) (q1 : Cond.fieldLink y.cls index ref q.2.2.1 q.2.2.2 ∈ lw_all) (hsame : ref = q.2.1 ∨ Cond.sameField ref q.2.1 q.2.2.1 q.2.2.2 ∈ lw_all)
    (kk : hx_X V d y cc nL rt (pc + 3) ls (V.2.2.2.2 q.1 :: st) h r) : hx_X V d y cc nL rt pc ls st h r := fun p l e R s m args below meth c H locs A C Dn hl => by
  obtain ⟨cf, kf, fi, f, a, cell, h1, h2, h3, h4, h5, h6, h7, h8⟩ := C.2.1.2.2.2.2.2.2.2.2.1 q hq
  have hi2 : s.fieldFound? ref q.2.2.1 q.2.2.2 = some (cf, kf, fi, f) := by
    rcases hsame with e | e
    · rw [e]; exact h1
    · exact u_same (C.2.1.2.2.1 _ e) _ h1
  exact W.gets C.1.1 C.1.2.1 C.2.1.1 (C.2.1.2.2.1 _ q1) hi2 h2 h3 h4 (by rw [Dn.1.2.2.2.2 a (by omega)]; exact h5) (fun e => by rw [e] at h6; cases h6) h7 rfl hd (kk p l e R s m args below meth c H locs A C Dn hl)
theorem hx_ldcS {q : Nat × String × Nat × String} (hd : decode cc pc = .ok (.ldc q.2.2.1, 2)) (hq : q ∈ hx_strs) (ho : y.cls = q.2.1)
    (kk : hx_X V d y cc nL rt (pc + 2) ls (V.2.2.2.2 q.1 :: st) h r) : hx_X V d y cc nL rt pc ls st h r := fun p l e R s m args below meth c H locs A C Dn hl => by
  obtain ⟨a, e1, e2⟩ := C.2.1.2.2.2.2.2.2.2.2.2 q hq
  have w := kk p l e R s m args below meth c H locs A C Dn hl
  rw [e1] at w
  exact va_ldcS C.1.1 C.1.2.1 (by rw [← ho]; exact C.2.1.1) e2 hd w
theorem hx_aald {a N t : Nat} {f : Nat → Value} {i : Int32} (hd : decode cc pc = .ok (.aaload, 1)) (ha : h.2.2 a = some (t, N, f)) (h1 : 105 ≤ t) (h2 : t < 109) (hi : hx_in i N = true) (kk : hx_X V d y cc nL rt (pc + 1) ls (f i.toNatClampNeg :: st) h r) : hx_X V d y cc nL rt pc ls (.int i :: .ref a :: st) h r := fun p l e R s m args below meth c H locs A C Dn hl => by
  obtain ⟨cell, b1, b2, b3, b4, b5, b6⟩ := hx_arr C Dn ha (by omega) h2
  have hi2 := of_decide_eq_true hi
  have ht : (hx_aty t).isReference = true := by
    rcases (show t = 105 ∨ t = 106 ∨ t = 107 ∨ t = 108 by omega) with rfl | rfl | rfl | rfl <;> rfl
  exact W.aald C.1.1 C.1.2.1 b1 b4 ht b2 (by rw [b5]; exact hi2) (b6 _ (Nat.not_le.mp fun q => hi2 (Or.inr q))) rfl rfl hd (kk p l e R s m args below meth c H locs A C Dn hl)
theorem hx_aastN {a N t : Nat} {f : Nat → Value} {i : Int32} (hd : decode cc pc = .ok (.aastore, 1)) (ha : h.2.2 a = some (t, N, f)) (h1 : 105 ≤ t) (h2 : t < 108) (hB : V.2.1.size ≤ a) (hi : hx_in i N = true) (kk : hx_X V d y cc nL rt (pc + 1) ls st (hx_set h a (hx_putv (t, N, f) i.toNatClampNeg .null)) r) : hx_X V d y cc nL rt pc ls (.null :: .int i :: .ref a :: st) h r := fun p l e R s m args below meth c H locs A C Dn hl => by
  obtain ⟨cell, b1, b2, b3, b4, b5, b6⟩ := hx_arr C Dn ha (by omega) (by omega)
  have hi2 := of_decide_eq_true hi
  have ht : ∃ E, hx_aty t = .object E := by
    rcases (show t = 105 ∨ t = 106 ∨ t = 107 by omega) with rfl | rfl | rfl <;> exact ⟨_, rfl⟩
  obtain ⟨E, hE⟩ := ht
  rw [hE] at b4
  exact va_WaastN C.1.1 C.1.2.1 b1 b4 b2 (by rw [b5]; exact hi2) rfl rfl hd (fun H' e1 e2 e3 => kk p l e R s m args below meth c H' _ A C (Dn.put (Dn.1.set hB e2 b1 e1 hx_setslot e3 (hx_at.puta Dn ha hB (by omega) (Nat.not_le.mp fun q => hi2 (Or.inr q)) b1 e1)) hB) hl)
/-- the name of a cell's class -/
def hx_cn (t : Nat) : String := if t < 100 then (match hx_cls t with | some q => q.1 | none => "") else "[" ++ (hx_aty t).toString
theorem hx_named {p : Program} {R : Room} {s : State} {m : MethodId} {args : Array Value} {meth : Method} {c : Code} {H : Heap} {locs : List Loc} {a : Nat} {x : hx_C} (C : hx_Ctx V d y cc nL rt p R s m args meth c) (Dn : hx_Dyn V s H h locs) (ha : h.2.2 a = some x) (hx : x.1 < 109) (hc : x.1 < 100 → (hx_cls x.1).isSome = true) :
    ∃ cell : Cell, H[a]? = some cell ∧ cell.vm ≠ .unknown ∧ (∀ k, cell.vm ≠ .statics k) ∧ cell.vm.isStatics = false ∧ s.vm.findClass (hx_cn x.1) = some cell.cls ∧ ∃ k, s.vm.classes[cell.cls]? = some k := by
  obtain ⟨cell, b1, b2, b3, b4, b5⟩ := Dn.1.2.2.1 a _ ha
  have hst : cell.vm.isStatics = false := by
    cases hv : cell.vm <;> first | rfl | exact absurd hv (b3 _)
  rcases b5 with ⟨b5, b6, -⟩ | ⟨b5, b6, -⟩
  · obtain ⟨q, hq⟩ := Option.isSome_iff_exists.mp (hc b5)
    obtain ⟨-, hfc, kC, hkC, -⟩ := C.2.1.2.2.2.1 x.1 q hq
    refine ⟨cell, b1, b2, b3, hst, ?_, kC, by rw [b6]; exact hkC⟩
    unfold hx_cn
    rw [if_pos b5, hq, b6]
    exact hfc
  · obtain ⟨⟨k, comp, e1, e2, -⟩, e4⟩ := C.2.1.2.2.2.2.1 x.1 b5 hx
    refine ⟨cell, b1, b2, b3, hst, ?_, k, by rw [b6]; exact e1⟩
    unfold hx_cn
    rw [if_neg (by omega), b6]
    exact e4
theorem hx_castN {index : Nat} (hd : decode cc pc = .ok (.checkcast index, 3)) (k : hx_X V d y cc nL rt (pc + 3) ls (.null :: st) h r) : hx_X V d y cc nL rt pc ls (.null :: st) h r := fun p l e R s m args below meth c H locs A C Dn hl => lv_castN C.1.1 C.1.2.1 hd (k p l e R s m args below meth c H locs A C Dn hl)
theorem hx_castY {index a : Nat} {nm : String} {x : hx_C} (hd : decode cc pc = .ok (.checkcast index, 3)) (ha : h.2.2 a = some x) (hx : x.1 < 109) (hc : x.1 < 100 → (hx_cls x.1).isSome = true) (q1 : Cond.classLink y.cls index nm ∈ lw_all) (hn : Cond.castable (hx_cn x.1) nm ∈ hx_nest) (k : hx_X V d y cc nL rt (pc + 3) ls (.ref a :: st) h r) : hx_X V d y cc nL rt pc ls (.ref a :: st) h r := fun p l e R s m args below meth c H locs A C Dn hl => by
  obtain ⟨cell, b1, b2, b3, b4, b5, b6⟩ := hx_named C Dn ha hx hc
  exact va_castY C.1.1 C.1.2.1 C.2.1.1 (C.2.1.2.2.1 _ q1) (C.2.1.2.2.2.2.2.1 _ hn) ⟨cell, b1, b4, b5⟩ hd (k p l e R s m args below meth c H locs A C Dn hl)
theorem hx_castS {index a : Nat} {x : hx_C} {q : vw_C} (hd : decode cc pc = .ok (.checkcast index, 3)) (ha : h.2.2 a = some x) (hx : x.1 < 100) (hc : hx_cls x.1 = some q) (q1 : Cond.classLink y.cls index (hx_cn x.1) ∈ lw_all) (k : hx_X V d y cc nL rt (pc + 3) ls (.ref a :: st) h r) : hx_X V d y cc nL rt pc ls (.ref a :: st) h r := fun p l e R s m args below meth c H locs A C Dn hl => by
  obtain ⟨cell, b1, b2, b3, b4, b5, b6⟩ := hx_named C Dn ha (by omega) (fun _ => by rw [hc]; rfl)
  have hca : ClassAt s (hx_cn x.1) (V.1.1 x.1) := by
    unfold hx_cn
    rw [if_pos hx, hc]
    exact (C.2.1.2.2.2.1 x.1 q hc).2
  exact va_castS C.1.1 C.1.2.1 C.2.1.1 (C.2.1.2.2.1 _ q1) hca ⟨cell, b1, b4, b5⟩ hd (k p l e R s m args below meth c H locs A C Dn hl)
theorem hx_new {Cn : String} {T0 : u_T} {N0 ci n index : Nat} {ty0 : Nat → FieldType} (hd : decode cc pc = .ok (.new index, 3)) (hci : ci < 100) (hcl : hx_cls ci = some (Cn, T0, N0)) (hin : ∀ w ∈ u_ws Cn T0 N0, w ∈ lw_all) (hty : ∀ k, k < N0 → parseFieldDescriptor (T0 k).2.2.1 = some (ty0 k)) (q1 : Cond.classLink y.cls index Cn ∈ lw_all) (q2 : Cond.instantiable Cn n ∈ lw_all) (q3 : Cond.initialized Cn ∈ lw_all) (hc : h.1 + 1 ≤ V.2.2.1) (hs : h.2.1 + n ≤ V.2.2.2.1)
    (kk : hx_X V d y cc nL rt (pc + 3) ls (.ref h.1 :: st) (hx_push h n (ci, N0, fun k => defaultValue (ty0 k))) r) : hx_X V d y cc nL rt pc ls st h r := fun p l e R s m args below meth c H locs A C Dn hl => by
  obtain ⟨⟨c1, c2, c3, c4, c5⟩, ⟨c6, c7, c8, c9⟩, ⟨c10, c11, c12, c13, c14⟩, c15⟩ := id C
  obtain ⟨d1, d2, d3, d4, d5, d6⟩ := id Dn
  refine W.newc c1 c2 c6 (c8 _ q1) (c8 _ q2) (c8 _ q3) rfl hd (by omega) (by omega) (fun cC kC e1 e2 e3 e4 => ?_)
  have hK1 := c9.1 ci _ hcl
  have hcc : V.1.1 ci = cC := Option.some.inj (hK1.2.1.symm.trans e1)
  subst hcc
  have hz : ({ cls := V.1.1 ci, slots := kC.instanceTypes.map defaultValue, vm := .none } : Cell).slots.size = n := by
    show (kC.instanceTypes.map defaultValue).size = n
    rw [Array.size_map]; exact e4
  have hg : (H.push { cls := V.1.1 ci, slots := kC.instanceTypes.map defaultValue, vm := .none })[h.1]? = some (blank (V.1.1 ci) kC) := by
    rw [Array.getElem?_push, if_pos d1.1.symm]
    rfl
  obtain ⟨cell, g1, g2, g3, g4⟩ := u_born (o := h.1) ty0 c8 hin hK1 e2 hg hty
  have hR1 : hx_R V (hx_push h n (ci, N0, fun k => defaultValue (ty0 k))) (H.push { cls := V.1.1 ci, slots := kC.instanceTypes.map defaultValue, vm := .none }) :=
    d1.push hz ⟨cell, g1, by rw [g3]; exact (fun q => by cases q), fun k => by rw [g3]; exact (fun q => by cases q), fun _ => g3, Or.inl ⟨hci, g2, g4⟩⟩
  have w := kk p l e R s m args below meth c _ locs A C ⟨hR1, by show s.heap.size ≤ h.1 + 1; omega, by show _ ≤ h.2.1 + n; omega, hc, hs, d6⟩ hl
  rw [d1.1]
  exact W.cs (show h.1 - s.heap.size + 1 = h.1 + 1 - s.heap.size by omega) (show h.2.1 - hx_tot s.heap + n = h.2.1 + n - hx_tot s.heap by omega) w
/-- a new array's cell -/
theorem hx_newcell {H : Heap} {t n : Nat} {v : Value} {cA : ClassId} (hR : hx_R V h H) (h1 : 100 ≤ t) (hcA : cA = V.1.2.2 t) : hx_R V (hx_push h n (t, n, fun _ => v)) (H.push { cls := cA, slots := Array.replicate n v, vm := .none }) := by
  subst hcA
  refine hR.push (by simp) ⟨{ cls := V.1.2.2 t, slots := Array.replicate n v, vm := .none }, ?_, (fun q => by cases q), (fun k q => by cases q), fun _ => rfl, Or.inr ⟨h1, rfl, by simp, fun k hk => ?_⟩⟩
  · rw [Array.getElem?_push, if_pos hR.1.symm]
  · simp only at hk
    simp [hk]
theorem hx_newa {t : Nat} {atype : ArrayType} {n : Int32} (hd : decode cc pc = .ok (.newarray atype, 2)) (h1 : 100 ≤ t) (h2 : t < 109) (ht : hx_aty t = Op.newarray.typeOf atype) (q1 : Cond.arrayClass (Op.newarray.typeOf atype) ∈ lw_all) (hn : ¬ n < 0) (hb : n.toNatClampNeg * componentBytes (Op.newarray.typeOf atype) ≤ 536870912) (hc : h.1 + 1 ≤ V.2.2.1) (hs : h.2.1 + n.toNatClampNeg ≤ V.2.2.2.1)
    (kk : hx_X V d y cc nL rt (pc + 2) ls (.ref h.1 :: st) (hx_push h n.toNatClampNeg (t, n.toNatClampNeg, fun _ => defaultValue (Op.newarray.typeOf atype))) r) : hx_X V d y cc nL rt pc ls (.int n :: st) h r := fun p l e R s m args below meth c H locs A C Dn hl => by
  obtain ⟨⟨c1, c2, c3, c4, c5⟩, ⟨c6, c7, c8, c9⟩, ⟨c10, c11, c12, c13, c14⟩, c15⟩ := id C
  obtain ⟨d1, d2, d3, d4, d5, d6⟩ := id Dn
  refine W.newa c1 c2 (c8 _ q1) rfl hd rfl hn hb (by omega) (by omega) (fun cA kA comp e1 e2 e3 => ?_)
  have e4 := (c9.2.1 t h1 h2).2
  rw [ht] at e4
  have hR1 := hx_newcell (n := n.toNatClampNeg) (v := defaultValue (Op.newarray.typeOf atype)) d1 h1 (Option.some.inj (e1.symm.trans e4))
  have w := kk p l e R s m args below meth c _ locs A C ⟨hR1, by show s.heap.size ≤ h.1 + 1; omega, by show _ ≤ h.2.1 + _; omega, hc, hs, d6⟩ hl
  rw [d1.1]
  exact W.cs (show h.1 - s.heap.size + 1 = h.1 + 1 - s.heap.size by omega) (show h.2.1 - hx_tot s.heap + n.toNatClampNeg = h.2.1 + n.toNatClampNeg - hx_tot s.heap by omega) w
theorem hx_newq {t index : Nat} {n : Int32} {E : String} (hd : decode cc pc = .ok (.anewarray index, 3)) (h1 : 100 ≤ t) (h2 : t < 109) (ht : hx_aty t = .object E) (hE : E ∈ ["java/lang/Object", "BeastsChoose$Guest", "java/lang/String"]) (q1 : Cond.classLink y.cls index E ∈ lw_all) (hn : ¬ n < 0) (hb : n.toNatClampNeg * 4 ≤ 536870912) (hc : h.1 + 1 ≤ V.2.2.1) (hs : h.2.1 + n.toNatClampNeg ≤ V.2.2.2.1)
    (kk : hx_X V d y cc nL rt (pc + 3) ls (.ref h.1 :: st) (hx_push h n.toNatClampNeg (t, n.toNatClampNeg, fun _ => .null)) r) : hx_X V d y cc nL rt pc ls (.int n :: st) h r := fun p l e R s m args below meth c H locs A C Dn hl => by
  obtain ⟨⟨c1, c2, c3, c4, c5⟩, ⟨c6, c7, c8, c9⟩, ⟨c10, c11, c12, c13, c14⟩, c15⟩ := id C
  obtain ⟨d1, d2, d3, d4, d5, d6⟩ := id Dn
  refine W.anew c1 c2 c6 (c8 _ q1) (va_AO.use (c9.2.2.2.2.1.1 E hE)) rfl hd rfl hn hb (by omega) (by omega) (fun cA kA comp e1 e2 e3 e5 => ?_)
  have e4 := (c9.2.1 t h1 h2).2
  rw [ht] at e4
  have hR1 := hx_newcell (n := n.toNatClampNeg) (v := .null) d1 h1 (Option.some.inj (e1.symm.trans e4))
  have w := kk p l e R s m args below meth c _ locs A C ⟨hR1, by show s.heap.size ≤ h.1 + 1; omega, by show _ ≤ h.2.1 + _; omega, hc, hs, d6⟩ hl
  rw [d1.1]
  exact W.cs (show h.1 - s.heap.size + 1 = h.1 + 1 - s.heap.size by omega) (show h.2.1 - hx_tot s.heap + n.toNatClampNeg = h.2.1 + n.toNatClampNeg - hx_tot s.heap by omega) w
theorem hx_objInit {idx a : Nat} (hd : decode cc pc = .ok (.invokespecial idx, 3)) (q1 : Cond.methodLink y.cls idx Lib.objectInit ∈ lw_all) (q2 : Cond.instanceMethod Lib.objectInit ∈ lw_all) (q3 : Cond.code Lib.objectInit ⟨#[0xb1]⟩ 1 none ∈ lw_all) (hr : (st.map fun v => v.category).sum ≤ 8)
    (kk : hx_X V (d + 1) y cc nL rt (pc + 3) ls st h r) : hx_X V (d + 1) y cc nL rt pc ls (.ref a :: st) h r := fun p l e R s m args below meth c H locs A C Dn hl =>
  W.objInit C.1.1 C.1.2.1 C.2.1.1 (C.2.1.2.2.1 _ q1) (C.2.1.2.2.1 _ q2) (C.2.1.2.2.1 _ q3) rfl (by rw [C.1.2.2.1]; exact hl.1) rfl hd (by rw [C.2.2.1.1]; omega) (by
    rw [C.2.2.1.2.1]
    have := lv_room (m := m) (pc := pc) (ls := A) (rest := .ref a :: st) hr
    show 2 * (F0 m pc A (.ref a :: st)).monitorRoom + _ + 12 ≤ _
    omega) (kk p l e R s m args below meth c H locs A C Dn hl)
theorem hx_aastR {a b N t : Nat} {f : Nat → Value} {x : hx_C} {i : Int32} {E : String} (hd : decode cc pc = .ok (.aastore, 1)) (ha : h.2.2 a = some (t, N, f)) (h1 : 105 ≤ t) (h2 : t < 108) (hB : V.2.1.size ≤ a) (hi : hx_in i N = true) (hb : h.2.2 b = some x) (hx : x.1 < 109) (hc : x.1 < 100 → (hx_cls x.1).isSome = true) (hE : hx_aty t = .object E) (hn : hx_cn x.1 = E ∨ Cond.castable (hx_cn x.1) E ∈ hx_nest)
    (kk : hx_X V d y cc nL rt (pc + 1) ls st (hx_set h a (hx_putv (t, N, f) i.toNatClampNeg (.ref b))) r) : hx_X V d y cc nL rt pc ls (.ref b :: .int i :: .ref a :: st) h r := fun p l e R s m args below meth c H locs A C Dn hl => by
  obtain ⟨cell, b1, b2, b3, b4, b5, b6⟩ := hx_arr C Dn ha (by omega) (by omega)
  have hi2 := of_decide_eq_true hi
  obtain ⟨cv, v1, v2, v3, v4, v5, kv, v6⟩ := hx_named C Dn hb hx hc
  obtain ⟨⟨k, comp, e1, e2, e3, -⟩, e4⟩ := C.2.1.2.2.2.2.1 t (by omega) (by omega)
  have e3 := e3 E hE
  obtain ⟨-, k2, g1, comp2, g2⟩ := b4
  obtain ⟨cell2, w1, -, -, -, w5⟩ := Dn.1.2.2.1 a _ ha
  cases b1.symm.trans w1
  have w6 : cell.cls = V.1.2.2 t := by
    rcases w5 with w5 | w5
    · have := w5.1; simp only at this; omega
    · exact w5.2.1
  rw [w6] at g1
  cases e1.symm.trans g1
  obtain ⟨kcomp, hkcomp, -⟩ := Vm.findClass_spec e3
  have hasg : s.vm.assignable cv.cls comp = true := by
    rcases hn with hn | hn
    · rw [hn] at v5
      cases v5.symm.trans e3
      exact va_asg s.vm _
    · obtain ⟨c0, t0, f1, f2, f3⟩ := Cond.castable_spec (va_Nw.use (A := #[]) rfl (C.2.1.2.2.2.2.2.1 _ hn))
      cases v5.symm.trans f1
      cases e3.symm.trans f2
      exact f3
  exact W.aast C.1.1 C.1.2.1 b1 b3 b2 (by rw [w6]; exact e1) e2 (by rw [hE]; rfl) hkcomp ⟨fun q => hi2 (Or.inl q), by rw [b5]; exact Nat.not_le.mp fun q => hi2 (Or.inr q)⟩ v1 v3 v6 hasg rfl rfl hd (fun H' e1 e2 e3 => kk p l e R s m args below meth c H' _ A C (Dn.put (Dn.1.set hB e2 b1 e1 hx_setslot e3 (hx_at.puta Dn ha hB (by omega) (Nat.not_le.mp fun q => hi2 (Or.inr q)) b1 e1)) hB) hl)
theorem hx_selw {p : Program} {R : Room} {s : State} {m : MethodId} {args : Array Value} {meth : Method} {c : Code} {w : Cond} (C : hx_Ctx V d y cc nL rt p R s m args meth c) (q : w ∈ lw_all ∨ w ∈ hx_sel2) : w.before args s = true := by
  rcases q with q | q
  · exact C.2.1.2.2.1 _ q
  · exact va_Nw.use (hx_sel2_good w q).2 (C.2.1.2.2.2.2.2.2.2.1.2.1 w q)
theorem hx_callW {x : MethodName} {bx : ByteArray} {nx : Nat} {rx : Option FieldType} {v : Option Value} {index b : Nat} {cf : hx_C} (avs : List Value)
    (hd : decode cc pc = .ok (.invokevirtual index, 3)) (M : hx_M V d x bx nx rx (.ref b :: avs) h (.returned v) h1)
    (hb : h.2.2 b = some cf) (hx : cf.1 < 109) (hci : cf.1 < 100 → (hx_cls cf.1).isSome = true) (q1 : Cond.methodLink y.cls index x ∈ lw_all) (q3 : Cond.selects (hx_cn cf.1) x x ∈ lw_all ∨ Cond.selects (hx_cn cf.1) x x ∈ hx_sel2) (q2 : Cond.instanceMethod x ∈ lw_all) (q4 : Cond.initialized x.cls ∈ lw_all) (q5 : Cond.code x bx nx rx ∈ lw_all)
    (hp : (x.cls ≠ "java/lang/invoke/MethodHandle" ∧ x.cls ≠ "java/lang/invoke/VarHandle") ∧ (parseMethodDescriptor x.desc).map (fun d => d.parameters.length) = some avs.length) (hn : nx ≤ 24)
    {st0 : List Value} (hst : st0 = avs.reverse ++ .ref b :: st) (hr : (st.map fun v => v.category).sum ≤ 8)
    {stk : List Value} (hv : v.toList ++ st = stk) (k : hx_X V (d + 1) y cc nL rt (pc + 3) ls stk h1 r) : hx_X V (d + 1) y cc nL rt pc ls st0 h r := by
  subst hst
  subst hv
  intro p l e R s m args below meth c H locs A C Dn hl T hT X
  obtain ⟨⟨c1, c2, c3, c4, c5⟩, ⟨c6, c7, c8, c9⟩, c10, c11⟩ := id C
  obtain ⟨d1, d2, d3, d4, d5, d6⟩ := id Dn
  have hK := hx_back (l := l) (e := e) (below := below) (len := 3) C M d4 d5 hn q5 q4
  obtain ⟨cell, b1, b2, b3, hst, hcls, kB, hkB⟩ := hx_named C Dn hb hx hci
  have z1 : s.heap.size + R.cells = V.2.2.1 := c10.2.2.1
  have z2 : hx_tot s.heap + R.slots = V.2.2.2.1 := c10.2.2.2.1
  have hsize : A.size = c.maxLocals := by rw [c3]; exact hl.1
  have hlen : ∀ sig, parseMethodDescriptor x.desc = some sig → avs.length = sig.parameters.length := by
    intro sig hs
    have h2 := hp.2
    rw [hs] at h2
    exact (Option.some.inj h2).symm
  obtain ⟨v', vm₁, P, w1, X', hpost, hsteps⟩ := callV X c1 (own := y.cls) (index := index) (bytes := bx) (maxL := nx) c6 (c8 _ q1) (c8 _ q2) (hx_selw C q3) (c8 _ q5) hp.1 hK (b := b) (cellB := cell) (by rw [hT]; exact b1) hst hcls
    (g := F0 m pc A (avs.reverse ++ .ref b :: st)) rfl hsize (argsL := avs) (rest := st) hlen rfl (lv_room (m := m) (pc := pc) (ls := A) (rest := avs.reverse ++ .ref b :: st) hr) (by rw [c2]; exact hd)
    (fun vm₁ hw => ⟨by show h.1 - s.heap.size + (V.2.2.1 - h.1) ≤ R.cells; omega, by show h.2.1 - hx_tot s.heap + (V.2.2.2.1 - h.2.1) ≤ R.slots; omega, rfl, by show hx_R V h T.heap; rw [hT]; exact d1, hx_K.warm (u := s) (U := T.setVm vm₁) hw c9, by show V.2.1.size ≤ T.heap.size; rw [hT, d1.1]; have := c10.2.2.2.2; omega⟩)
  obtain ⟨t, a1, a2⟩ := hx_behind (vm₁ := vm₁) (T := T) (av := (.ref b :: avs)) (pc2 := pc + 3) C Dn hl X' hpost k
  exact ⟨t, hsteps t a1, a2⟩
theorem hx_callT {x : MethodName} {bx : ByteArray} {nx : Nat} {rx : Option FieldType} {v : Option Value} {index : Nat} (avs : List Value)
    (hd : decode cc pc = .ok (.invokestatic index, 3)) (M : hx_M V d x bx nx rx avs h (.returned v) h1)
    (q1 : Cond.methodLink y.cls index x ∈ lw_all) (q2 : Cond.static x ∈ lw_all) (q4 : Cond.initialized x.cls ∈ lw_all) (q5 : Cond.code x bx nx rx ∈ lw_all)
    (hp : (x.cls ≠ "java/lang/invoke/MethodHandle" ∧ x.cls ≠ "java/lang/invoke/VarHandle") ∧ (parseMethodDescriptor x.desc).map (fun d => d.parameters.length) = some avs.length) (hn : nx ≤ 24)
    {st0 : List Value} (hst : st0 = avs.reverse ++ st) (hr : (st.map fun v => v.category).sum ≤ 8)
    {stk : List Value} (hv : v.toList ++ st = stk) (k : hx_X V (d + 1) y cc nL rt (pc + 3) ls stk h1 r) : hx_X V (d + 1) y cc nL rt pc ls st0 h r := by
  subst hst
  subst hv
  intro p l e R s m args below meth c H locs A C Dn hl T hT X
  obtain ⟨⟨c1, c2, c3, c4, c5⟩, ⟨c6, c7, c8, c9⟩, c10, c11⟩ := id C
  obtain ⟨d1, d2, d3, d4, d5, d6⟩ := id Dn
  have hK := hx_back (l := l) (e := e) (below := below) (len := 3) C M d4 d5 hn q5 q4
  have z1 : s.heap.size + R.cells = V.2.2.1 := c10.2.2.1
  have z2 : hx_tot s.heap + R.slots = V.2.2.2.1 := c10.2.2.2.1
  have hsize : A.size = c.maxLocals := by rw [c3]; exact hl.1
  have hlen : ∀ sig, parseMethodDescriptor x.desc = some sig → avs.length = sig.parameters.length := by
    intro sig hs
    have h2 := hp.2
    rw [hs] at h2
    exact (Option.some.inj h2).symm
  obtain ⟨v', vm₁, P, w1, X', hpost, hsteps⟩ := callS X c1 (own := y.cls) (index := index) (bytes := bx) (maxL := nx) c6 (c8 _ q1) (c8 _ q2) (c8 _ q4) (c8 _ q5) hp.1 hK
    (g := F0 m pc A (avs.reverse ++ st)) rfl hsize (argsL := avs) (rest := st) hlen rfl (lv_room (m := m) (pc := pc) (ls := A) (rest := avs.reverse ++ st) hr) (by rw [c2]; exact hd)
    (fun vm₁ hw => ⟨by show h.1 - s.heap.size + (V.2.2.1 - h.1) ≤ R.cells; omega, by show h.2.1 - hx_tot s.heap + (V.2.2.2.1 - h.2.1) ≤ R.slots; omega, rfl, by show hx_R V h T.heap; rw [hT]; exact d1, hx_K.warm (u := s) (U := T.setVm vm₁) hw c9, by show V.2.1.size ≤ T.heap.size; rw [hT, d1.1]; have := c10.2.2.2.2; omega⟩)
  obtain ⟨t, a1, a2⟩ := hx_behind (vm₁ := vm₁) (T := T) (av := avs) (pc2 := pc + 3) C Dn hl X' hpost k
  exact ⟨t, hsteps t a1, a2⟩
theorem hx_callI {x : MethodName} {bx : ByteArray} {nx : Nat} {v : Option Value} {index b : Nat} (avs : List Value)
    (hd : decode cc pc = .ok (.invokespecial index, 3)) (M : hx_M V d x bx nx none (.ref b :: avs) h (.returned v) h1)
    (hini : x.name = "<init>") (q1 : Cond.methodLink y.cls index x ∈ lw_all) (q2 : Cond.instanceMethod x ∈ lw_all) (q4 : Cond.initialized x.cls ∈ lw_all) (q5 : Cond.code x bx nx none ∈ lw_all)
    (hp : (x.cls ≠ "java/lang/invoke/MethodHandle" ∧ x.cls ≠ "java/lang/invoke/VarHandle") ∧ (parseMethodDescriptor x.desc).map (fun d => d.parameters.length) = some avs.length) (hn : nx ≤ 24)
    {st0 : List Value} (hst : st0 = avs.reverse ++ .ref b :: st) (hr : (st.map fun v => v.category).sum ≤ 8)
    {stk : List Value} (hv : v.toList ++ st = stk) (k : hx_X V (d + 1) y cc nL rt (pc + 3) ls stk h1 r) : hx_X V (d + 1) y cc nL rt pc ls st0 h r := by
  subst hst
  subst hv
  intro p l e R s m args below meth c H locs A C Dn hl T hT X
  obtain ⟨⟨c1, c2, c3, c4, c5⟩, ⟨c6, c7, c8, c9⟩, c10, c11⟩ := id C
  obtain ⟨d1, d2, d3, d4, d5, d6⟩ := id Dn
  have hK := hx_back (l := l) (e := e) (below := below) (len := 3) C M d4 d5 hn q5 q4
  have z1 : s.heap.size + R.cells = V.2.2.1 := c10.2.2.1
  have z2 : hx_tot s.heap + R.slots = V.2.2.2.1 := c10.2.2.2.1
  have hsize : A.size = c.maxLocals := by rw [c3]; exact hl.1
  have hlen : ∀ sig, parseMethodDescriptor x.desc = some sig → avs.length = sig.parameters.length := by
    intro sig hs
    have h2 := hp.2
    rw [hs] at h2
    exact (Option.some.inj h2).symm
  obtain ⟨v', vm₁, P, w1, X', hpost, hsteps⟩ := callI X c1 (own := y.cls) (index := index) (bytes := bx) (maxL := nx) c6 hini (c8 _ q1) (c8 _ q2) (c8 _ q5) hp.1 hK
    (g := F0 m pc A (avs.reverse ++ .ref b :: st)) rfl hsize (a := b) (argsL := avs) (rest := st) hlen rfl (lv_room (m := m) (pc := pc) (ls := A) (rest := avs.reverse ++ .ref b :: st) hr) (by rw [c2]; exact hd)
    (fun vm₁ hw => ⟨by show h.1 - s.heap.size + (V.2.2.1 - h.1) ≤ R.cells; omega, by show h.2.1 - hx_tot s.heap + (V.2.2.2.1 - h.2.1) ≤ R.slots; omega, rfl, by show hx_R V h T.heap; rw [hT]; exact d1, hx_K.warm (u := s) (U := T.setVm vm₁) hw c9, by show V.2.1.size ≤ T.heap.size; rw [hT, d1.1]; have := c10.2.2.2.2; omega⟩)
  obtain ⟨t, a1, a2⟩ := hx_behind (vm₁ := vm₁) (T := T) (av := (.ref b :: avs)) (pc2 := pc + 3) C Dn hl X' hpost k
  exact ⟨t, hsteps t a1, a2⟩
theorem hx_callVN {x : MethodName} {bx : ByteArray} {nx : Nat} {rx : Option FieldType} {v : Option Value} {index b : Nat} {host : String} {cf : hx_C} (avs : List Value)
    (hd : decode cc pc = .ok (.invokevirtual index, 3)) (M : hx_M V d x bx nx rx (.ref b :: avs) h (.returned v) h1)
    (hb : h.2.2 b = some cf) (hx : cf.1 < 109) (hci : cf.1 < 100 → (hx_cls cf.1).isSome = true) (q1 : Cond.methodLinkNest y.cls index x host ∈ hx_nest) (q3 : Cond.selects (hx_cn cf.1) x x ∈ lw_all ∨ Cond.selects (hx_cn cf.1) x x ∈ hx_sel2) (q2 : Cond.instanceMethod x ∈ lw_all) (q4 : Cond.initialized x.cls ∈ lw_all) (q5 : Cond.code x bx nx rx ∈ lw_all)
    (hp : (x.cls ≠ "java/lang/invoke/MethodHandle" ∧ x.cls ≠ "java/lang/invoke/VarHandle") ∧ (parseMethodDescriptor x.desc).map (fun d => d.parameters.length) = some avs.length) (hn : nx ≤ 24)
    {st0 : List Value} (hst : st0 = avs.reverse ++ .ref b :: st) (hr : (st.map fun v => v.category).sum ≤ 8)
    {stk : List Value} (hv : v.toList ++ st = stk) (k : hx_X V (d + 1) y cc nL rt (pc + 3) ls stk h1 r) : hx_X V (d + 1) y cc nL rt pc ls st0 h r := by
  subst hst
  subst hv
  intro p l e R s m args below meth c H locs A C Dn hl T hT X
  obtain ⟨⟨c1, c2, c3, c4, c5⟩, ⟨c6, c7, c8, c9⟩, c10, c11⟩ := id C
  obtain ⟨d1, d2, d3, d4, d5, d6⟩ := id Dn
  have hK := hx_back (l := l) (e := e) (below := below) (len := 3) C M d4 d5 hn q5 q4
  obtain ⟨cell, b1, b2, b3, hst, hcls, kB, hkB⟩ := hx_named C Dn hb hx hci
  have z1 : s.heap.size + R.cells = V.2.2.1 := c10.2.2.1
  have z2 : hx_tot s.heap + R.slots = V.2.2.2.1 := c10.2.2.2.1
  have hsize : A.size = c.maxLocals := by rw [c3]; exact hl.1
  have hlen : ∀ sig, parseMethodDescriptor x.desc = some sig → avs.length = sig.parameters.length := by
    intro sig hs
    have h2 := hp.2
    rw [hs] at h2
    exact (Option.some.inj h2).symm
  obtain ⟨v', vm₁, P, w1, X', hpost, hsteps⟩ := va_callVN X c1 (own := y.cls) (index := index) (bytes := bx) (maxL := nx) c6 (va_Nw.use rfl (c9.2.2.1 _ q1)) (c8 _ q2) (hx_selw C q3) (c8 _ q5) hp.1 hK (b := b) (cellB := cell) (by rw [hT]; exact b1) hst hcls
    (g := F0 m pc A (avs.reverse ++ .ref b :: st)) rfl hsize (argsL := avs) (rest := st) hlen rfl (lv_room (m := m) (pc := pc) (ls := A) (rest := avs.reverse ++ .ref b :: st) hr) (by rw [c2]; exact hd)
    (fun vm₁ hw => ⟨by show h.1 - s.heap.size + (V.2.2.1 - h.1) ≤ R.cells; omega, by show h.2.1 - hx_tot s.heap + (V.2.2.2.1 - h.2.1) ≤ R.slots; omega, rfl, by show hx_R V h T.heap; rw [hT]; exact d1, hx_K.warm (u := s) (U := T.setVm vm₁) hw c9, by show V.2.1.size ≤ T.heap.size; rw [hT, d1.1]; have := c10.2.2.2.2; omega⟩)
  obtain ⟨t, a1, a2⟩ := hx_behind (vm₁ := vm₁) (T := T) (av := (.ref b :: avs)) (pc2 := pc + 3) C Dn hl X' hpost k
  exact ⟨t, hsteps t a1, a2⟩
theorem hx_callSN {x : MethodName} {bx : ByteArray} {nx : Nat} {rx : Option FieldType} {v : Option Value} {index : Nat} {host : String} (avs : List Value)
    (hd : decode cc pc = .ok (.invokestatic index, 3)) (M : hx_M V d x bx nx rx avs h (.returned v) h1)
    (q1 : Cond.methodLinkNest y.cls index x host ∈ hx_nest) (q2 : Cond.static x ∈ lw_all) (q4 : Cond.initialized x.cls ∈ lw_all) (q5 : Cond.code x bx nx rx ∈ lw_all)
    (hp : (x.cls ≠ "java/lang/invoke/MethodHandle" ∧ x.cls ≠ "java/lang/invoke/VarHandle") ∧ (parseMethodDescriptor x.desc).map (fun d => d.parameters.length) = some avs.length) (hn : nx ≤ 24)
    {st0 : List Value} (hst : st0 = avs.reverse ++ st) (hr : (st.map fun v => v.category).sum ≤ 8)
    {stk : List Value} (hv : v.toList ++ st = stk) (k : hx_X V (d + 1) y cc nL rt (pc + 3) ls stk h1 r) : hx_X V (d + 1) y cc nL rt pc ls st0 h r := by
  subst hst
  subst hv
  intro p l e R s m args below meth c H locs A C Dn hl T hT X
  obtain ⟨⟨c1, c2, c3, c4, c5⟩, ⟨c6, c7, c8, c9⟩, c10, c11⟩ := id C
  obtain ⟨d1, d2, d3, d4, d5, d6⟩ := id Dn
  have hK := hx_back (l := l) (e := e) (below := below) (len := 3) C M d4 d5 hn q5 q4
  have z1 : s.heap.size + R.cells = V.2.2.1 := c10.2.2.1
  have z2 : hx_tot s.heap + R.slots = V.2.2.2.1 := c10.2.2.2.1
  have hsize : A.size = c.maxLocals := by rw [c3]; exact hl.1
  have hlen : ∀ sig, parseMethodDescriptor x.desc = some sig → avs.length = sig.parameters.length := by
    intro sig hs
    have h2 := hp.2
    rw [hs] at h2
    exact (Option.some.inj h2).symm
  obtain ⟨v', vm₁, P, w1, X', hpost, hsteps⟩ := va_callSN X c1 (own := y.cls) (index := index) (bytes := bx) (maxL := nx) c6 (va_Nw.use rfl (c9.2.2.1 _ q1)) (c8 _ q2) (c8 _ q4) (c8 _ q5) hp.1 hK
    (g := F0 m pc A (avs.reverse ++ st)) rfl hsize (argsL := avs) (rest := st) hlen rfl (lv_room (m := m) (pc := pc) (ls := A) (rest := avs.reverse ++ st) hr) (by rw [c2]; exact hd)
    (fun vm₁ hw => ⟨by show h.1 - s.heap.size + (V.2.2.1 - h.1) ≤ R.cells; omega, by show h.2.1 - hx_tot s.heap + (V.2.2.2.1 - h.2.1) ≤ R.slots; omega, rfl, by show hx_R V h T.heap; rw [hT]; exact d1, hx_K.warm (u := s) (U := T.setVm vm₁) hw c9, by show V.2.1.size ≤ T.heap.size; rw [hT, d1.1]; have := c10.2.2.2.2; omega⟩)
  obtain ⟨t, a1, a2⟩ := hx_behind (vm₁ := vm₁) (T := T) (av := avs) (pc2 := pc + 3) C Dn hl X' hpost k
  exact ⟨t, hsteps t a1, a2⟩
theorem hx_callIN {x : MethodName} {bx : ByteArray} {nx : Nat} {v : Option Value} {index b : Nat} {host : String} (avs : List Value)
    (hd : decode cc pc = .ok (.invokespecial index, 3)) (M : hx_M V d x bx nx none (.ref b :: avs) h (.returned v) h1)
    (hini : x.name = "<init>") (q1 : Cond.methodLinkNest y.cls index x host ∈ hx_nest) (q2 : Cond.instanceMethod x ∈ lw_all) (q4 : Cond.initialized x.cls ∈ lw_all) (q5 : Cond.code x bx nx none ∈ lw_all)
    (hp : (x.cls ≠ "java/lang/invoke/MethodHandle" ∧ x.cls ≠ "java/lang/invoke/VarHandle") ∧ (parseMethodDescriptor x.desc).map (fun d => d.parameters.length) = some avs.length) (hn : nx ≤ 24)
    {st0 : List Value} (hst : st0 = avs.reverse ++ .ref b :: st) (hr : (st.map fun v => v.category).sum ≤ 8)
    {stk : List Value} (hv : v.toList ++ st = stk) (k : hx_X V (d + 1) y cc nL rt (pc + 3) ls stk h1 r) : hx_X V (d + 1) y cc nL rt pc ls st0 h r := by
  subst hst
  subst hv
  intro p l e R s m args below meth c H locs A C Dn hl T hT X
  obtain ⟨⟨c1, c2, c3, c4, c5⟩, ⟨c6, c7, c8, c9⟩, c10, c11⟩ := id C
  obtain ⟨d1, d2, d3, d4, d5, d6⟩ := id Dn
  have hK := hx_back (l := l) (e := e) (below := below) (len := 3) C M d4 d5 hn q5 q4
  have z1 : s.heap.size + R.cells = V.2.2.1 := c10.2.2.1
  have z2 : hx_tot s.heap + R.slots = V.2.2.2.1 := c10.2.2.2.1
  have hsize : A.size = c.maxLocals := by rw [c3]; exact hl.1
  have hlen : ∀ sig, parseMethodDescriptor x.desc = some sig → avs.length = sig.parameters.length := by
    intro sig hs
    have h2 := hp.2
    rw [hs] at h2
    exact (Option.some.inj h2).symm
  obtain ⟨v', vm₁, P, w1, X', hpost, hsteps⟩ := va_callIN X c1 (own := y.cls) (index := index) (bytes := bx) (maxL := nx) c6 hini (va_Nw.use rfl (c9.2.2.1 _ q1)) (c8 _ q2) (c8 _ q5) hp.1 hK
    (g := F0 m pc A (avs.reverse ++ .ref b :: st)) rfl hsize (a := b) (argsL := avs) (rest := st) hlen rfl (lv_room (m := m) (pc := pc) (ls := A) (rest := avs.reverse ++ .ref b :: st) hr) (by rw [c2]; exact hd)
    (fun vm₁ hw => ⟨by show h.1 - s.heap.size + (V.2.2.1 - h.1) ≤ R.cells; omega, by show h.2.1 - hx_tot s.heap + (V.2.2.2.1 - h.2.1) ≤ R.slots; omega, rfl, by show hx_R V h T.heap; rw [hT]; exact d1, hx_K.warm (u := s) (U := T.setVm vm₁) hw c9, by show V.2.1.size ≤ T.heap.size; rw [hT, d1.1]; have := c10.2.2.2.2; omega⟩)
  obtain ⟨t, a1, a2⟩ := hx_behind (vm₁ := vm₁) (T := T) (av := (.ref b :: avs)) (pc2 := pc + 3) C Dn hl X' hpost k
  exact ⟨t, hsteps t a1, a2⟩
theorem hx_callVU {x : MethodName} {bx : ByteArray} {nx : Nat} {rx : Option FieldType} {v : Option Value} {index b : Nat} {x0 : MethodName} {owner : String} {cf : hx_C} (avs : List Value)
    (hd : decode cc pc = .ok (.invokevirtual index, 3)) (M : hx_M V d x bx nx rx (.ref b :: avs) h (.returned v) h1)
    (hb : h.2.2 b = some cf) (hx : cf.1 < 109) (hci : cf.1 < 100 → (hx_cls cf.1).isSome = true) (q1 : Cond.methodLink y.cls index x0 ∈ lw_all) (q0 : Cond.sameMethod x0.cls owner x0.name x0.desc ∈ lw_all) (hxo : x = ⟨owner, x0.name, x0.desc⟩) (q7 : owner ≠ "java/lang/invoke/MethodHandle" ∧ owner ≠ "java/lang/invoke/VarHandle") (q3 : Cond.selects (hx_cn cf.1) x0 x ∈ lw_all ∨ Cond.selects (hx_cn cf.1) x0 x ∈ hx_sel2) (q2 : Cond.instanceMethod x ∈ lw_all) (q4 : Cond.initialized x.cls ∈ lw_all) (q5 : Cond.code x bx nx rx ∈ lw_all)
    (hp : (x0.cls ≠ "java/lang/invoke/MethodHandle" ∧ x0.cls ≠ "java/lang/invoke/VarHandle") ∧ (parseMethodDescriptor x0.desc).map (fun d => d.parameters.length) = some avs.length) (hn : nx ≤ 24)
    {st0 : List Value} (hst : st0 = avs.reverse ++ .ref b :: st) (hr : (st.map fun v => v.category).sum ≤ 8)
    {stk : List Value} (hv : v.toList ++ st = stk) (k : hx_X V (d + 1) y cc nL rt (pc + 3) ls stk h1 r) : hx_X V (d + 1) y cc nL rt pc ls st0 h r := by
  subst hst
  subst hv
  intro p l e R s m args below meth c H locs A C Dn hl T hT X
  obtain ⟨⟨c1, c2, c3, c4, c5⟩, ⟨c6, c7, c8, c9⟩, c10, c11⟩ := id C
  obtain ⟨d1, d2, d3, d4, d5, d6⟩ := id Dn
  have hK := hx_back (l := l) (e := e) (below := below) (len := 3) C M d4 d5 hn q5 q4
  obtain ⟨cell, b1, b2, b3, hst, hcls, kB, hkB⟩ := hx_named C Dn hb hx hci
  have z1 : s.heap.size + R.cells = V.2.2.1 := c10.2.2.1
  have z2 : hx_tot s.heap + R.slots = V.2.2.2.1 := c10.2.2.2.1
  have hsize : A.size = c.maxLocals := by rw [c3]; exact hl.1
  have hlen : ∀ sig, parseMethodDescriptor x0.desc = some sig → avs.length = sig.parameters.length := by
    intro sig hs
    have h2 := hp.2
    rw [hs] at h2
    exact (Option.some.inj h2).symm
  have hdecl : va_Decl s ⟨owner, x0.name, x0.desc⟩ := by rw [← hxo]; exact va_Decl.of (c8 _ q2) (c8 _ q5)
  obtain ⟨v', vm₁, P, w1, X', hpost, hsteps⟩ := va_callVU X c1 (own := y.cls) (index := index) (bytes := bx) (maxL := nx) c6 (c8 _ q1) (c8 _ q0) hdecl q7 (hx_selw C q3) (c8 _ q2) (c8 _ q5) hK (b := b) (cellB := cell) (by rw [hT]; exact b1) hst hcls
    (g := F0 m pc A (avs.reverse ++ .ref b :: st)) rfl hsize (argsL := avs) (rest := st) hlen rfl (lv_room (m := m) (pc := pc) (ls := A) (rest := avs.reverse ++ .ref b :: st) hr) (by rw [c2]; exact hd)
    (fun vm₁ hw => ⟨by show h.1 - s.heap.size + (V.2.2.1 - h.1) ≤ R.cells; omega, by show h.2.1 - hx_tot s.heap + (V.2.2.2.1 - h.2.1) ≤ R.slots; omega, rfl, by show hx_R V h T.heap; rw [hT]; exact d1, hx_K.warm (u := s) (U := T.setVm vm₁) hw c9, by show V.2.1.size ≤ T.heap.size; rw [hT, d1.1]; have := c10.2.2.2.2; omega⟩)
  obtain ⟨t, a1, a2⟩ := hx_behind (vm₁ := vm₁) (T := T) (av := (.ref b :: avs)) (pc2 := pc + 3) C Dn hl X' hpost k
  exact ⟨t, hsteps t a1, a2⟩
theorem hx_callIF {x : MethodName} {bx : ByteArray} {nx : Nat} {rx : Option FieldType} {v : Option Value} {index b : Nat} {x0 : MethodName} {count : Nat} {cf : hx_C} (avs : List Value)
    (hd : decode cc pc = .ok (.invokeinterface index count, 5)) (M : hx_M V d x bx nx rx (.ref b :: avs) h (.returned v) h1)
    (hb : h.2.2 b = some cf) (hx : cf.1 < 109) (hci : cf.1 < 100 → (hx_cls cf.1).isSome = true) (q1 : Cond.methodLink y.cls index x0 ∈ lw_all) (q0 : (hx_cn cf.1, x0, x) ∈ hx_ifs) (q3 : Cond.selects (hx_cn cf.1) x0 x ∈ lw_all) (q2 : Cond.instanceMethod x ∈ lw_all) (q4 : Cond.initialized x.cls ∈ lw_all) (q5 : Cond.code x bx nx rx ∈ lw_all)
    (hp : (x0.cls ≠ "java/lang/invoke/MethodHandle" ∧ x0.cls ≠ "java/lang/invoke/VarHandle") ∧ (parseMethodDescriptor x0.desc).map (fun d => d.parameters.length) = some avs.length) (hn : nx ≤ 24)
    {st0 : List Value} (hst : st0 = avs.reverse ++ .ref b :: st) (hr : (st.map fun v => v.category).sum ≤ 8)
    {stk : List Value} (hv : v.toList ++ st = stk) (k : hx_X V (d + 1) y cc nL rt (pc + 5) ls stk h1 r) : hx_X V (d + 1) y cc nL rt pc ls st0 h r := by
  subst hst
  subst hv
  intro p l e R s m args below meth c H locs A C Dn hl T hT X
  obtain ⟨⟨c1, c2, c3, c4, c5⟩, ⟨c6, c7, c8, c9⟩, c10, c11⟩ := id C
  obtain ⟨d1, d2, d3, d4, d5, d6⟩ := id Dn
  have hK := hx_back (l := l) (e := e) (below := below) (len := 5) C M d4 d5 hn q5 q4
  obtain ⟨cell, b1, b2, b3, hst, hcls, kB, hkB⟩ := hx_named C Dn hb hx hci
  have z1 : s.heap.size + R.cells = V.2.2.1 := c10.2.2.1
  have z2 : hx_tot s.heap + R.slots = V.2.2.2.1 := c10.2.2.2.1
  have hsize : A.size = c.maxLocals := by rw [c3]; exact hl.1
  have hlen : ∀ sig, parseMethodDescriptor x0.desc = some sig → avs.length = sig.parameters.length := by
    intro sig hs
    have h2 := hp.2
    rw [hs] at h2
    exact (Option.some.inj h2).symm
  obtain ⟨f1, f2, f3, f4, f5⟩ := c9.2.2.2.1 _ q0
  obtain ⟨v', vm₁, P, w1, X', hpost, hsteps⟩ := va_callIF X c1 (own := y.cls) (index := index) (bytes := bx) (maxL := nx) c6 (c8 _ q1) f1 f2 (c8 _ q3) (c8 _ q2) f3 f4 f5 (c8 _ q5) hp.1 hK (b := b) (cellB := cell) (by rw [hT]; exact b1) hst hcls hkB
    (g := F0 m pc A (avs.reverse ++ .ref b :: st)) rfl hsize (argsL := avs) (rest := st) hlen rfl (lv_room (m := m) (pc := pc) (ls := A) (rest := avs.reverse ++ .ref b :: st) hr) (by rw [c2]; exact hd)
    (fun vm₁ hw => ⟨by show h.1 - s.heap.size + (V.2.2.1 - h.1) ≤ R.cells; omega, by show h.2.1 - hx_tot s.heap + (V.2.2.2.1 - h.2.1) ≤ R.slots; omega, rfl, by show hx_R V h T.heap; rw [hT]; exact d1, hx_K.warm (u := s) (U := T.setVm vm₁) hw c9, by show V.2.1.size ≤ T.heap.size; rw [hT, d1.1]; have := c10.2.2.2.2; omega⟩)
  obtain ⟨t, a1, a2⟩ := hx_behind (vm₁ := vm₁) (T := T) (av := (.ref b :: avs)) (pc2 := pc + 5) C Dn hl X' hpost k
  exact ⟨t, hsteps t a1, a2⟩
/-! PRIMITIVES of the pure functions, each with its row -/
def hvI (v : Value) : Option Int32 := match v with
  | .int x => some x
  | _ => none
def hvL (v : Value) : Option Int64 := match v with
  | .long x => some x
  | _ => none
def hvR (v : Value) : Option (Option Nat) := match v with
  | .ref a => some (some a)
  | .null => some none
  | _ => none
theorem hvI_ok {v : Value} {x : Int32} (h : hvI v = some x) : v = .int x := by
  cases v <;> simp_all [hvI]
theorem hvL_ok {v : Value} {x : Int64} (h : hvL v = some x) : v = .long x := by
  cases v <;> simp_all [hvL]
theorem hvR_ok {v : Value} {x : Option Nat} (h : hvR v = some x) : v = va_rf x := by
  cases v <;> simp [hvR] at h <;> subst h <;> rfl
/-- a field of the object a, of one of the classes ts -/
def hg (h : hx_S) (a : Nat) (ts : List Nat) (k : Nat) : Option Value := match h.2.2 a with
  | some x => if (ts.contains x.1 && decide (k < x.2.1)) = true then some (x.2.2 k) else none
  | none => none
def hgI (h : hx_S) (a : Nat) (ts : List Nat) (k : Nat) : Option Int32 := (hg h a ts k).bind hvI
def hgL (h : hx_S) (a : Nat) (ts : List Nat) (k : Nat) : Option Int64 := (hg h a ts k).bind hvL
def hgR (h : hx_S) (a : Nat) (ts : List Nat) (k : Nat) : Option (Option Nat) := (hg h a ts k).bind hvR
theorem hg_ok {h : hx_S} {a k : Nat} {ts : List Nat} {v : Value} (e : hg h a ts k = some v) : ∃ x, h.2.2 a = some x ∧ x.1 ∈ ts ∧ k < x.2.1 ∧ x.2.2 k = v := by
  unfold hg at e
  cases hx : h.2.2 a with
  | none => rw [hx] at e; cases e
  | some x =>
    rw [hx] at e
    obtain ⟨q, e⟩ := hx_if e
    simp only [Bool.and_eq_true, decide_eq_true_eq, List.contains_iff_mem] at q
    exact ⟨x, rfl, q.1, q.2, Option.some.inj e⟩
theorem hgI_ok {h : hx_S} {a k : Nat} {ts : List Nat} {x : Int32} (e : hgI h a ts k = some x) : hg h a ts k = some (.int x) := by
  obtain ⟨v, e1, e2⟩ := hx_bi e
  rw [e1, hvI_ok e2]
theorem hgL_ok {h : hx_S} {a k : Nat} {ts : List Nat} {x : Int64} (e : hgL h a ts k = some x) : hg h a ts k = some (.long x) := by
  obtain ⟨v, e1, e2⟩ := hx_bi e
  rw [e1, hvL_ok e2]
theorem hgR_ok {h : hx_S} {a k : Nat} {ts : List Nat} {x : Option Nat} (e : hgR h a ts k = some x) : hg h a ts k = some (va_rf x) := by
  obtain ⟨v, e1, e2⟩ := hx_bi e
  rw [e1, hvR_ok e2]
/-- a cell of one of the kinds ts -/
def hk (h : hx_S) (a : Nat) (ts : List Nat) : Bool := match h.2.2 a with
  | some x => ts.contains x.1
  | none => false
theorem hk_ok {h : hx_S} {a : Nat} {ts : List Nat} (e : hk h a ts = true) : ∃ x, h.2.2 a = some x ∧ x.1 ∈ ts := by
  unfold hk at e
  cases hx : h.2.2 a with
  | none => rw [hx] at e; cases e
  | some x => rw [hx] at e; exact ⟨x, rfl, by simpa using e⟩
/-- how many fields -/
def hx_nf (t : Nat) : Nat := match hx_cls t with
  | some q => q.2.2
  | none => 0
def hp (V : hx_V) (h : hx_S) (a : Nat) (ts : List Nat) (k : Nat) (v : Value) : Option hx_S := match h.2.2 a with
  | some x => if (ts.contains x.1 && (decide (x.2.1 = hx_nf x.1) && decide (V.2.1.size ≤ a))) = true then some (hx_set h a (hx_putv x k v)) else none
  | none => none
theorem hp_ok {V : hx_V} {h h1 : hx_S} {a k : Nat} {ts : List Nat} {v : Value} (e : hp V h a ts k v = some h1) : ∃ x, h.2.2 a = some x ∧ x.1 ∈ ts ∧ x.2.1 = hx_nf x.1 ∧ V.2.1.size ≤ a ∧ h1 = hx_set h a (hx_putv x k v) := by
  unfold hp at e
  cases hx : h.2.2 a with
  | none => rw [hx] at e; cases e
  | some x =>
    rw [hx] at e
    obtain ⟨q, e⟩ := hx_if e
    simp only [Bool.and_eq_true, decide_eq_true_eq, List.contains_iff_mem] at q
    exact ⟨x, rfl, q.1, q.2.1, q.2.2, (Option.some.inj e).symm⟩
/-- a place of an array of the kind t -/
def hgA (h : hx_S) (a t : Nat) (i : Int32) : Option Value := match h.2.2 a with
  | some x => if (decide (x.1 = t) && hx_in i x.2.1) = true then some (x.2.2 i.toNatClampNeg) else none
  | none => none
def hgAI (h : hx_S) (a t : Nat) (i : Int32) : Option Int32 := (hgA h a t i).bind hvI
def hgAL (h : hx_S) (a t : Nat) (i : Int32) : Option Int64 := (hgA h a t i).bind hvL
theorem hgA_ok {h : hx_S} {a t : Nat} {i : Int32} {v : Value} (e : hgA h a t i = some v) : ∃ N f, h.2.2 a = some (t, N, f) ∧ hx_in i N = true ∧ f i.toNatClampNeg = v := by
  unfold hgA at e
  cases hx : h.2.2 a with
  | none => rw [hx] at e; cases e
  | some x =>
    rw [hx] at e
    obtain ⟨q, e9⟩ := hx_if e
    simp only [Bool.and_eq_true, decide_eq_true_eq] at q
    obtain ⟨t2, N, f⟩ := x
    obtain ⟨rfl, q2⟩ := q
    exact ⟨N, f, rfl, q2, Option.some.inj e9⟩
theorem hgAI_ok {h : hx_S} {a t : Nat} {i x : Int32} (e : hgAI h a t i = some x) : hgA h a t i = some (.int x) := by
  obtain ⟨v, e1, e2⟩ := hx_bi e
  rw [e1, hvI_ok e2]
theorem hgAL_ok {h : hx_S} {a t : Nat} {i : Int32} {x : Int64} (e : hgAL h a t i = some x) : hgA h a t i = some (.long x) := by
  obtain ⟨v, e1, e2⟩ := hx_bi e
  rw [e1, hvL_ok e2]
/-- a place of an array of references -/
def hgQ (h : hx_S) (a : Nat) (i : Int32) : Option (Option Nat) := match h.2.2 a with
  | some x => if (decide (105 ≤ x.1) && (decide (x.1 < 109) && hx_in i x.2.1)) = true then hvR (x.2.2 i.toNatClampNeg) else none
  | none => none
theorem hgQ_ok {h : hx_S} {a : Nat} {i : Int32} {v : Option Nat} (e : hgQ h a i = some v) : ∃ t N f, h.2.2 a = some (t, N, f) ∧ 105 ≤ t ∧ t < 109 ∧ hx_in i N = true ∧ f i.toNatClampNeg = va_rf v := by
  unfold hgQ at e
  cases hx : h.2.2 a with
  | none => rw [hx] at e; cases e
  | some x =>
    rw [hx] at e
    obtain ⟨q, e⟩ := hx_if e
    simp only [Bool.and_eq_true, decide_eq_true_eq] at q
    obtain ⟨t2, N, f⟩ := x
    exact ⟨t2, N, f, rfl, q.1, q.2.1, q.2.2, hvR_ok e⟩
/-- an array's length -/
def hln (h : hx_S) (a : Nat) : Option Int32 := match h.2.2 a with
  | some x => if (decide (100 ≤ x.1) && decide (x.1 < 109)) = true then some (nI x.2.1) else none
  | none => none
theorem hln_ok {h : hx_S} {a : Nat} {n : Int32} (e : hln h a = some n) : ∃ t N f, h.2.2 a = some (t, N, f) ∧ 100 ≤ t ∧ t < 109 ∧ n = nI N := by
  unfold hln at e
  cases hx : h.2.2 a with
  | none => rw [hx] at e; cases e
  | some x =>
    rw [hx] at e
    obtain ⟨q, e⟩ := hx_if e
    simp only [Bool.and_eq_true, decide_eq_true_eq] at q
    obtain ⟨t2, N, f⟩ := x
    exact ⟨t2, N, f, rfl, q.1, q.2, (Option.some.inj e).symm⟩
def hpA (V : hx_V) (h : hx_S) (a t : Nat) (i : Int32) (v : Value) : Option hx_S := match h.2.2 a with
  | some x => if (decide (x.1 = t) && (hx_in i x.2.1 && decide (V.2.1.size ≤ a))) = true then some (hx_set h a (hx_putv x i.toNatClampNeg v)) else none
  | none => none
theorem hpA_ok {V : hx_V} {h h1 : hx_S} {a t : Nat} {i : Int32} {v : Value} (e : hpA V h a t i v = some h1) : ∃ N f, h.2.2 a = some (t, N, f) ∧ hx_in i N = true ∧ V.2.1.size ≤ a ∧ h1 = hx_set h a (hx_putv (t, N, f) i.toNatClampNeg v) := by
  unfold hpA at e
  cases hx : h.2.2 a with
  | none => rw [hx] at e; cases e
  | some x =>
    rw [hx] at e
    obtain ⟨q, e9⟩ := hx_if e
    simp only [Bool.and_eq_true, decide_eq_true_eq] at q
    obtain ⟨t2, N, f⟩ := x
    obtain ⟨rfl, q2, q3⟩ := q
    exact ⟨N, f, rfl, q2, q3, (Option.some.inj e9).symm⟩
/-- the kinds of cells that the tables say are Objects -/
def hx_obs : List Nat := [0, 1, 2, 3, 4, 5, 6, 8, 9, 10, 11, 12, 13, 14, 15, 16, 17, 18, 19, 20, 24, 25, 27, 36, 100, 101, 102, 103, 104, 105, 106, 107, 108]
theorem hx_obs_ok : ∀ t ∈ hx_obs, t < 109 ∧ (t < 100 → (hx_cls t).isSome = true) ∧ Cond.castable (hx_cn t) "java/lang/Object" ∈ hx_nest := by decide +kernel
/-- a reference laid into an array of references: into an Object[] any one, into a Guest[] a Guest -/
def hpQ (V : hx_V) (h : hx_S) (a : Nat) (i : Int32) (r : Option Nat) : Option hx_S := match h.2.2 a with
  | some x => if ((decide (x.1 = 105) || decide (x.1 = 106)) && (hx_in i x.2.1 && (decide (V.2.1.size ≤ a) && (match r with | none => true | some b => if x.1 = 105 then hk h b hx_obs else hk h b [9])))) = true then some (hx_set h a (hx_putv x i.toNatClampNeg (va_rf r))) else none
  | none => none
/-- one cell more -/
def hn (V : hx_V) (h : hx_S) (n : Nat) (x : hx_C) : Option hx_S := if (decide (h.1 + 1 ≤ V.2.2.1) && decide (h.2.1 + n ≤ V.2.2.2.1)) = true then some (hx_push h n x) else none
theorem hn_ok {V : hx_V} {h h1 : hx_S} {n : Nat} {x : hx_C} (e : hn V h n x = some h1) : h.1 + 1 ≤ V.2.2.1 ∧ h.2.1 + n ≤ V.2.2.2.1 ∧ h1 = hx_push h n x := by
  obtain ⟨q, e⟩ := hx_if e
  simp only [Bool.and_eq_true, decide_eq_true_eq] at q
  exact ⟨q.1, q.2, (Option.some.inj e).symm⟩
/-- a new array of n places -/
def hna (V : hx_V) (h : hx_S) (t : Nat) (n : Int32) (v : Value) : Option hx_S := if (!decide (n < 0) && decide (n.toNatClampNeg * 8 ≤ 536870912)) = true then hn V h n.toNatClampNeg (t, n.toNatClampNeg, fun _ => v) else none
theorem hna_ok {V : hx_V} {h h1 : hx_S} {t : Nat} {n : Int32} {v : Value} (e : hna V h t n v = some h1) : ¬ n < 0 ∧ n.toNatClampNeg * 8 ≤ 536870912 ∧ h.1 + 1 ≤ V.2.2.1 ∧ h.2.1 + n.toNatClampNeg ≤ V.2.2.2.1 ∧ h1 = hx_push h n.toNatClampNeg (t, n.toNatClampNeg, fun _ => v) := by
  obtain ⟨q, e⟩ := hx_if e
  obtain ⟨e1, e2, e3⟩ := hn_ok e
  simp only [Bool.and_eq_true, decide_eq_true_eq, Bool.not_eq_true', decide_eq_false_iff_not] at q
  exact ⟨q.1, q.2, e1, e2, e3⟩
/-- a char, a byte -/
def hx_chr (x : Int32) : Bool := decide ((x.toUInt32 % 65536).toInt32 = x)
def hx_byt (x : Int32) : Bool := decide (x.toInt8.toInt32 = x)
/-- what a getfield needs -/
def hx_Fok (own : String) (index t k : Nat) : Prop := ∃ (Cn : String) (T0 : u_T) (N0 : Nat) (ref : String), hx_cls t = some (Cn, T0, N0) ∧ k < N0 ∧ (∀ w ∈ u_ws Cn T0 N0, w ∈ lw_all) ∧ t < 100 ∧ Cond.fieldLink own index ref (T0 k).2.1 (T0 k).2.2.1 ∈ lw_all ∧ (ref = (T0 k).1 ∨ Cond.sameField ref (T0 k).1 (T0 k).2.1 (T0 k).2.2.1 ∈ lw_all)
def hx_FokN (own : String) (index t k : Nat) : Prop := ∃ (Cn : String) (T0 : u_T) (N0 : Nat) (ref host : String), hx_cls t = some (Cn, T0, N0) ∧ k < N0 ∧ (∀ w ∈ u_ws Cn T0 N0, w ∈ lw_all) ∧ t < 100 ∧ Cond.fieldLinkNest own index ref (T0 k).2.1 (T0 k).2.2.1 host ∈ hx_nest ∧ (ref = (T0 k).1 ∨ Cond.sameField ref (T0 k).1 (T0 k).2.1 (T0 k).2.2.1 ∈ lw_all)
def hx_Pok (own mn : String) (index t k : Nat) (v : Value) : Prop := ∃ (Cn : String) (T0 : u_T) (N0 : Nat) (ref : String) (ty0 : Nat → FieldType), hx_cls t = some (Cn, T0, N0) ∧ k < N0 ∧ (∀ w ∈ u_ws Cn T0 N0, w ∈ lw_all) ∧ (∀ k, k < N0 → parseFieldDescriptor (T0 k).2.2.1 = some (ty0 k)) ∧ (∀ a, a < N0 → ∀ b, b < N0 → a ≠ b → (T0 a).2.1 ≠ (T0 b).2.1) ∧ t < 100 ∧ Cond.fieldLink own index ref (T0 k).2.1 (T0 k).2.2.1 ∈ lw_all ∧ (ref = (T0 k).1 ∨ Cond.sameField ref (T0 k).1 (T0 k).2.1 (T0 k).2.2.1 ∈ lw_all) ∧ ((T0 k).2.2.2 = false ∨ ((T0 k).2.2.2 = true ∧ mn = "<init>" ∧ (T0 k).1 = own)) ∧ narrow (ty0 k) v = v ∧ fits (ty0 k) v = true
theorem cx_get {index a k : Nat} {ts : List Nat} {v : Value} (hd : decode cc pc = .ok (.getfield index, 3)) (e : hg h a ts k = some v) (hF : ∀ t ∈ ts, hx_Fok y.cls index t k) (kk : hx_X V d y cc nL rt (pc + 3) ls (v :: st) h r) : hx_X V d y cc nL rt pc ls (.ref a :: st) h r := by
  obtain ⟨⟨t, N, f⟩, e1, e2, e3, rfl⟩ := hg_ok e
  obtain ⟨Cn, T0, N0, ref, g1, g2, g3, g4, g5, g6⟩ := hF _ e2
  exact hx_getf (ref := ref) hd e1 e3 g1 g2 g3 g4 g5 g6 kk
theorem cx_getN {index a k : Nat} {ts : List Nat} {v : Value} (hd : decode cc pc = .ok (.getfield index, 3)) (e : hg h a ts k = some v) (hF : ∀ t ∈ ts, hx_FokN y.cls index t k) (kk : hx_X V d y cc nL rt (pc + 3) ls (v :: st) h r) : hx_X V d y cc nL rt pc ls (.ref a :: st) h r := by
  obtain ⟨⟨t, N, f⟩, e1, e2, e3, rfl⟩ := hg_ok e
  obtain ⟨Cn, T0, N0, ref, host, g1, g2, g3, g4, g5, g6⟩ := hF _ e2
  exact hx_getfN (ref := ref) (host := host) hd e1 e3 g1 g2 g3 g4 g5 g6 kk
theorem cx_put {index a k : Nat} {ts : List Nat} {v : Value} (hd : decode cc pc = .ok (.putfield index, 3)) (e : hp V h a ts k v = some h1) (hF : ∀ t ∈ ts, hx_Pok y.cls y.name index t k v) (kk : hx_X V d y cc nL rt (pc + 3) ls st h1 r) : hx_X V d y cc nL rt pc ls (v :: .ref a :: st) h r := by
  obtain ⟨⟨t, N, f⟩, e1, e2, e3, e4, rfl⟩ := hp_ok e
  obtain ⟨Cn, T0, N0, ref, ty0, g1, g2, g3, g4, g5, g6, g7, g8, g9, g10, g11⟩ := hF _ e2
  have e3 : N = N0 := by
    simp only [hx_nf] at e3
    rw [g1] at e3
    exact e3
  exact hx_putf (ref := ref) hd e1 e4 (by omega) g1 e3 g3 g4 g5 g6 g7 g8 g9 g10 g11 kk
theorem cx_alen {a : Nat} {n : Int32} (hd : decode cc pc = .ok (.arraylength, 1)) (e : hln h a = some n) (kk : hx_X V d y cc nL rt (pc + 1) ls (.int n :: st) h r) : hx_X V d y cc nL rt pc ls (.ref a :: st) h r := by
  obtain ⟨t, N, f, e1, e2, e3, rfl⟩ := hln_ok e
  exact hx_alen hd e1 e2 e3 kk
theorem cx_aald {a : Nat} {i : Int32} {v : Option Nat} (hd : decode cc pc = .ok (.aaload, 1)) (e : hgQ h a i = some v) (kk : hx_X V d y cc nL rt (pc + 1) ls (va_rf v :: st) h r) : hx_X V d y cc nL rt pc ls (.int i :: .ref a :: st) h r := by
  obtain ⟨t, N, f, e1, e2, e3, e4, e5⟩ := hgQ_ok e
  rw [← e5] at kk
  exact hx_aald hd e1 e2 e3 e4 kk
theorem cx_aast {a : Nat} {i : Int32} {v : Option Nat} (hd : decode cc pc = .ok (.aastore, 1)) (e : hpQ V h a i v = some h1) (kk : hx_X V d y cc nL rt (pc + 1) ls st h1 r) : hx_X V d y cc nL rt pc ls (va_rf v :: .int i :: .ref a :: st) h r := by
  unfold hpQ at e
  cases hx : h.2.2 a with
  | none => rw [hx] at e; cases e
  | some x =>
    rw [hx] at e
    obtain ⟨q, e⟩ := hx_if e
    cases e
    obtain ⟨t, N, f⟩ := x
    simp only [Bool.and_eq_true, Bool.or_eq_true, decide_eq_true_eq] at q
    obtain ⟨q1, q2, q3, q4⟩ := q
    cases v with
    | none => exact hx_aastN hd hx (by omega) (by omega) q3 q2 kk
    | some b =>
      rcases q1 with rfl | rfl
      · simp only [if_true] at q4
        obtain ⟨x, w1, w2⟩ := hk_ok q4
        obtain ⟨o1, o2, o3⟩ := hx_obs_ok _ w2
        exact hx_aastR hd hx (by omega) (by omega) q3 q2 w1 o1 o2 rfl (Or.inr o3) kk
      · simp only [show ¬ (106 = 105) by decide, if_false] at q4
        obtain ⟨x, w1, w2⟩ := hk_ok q4
        have w3 : x.1 = 9 := by simpa using w2
        exact hx_aastR (E := "BeastsChoose$Guest") hd hx (by omega) (by omega) q3 q2 w1 (by omega) (fun _ => by rw [w3]; rfl) rfl (Or.inl (by rw [w3]; rfl)) kk
theorem hx_nullR (hd : decode cc pc = .ok (.aconst_null, 1)) (k : hx_X V d y cc nL rt (pc + 1) ls (va_rf none :: st) h r) : hx_X V d y cc nL rt pc ls st h r := hx_null hd k
theorem cx_iald {a : Nat} {i : Int32} {v : Value} (hd : decode cc pc = .ok (.iaload, 1)) (e : hgA h a 100 i = some v) (kk : hx_X V d y cc nL rt (pc + 1) ls (v :: st) h r) : hx_X V d y cc nL rt pc ls (.int i :: .ref a :: st) h r := by
  obtain ⟨N, f, e1, e2, rfl⟩ := hgA_ok e
  exact hx_iald hd e1 e2 kk
theorem cx_iast {a : Nat} {i : Int32} {x : Int32} (hd : decode cc pc = .ok (.iastore, 1)) (e : hpA V h a 100 i (.int x) = some h1) (kk : hx_X V d y cc nL rt (pc + 1) ls st h1 r) : hx_X V d y cc nL rt pc ls (.int x :: .int i :: .ref a :: st) h r := by
  obtain ⟨N, f, e1, e2, e3, rfl⟩ := hpA_ok e
  refine hx_iast hd e1 e3 e2 ?_
  exact kk
theorem cx_cald {a : Nat} {i : Int32} {v : Value} (hd : decode cc pc = .ok (.caload, 1)) (e : hgA h a 101 i = some v) (kk : hx_X V d y cc nL rt (pc + 1) ls (v :: st) h r) : hx_X V d y cc nL rt pc ls (.int i :: .ref a :: st) h r := by
  obtain ⟨N, f, e1, e2, rfl⟩ := hgA_ok e
  exact hx_cald hd e1 e2 kk
theorem cx_cast {a : Nat} {i : Int32} {x : Int32} (hd : decode cc pc = .ok (.castore, 1)) (e : hpA V h a 101 i (.int x) = some h1) (hx : hx_chr x = true) (kk : hx_X V d y cc nL rt (pc + 1) ls st h1 r) : hx_X V d y cc nL rt pc ls (.int x :: .int i :: .ref a :: st) h r := by
  obtain ⟨N, f, e1, e2, e3, rfl⟩ := hpA_ok e
  refine hx_cast hd e1 e3 e2 ?_
  rw [show narrow .char (.int x) = .int x from congrArg Value.int (of_decide_eq_true hx)]
  exact kk
theorem cx_bald {a : Nat} {i : Int32} {v : Value} (hd : decode cc pc = .ok (.baload, 1)) (e : hgA h a 102 i = some v) (kk : hx_X V d y cc nL rt (pc + 1) ls (v :: st) h r) : hx_X V d y cc nL rt pc ls (.int i :: .ref a :: st) h r := by
  obtain ⟨N, f, e1, e2, rfl⟩ := hgA_ok e
  exact hx_bald hd e1 e2 kk
theorem cx_bast {a : Nat} {i : Int32} {x : Int32} (hd : decode cc pc = .ok (.bastore, 1)) (e : hpA V h a 102 i (.int x) = some h1) (hx : hx_byt x = true) (kk : hx_X V d y cc nL rt (pc + 1) ls st h1 r) : hx_X V d y cc nL rt pc ls (.int x :: .int i :: .ref a :: st) h r := by
  obtain ⟨N, f, e1, e2, e3, rfl⟩ := hpA_ok e
  refine hx_bast hd e1 e3 e2 ?_
  rw [show narrow .byte (.int x) = .int x from congrArg Value.int (of_decide_eq_true hx)]
  exact kk
theorem cx_lald {a : Nat} {i : Int32} {v : Value} (hd : decode cc pc = .ok (.laload, 1)) (e : hgA h a 104 i = some v) (kk : hx_X V d y cc nL rt (pc + 1) ls (v :: st) h r) : hx_X V d y cc nL rt pc ls (.int i :: .ref a :: st) h r := by
  obtain ⟨N, f, e1, e2, rfl⟩ := hgA_ok e
  exact hx_lald hd e1 e2 kk
theorem cx_last {a : Nat} {i : Int32} {x : Int64} (hd : decode cc pc = .ok (.lastore, 1)) (e : hpA V h a 104 i (.long x) = some h1) (kk : hx_X V d y cc nL rt (pc + 1) ls st h1 r) : hx_X V d y cc nL rt pc ls (.long x :: .int i :: .ref a :: st) h r := by
  obtain ⟨N, f, e1, e2, e3, rfl⟩ := hpA_ok e
  refine hx_last hd e1 e3 e2 ?_
  exact kk
theorem cx_new {Cn : String} {T0 : u_T} {N0 ci n index : Nat} {ty0 : Nat → FieldType} (hd : decode cc pc = .ok (.new index, 3)) (e : hn V h n (ci, N0, fun k => defaultValue (ty0 k)) = some h1) (hci : ci < 100) (hcl : hx_cls ci = some (Cn, T0, N0)) (hin : ∀ w ∈ u_ws Cn T0 N0, w ∈ lw_all) (hty : ∀ k, k < N0 → parseFieldDescriptor (T0 k).2.2.1 = some (ty0 k)) (q1 : Cond.classLink y.cls index Cn ∈ lw_all) (q2 : Cond.instantiable Cn n ∈ lw_all) (q3 : Cond.initialized Cn ∈ lw_all)
    (kk : hx_X V d y cc nL rt (pc + 3) ls (.ref h.1 :: st) h1 r) : hx_X V d y cc nL rt pc ls st h r := by
  obtain ⟨n1, n2, rfl⟩ := hn_ok e
  exact hx_new hd hci hcl hin hty q1 q2 q3 n1 n2 kk
theorem cx_newa {t : Nat} {atype : ArrayType} {n : Int32} (hd : decode cc pc = .ok (.newarray atype, 2)) (e : hna V h t n (defaultValue (Op.newarray.typeOf atype)) = some h1) (h100 : 100 ≤ t) (h2 : t < 109) (ht : hx_aty t = Op.newarray.typeOf atype) (q1 : Cond.arrayClass (Op.newarray.typeOf atype) ∈ lw_all) (hb : componentBytes (Op.newarray.typeOf atype) ≤ 8)
    (kk : hx_X V d y cc nL rt (pc + 2) ls (.ref h.1 :: st) h1 r) : hx_X V d y cc nL rt pc ls (.int n :: st) h r := by
  obtain ⟨n0, n1, n2, n3, rfl⟩ := hna_ok e
  exact hx_newa hd h100 h2 ht q1 n0 (Nat.le_trans (Nat.mul_le_mul_left _ hb) n1) n2 n3 kk
theorem cx_newq {t index : Nat} {n : Int32} {E : String} (hd : decode cc pc = .ok (.anewarray index, 3)) (e : hna V h t n .null = some h1) (h100 : 100 ≤ t) (h2 : t < 109) (ht : hx_aty t = .object E) (hE : E ∈ ["java/lang/Object", "BeastsChoose$Guest", "java/lang/String"]) (q1 : Cond.classLink y.cls index E ∈ lw_all)
    (kk : hx_X V d y cc nL rt (pc + 3) ls (.ref h.1 :: st) h1 r) : hx_X V d y cc nL rt pc ls (.int n :: st) h r := by
  obtain ⟨n0, n1, n2, n3, rfl⟩ := hna_ok e
  exact hx_newq hd h100 h2 ht hE q1 n0 (by omega) n2 n3 kk
theorem hx_castG {index a : Nat} {x : hx_C} (hd : decode cc pc = .ok (.checkcast index, 3)) (ha : h.2.2 a = some x) (hx : x.1 < 109) (hc : x.1 < 100 → (hx_cls x.1).isSome = true) (q1 : Cond.classLink y.cls index (hx_cn x.1) ∈ lw_all) (k : hx_X V d y cc nL rt (pc + 3) ls (.ref a :: st) h r) : hx_X V d y cc nL rt pc ls (.ref a :: st) h r := fun p l e R s m args below meth c H locs A C Dn hl => by
  obtain ⟨cell, b1, b2, b3, b4, b5, b6⟩ := hx_named C Dn ha hx hc
  intro T hT X
  obtain ⟨vm', X', st⟩ := X.checkcastYes C.1.1 C.2.1.1 (C.2.1.2.2.1 _ q1) (by rw [hT]; exact b1) b4 b5 (va_asg s.vm _) (g := F0 m pc A (.ref a :: st)) rfl rfl (by rw [C.1.2.1]; exact hd)
  obtain ⟨t, a1, b1⟩ := k p l e R s m args below meth c H locs A C Dn hl (T.setVm vm') hT X'
  exact ⟨t, st t a1, b1⟩
def hx_Cok (own : String) (index t : Nat) : Prop := t < 109 ∧ (t < 100 → (hx_cls t).isSome = true) ∧ ∃ nm, Cond.classLink own index nm ∈ lw_all ∧ (hx_cn t = nm ∨ Cond.castable (hx_cn t) nm ∈ hx_nest)
def hck (h : hx_S) (r : Option Nat) (ts : List Nat) : Bool := match r with
  | none => true
  | some a => hk h a ts
theorem cx_ckc {index : Nat} {ts : List Nat} {x : Option Nat} (hd : decode cc pc = .ok (.checkcast index, 3)) (e : hck h x ts = true) (hC : ∀ t ∈ ts, hx_Cok y.cls index t) (k : hx_X V d y cc nL rt (pc + 3) ls (va_rf x :: st) h r) : hx_X V d y cc nL rt pc ls (va_rf x :: st) h r := by
  cases x with
  | none => exact hx_castN hd k
  | some a =>
    obtain ⟨x, w1, w2⟩ := hk_ok e
    obtain ⟨o1, o2, nm, o3, o4⟩ := hC _ w2
    rcases o4 with rfl | o4
    · exact hx_castG hd w1 o1 o2 o3 k
    · exact hx_castY hd w1 o1 o2 o3 o4 k
theorem cx_gets {index : Nat} {ref : String} {v : Value} (q : Nat × String × String × String) (hd : decode cc pc = .ok (.getstatic index, 3)) (e : V.2.2.2.2 q.1 = v) (hq : q ∈ hx_sts) (q1 : Cond.fieldLink y.cls index ref q.2.2.1 q.2.2.2 ∈ lw_all) (hsame : ref = q.2.1 ∨ Cond.sameField ref q.2.1 q.2.2.1 q.2.2.2 ∈ lw_all)
    (kk : hx_X V d y cc nL rt (pc + 3) ls (v :: st) h r) : hx_X V d y cc nL rt pc ls st h r := by
  subst e
  exact hx_gets hd hq q1 hsame kk
theorem cx_ldcS {v : Value} (q : Nat × String × Nat × String) (hd : decode cc pc = .ok (.ldc q.2.2.1, 2)) (e : V.2.2.2.2 q.1 = v) (hq : q ∈ hx_strs) (ho : y.cls = q.2.1)
    (kk : hx_X V d y cc nL rt (pc + 2) ls (v :: st) h r) : hx_X V d y cc nL rt pc ls st h r := by
  subst e
  exact hx_ldcS hd hq ho kk
def hx_Sok (x0 x : MethodName) (t : Nat) : Prop := t < 109 ∧ (t < 100 → (hx_cls t).isSome = true) ∧ (Cond.selects (hx_cn t) x0 x ∈ lw_all ∨ Cond.selects (hx_cn t) x0 x ∈ hx_sel2)
theorem hx_M.of2 {args : List Value} {o : Outcome} {ls0 : List (Nat × Value)} (hy : plainFor y = true) (hl : lv_args 0 args = ls0) (hn : (lg_sl args).length ≤ nL) (k : hx_X V d y cc nL rt 0 ls0 [] h (o, h1)) : hx_M V d y cc nL rt args h o h1 := by
  subst hl
  intro hc hs l
  refine MetFree.of_bodySF (code := cc) (maxLocals := nL) (ret := rt) hy ?_ ?_
  · intro args s m h hn
    obtain ⟨meth, c, h1, h2, h3, h4, h5, h6, -, -⟩ := Cond.code_spec hn (atoms_spec (ws := ws_ y cc nL rt) h _ List.mem_cons_self)
    exact ⟨meth, c, h1, h2, h3, h4, h5, h6⟩
  · intro p e s m args' below meth c s₁ B hml hP _
    obtain ⟨rfl, hR, hK, hB⟩ := hP
    have hh0 : s₁.heap = s.heap := by rw [B.state]; rfl
    have hts0 := atoms_spec (ws := ws_ y cc nL rt) B.pre
    have hts : ∀ w ∈ lw_all, w.before _ s = true := fun w h => hts0 w (List.mem_cons_of_mem _ h)
    have hemp := B.noHandlers (hts0 _ List.mem_cons_self)
    have e0 : c.exceptionTable.toList = [] := by
      have : c.exceptionTable = #[] := by simpa using hemp
      rw [this]
    have C : hx_Ctx V d y cc nL rt p (hx_rm V d h) s m args.toArray meth c :=
      ⟨⟨B.exec, B.bytes, hml, B.returns, B.notSynchronized⟩, ⟨findClass_of_methodNamed B.named, (name_of_methodNamed B.named B.method).1, hts, hK⟩, ⟨rfl, rfl, by show s.heap.size + (V.2.2.1 - h.1) = _; rw [hR.1]; omega, by show hx_tot s.heap + (V.2.2.2.1 - h.2.1) = _; rw [hR.2.1]; omega, hB⟩, fun x hx => by rw [e0] at hx; cases hx⟩
    have Dn : hx_Dyn V s s.heap h [] := ⟨hR, by rw [hR.1]; exact Nat.le_refl _, by rw [hR.2.1]; exact Nat.le_refl _, hc, hs, fun q hq => by cases hq⟩
    have w := k p l e (hx_rm V d h) s m args.toArray below meth c s.heap [] _ C Dn (lv_entry args hn)
    rw [show h.1 - s.heap.size = 0 by rw [hR.1]; omega, show h.2.1 - hx_tot s.heap = 0 by rw [hR.2.1]; omega] at w
    obtain ⟨t, a1, b1, b2, b3, b4, b5⟩ := w s₁ hh0 (Stand.of_body B)
    refine ⟨t, o, ?_, b1, b2, rfl, b3, b4, b5⟩
    rw [lg_entry_eq]
    exact a1
theorem hx_chr_n {x : Int32} (h : hx_chr x = true) : narrow .char (.int x) = .int x ∧ fits .char (.int x) = true := by
  have e := of_decide_eq_true h
  refine ⟨congrArg Value.int e, ?_⟩
  rw [← e]
  exact pk_fc x
theorem hx_byt_n {x : Int32} (h : hx_byt x = true) : narrow .byte (.int x) = .int x ∧ fits .byte (.int x) = true := by
  have e := of_decide_eq_true h
  refine ⟨congrArg Value.int e, ?_⟩
  rw [← e]
  exact pk_fb x
theorem hx_rf_n (n : String) (r : Option Nat) : narrow (.object n) (va_rf r) = va_rf r ∧ fits (.object n) (va_rf r) = true := by cases r <;> exact ⟨rfl, rfl⟩
theorem hx_ra_n (n : FieldType) (r : Option Nat) : narrow (.array n) (va_rf r) = va_rf r ∧ fits (.array n) (va_rf r) = true := by cases r <;> exact ⟨rfl, rfl⟩
theorem cx_callV {x : MethodName} {bx : ByteArray} {nx : Nat} {rx : Option FieldType} {v : Option Value} {index b : Nat} {ts : List Nat} (avs : List Value)
    (hd : decode cc pc = .ok (.invokevirtual index, 3)) (M : hx_M V d x bx nx rx (.ref b :: avs) h (.returned v) h1) (e : hk h b ts = true) (hS : ∀ t ∈ ts, hx_Sok x x t)
    (q1 : Cond.methodLink y.cls index x ∈ lw_all) (q2 : Cond.instanceMethod x ∈ lw_all) (q4 : Cond.initialized x.cls ∈ lw_all) (q5 : Cond.code x bx nx rx ∈ lw_all)
    (hp : (x.cls ≠ "java/lang/invoke/MethodHandle" ∧ x.cls ≠ "java/lang/invoke/VarHandle") ∧ (parseMethodDescriptor x.desc).map (fun d => d.parameters.length) = some avs.length) (hn : nx ≤ 24)
    {st0 : List Value} (hst : st0 = avs.reverse ++ .ref b :: st) (hr : (st.map fun v => v.category).sum ≤ 8)
    {stk : List Value} (hv : v.toList ++ st = stk) (k : hx_X V (d + 1) y cc nL rt (pc + 3) ls stk h1 r) : hx_X V (d + 1) y cc nL rt pc ls st0 h r := by
  obtain ⟨cf, w1, w2⟩ := hk_ok e
  obtain ⟨o1, o2, o3⟩ := hS _ w2
  exact hx_callW avs hd M w1 o1 o2 q1 o3 q2 q4 q5 hp hn hst hr hv k
theorem cx_callVN {x : MethodName} {bx : ByteArray} {nx : Nat} {rx : Option FieldType} {v : Option Value} {index b : Nat} {ts : List Nat} {host : String} (avs : List Value)
    (hd : decode cc pc = .ok (.invokevirtual index, 3)) (M : hx_M V d x bx nx rx (.ref b :: avs) h (.returned v) h1) (e : hk h b ts = true) (hS : ∀ t ∈ ts, hx_Sok x x t)
    (q1 : Cond.methodLinkNest y.cls index x host ∈ hx_nest) (q2 : Cond.instanceMethod x ∈ lw_all) (q4 : Cond.initialized x.cls ∈ lw_all) (q5 : Cond.code x bx nx rx ∈ lw_all)
    (hp : (x.cls ≠ "java/lang/invoke/MethodHandle" ∧ x.cls ≠ "java/lang/invoke/VarHandle") ∧ (parseMethodDescriptor x.desc).map (fun d => d.parameters.length) = some avs.length) (hn : nx ≤ 24)
    {st0 : List Value} (hst : st0 = avs.reverse ++ .ref b :: st) (hr : (st.map fun v => v.category).sum ≤ 8)
    {stk : List Value} (hv : v.toList ++ st = stk) (k : hx_X V (d + 1) y cc nL rt (pc + 3) ls stk h1 r) : hx_X V (d + 1) y cc nL rt pc ls st0 h r := by
  obtain ⟨cf, w1, w2⟩ := hk_ok e
  obtain ⟨o1, o2, o3⟩ := hS _ w2
  exact hx_callVN avs hd M w1 o1 o2 q1 o3 q2 q4 q5 hp hn hst hr hv k
theorem cx_callVU {x : MethodName} {bx : ByteArray} {nx : Nat} {rx : Option FieldType} {v : Option Value} {index b : Nat} {ts : List Nat} {x0 : MethodName} {owner : String} (avs : List Value)
    (hd : decode cc pc = .ok (.invokevirtual index, 3)) (M : hx_M V d x bx nx rx (.ref b :: avs) h (.returned v) h1) (e : hk h b ts = true) (hS : ∀ t ∈ ts, hx_Sok x0 x t)
    (q1 : Cond.methodLink y.cls index x0 ∈ lw_all) (q0 : Cond.sameMethod x0.cls owner x0.name x0.desc ∈ lw_all) (hxo : x = ⟨owner, x0.name, x0.desc⟩) (q7 : owner ≠ "java/lang/invoke/MethodHandle" ∧ owner ≠ "java/lang/invoke/VarHandle") (q2 : Cond.instanceMethod x ∈ lw_all) (q4 : Cond.initialized x.cls ∈ lw_all) (q5 : Cond.code x bx nx rx ∈ lw_all)
    (hp : (x0.cls ≠ "java/lang/invoke/MethodHandle" ∧ x0.cls ≠ "java/lang/invoke/VarHandle") ∧ (parseMethodDescriptor x0.desc).map (fun d => d.parameters.length) = some avs.length) (hn : nx ≤ 24)
    {st0 : List Value} (hst : st0 = avs.reverse ++ .ref b :: st) (hr : (st.map fun v => v.category).sum ≤ 8)
    {stk : List Value} (hv : v.toList ++ st = stk) (k : hx_X V (d + 1) y cc nL rt (pc + 3) ls stk h1 r) : hx_X V (d + 1) y cc nL rt pc ls st0 h r := by
  obtain ⟨cf, w1, w2⟩ := hk_ok e
  obtain ⟨o1, o2, o3⟩ := hS _ w2
  exact hx_callVU avs hd M w1 o1 o2 q1 q0 hxo q7 o3 q2 q4 q5 hp hn hst hr hv k
end CR

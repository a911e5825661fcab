/-! Rows of Y, printed by gen/rows.py: each is a row of the kit, with the heap as a map. -/
set_option maxRecDepth 100000
def ycat (v : yV) : Nat := match v with
  | .inl _ => 1
  | .inr (.inl _) => 2
  | .inr (.inr _) => 1
theorem ycat_eq (v : yV) : (yval v).category = ycat v := by
  match v with
  | .inl _ => rfl
  | .inr (.inl _) => rfl
  | .inr (.inr none) => rfl
  | .inr (.inr (some _)) => rfl
theorem yvs_eq : ∀ l : List yV, yvs l = l.map yval
  | [] => rfl
  | v :: l => by rw [yvs, yvs_eq l, List.map_cons]
theorem yvs_get {fs : List yV} {k : Nat} {v : yV} (h : fs[k]? = some v) : (yvs fs)[k]? = some (yval v) := by
  rw [yvs_eq, List.getElem?_map, h]
  rfl
theorem yvs_set (fs : List yV) (k : Nat) (v : yV) : yvs (fs.set k v) = (yvs fs).set k (yval v) := by
  rw [yvs_eq, yvs_eq, List.map_set]
theorem yvs_len (fs : List yV) : (yvs fs).length = fs.length := by rw [yvs_eq, List.length_map]
theorem yvs_app (a b : List yV) : yvs (a ++ b) = yvs a ++ yvs b := by rw [yvs_eq, yvs_eq, yvs_eq, List.map_append]
theorem yvs_rev (a : List yV) : yvs a.reverse = (yvs a).reverse := by rw [yvs_eq, yvs_eq, List.map_reverse]
theorem ycat_sum (l : List yV) : ((yvs l).map fun v => v.category).sum = (l.map ycat).sum := by
  rw [yvs_eq, List.map_map]
  congr 1
  exact List.map_congr_left (fun v _ => ycat_eq v)
theorem ycat_r (r : Option Nat) : (va_rf r).category = 1 := by cases r <;> rfl
def ylva : Nat → List yV → List (Nat × yV)
  | _, [] => []
  | i, v :: l => (i, v) :: ylva (i + ycat v) l
theorem ylva_eq : ∀ (l : List yV) (i : Nat), lv_args i (yvs l) = (ylva i l).map (fun q => (q.1, yval q.2))
  | [], _ => rfl
  | v :: l, i => by
    have e : (if (yval v).category = 2 then i + 2 else i + 1) = i + ycat v := by
      rw [ycat_eq]
      match v with
      | .inl _ => rfl
      | .inr (.inl _) => rfl
      | .inr (.inr _) => rfl
    rw [yvs, lv_args, e, ylva_eq l, ylva, List.map_cons]
theorem ysl_len : ∀ l : List yV, (lg_sl (yvs l)).length = (l.map ycat).sum
  | [] => rfl
  | v :: l => by
    have e : (lg_sl (yvs (v :: l))).length = (if (yval v).category = 2 then [Slot.val (yval v), .second] else [.val (yval v)]).length + (lg_sl (yvs l)).length := by
      rw [yvs, lg_sl, List.flatMap_cons, List.length_append]
      rfl
    rw [e, ysl_len l, List.map_cons, List.sum_cons, ycat_eq]
    match v with
    | .inl _ => rfl
    | .inr (.inl _) => rfl
    | .inr (.inr _) => rfl
/-- the locals at a method's start -/
def yent : List yV → Nat → List (Option yV)
  | [], n => List.replicate n none
  | _ :: _, 0 => []
  | .inl x :: l, n + 1 => some (yi x) :: yent l n
  | .inr (.inr r) :: l, n + 1 => some (yr r) :: yent l n
  | .inr (.inl _) :: _, 1 => []
  | .inr (.inl x) :: l, n + 2 => some (yl x) :: none :: yent l n
theorem yget_rep : ∀ (n j : Nat) (v : yV), yget (List.replicate n none) j ≠ some v
  | 0, j, v, h => by simp [List.replicate, yget] at h
  | n + 1, 0, v, h => by simp [List.replicate, yget] at h
  | n + 1, j + 1, v, h => yget_rep n j v h
theorem yent_mem : ∀ (l : List yV) (n i j : Nat) (v : yV), yget (yent l n) j = some v → (i + j, v) ∈ ylva i l
  | [], n, i, j, v, h => absurd h (by rw [yent]; exact yget_rep n j v)
  | _ :: _, 0, i, j, v, h => by simp [yent, yget] at h
  | .inl x :: l, n + 1, i, 0, v, h => by
    have e : yi x = v := Option.some.inj h
    subst e
    exact List.mem_cons_self
  | .inl x :: l, n + 1, i, j + 1, v, h => by
    have := yent_mem l n (i + 1) j v h
    rw [show i + (j + 1) = i + 1 + j by omega]
    exact List.mem_cons_of_mem _ this
  | .inr (.inr r) :: l, n + 1, i, 0, v, h => by
    have e : yr r = v := Option.some.inj h
    subst e
    exact List.mem_cons_self
  | .inr (.inr r) :: l, n + 1, i, j + 1, v, h => by
    have := yent_mem l n (i + 1) j v h
    rw [show i + (j + 1) = i + 1 + j by omega]
    exact List.mem_cons_of_mem _ this
  | .inr (.inl _) :: _, 1, i, j, v, h => by simp [yent, yget] at h
  | .inr (.inl x) :: l, n + 2, i, 0, v, h => by
    have e : yl x = v := Option.some.inj h
    subst e
    exact List.mem_cons_self
  | .inr (.inl x) :: l, n + 2, i, 1, v, h => by simp [yent, yget] at h
  | .inr (.inl x) :: l, n + 2, i, j + 2, v, h => by
    have := yent_mem l n (i + 2) j v h
    rw [show i + (j + 2) = i + 2 + j by omega]
    exact List.mem_cons_of_mem _ this
theorem yent_Lv (av : List yV) (n : Nat) (h : (av.map ycat).sum ≤ n) : yLv ((lg_sl (yvs av) ++ List.replicate (n - (lg_sl (yvs av)).length) Slot.unset).toArray) n (yent av n) := by
  have hl := lv_entry (yvs av) (n := n) (by rw [ysl_len]; exact h)
  refine ⟨hl.1, hl.2.1, fun i v hv => ?_⟩
  have h1 := yent_mem av n 0 i v hv
  rw [Nat.zero_add] at h1
  exact hl.2.2 (i, yval v) (by rw [ylva_eq]; exact List.mem_map.mpr ⟨(i, v), h1, rfl⟩)
theorem y_inr {U : State} {ci : Nat} {fs : List yV} {x : va_E} (h : yE2 U (yo ci fs) x) : x = .inr (ci, yvs fs) := by
  match x, h with
  | .inr (a, b), h =>
    obtain ⟨e1, e2⟩ := h
    dsimp only at e1 e2
    rw [e1, e2]
theorem y_inl {U : State} {a : FieldType × vp_A} {x : va_E} (h : yE2 U (.inl a) x) : ∃ cA : ClassId, x = .inl (cA, a.2) ∧ ArrOfT U cA a.1 ∧ va_RA U cA a.1 := by
  match x, h with
  | .inl (b1, b2), h =>
    obtain ⟨e1, e2⟩ := h
    dsimp only at e1 e2
    exact ⟨b1, by rw [e1], e2⟩
theorem y_nmr (C : String) (r : Option Nat) : narrow (.object C) (va_rf r) = va_rf r := by cases r <;> rfl
theorem y_ftr (C : String) (r : Option Nat) : fits (.object C) (va_rf r) = true := by cases r <;> rfl
theorem y_nma (t : FieldType) (r : Option Nat) : narrow (.array t) (va_rf r) = va_rf r := by cases r <;> rfl
theorem y_fta (t : FieldType) (r : Option Nat) : fits (.array t) (va_rf r) = true := by cases r <;> rfl
theorem y_nz {v : Int32} (h : v = 0 ∨ v = 1) : narrow .boolean (.int v) = .int v := by
  rcases h with rfl | rfl <;> rfl
theorem y_K1 {D : va_G} {U : State} {cA : ClassId} {ty : FieldType} (h : va_K D y_cl [] U) (h1 : ArrOfT U cA ty) (h2 : va_RA U cA ty) : va_K D y_cl [(cA, ty)] U := ⟨h.1, fun k q hk => by
  obtain ⟨-, rfl⟩ := y_one hk
  exact ⟨h1, h2⟩⟩
theorem yo_inj {a b : Nat} {f g : List yV} (h : yo a f = yo b g) : a = b ∧ f = g := ⟨congrArg Prod.fst (Sum.inr.inj h), congrArg Prod.snd (Sum.inr.inj h)⟩
theorem yA_obj {D : va_G} {s0 s : State} {A : Nat → Prop} {M : yM} {H : Heap} {a ci : Nat} {fs : List yV} (h : yCells D s0 A M s H) (hM : M a = some (yo ci fs)) : A a := by
  rcases (h a _ hM).2 with q | ⟨-, ty, g, e⟩
  · exact q
  · cases e
theorem yA_arr {D : va_G} {s0 s : State} {A : Nat → Prop} {M : yM} {H : Heap} {a n : Nat} {ty : FieldType} {g : (Nat → Int32) ⊕ (Nat → Int64) ⊕ (Nat → UInt32) ⊕ (Nat → UInt64) ⊕ (Nat → Option Nat)} (h : yCells D s0 A M s H) (hM : M a = some (.inl (ty, n, g))) (hn : 0 < n) : A a := by
  rcases (h a _ hM).2 with q | ⟨-, ty', g', e⟩
  · exact q
  · have e1 : (ty, n, g) = (ty', 0, g') := Sum.inl.inj e
    have e2 : n = 0 := congrArg (fun x => x.2.1) e1
    omega
section YR
variable {p : Program} {l : Launch} {e : Env} {R : Room} {s : State} {m : MethodId} {args : Array Value} {below : List Frame} {meth : Method} {c : Code} {Q : State → Prop} {D : va_G} {s0 : State} {a0 : Array Value} {A : Nat → Prop} {cc : ByteArray} {nL : Nat} {own : String} {M M' : yM} {rc rs : Nat} {lv : List (Option yV)} {pc : Nat} {st : List yV}
theorem yC.K (C : yC p R s m args meth c cc nL own D s0 a0 A) : va_K D y_cl [] s := ⟨fun k q hq => u_Kn_moved C.2.2.2.2.2.2.2.alike (C.2.2.1.2.2 k q hq), fun k q hk => by simp at hk⟩
theorem yC.hts (C : yC p R s m args meth c cc nL own D s0 a0 A) : ∀ w ∈ lw_all, w.before args s = true := C.1.2.2.2.2
theorem yC.ow (C : yC p R s m args meth c cc nL own D s0 a0 A) : s.vm.findClass own = some m.cls := C.1.2.2.2.1
theorem yC.top (C : yC p R s m args meth c cc nL own D s0 a0 A) : ∀ q : Nat, s.heap.size ≤ q → A q := C.2.2.2.1
/-- what a callee's start asks -/
theorem y_pre (C : yC p R s m args meth c cc nL own D s0 a0 A) {H : Heap} {locs : List Loc} (hw : yCells D s0 A M s H) (hS : va_S A s.heap H locs) {U : State} (hU : U.heap = H) (hW : s.WarmedH U.vm) : yCells D s0 A M U U.heap ∧ yBase s0 A U := by
  obtain ⟨b1, b2, b3, b4, b5⟩ := C.2.2.2
  refine ⟨by rw [hU]; exact hw.moved hW.alike, fun q hq => b1 q (Nat.le_trans hS.1 (by rw [← hU]; exact hq)), b2, by rw [hU]; exact Nat.le_trans b3 hS.1, fun q hq => ?_, State.WarmedH.trans b5 hW⟩
  rw [hU, hS.2.1 q (Nat.lt_of_lt_of_le hq b3) (fun z => by have := b2 q z; omega)]
  exact b4 q hq
theorem y_blind {s0 : State} {av : List yV} : FrameBlind (yPc D s0 A av M) := fun a U g mk h => ⟨h.1, h.2.1.moved (u := U) (U := U.calling g mk a) (Vm.Alike.refl U.vm), h.2.2⟩
theorem y_recv (C : yC p R s m args meth c cc nL own D s0 a0 A) {H : Heap} (hw : yCells D s0 A M s H) {b ci : Nat} {fs : List yV} {q : vw_C} (hr : M b = some (yo ci fs)) (hcl : y_cl[ci]? = some q) : ∃ cell : Cell, H[b]? = some cell ∧ cell.vm.isStatics = false ∧ s.vm.findClass q.1 = some cell.cls := by
  obtain ⟨⟨x, hx, he⟩, -⟩ := hw b _ hr
  have e := y_inr he
  subst e
  exact va_recv (ws := [(b, .inr (ci, yvs fs))]) (q0 := 0) C.K (fun k q hk => by obtain ⟨-, rfl⟩ := y_one hk; exact hx) hcl rfl
theorem y_iconst (C : yC p R s m args meth c cc nL own D s0 a0 A) {n : Int} (v : Int32) (d : decode cc pc = .ok (.iconst n, 1)) (hv : Int32.ofInt n = v) (k : Y p l e R s m args below meth c Q D s0 A nL M rc rs lv (pc + 1) (yi v :: st)) : Y p l e R s m args below meth c Q D s0 A nL M rc rs lv pc st := fun H locs cells slots ls hw hS hc hs hl => lv_iconst C.1.1 C.1.2.1 d hv (k H locs cells slots ls hw hS hc hs hl)
theorem y_bipush (C : yC p R s m args meth c cc nL own D s0 a0 A) {n : Int} (v : Int32) (d : decode cc pc = .ok (.bipush n, 2)) (hv : (Int8.ofInt n).toInt32 = v) (k : Y p l e R s m args below meth c Q D s0 A nL M rc rs lv (pc + 2) (yi v :: st)) : Y p l e R s m args below meth c Q D s0 A nL M rc rs lv pc st := fun H locs cells slots ls hw hS hc hs hl => lv_bipush C.1.1 C.1.2.1 d hv (k H locs cells slots ls hw hS hc hs hl)
theorem y_sipush (C : yC p R s m args meth c cc nL own D s0 a0 A) {n : Int} (v : Int32) (d : decode cc pc = .ok (.sipush n, 3)) (hv : (Int16.ofInt n).toInt32 = v) (k : Y p l e R s m args below meth c Q D s0 A nL M rc rs lv (pc + 3) (yi v :: st)) : Y p l e R s m args below meth c Q D s0 A nL M rc rs lv pc st := fun H locs cells slots ls hw hS hc hs hl => lv_sipush C.1.1 C.1.2.1 d hv (k H locs cells slots ls hw hS hc hs hl)
theorem y_lconst (C : yC p R s m args meth c cc nL own D s0 a0 A) {n : Fin 2} (v : Int64) (d : decode cc pc = .ok (.lconst n, 1)) (hv : Int64.ofNat (n : Nat) = v) (k : Y p l e R s m args below meth c Q D s0 A nL M rc rs lv (pc + 1) (yl v :: st)) : Y p l e R s m args below meth c Q D s0 A nL M rc rs lv pc st := fun H locs cells slots ls hw hS hc hs hl => lv_lconst C.1.1 C.1.2.1 d hv (k H locs cells slots ls hw hS hc hs hl)
theorem y_null (C : yC p R s m args meth c cc nL own D s0 a0 A)  (d : decode cc pc = .ok (.aconst_null, 1)) (k : Y p l e R s m args below meth c Q D s0 A nL M rc rs lv (pc + 1) (yr none :: st)) : Y p l e R s m args below meth c Q D s0 A nL M rc rs lv pc st := fun H locs cells slots ls hw hS hc hs hl => lv_null C.1.1 C.1.2.1 d (k H locs cells slots ls hw hS hc hs hl)
theorem y_ldc (C : yC p R s m args meth c cc nL own D s0 a0 A) {index : Nat} (v : Int32) (hq : Cond.constant own index v ∈ lw_all) (d : decode cc pc = .ok (.ldc index, 2)) (k : Y p l e R s m args below meth c Q D s0 A nL M rc rs lv (pc + 2) (yi v :: st)) : Y p l e R s m args below meth c Q D s0 A nL M rc rs lv pc st := fun H locs cells slots ls hw hS hc hs hl => lv_ldc C.1.1 C.1.2.1 C.ow (C.hts _ hq) d (k H locs cells slots ls hw hS hc hs hl)
theorem y_ldc2 (C : yC p R s m args meth c cc nL own D s0 a0 A) {index : Nat} (v : Int64) (hq : Cond.constantLong own index v ∈ lw_all) (d : decode cc pc = .ok (.ldc2_w index, 3)) (k : Y p l e R s m args below meth c Q D s0 A nL M rc rs lv (pc + 3) (yl v :: st)) : Y p l e R s m args below meth c Q D s0 A nL M rc rs lv pc st := fun H locs cells slots ls hw hS hc hs hl => lv_ldc2 C.1.1 C.1.2.1 C.ow (C.hts _ hq) d (k H locs cells slots ls hw hS hc hs hl)
theorem y_iload_n (C : yC p R s m args meth c cc nL own D s0 a0 A) (i : Nat) {k0 : Fin 4} {x : Int32} (hi : (k0 : Nat) = i) (hv : yget lv i = some (yi x)) (d : decode cc pc = .ok (.iload_n k0, 1)) (k : Y p l e R s m args below meth c Q D s0 A nL M rc rs lv (pc + 1) (yi x :: st)) : Y p l e R s m args below meth c Q D s0 A nL M rc rs lv pc st := fun H locs cells slots ls hw hS hc hs hl => lv_iload_n C.1.1 C.1.2.1 d hi (hl.2.2 i _ hv) (k H locs cells slots ls hw hS hc hs hl)
theorem y_iload (C : yC p R s m args meth c cc nL own D s0 a0 A) (i : Nat) {x : Int32} (hv : yget lv i = some (yi x)) (d : decode cc pc = .ok (.iload i, 2)) (k : Y p l e R s m args below meth c Q D s0 A nL M rc rs lv (pc + 2) (yi x :: st)) : Y p l e R s m args below meth c Q D s0 A nL M rc rs lv pc st := fun H locs cells slots ls hw hS hc hs hl => lv_iload C.1.1 C.1.2.1 d (hl.2.2 i _ hv) (k H locs cells slots ls hw hS hc hs hl)
theorem y_lload_n (C : yC p R s m args meth c cc nL own D s0 a0 A) (i : Nat) {k0 : Fin 4} {x : Int64} (hi : (k0 : Nat) = i) (hv : yget lv i = some (yl x)) (d : decode cc pc = .ok (.lload_n k0, 1)) (k : Y p l e R s m args below meth c Q D s0 A nL M rc rs lv (pc + 1) (yl x :: st)) : Y p l e R s m args below meth c Q D s0 A nL M rc rs lv pc st := fun H locs cells slots ls hw hS hc hs hl => lv_lload_n C.1.1 C.1.2.1 d hi (hl.2.2 i _ hv) (k H locs cells slots ls hw hS hc hs hl)
theorem y_lload (C : yC p R s m args meth c cc nL own D s0 a0 A) (i : Nat) {x : Int64} (hv : yget lv i = some (yl x)) (d : decode cc pc = .ok (.lload i, 2)) (k : Y p l e R s m args below meth c Q D s0 A nL M rc rs lv (pc + 2) (yl x :: st)) : Y p l e R s m args below meth c Q D s0 A nL M rc rs lv pc st := fun H locs cells slots ls hw hS hc hs hl => lv_lload C.1.1 C.1.2.1 d (hl.2.2 i _ hv) (k H locs cells slots ls hw hS hc hs hl)
theorem y_aload_n (C : yC p R s m args meth c cc nL own D s0 a0 A) (i : Nat) {k0 : Fin 4} {r : Option Nat} (hi : (k0 : Nat) = i) (hv : yget lv i = some (yr r)) (d : decode cc pc = .ok (.aload_n k0, 1)) (k : Y p l e R s m args below meth c Q D s0 A nL M rc rs lv (pc + 1) (yr r :: st)) : Y p l e R s m args below meth c Q D s0 A nL M rc rs lv pc st := by
  intro H locs cells slots ls hw hS hc hs hl
  have h9 := hl.2.2 i _ hv
  cases r with
  | none => exact lv_aload_nN C.1.1 C.1.2.1 d hi h9 (k H locs cells slots ls hw hS hc hs hl)
  | some a => exact lv_aload_n C.1.1 C.1.2.1 d hi h9 (k H locs cells slots ls hw hS hc hs hl)
theorem y_aload (C : yC p R s m args meth c cc nL own D s0 a0 A) (i : Nat) {r : Option Nat} (hv : yget lv i = some (yr r)) (d : decode cc pc = .ok (.aload i, 2)) (k : Y p l e R s m args below meth c Q D s0 A nL M rc rs lv (pc + 2) (yr r :: st)) : Y p l e R s m args below meth c Q D s0 A nL M rc rs lv pc st := by
  intro H locs cells slots ls hw hS hc hs hl
  have h9 := hl.2.2 i _ hv
  cases r with
  | none => exact lv_aloadN C.1.1 C.1.2.1 d h9 (k H locs cells slots ls hw hS hc hs hl)
  | some a => exact lv_aload C.1.1 C.1.2.1 d h9 (k H locs cells slots ls hw hS hc hs hl)
theorem y_istore_n (C : yC p R s m args meth c cc nL own D s0 a0 A) (i : Nat) {k0 : Fin 4} {x : Int32} (hi : (k0 : Nat) = i) (hn : i < nL) (d : decode cc pc = .ok (.istore_n k0, 1)) (k : Y p l e R s m args below meth c Q D s0 A nL M rc rs (yset (yclr lv i) i (some (yi x))) (pc + 1) st) : Y p l e R s m args below meth c Q D s0 A nL M rc rs lv pc (yi x :: st) := fun H locs cells slots ls hw hS hc hs hl => lv_istore_n C.1.1 C.1.2.1 d hi hl.has hn rfl (fun ls' hl' => k H locs cells slots ls' hw hS hc hs (yLv.st1 (v := yi x) hl'))
theorem y_istore (C : yC p R s m args meth c cc nL own D s0 a0 A) (i : Nat) {x : Int32} (hn : i < nL) (d : decode cc pc = .ok (.istore i, 2)) (k : Y p l e R s m args below meth c Q D s0 A nL M rc rs (yset (yclr lv i) i (some (yi x))) (pc + 2) st) : Y p l e R s m args below meth c Q D s0 A nL M rc rs lv pc (yi x :: st) := fun H locs cells slots ls hw hS hc hs hl => lv_istore C.1.1 C.1.2.1 d hl.has hn rfl (fun ls' hl' => k H locs cells slots ls' hw hS hc hs (yLv.st1 (v := yi x) hl'))
theorem y_lstore_n (C : yC p R s m args meth c cc nL own D s0 a0 A) (i : Nat) {k0 : Fin 4} {x : Int64} (hi : (k0 : Nat) = i) (hn : i + 1 < nL) (d : decode cc pc = .ok (.lstore_n k0, 1)) (k : Y p l e R s m args below meth c Q D s0 A nL M rc rs (yset (yset (yclr lv i) (i + 1) none) i (some (yl x))) (pc + 1) st) : Y p l e R s m args below meth c Q D s0 A nL M rc rs lv pc (yl x :: st) := fun H locs cells slots ls hw hS hc hs hl => lv_lstore_n C.1.1 C.1.2.1 d hi hl.has hn rfl (fun ls' hl' => k H locs cells slots ls' hw hS hc hs (yLv.st2 (v := yl x) hl'))
theorem y_lstore (C : yC p R s m args meth c cc nL own D s0 a0 A) (i : Nat) {x : Int64} (hn : i + 1 < nL) (d : decode cc pc = .ok (.lstore i, 2)) (k : Y p l e R s m args below meth c Q D s0 A nL M rc rs (yset (yset (yclr lv i) (i + 1) none) i (some (yl x))) (pc + 2) st) : Y p l e R s m args below meth c Q D s0 A nL M rc rs lv pc (yl x :: st) := fun H locs cells slots ls hw hS hc hs hl => lv_lstore C.1.1 C.1.2.1 d hl.has hn rfl (fun ls' hl' => k H locs cells slots ls' hw hS hc hs (yLv.st2 (v := yl x) hl'))
theorem y_astore_n (C : yC p R s m args meth c cc nL own D s0 a0 A) (i : Nat) {k0 : Fin 4} {r : Option Nat} (hi : (k0 : Nat) = i) (hn : i < nL) (d : decode cc pc = .ok (.astore_n k0, 1)) (k : Y p l e R s m args below meth c Q D s0 A nL M rc rs (yset (yclr lv i) i (some (yr r))) (pc + 1) st) : Y p l e R s m args below meth c Q D s0 A nL M rc rs lv pc (yr r :: st) := by
  intro H locs cells slots ls hw hS hc hs hl
  cases r with
  | none => exact lv_astore_nN C.1.1 C.1.2.1 d hi hl.has hn rfl (fun ls' hl' => k H locs cells slots ls' hw hS hc hs (yLv.st1 (v := yr none) hl'))
  | some a => exact lv_astore_n C.1.1 C.1.2.1 d hi hl.has hn rfl (fun ls' hl' => k H locs cells slots ls' hw hS hc hs (yLv.st1 (v := yr (some a)) hl'))
theorem y_astore (C : yC p R s m args meth c cc nL own D s0 a0 A) (i : Nat) {r : Option Nat} (hn : i < nL) (d : decode cc pc = .ok (.astore i, 2)) (k : Y p l e R s m args below meth c Q D s0 A nL M rc rs (yset (yclr lv i) i (some (yr r))) (pc + 2) st) : Y p l e R s m args below meth c Q D s0 A nL M rc rs lv pc (yr r :: st) := by
  intro H locs cells slots ls hw hS hc hs hl
  cases r with
  | none => exact lv_astoreN C.1.1 C.1.2.1 d hl.has hn rfl (fun ls' hl' => k H locs cells slots ls' hw hS hc hs (yLv.st1 (v := yr none) hl'))
  | some a => exact lv_astore C.1.1 C.1.2.1 d hl.has hn rfl (fun ls' hl' => k H locs cells slots ls' hw hS hc hs (yLv.st1 (v := yr (some a)) hl'))
theorem y_iinc (C : yC p R s m args meth c cc nL own D s0 a0 A) (i : Nat) {n : Int} {x : Int32} (v : Int32) (hv : yget lv i = some (yi x)) (e9 : x + Int32.ofInt n = v) (hn : i < nL) (d : decode cc pc = .ok (.iinc i n, 3)) (k : Y p l e R s m args below meth c Q D s0 A nL M rc rs (yset (yclr lv i) i (some (yi v))) (pc + 3) st) : Y p l e R s m args below meth c Q D s0 A nL M rc rs lv pc st := by
  intro H locs cells slots ls hw hS hc hs hl
  have hm := ypr_mem lv 0 i _ hv
  rw [Nat.zero_add] at hm
  obtain ⟨j, hj⟩ := List.getElem?_of_mem hm
  exact lv_iinc C.1.1 C.1.2.1 d hl.has (k := j) hj e9 hn rfl (fun ls' hl' => k H locs cells slots ls' hw hS hc hs (yLv.st1 (v := yi v) hl'))
theorem y_iadd (C : yC p R s m args meth c cc nL own D s0 a0 A) {x y : Int32} (d : decode cc pc = .ok (.iadd, 1)) (k : Y p l e R s m args below meth c Q D s0 A nL M rc rs lv (pc + 1) (yi (x + y) :: st)) : Y p l e R s m args below meth c Q D s0 A nL M rc rs lv pc (yi y :: yi x :: st) := fun H locs cells slots ls hw hS hc hs hl => lv_iadd C.1.1 C.1.2.1 d (k H locs cells slots ls hw hS hc hs hl)
theorem y_isub (C : yC p R s m args meth c cc nL own D s0 a0 A) {x y : Int32} (d : decode cc pc = .ok (.isub, 1)) (k : Y p l e R s m args below meth c Q D s0 A nL M rc rs lv (pc + 1) (yi (x - y) :: st)) : Y p l e R s m args below meth c Q D s0 A nL M rc rs lv pc (yi y :: yi x :: st) := fun H locs cells slots ls hw hS hc hs hl => lv_isub C.1.1 C.1.2.1 d (k H locs cells slots ls hw hS hc hs hl)
theorem y_imul (C : yC p R s m args meth c cc nL own D s0 a0 A) {x y : Int32} (d : decode cc pc = .ok (.imul, 1)) (k : Y p l e R s m args below meth c Q D s0 A nL M rc rs lv (pc + 1) (yi (x * y) :: st)) : Y p l e R s m args below meth c Q D s0 A nL M rc rs lv pc (yi y :: yi x :: st) := fun H locs cells slots ls hw hS hc hs hl => lv_imul C.1.1 C.1.2.1 d (k H locs cells slots ls hw hS hc hs hl)
theorem y_iand (C : yC p R s m args meth c cc nL own D s0 a0 A) {x y : Int32} (d : decode cc pc = .ok (.iand, 1)) (k : Y p l e R s m args below meth c Q D s0 A nL M rc rs lv (pc + 1) (yi (x &&& y) :: st)) : Y p l e R s m args below meth c Q D s0 A nL M rc rs lv pc (yi y :: yi x :: st) := fun H locs cells slots ls hw hS hc hs hl => lv_iand C.1.1 C.1.2.1 d (k H locs cells slots ls hw hS hc hs hl)
theorem y_ior (C : yC p R s m args meth c cc nL own D s0 a0 A) {x y : Int32} (d : decode cc pc = .ok (.ior, 1)) (k : Y p l e R s m args below meth c Q D s0 A nL M rc rs lv (pc + 1) (yi (x ||| y) :: st)) : Y p l e R s m args below meth c Q D s0 A nL M rc rs lv pc (yi y :: yi x :: st) := fun H locs cells slots ls hw hS hc hs hl => lv_ior C.1.1 C.1.2.1 d (k H locs cells slots ls hw hS hc hs hl)
theorem y_ixor (C : yC p R s m args meth c cc nL own D s0 a0 A) {x y : Int32} (d : decode cc pc = .ok (.ixor, 1)) (k : Y p l e R s m args below meth c Q D s0 A nL M rc rs lv (pc + 1) (yi (x ^^^ y) :: st)) : Y p l e R s m args below meth c Q D s0 A nL M rc rs lv pc (yi y :: yi x :: st) := fun H locs cells slots ls hw hS hc hs hl => lv_ixor C.1.1 C.1.2.1 d (k H locs cells slots ls hw hS hc hs hl)
theorem y_ishl (C : yC p R s m args meth c cc nL own D s0 a0 A) {x y : Int32} (d : decode cc pc = .ok (.ishl, 1)) (k : Y p l e R s m args below meth c Q D s0 A nL M rc rs lv (pc + 1) (yi (x <<< (y &&& 31)) :: st)) : Y p l e R s m args below meth c Q D s0 A nL M rc rs lv pc (yi y :: yi x :: st) := fun H locs cells slots ls hw hS hc hs hl => lv_ishl C.1.1 C.1.2.1 d (k H locs cells slots ls hw hS hc hs hl)
theorem y_ishr (C : yC p R s m args meth c cc nL own D s0 a0 A) {x y : Int32} (d : decode cc pc = .ok (.ishr, 1)) (k : Y p l e R s m args below meth c Q D s0 A nL M rc rs lv (pc + 1) (yi (x >>> (y &&& 31)) :: st)) : Y p l e R s m args below meth c Q D s0 A nL M rc rs lv pc (yi y :: yi x :: st) := fun H locs cells slots ls hw hS hc hs hl => lv_ishr C.1.1 C.1.2.1 d (k H locs cells slots ls hw hS hc hs hl)
theorem y_idiv (C : yC p R s m args meth c cc nL own D s0 a0 A) {x y : Int32} (hne : ¬ y = 0) (d : decode cc pc = .ok (.idiv, 1)) (k : Y p l e R s m args below meth c Q D s0 A nL M rc rs lv (pc + 1) (yi (x / y) :: st)) : Y p l e R s m args below meth c Q D s0 A nL M rc rs lv pc (yi y :: yi x :: st) := fun H locs cells slots ls hw hS hc hs hl => lv_idiv C.1.1 C.1.2.1 d hne (k H locs cells slots ls hw hS hc hs hl)
theorem y_irem (C : yC p R s m args meth c cc nL own D s0 a0 A) {x y : Int32} (hne : ¬ y = 0) (d : decode cc pc = .ok (.irem, 1)) (k : Y p l e R s m args below meth c Q D s0 A nL M rc rs lv (pc + 1) (yi (x - x / y * y) :: st)) : Y p l e R s m args below meth c Q D s0 A nL M rc rs lv pc (yi y :: yi x :: st) := fun H locs cells slots ls hw hS hc hs hl => lv_irem C.1.1 C.1.2.1 d hne (k H locs cells slots ls hw hS hc hs hl)
theorem y_ineg (C : yC p R s m args meth c cc nL own D s0 a0 A) {x : Int32} (d : decode cc pc = .ok (.ineg, 1)) (k : Y p l e R s m args below meth c Q D s0 A nL M rc rs lv (pc + 1) (yi (-x) :: st)) : Y p l e R s m args below meth c Q D s0 A nL M rc rs lv pc (yi x :: st) := fun H locs cells slots ls hw hS hc hs hl => lv_ineg C.1.1 C.1.2.1 d (k H locs cells slots ls hw hS hc hs hl)
theorem y_ladd (C : yC p R s m args meth c cc nL own D s0 a0 A) {x y : Int64} (d : decode cc pc = .ok (.ladd, 1)) (k : Y p l e R s m args below meth c Q D s0 A nL M rc rs lv (pc + 1) (yl (x + y) :: st)) : Y p l e R s m args below meth c Q D s0 A nL M rc rs lv pc (yl y :: yl x :: st) := fun H locs cells slots ls hw hS hc hs hl => lv_ladd C.1.1 C.1.2.1 d (k H locs cells slots ls hw hS hc hs hl)
theorem y_lmul (C : yC p R s m args meth c cc nL own D s0 a0 A) {x y : Int64} (d : decode cc pc = .ok (.lmul, 1)) (k : Y p l e R s m args below meth c Q D s0 A nL M rc rs lv (pc + 1) (yl (x * y) :: st)) : Y p l e R s m args below meth c Q D s0 A nL M rc rs lv pc (yl y :: yl x :: st) := fun H locs cells slots ls hw hS hc hs hl => lv_lmul C.1.1 C.1.2.1 d (k H locs cells slots ls hw hS hc hs hl)
theorem y_i2l (C : yC p R s m args meth c cc nL own D s0 a0 A) {x : Int32} (d : decode cc pc = .ok (.i2l, 1)) (k : Y p l e R s m args below meth c Q D s0 A nL M rc rs lv (pc + 1) (yl x.toInt64 :: st)) : Y p l e R s m args below meth c Q D s0 A nL M rc rs lv pc (yi x :: st) := fun H locs cells slots ls hw hS hc hs hl => lv_i2l C.1.1 C.1.2.1 d rfl (k H locs cells slots ls hw hS hc hs hl)
theorem y_i2c (C : yC p R s m args meth c cc nL own D s0 a0 A) {x : Int32} (d : decode cc pc = .ok (.i2c, 1)) (k : Y p l e R s m args below meth c Q D s0 A nL M rc rs lv (pc + 1) (yi (x.toUInt32 % 65536).toInt32 :: st)) : Y p l e R s m args below meth c Q D s0 A nL M rc rs lv pc (yi x :: st) := fun H locs cells slots ls hw hS hc hs hl => lv_i2c C.1.1 C.1.2.1 d rfl (k H locs cells slots ls hw hS hc hs hl)
theorem y_dup (C : yC p R s m args meth c cc nL own D s0 a0 A) {v : yV} (h_v : ycat v = 1) (d : decode cc pc = .ok (.dup, 1)) (k : Y p l e R s m args below meth c Q D s0 A nL M rc rs lv (pc + 1) (v :: v :: st)) : Y p l e R s m args below meth c Q D s0 A nL M rc rs lv pc (v :: st) := fun H locs cells slots ls hw hS hc hs hl => lv_dup C.1.1 C.1.2.1 d ((ycat_eq v).trans h_v) (k H locs cells slots ls hw hS hc hs hl)
theorem y_pop (C : yC p R s m args meth c cc nL own D s0 a0 A) {v : yV} (h_v : ycat v = 1) (d : decode cc pc = .ok (.pop, 1)) (k : Y p l e R s m args below meth c Q D s0 A nL M rc rs lv (pc + 1) st) : Y p l e R s m args below meth c Q D s0 A nL M rc rs lv pc (v :: st) := fun H locs cells slots ls hw hS hc hs hl => lv_pop C.1.1 C.1.2.1 d ((ycat_eq v).trans h_v) (k H locs cells slots ls hw hS hc hs hl)
theorem y_dup_x1 (C : yC p R s m args meth c cc nL own D s0 a0 A) {v w : yV} (h_v : ycat v = 1) (h_w : ycat w = 1) (d : decode cc pc = .ok (.dup_x1, 1)) (k : Y p l e R s m args below meth c Q D s0 A nL M rc rs lv (pc + 1) (v :: w :: v :: st)) : Y p l e R s m args below meth c Q D s0 A nL M rc rs lv pc (v :: w :: st) := fun H locs cells slots ls hw hS hc hs hl => lv_dup_x1 C.1.1 C.1.2.1 d ((ycat_eq v).trans h_v) ((ycat_eq w).trans h_w) (k H locs cells slots ls hw hS hc hs hl)
theorem y_dup_x2 (C : yC p R s m args meth c cc nL own D s0 a0 A) {v w u : yV} (h_v : ycat v = 1) (h_w : ycat w = 1) (h_u : ycat u = 1) (d : decode cc pc = .ok (.dup_x2, 1)) (k : Y p l e R s m args below meth c Q D s0 A nL M rc rs lv (pc + 1) (v :: w :: u :: v :: st)) : Y p l e R s m args below meth c Q D s0 A nL M rc rs lv pc (v :: w :: u :: st) := fun H locs cells slots ls hw hS hc hs hl => lv_dup_x2 C.1.1 C.1.2.1 d ((ycat_eq v).trans h_v) ((ycat_eq w).trans h_w) ((ycat_eq u).trans h_u) (k H locs cells slots ls hw hS hc hs hl)
theorem y_dup2 (C : yC p R s m args meth c cc nL own D s0 a0 A) {v w : yV} (h_v : ycat v = 1) (h_w : ycat w = 1) (d : decode cc pc = .ok (.dup2, 1)) (k : Y p l e R s m args below meth c Q D s0 A nL M rc rs lv (pc + 1) (v :: w :: v :: w :: st)) : Y p l e R s m args below meth c Q D s0 A nL M rc rs lv pc (v :: w :: st) := fun H locs cells slots ls hw hS hc hs hl => lv_dup2_11 C.1.1 C.1.2.1 d ((ycat_eq v).trans h_v) ((ycat_eq w).trans h_w) (k H locs cells slots ls hw hS hc hs hl)
theorem y_if_eq (C : yC p R s m args meth c cc nL own D s0 a0 A) {x : Int32} {off : Int} (tgt : Nat) (d : decode cc pc = .ok (.ifCond .eq off, 3)) (ht : (pc : Int) + off = (tgt : Int)) (kt : x = 0 → Y p l e R s m args below meth c Q D s0 A nL M rc rs lv tgt st) (kf : ¬ x = 0 → Y p l e R s m args below meth c Q D s0 A nL M rc rs lv (pc + 3) st) : Y p l e R s m args below meth c Q D s0 A nL M rc rs lv pc (yi x :: st) := fun H locs cells slots ls hw hS hc hs hl => lv_if_eq C.1.1 C.1.2.1 d ht (fun c9 => kt c9 H locs cells slots ls hw hS hc hs hl) (fun c9 => kf c9 H locs cells slots ls hw hS hc hs hl)
theorem y_if_ne (C : yC p R s m args meth c cc nL own D s0 a0 A) {x : Int32} {off : Int} (tgt : Nat) (d : decode cc pc = .ok (.ifCond .ne off, 3)) (ht : (pc : Int) + off = (tgt : Int)) (kt : ¬ x = 0 → Y p l e R s m args below meth c Q D s0 A nL M rc rs lv tgt st) (kf : x = 0 → Y p l e R s m args below meth c Q D s0 A nL M rc rs lv (pc + 3) st) : Y p l e R s m args below meth c Q D s0 A nL M rc rs lv pc (yi x :: st) := fun H locs cells slots ls hw hS hc hs hl => lv_if_ne C.1.1 C.1.2.1 d ht (fun c9 => kt c9 H locs cells slots ls hw hS hc hs hl) (fun c9 => kf c9 H locs cells slots ls hw hS hc hs hl)
theorem y_if_lt (C : yC p R s m args meth c cc nL own D s0 a0 A) {x : Int32} {off : Int} (tgt : Nat) (d : decode cc pc = .ok (.ifCond .lt off, 3)) (ht : (pc : Int) + off = (tgt : Int)) (kt : x < 0 → Y p l e R s m args below meth c Q D s0 A nL M rc rs lv tgt st) (kf : ¬ x < 0 → Y p l e R s m args below meth c Q D s0 A nL M rc rs lv (pc + 3) st) : Y p l e R s m args below meth c Q D s0 A nL M rc rs lv pc (yi x :: st) := fun H locs cells slots ls hw hS hc hs hl => lv_if_lt C.1.1 C.1.2.1 d ht (fun c9 => kt c9 H locs cells slots ls hw hS hc hs hl) (fun c9 => kf c9 H locs cells slots ls hw hS hc hs hl)
theorem y_if_ge (C : yC p R s m args meth c cc nL own D s0 a0 A) {x : Int32} {off : Int} (tgt : Nat) (d : decode cc pc = .ok (.ifCond .ge off, 3)) (ht : (pc : Int) + off = (tgt : Int)) (kt : 0 ≤ x → Y p l e R s m args below meth c Q D s0 A nL M rc rs lv tgt st) (kf : ¬ 0 ≤ x → Y p l e R s m args below meth c Q D s0 A nL M rc rs lv (pc + 3) st) : Y p l e R s m args below meth c Q D s0 A nL M rc rs lv pc (yi x :: st) := fun H locs cells slots ls hw hS hc hs hl => lv_if_ge C.1.1 C.1.2.1 d ht (fun c9 => kt c9 H locs cells slots ls hw hS hc hs hl) (fun c9 => kf c9 H locs cells slots ls hw hS hc hs hl)
theorem y_if_gt (C : yC p R s m args meth c cc nL own D s0 a0 A) {x : Int32} {off : Int} (tgt : Nat) (d : decode cc pc = .ok (.ifCond .gt off, 3)) (ht : (pc : Int) + off = (tgt : Int)) (kt : 0 < x → Y p l e R s m args below meth c Q D s0 A nL M rc rs lv tgt st) (kf : ¬ 0 < x → Y p l e R s m args below meth c Q D s0 A nL M rc rs lv (pc + 3) st) : Y p l e R s m args below meth c Q D s0 A nL M rc rs lv pc (yi x :: st) := fun H locs cells slots ls hw hS hc hs hl => lv_if_gt C.1.1 C.1.2.1 d ht (fun c9 => kt c9 H locs cells slots ls hw hS hc hs hl) (fun c9 => kf c9 H locs cells slots ls hw hS hc hs hl)
theorem y_if_le (C : yC p R s m args meth c cc nL own D s0 a0 A) {x : Int32} {off : Int} (tgt : Nat) (d : decode cc pc = .ok (.ifCond .le off, 3)) (ht : (pc : Int) + off = (tgt : Int)) (kt : x ≤ 0 → Y p l e R s m args below meth c Q D s0 A nL M rc rs lv tgt st) (kf : ¬ x ≤ 0 → Y p l e R s m args below meth c Q D s0 A nL M rc rs lv (pc + 3) st) : Y p l e R s m args below meth c Q D s0 A nL M rc rs lv pc (yi x :: st) := fun H locs cells slots ls hw hS hc hs hl => lv_if_le C.1.1 C.1.2.1 d ht (fun c9 => kt c9 H locs cells slots ls hw hS hc hs hl) (fun c9 => kf c9 H locs cells slots ls hw hS hc hs hl)
theorem y_icmp_eq (C : yC p R s m args meth c cc nL own D s0 a0 A) {x y : Int32} {off : Int} (tgt : Nat) (d : decode cc pc = .ok (.if_icmp .eq off, 3)) (ht : (pc : Int) + off = (tgt : Int)) (kt : x = y → Y p l e R s m args below meth c Q D s0 A nL M rc rs lv tgt st) (kf : ¬ x = y → Y p l e R s m args below meth c Q D s0 A nL M rc rs lv (pc + 3) st) : Y p l e R s m args below meth c Q D s0 A nL M rc rs lv pc (yi y :: yi x :: st) := fun H locs cells slots ls hw hS hc hs hl => lv_icmp_eq C.1.1 C.1.2.1 d ht (fun c9 => kt c9 H locs cells slots ls hw hS hc hs hl) (fun c9 => kf c9 H locs cells slots ls hw hS hc hs hl)
theorem y_icmp_ne (C : yC p R s m args meth c cc nL own D s0 a0 A) {x y : Int32} {off : Int} (tgt : Nat) (d : decode cc pc = .ok (.if_icmp .ne off, 3)) (ht : (pc : Int) + off = (tgt : Int)) (kt : ¬ x = y → Y p l e R s m args below meth c Q D s0 A nL M rc rs lv tgt st) (kf : x = y → Y p l e R s m args below meth c Q D s0 A nL M rc rs lv (pc + 3) st) : Y p l e R s m args below meth c Q D s0 A nL M rc rs lv pc (yi y :: yi x :: st) := fun H locs cells slots ls hw hS hc hs hl => lv_icmp_ne C.1.1 C.1.2.1 d ht (fun c9 => kt c9 H locs cells slots ls hw hS hc hs hl) (fun c9 => kf c9 H locs cells slots ls hw hS hc hs hl)
theorem y_icmp_lt (C : yC p R s m args meth c cc nL own D s0 a0 A) {x y : Int32} {off : Int} (tgt : Nat) (d : decode cc pc = .ok (.if_icmp .lt off, 3)) (ht : (pc : Int) + off = (tgt : Int)) (kt : x < y → Y p l e R s m args below meth c Q D s0 A nL M rc rs lv tgt st) (kf : ¬ x < y → Y p l e R s m args below meth c Q D s0 A nL M rc rs lv (pc + 3) st) : Y p l e R s m args below meth c Q D s0 A nL M rc rs lv pc (yi y :: yi x :: st) := fun H locs cells slots ls hw hS hc hs hl => lv_icmp_lt C.1.1 C.1.2.1 d ht (fun c9 => kt c9 H locs cells slots ls hw hS hc hs hl) (fun c9 => kf c9 H locs cells slots ls hw hS hc hs hl)
theorem y_icmp_ge (C : yC p R s m args meth c cc nL own D s0 a0 A) {x y : Int32} {off : Int} (tgt : Nat) (d : decode cc pc = .ok (.if_icmp .ge off, 3)) (ht : (pc : Int) + off = (tgt : Int)) (kt : y ≤ x → Y p l e R s m args below meth c Q D s0 A nL M rc rs lv tgt st) (kf : ¬ y ≤ x → Y p l e R s m args below meth c Q D s0 A nL M rc rs lv (pc + 3) st) : Y p l e R s m args below meth c Q D s0 A nL M rc rs lv pc (yi y :: yi x :: st) := fun H locs cells slots ls hw hS hc hs hl => lv_icmp_ge C.1.1 C.1.2.1 d ht (fun c9 => kt c9 H locs cells slots ls hw hS hc hs hl) (fun c9 => kf c9 H locs cells slots ls hw hS hc hs hl)
theorem y_icmp_gt (C : yC p R s m args meth c cc nL own D s0 a0 A) {x y : Int32} {off : Int} (tgt : Nat) (d : decode cc pc = .ok (.if_icmp .gt off, 3)) (ht : (pc : Int) + off = (tgt : Int)) (kt : y < x → Y p l e R s m args below meth c Q D s0 A nL M rc rs lv tgt st) (kf : ¬ y < x → Y p l e R s m args below meth c Q D s0 A nL M rc rs lv (pc + 3) st) : Y p l e R s m args below meth c Q D s0 A nL M rc rs lv pc (yi y :: yi x :: st) := fun H locs cells slots ls hw hS hc hs hl => lv_icmp_gt C.1.1 C.1.2.1 d ht (fun c9 => kt c9 H locs cells slots ls hw hS hc hs hl) (fun c9 => kf c9 H locs cells slots ls hw hS hc hs hl)
theorem y_icmp_le (C : yC p R s m args meth c cc nL own D s0 a0 A) {x y : Int32} {off : Int} (tgt : Nat) (d : decode cc pc = .ok (.if_icmp .le off, 3)) (ht : (pc : Int) + off = (tgt : Int)) (kt : x ≤ y → Y p l e R s m args below meth c Q D s0 A nL M rc rs lv tgt st) (kf : ¬ x ≤ y → Y p l e R s m args below meth c Q D s0 A nL M rc rs lv (pc + 3) st) : Y p l e R s m args below meth c Q D s0 A nL M rc rs lv pc (yi y :: yi x :: st) := fun H locs cells slots ls hw hS hc hs hl => lv_icmp_le C.1.1 C.1.2.1 d ht (fun c9 => kt c9 H locs cells slots ls hw hS hc hs hl) (fun c9 => kf c9 H locs cells slots ls hw hS hc hs hl)
theorem y_acmp_eq (C : yC p R s m args meth c cc nL own D s0 a0 A) {rx ry : Option Nat} {off : Int} (tgt : Nat) (d : decode cc pc = .ok (.if_acmp .eq off, 3)) (ht : (pc : Int) + off = (tgt : Int)) (kt : rx = ry → Y p l e R s m args below meth c Q D s0 A nL M rc rs lv tgt st) (kf : ¬ rx = ry → Y p l e R s m args below meth c Q D s0 A nL M rc rs lv (pc + 3) st) : Y p l e R s m args below meth c Q D s0 A nL M rc rs lv pc (yr ry :: yr rx :: st) := fun H locs cells slots ls hw hS hc hs hl => lv_acmp_eq C.1.1 C.1.2.1 d ht (fun c9 => kt c9 H locs cells slots ls hw hS hc hs hl) (fun c9 => kf c9 H locs cells slots ls hw hS hc hs hl)
theorem y_acmp_ne (C : yC p R s m args meth c cc nL own D s0 a0 A) {rx ry : Option Nat} {off : Int} (tgt : Nat) (d : decode cc pc = .ok (.if_acmp .ne off, 3)) (ht : (pc : Int) + off = (tgt : Int)) (kt : ¬ rx = ry → Y p l e R s m args below meth c Q D s0 A nL M rc rs lv tgt st) (kf : rx = ry → Y p l e R s m args below meth c Q D s0 A nL M rc rs lv (pc + 3) st) : Y p l e R s m args below meth c Q D s0 A nL M rc rs lv pc (yr ry :: yr rx :: st) := fun H locs cells slots ls hw hS hc hs hl => lv_acmp_ne C.1.1 C.1.2.1 d ht (fun c9 => kt c9 H locs cells slots ls hw hS hc hs hl) (fun c9 => kf c9 H locs cells slots ls hw hS hc hs hl)
theorem y_ifnull (C : yC p R s m args meth c cc nL own D s0 a0 A) {r : Option Nat} {off : Int} (tgt : Nat) (d : decode cc pc = .ok (.ifnull off, 3)) (ht : (pc : Int) + off = (tgt : Int)) (kt : r = none → Y p l e R s m args below meth c Q D s0 A nL M rc rs lv tgt st) (kf : ¬ r = none → Y p l e R s m args below meth c Q D s0 A nL M rc rs lv (pc + 3) st) : Y p l e R s m args below meth c Q D s0 A nL M rc rs lv pc (yr r :: st) := by
  intro H locs cells slots ls hw hS hc hs hl
  cases r with
  | none => exact lv_ifnullN C.1.1 C.1.2.1 d ht (kt rfl H locs cells slots ls hw hS hc hs hl)
  | some a => exact lv_ifnull C.1.1 C.1.2.1 d (kf (fun z => by cases z) H locs cells slots ls hw hS hc hs hl)
theorem y_ifnonnull (C : yC p R s m args meth c cc nL own D s0 a0 A) {r : Option Nat} {off : Int} (tgt : Nat) (d : decode cc pc = .ok (.ifnonnull off, 3)) (ht : (pc : Int) + off = (tgt : Int)) (kt : ¬ r = none → Y p l e R s m args below meth c Q D s0 A nL M rc rs lv tgt st) (kf : r = none → Y p l e R s m args below meth c Q D s0 A nL M rc rs lv (pc + 3) st) : Y p l e R s m args below meth c Q D s0 A nL M rc rs lv pc (yr r :: st) := by
  intro H locs cells slots ls hw hS hc hs hl
  cases r with
  | none => exact lv_ifnonnullN C.1.1 C.1.2.1 d (kf rfl H locs cells slots ls hw hS hc hs hl)
  | some a => exact lv_ifnonnull C.1.1 C.1.2.1 d ht (kt (fun z => by cases z) H locs cells slots ls hw hS hc hs hl)
theorem y_goto (C : yC p R s m args meth c cc nL own D s0 a0 A) {off : Int} (tgt : Nat) (d : decode cc pc = .ok (.goto off, 3)) (ht : (pc : Int) + off = (tgt : Int)) (k : Y p l e R s m args below meth c Q D s0 A nL M rc rs lv tgt st) : Y p l e R s m args below meth c Q D s0 A nL M rc rs lv pc st := fun H locs cells slots ls hw hS hc hs hl => lv_goto C.1.1 C.1.2.1 d ht (k H locs cells slots ls hw hS hc hs hl)
theorem y_tabOut (C : yC p R s m args meth c cc nL own D s0 a0 A) {dflt lo hi : Int} {offs : Array Int} {len : Nat} {x : Int32} (tgt : Nat) (d : decode cc pc = .ok (.tableswitch dflt lo hi offs, len)) (h : x.toInt < lo ∨ hi < x.toInt) (ht : (pc : Int) + dflt = (tgt : Int)) (k : Y p l e R s m args below meth c Q D s0 A nL M rc rs lv tgt st) : Y p l e R s m args below meth c Q D s0 A nL M rc rs lv pc (yi x :: st) := fun H locs cells slots ls hw hS hc hs hl => lv_tableOut C.1.1 C.1.2.1 d h ht (k H locs cells slots ls hw hS hc hs hl)
theorem y_tabIn (C : yC p R s m args meth c cc nL own D s0 a0 A) {dflt lo hi off : Int} {offs : Array Int} {len : Nat} {x : Int32} (tgt : Nat) (d : decode cc pc = .ok (.tableswitch dflt lo hi offs, len)) (h1 : ¬ x.toInt < lo) (h2 : ¬ hi < x.toInt) (ho : offs[(x.toInt - lo).toNat]? = some off) (ht : (pc : Int) + off = (tgt : Int)) (k : Y p l e R s m args below meth c Q D s0 A nL M rc rs lv tgt st) : Y p l e R s m args below meth c Q D s0 A nL M rc rs lv pc (yi x :: st) := fun H locs cells slots ls hw hS hc hs hl => lv_tableIn C.1.1 C.1.2.1 d h1 h2 ho ht (k H locs cells slots ls hw hS hc hs hl)
/-- a number that is none of lo .. lo + n - 1 -/
theorem y_rng {x : Int32} {lo hi : Int} (n : Nat) (hlo : -2147483648 ≤ lo) (hn : lo + n ≤ 2147483648) (hh : hi + 1 = lo + n) (h : ∀ k : Nat, k < n → x ≠ Int32.ofInt (lo + k)) : x.toInt < lo ∨ hi < x.toInt := by
  by_cases h1 : x.toInt < lo
  · exact Or.inl h1
  · by_cases h2 : hi < x.toInt
    · exact Or.inr h2
    · exfalso
      refine h (x.toInt - lo).toNat (by omega) (Int32.toInt_inj.mp ?_)
      rw [Int32.toInt_ofInt_of_le (by omega) (by omega)]
      omega
theorem y_get (C : yC p R s m args meth c cc nL own D s0 a0 A) {ci N index k : Nat} {C0 ref : String} {T : u_T} (hin : ∀ w ∈ u_ws C0 T N, w ∈ lw_all) (hcl : y_cl[ci]? = some (C0, T, N)) (hk : k < N) (hlink : Cond.fieldLink own index ref (T k).2.1 (T k).2.2.1 ∈ lw_all) (hsame : ∀ x, s.fieldFound? (T k).1 (T k).2.1 (T k).2.2.1 = some x → s.fieldFound? ref (T k).2.1 (T k).2.2.1 = some x) {a : Nat} {fs : List yV} {v : yV} (hM : M a = some (yo ci fs)) (hv : fs[k]? = some v) (d : decode cc pc = .ok (.getfield index, 3)) (kk : Y p l e R s m args below meth c Q D s0 A nL M rc rs lv (pc + 3) (v :: st)) : Y p l e R s m args below meth c Q D s0 A nL M rc rs lv pc (yr (some a) :: st) := by
  intro H locs cells slots ls hw hS hc hs hl
  obtain ⟨⟨x, hx, he⟩, -⟩ := hw a _ hM
  have e9 := y_inr he
  subst e9
  exact va_get (ws := [(a, .inr (ci, yvs fs))]) C.1.1 C.1.2.1 C.hts hin C.ow C.K (fun k q hk => by obtain ⟨-, rfl⟩ := y_one hk; exact hx) 0 rfl hcl k hk (C.hts _ hlink) hsame (yvs_get hv) d (kk H locs cells slots ls hw hS hc hs hl)
theorem yC.nestF (C : yC p R s m args meth c cc nL own D s0 a0 A) {a b n d h : String} {i : Nat} (hq : Cond.fieldLinkNest a i b n d h ∈ lw_tbl) : va_Nw (.fieldLinkNest a i b n d h) s := va_Nw.warmF C.2.2.2.2.2.2.2 (va_Nw.of rfl (C.2.2.1.1 _ hq))
theorem yC.nestM (C : yC p R s m args meth c cc nL own D s0 a0 A) {a h : String} {i : Nat} {x : MethodName} (hq : Cond.methodLinkNest a i x h ∈ lw_tbl) : va_Nw (.methodLinkNest a i x h) s := va_Nw.warmM C.2.2.2.2.2.2.2 (va_Nw.of rfl (C.2.2.1.1 _ hq))
theorem y_getN (C : yC p R s m args meth c cc nL own D s0 a0 A) {ci N index k : Nat} {C0 ref : String} {T : u_T} (hin : ∀ w ∈ u_ws C0 T N, w ∈ lw_all) (hcl : y_cl[ci]? = some (C0, T, N)) (hk : k < N) {host : String} (hlink : Cond.fieldLinkNest own index ref (T k).2.1 (T k).2.2.1 host ∈ lw_tbl) (hsame : ∀ x, s.fieldFound? (T k).1 (T k).2.1 (T k).2.2.1 = some x → s.fieldFound? ref (T k).2.1 (T k).2.2.1 = some x) {a : Nat} {fs : List yV} {v : yV} (hM : M a = some (yo ci fs)) (hv : fs[k]? = some v) (d : decode cc pc = .ok (.getfield index, 3)) (kk : Y p l e R s m args below meth c Q D s0 A nL M rc rs lv (pc + 3) (v :: st)) : Y p l e R s m args below meth c Q D s0 A nL M rc rs lv pc (yr (some a) :: st) := by
  intro H locs cells slots ls hw hS hc hs hl
  obtain ⟨⟨x, hx, he⟩, -⟩ := hw a _ hM
  have e9 := y_inr he
  subst e9
  exact va_getN (ws := [(a, .inr (ci, yvs fs))]) C.1.1 C.1.2.1 C.hts hin C.ow C.K (fun k q hk => by obtain ⟨-, rfl⟩ := y_one hk; exact hx) 0 rfl hcl k hk (va_Nw.use rfl (C.nestF hlink)) hsame (yvs_get hv) d (kk H locs cells slots ls hw hS hc hs hl)
theorem y_put (C : yC p R s m args meth c cc nL own D s0 a0 A) {ci N index k : Nat} {C0 ref : String} {T : u_T} (hin : ∀ w ∈ u_ws C0 T N, w ∈ lw_all) {ty0 : Nat → FieldType} (hty : ∀ k, k < N → parseFieldDescriptor (T k).2.2.1 = some (ty0 k)) (hnm : ∀ a, a < N → ∀ b, b < N → a ≠ b → (T a).2.1 ≠ (T b).2.1) (hcl : y_cl[ci]? = some (C0, T, N)) (hk : k < N) (hlink : Cond.fieldLink own index ref (T k).2.1 (T k).2.2.1 ∈ lw_all) (hsame : ∀ x, s.fieldFound? (T k).1 (T k).2.1 (T k).2.2.1 = some x → s.fieldFound? ref (T k).2.1 (T k).2.2.1 = some x) (hfin : (T k).2.2.2 = false) {a : Nat} {fs : List yV} {v : yV} (hM : M a = some (yo ci fs)) (hlen : k < fs.length) (hn : narrow (ty0 k) (yval v) = yval v) (hfit : fits (ty0 k) (yval v) = true) (hM' : yup M a (yo ci (fs.set k v)) = M') (d : decode cc pc = .ok (.putfield index, 3)) (kk : Y p l e R s m args below meth c Q D s0 A nL M' rc rs lv (pc + 3) st) : Y p l e R s m args below meth c Q D s0 A nL M rc rs lv pc (v :: yr (some a) :: st) := by
  intro H locs cells slots ls hw hS hc hs hl
  subst hM'
  obtain ⟨ws, hP, hD, hws⟩ := y_dn hw
  obtain ⟨q0, x, h0, he⟩ := hws a _ hM (yA_obj hw hM)
  have e9 := y_inr he
  subst e9
  exact va_put C.1.1 C.1.2.1 C.hts hin ty0 hty hnm C.ow C.K hP hD hS q0 h0 hcl k hk (C.hts _ hlink) hsame hfin (hty k hk) hn hfit (by rw [yvs_len]; exact hlen) d (fun H1 locs1 hP1 hD1 hS1 => kk H1 locs1 cells slots ls (y_upset C.2.2.2 hS hS1 hw hws hD h0 hP1 ⟨rfl, yvs_set fs k v⟩) hS1 hc hs hl)
theorem y_putN (C : yC p R s m args meth c cc nL own D s0 a0 A) {ci N index k : Nat} {C0 ref : String} {T : u_T} (hin : ∀ w ∈ u_ws C0 T N, w ∈ lw_all) {ty0 : Nat → FieldType} (hty : ∀ k, k < N → parseFieldDescriptor (T k).2.2.1 = some (ty0 k)) (hnm : ∀ a, a < N → ∀ b, b < N → a ≠ b → (T a).2.1 ≠ (T b).2.1) (hcl : y_cl[ci]? = some (C0, T, N)) (hk : k < N) {host : String} (hlink : Cond.fieldLinkNest own index ref (T k).2.1 (T k).2.2.1 host ∈ lw_tbl) (hsame : ∀ x, s.fieldFound? (T k).1 (T k).2.1 (T k).2.2.1 = some x → s.fieldFound? ref (T k).2.1 (T k).2.2.1 = some x) (hfin : (T k).2.2.2 = false) {a : Nat} {fs : List yV} {v : yV} (hM : M a = some (yo ci fs)) (hlen : k < fs.length) (hn : narrow (ty0 k) (yval v) = yval v) (hfit : fits (ty0 k) (yval v) = true) (hM' : yup M a (yo ci (fs.set k v)) = M') (d : decode cc pc = .ok (.putfield index, 3)) (kk : Y p l e R s m args below meth c Q D s0 A nL M' rc rs lv (pc + 3) st) : Y p l e R s m args below meth c Q D s0 A nL M rc rs lv pc (v :: yr (some a) :: st) := by
  intro H locs cells slots ls hw hS hc hs hl
  subst hM'
  obtain ⟨ws, hP, hD, hws⟩ := y_dn hw
  obtain ⟨q0, x, h0, he⟩ := hws a _ hM (yA_obj hw hM)
  have e9 := y_inr he
  subst e9
  exact va_putN C.1.1 C.1.2.1 C.hts hin ty0 hty hnm C.ow C.K hP hD hS q0 h0 hcl k hk (va_Nw.use rfl (C.nestF hlink)) hsame hfin (hty k hk) hn hfit (by rw [yvs_len]; exact hlen) d (fun H1 locs1 hP1 hD1 hS1 => kk H1 locs1 cells slots ls (y_upset C.2.2.2 hS hS1 hw hws hD h0 hP1 ⟨rfl, yvs_set fs k v⟩) hS1 hc hs hl)
theorem y_putF (C : yC p R s m args meth c cc nL own D s0 a0 A) {ci N index k : Nat} {C0 ref : String} {T : u_T} (hin : ∀ w ∈ u_ws C0 T N, w ∈ lw_all) {ty0 : Nat → FieldType} (hty : ∀ k, k < N → parseFieldDescriptor (T k).2.2.1 = some (ty0 k)) (hnm : ∀ a, a < N → ∀ b, b < N → a ≠ b → (T a).2.1 ≠ (T b).2.1) (hcl : y_cl[ci]? = some (C0, T, N)) (hk : k < N) (hlink : Cond.fieldLink own index ref (T k).2.1 (T k).2.2.1 ∈ lw_all) (hsame : ∀ x, s.fieldFound? (T k).1 (T k).2.1 (T k).2.2.1 = some x → s.fieldFound? ref (T k).2.1 (T k).2.2.1 = some x) (hfin : (T k).2.2.2 = true) (hin2 : meth.name = "<init>") (hdecl : (T k).1 = own) {a : Nat} {fs : List yV} {v : yV} (hM : M a = some (yo ci fs)) (hlen : k < fs.length) (hn : narrow (ty0 k) (yval v) = yval v) (hfit : fits (ty0 k) (yval v) = true) (hM' : yup M a (yo ci (fs.set k v)) = M') (d : decode cc pc = .ok (.putfield index, 3)) (kk : Y p l e R s m args below meth c Q D s0 A nL M' rc rs lv (pc + 3) st) : Y p l e R s m args below meth c Q D s0 A nL M rc rs lv pc (v :: yr (some a) :: st) := by
  intro H locs cells slots ls hw hS hc hs hl
  subst hM'
  obtain ⟨ws, hP, hD, hws⟩ := y_dn hw
  obtain ⟨q0, x, h0, he⟩ := hws a _ hM (yA_obj hw hM)
  have e9 := y_inr he
  subst e9
  exact va_putF C.1.1 C.1.2.1 C.hts hin ty0 hty hnm C.ow C.K hP hD hS q0 h0 hcl k hk (C.hts _ hlink) hsame hfin hin2 hdecl (hty k hk) hn hfit (by rw [yvs_len]; exact hlen) d (fun H1 locs1 hP1 hD1 hS1 => kk H1 locs1 cells slots ls (y_upset C.2.2.2 hS hS1 hw hws hD h0 hP1 ⟨rfl, yvs_set fs k v⟩) hS1 hc hs hl)
theorem y_iald (C : yC p R s m args meth c cc nL own D s0 a0 A) {a n : Nat} {f : Nat → Int32} {i : Int32} (hM : M a = some (yai n f)) (hin : vp_in i n) (d : decode cc pc = .ok (.iaload, 1)) (kk : Y p l e R s m args below meth c Q D s0 A nL M rc rs lv (pc + 1) (yi (f i.toNatClampNeg) :: st)) : Y p l e R s m args below meth c Q D s0 A nL M rc rs lv pc (yi i :: yr (some a) :: st) := by
  intro H locs cells slots ls hw hS hc hs hl
  obtain ⟨⟨x, hx, he⟩, -⟩ := hw a _ hM
  obtain ⟨cA, e9, h1, h2⟩ := y_inl he
  subst e9
  exact va_iald C.1.1 C.1.2.1 (y_K1 C.K h1 h2) (ws := [(a, .inl (cA, n, .inl f))]) (fun k q hk => by obtain ⟨-, rfl⟩ := y_one hk; exact hx) 0 0 rfl rfl hin d (kk H locs cells slots ls hw hS hc hs hl)
theorem y_zald (C : yC p R s m args meth c cc nL own D s0 a0 A) {a n : Nat} {f : Nat → Int32} {i : Int32} (hM : M a = some (yaz n f)) (hin : vp_in i n) (d : decode cc pc = .ok (.baload, 1)) (kk : Y p l e R s m args below meth c Q D s0 A nL M rc rs lv (pc + 1) (yi (f i.toNatClampNeg) :: st)) : Y p l e R s m args below meth c Q D s0 A nL M rc rs lv pc (yi i :: yr (some a) :: st) := by
  intro H locs cells slots ls hw hS hc hs hl
  obtain ⟨⟨x, hx, he⟩, -⟩ := hw a _ hM
  obtain ⟨cA, e9, h1, h2⟩ := y_inl he
  subst e9
  exact va_zald C.1.1 C.1.2.1 (y_K1 C.K h1 h2) (ws := [(a, .inl (cA, n, .inl f))]) (fun k q hk => by obtain ⟨-, rfl⟩ := y_one hk; exact hx) 0 0 rfl rfl hin d (kk H locs cells slots ls hw hS hc hs hl)
theorem y_cald (C : yC p R s m args meth c cc nL own D s0 a0 A) {a n : Nat} {f : Nat → Int32} {i : Int32} (hM : M a = some (yac n f)) (hin : vp_in i n) (d : decode cc pc = .ok (.caload, 1)) (kk : Y p l e R s m args below meth c Q D s0 A nL M rc rs lv (pc + 1) (yi (f i.toNatClampNeg) :: st)) : Y p l e R s m args below meth c Q D s0 A nL M rc rs lv pc (yi i :: yr (some a) :: st) := by
  intro H locs cells slots ls hw hS hc hs hl
  obtain ⟨⟨x, hx, he⟩, -⟩ := hw a _ hM
  obtain ⟨cA, e9, h1, h2⟩ := y_inl he
  subst e9
  exact va_cald C.1.1 C.1.2.1 (y_K1 C.K h1 h2) (ws := [(a, .inl (cA, n, .inl f))]) (fun k q hk => by obtain ⟨-, rfl⟩ := y_one hk; exact hx) 0 0 rfl rfl hin d (kk H locs cells slots ls hw hS hc hs hl)
theorem y_bald (C : yC p R s m args meth c cc nL own D s0 a0 A) {a n : Nat} {f : Nat → Int32} {i : Int32} (hM : M a = some (yab n f)) (hin : vp_in i n) (d : decode cc pc = .ok (.baload, 1)) (kk : Y p l e R s m args below meth c Q D s0 A nL M rc rs lv (pc + 1) (yi (f i.toNatClampNeg) :: st)) : Y p l e R s m args below meth c Q D s0 A nL M rc rs lv pc (yi i :: yr (some a) :: st) := by
  intro H locs cells slots ls hw hS hc hs hl
  obtain ⟨⟨x, hx, he⟩, -⟩ := hw a _ hM
  obtain ⟨cA, e9, h1, h2⟩ := y_inl he
  subst e9
  exact va_bald C.1.1 C.1.2.1 (y_K1 C.K h1 h2) (ws := [(a, .inl (cA, n, .inl f))]) (fun k q hk => by obtain ⟨-, rfl⟩ := y_one hk; exact hx) 0 0 rfl rfl hin d (kk H locs cells slots ls hw hS hc hs hl)
theorem y_iast (C : yC p R s m args meth c cc nL own D s0 a0 A) {a n : Nat} {f : Nat → Int32} {i x : Int32} (hM : M a = some (yai n f)) (hin : vp_in i n) (hM' : yup M a (yai n (upd f i.toNatClampNeg x)) = M') (d : decode cc pc = .ok (.iastore, 1)) (kk : Y p l e R s m args below meth c Q D s0 A nL M' rc rs lv (pc + 1) st) : Y p l e R s m args below meth c Q D s0 A nL M rc rs lv pc (yi x :: yi i :: yr (some a) :: st) := by
  intro H locs cells slots ls hw hS hc hs hl
  subst hM'
  obtain ⟨ws, hP, hD, hws⟩ := y_dn hw
  obtain ⟨q0, x9, h0, he⟩ := hws a _ hM (yA_arr hw hM (Nat.lt_of_le_of_lt (Nat.zero_le _) (Nat.not_le.mp fun q => hin (Or.inr q))))
  obtain ⟨cA, e9, h1, h2⟩ := y_inl he
  subst e9
  exact va_iast C.1.1 C.1.2.1 (y_K1 C.K h1 h2) hP hD hS q0 0 h0 rfl hin d (fun H1 locs1 hP1 hD1 hS1 => kk H1 locs1 cells slots ls (y_upset C.2.2.2 hS hS1 hw hws hD h0 hP1 ⟨rfl, h1, h2⟩) hS1 hc hs hl)
theorem y_zast (C : yC p R s m args meth c cc nL own D s0 a0 A) {a n : Nat} {f : Nat → Int32} {i x : Int32} (hM : M a = some (yaz n f)) (hin : vp_in i n) (hM' : yup M a (yaz n (upd f i.toNatClampNeg (vp_nar .boolean x))) = M') (d : decode cc pc = .ok (.bastore, 1)) (kk : Y p l e R s m args below meth c Q D s0 A nL M' rc rs lv (pc + 1) st) : Y p l e R s m args below meth c Q D s0 A nL M rc rs lv pc (yi x :: yi i :: yr (some a) :: st) := by
  intro H locs cells slots ls hw hS hc hs hl
  subst hM'
  obtain ⟨ws, hP, hD, hws⟩ := y_dn hw
  obtain ⟨q0, x9, h0, he⟩ := hws a _ hM (yA_arr hw hM (Nat.lt_of_le_of_lt (Nat.zero_le _) (Nat.not_le.mp fun q => hin (Or.inr q))))
  obtain ⟨cA, e9, h1, h2⟩ := y_inl he
  subst e9
  exact va_zast C.1.1 C.1.2.1 (y_K1 C.K h1 h2) hP hD hS q0 0 h0 rfl hin d (fun H1 locs1 hP1 hD1 hS1 => kk H1 locs1 cells slots ls (y_upset C.2.2.2 hS hS1 hw hws hD h0 hP1 ⟨rfl, h1, h2⟩) hS1 hc hs hl)
theorem y_cast (C : yC p R s m args meth c cc nL own D s0 a0 A) {a n : Nat} {f : Nat → Int32} {i x : Int32} (hM : M a = some (yac n f)) (hin : vp_in i n) (hM' : yup M a (yac n (upd f i.toNatClampNeg (vp_nar .char x))) = M') (d : decode cc pc = .ok (.castore, 1)) (kk : Y p l e R s m args below meth c Q D s0 A nL M' rc rs lv (pc + 1) st) : Y p l e R s m args below meth c Q D s0 A nL M rc rs lv pc (yi x :: yi i :: yr (some a) :: st) := by
  intro H locs cells slots ls hw hS hc hs hl
  subst hM'
  obtain ⟨ws, hP, hD, hws⟩ := y_dn hw
  obtain ⟨q0, x9, h0, he⟩ := hws a _ hM (yA_arr hw hM (Nat.lt_of_le_of_lt (Nat.zero_le _) (Nat.not_le.mp fun q => hin (Or.inr q))))
  obtain ⟨cA, e9, h1, h2⟩ := y_inl he
  subst e9
  exact va_cast C.1.1 C.1.2.1 (y_K1 C.K h1 h2) hP hD hS q0 0 h0 rfl hin d (fun H1 locs1 hP1 hD1 hS1 => kk H1 locs1 cells slots ls (y_upset C.2.2.2 hS hS1 hw hws hD h0 hP1 ⟨rfl, h1, h2⟩) hS1 hc hs hl)
theorem y_bast (C : yC p R s m args meth c cc nL own D s0 a0 A) {a n : Nat} {f : Nat → Int32} {i x : Int32} (hM : M a = some (yab n f)) (hin : vp_in i n) (hM' : yup M a (yab n (upd f i.toNatClampNeg (vp_nar .byte x))) = M') (d : decode cc pc = .ok (.bastore, 1)) (kk : Y p l e R s m args below meth c Q D s0 A nL M' rc rs lv (pc + 1) st) : Y p l e R s m args below meth c Q D s0 A nL M rc rs lv pc (yi x :: yi i :: yr (some a) :: st) := by
  intro H locs cells slots ls hw hS hc hs hl
  subst hM'
  obtain ⟨ws, hP, hD, hws⟩ := y_dn hw
  obtain ⟨q0, x9, h0, he⟩ := hws a _ hM (yA_arr hw hM (Nat.lt_of_le_of_lt (Nat.zero_le _) (Nat.not_le.mp fun q => hin (Or.inr q))))
  obtain ⟨cA, e9, h1, h2⟩ := y_inl he
  subst e9
  exact va_bast C.1.1 C.1.2.1 (y_K1 C.K h1 h2) hP hD hS q0 0 h0 rfl hin d (fun H1 locs1 hP1 hD1 hS1 => kk H1 locs1 cells slots ls (y_upset C.2.2.2 hS hS1 hw hws hD h0 hP1 ⟨rfl, h1, h2⟩) hS1 hc hs hl)
theorem y_aald (C : yC p R s m args meth c cc nL own D s0 a0 A) {a n : Nat} {E : String} {f : Nat → Option Nat} {i : Int32} (hM : M a = some (yaq E n f)) (hin : vp_in i n) (d : decode cc pc = .ok (.aaload, 1)) (kk : Y p l e R s m args below meth c Q D s0 A nL M rc rs lv (pc + 1) (yr (f i.toNatClampNeg) :: st)) : Y p l e R s m args below meth c Q D s0 A nL M rc rs lv pc (yi i :: yr (some a) :: st) := by
  intro H locs cells slots ls hw hS hc hs hl
  obtain ⟨⟨x, hx, he⟩, -⟩ := hw a _ hM
  obtain ⟨cA, e9, h1, h2⟩ := y_inl he
  subst e9
  exact va_aldq C.1.1 C.1.2.1 (y_K1 C.K h1 h2) (ws := [(a, .inl (cA, n, .inr (.inr (.inr (.inr f)))))]) (fun k q hk => by obtain ⟨-, rfl⟩ := y_one hk; exact hx) 0 0 rfl rfl hin d (kk H locs cells slots ls hw hS hc hs hl)
/-- an object of y_cl's class ci may stand in an array of E -/
def yAsg (E : String) (ci : Nat) : Prop := ∃ r0 : vw_C, y_cl[ci]? = some r0 ∧ (r0.1 = E ∨ Cond.castable r0.1 E ∈ lw_tbl)
theorem yC.cast (C : yC p R s m args meth c cc nL own D s0 a0 A) {X Y9 : String} (hq : Cond.castable X Y9 ∈ lw_tbl) : va_Nw (.castable X Y9) s := va_Nw.warmC C.2.2.2.2.2.2.2 (va_Nw.of rfl (C.2.2.1.1 _ hq))
theorem yC.any (C : yC p R s m args meth c cc nL own D s0 a0 A) {E : String} {ci v : Nat} {vs : List yV} (h : yAsg E ci) {H : Heap} (hw : yCells D s0 A M s H) (hv : M v = some (yo ci vs)) : va_Any E s H v := by
  obtain ⟨r0, h1, h2⟩ := h
  obtain ⟨⟨x, hx, he⟩, -⟩ := hw v _ hv
  have e9 := y_inr he
  subst e9
  refine va_rAny (ws := [(v, .inr (ci, yvs vs))]) (q0 := 0) C.K (fun k q hk => by obtain ⟨-, rfl⟩ := y_one hk; exact hx) rfl h1 (fun comp c0 g1 g2 => ?_)
  rcases h2 with h2 | h2
  · have g3 := (C.K.1 ci r0 h1).2
    rw [← h2] at g1
    have e1 : comp = D.1 ci := Option.some.inj (g1.symm.trans g3.1)
    have e2 : c0 = D.1 ci := Option.some.inj (g2.symm.trans g3.1)
    rw [e1, e2]
    exact va_assign g3
  · obtain ⟨c1, t1, f1, f2, f3⟩ := Cond.castable_spec (va_Nw.use (A := args) rfl (C.cast h2))
    cases g1.symm.trans f2
    cases g2.symm.trans f1
    exact f3
theorem y_aast (C : yC p R s m args meth c cc nL own D s0 a0 A) {a n : Nat} {E : String} {f : Nat → Option Nat} {i : Int32} {r : Option Nat} (hM : M a = some (yaq E n f)) (hin : vp_in i n) (hr : ∀ v, r = some v → ∃ ci vs, M v = some (yo ci vs) ∧ yAsg E ci) (hM' : yup M a (yaq E n (va_up f i.toNatClampNeg r)) = M') (d : decode cc pc = .ok (.aastore, 1)) (kk : Y p l e R s m args below meth c Q D s0 A nL M' rc rs lv (pc + 1) st) : Y p l e R s m args below meth c Q D s0 A nL M rc rs lv pc (yr r :: yi i :: yr (some a) :: st) := by
  intro H locs cells slots ls hw hS hc hs hl
  subst hM'
  obtain ⟨ws, hP, hD, hws⟩ := y_dn hw
  obtain ⟨q0, x9, h0, he⟩ := hws a _ hM (yA_arr hw hM (Nat.lt_of_le_of_lt (Nat.zero_le _) (Nat.not_le.mp fun q => hin (Or.inr q))))
  obtain ⟨cA, e9, h1, h2⟩ := y_inl he
  subst e9
  cases r with
  | none => exact va_astqN C.1.1 C.1.2.1 (y_K1 C.K h1 h2) hP hD hS q0 0 h0 rfl hin d (fun H1 locs1 hP1 hD1 hS1 => kk H1 locs1 cells slots ls (y_upset C.2.2.2 hS hS1 hw hws hD h0 hP1 ⟨rfl, h1, h2⟩) hS1 hc hs hl)
  | some v =>
    obtain ⟨ci, vs, g1, g2⟩ := hr v rfl
    exact va_astqM C.1.1 C.1.2.1 (y_K1 C.K h1 h2) hP hD hS q0 0 h0 rfl (C.any g2 hw g1) hin d (fun H1 locs1 hP1 hD1 hS1 => kk H1 locs1 cells slots ls (y_upset C.2.2.2 hS hS1 hw hws hD h0 hP1 ⟨rfl, h1, h2⟩) hS1 hc hs hl)
theorem y_alen (C : yC p R s m args meth c cc nL own D s0 a0 A) {a : Nat} {x : FieldType × vp_A} (hM : M a = some (.inl x)) (d : decode cc pc = .ok (.arraylength, 1)) (kk : Y p l e R s m args below meth c Q D s0 A nL M rc rs lv (pc + 1) (yi (Int32.ofNat x.2.1) :: st)) : Y p l e R s m args below meth c Q D s0 A nL M rc rs lv pc (yr (some a) :: st) := by
  intro H locs cells slots ls hw hS hc hs hl
  obtain ⟨⟨x9, hx, he⟩, -⟩ := hw a _ hM
  obtain ⟨cA, e9, h1, h2⟩ := y_inl he
  subst e9
  exact va_alen C.1.1 C.1.2.1 (y_K1 C.K h1 h2) (ws := [(a, .inl (cA, x.2))]) (fun k q hk => by obtain ⟨-, rfl⟩ := y_one hk; exact hx) 0 0 rfl rfl rfl d (kk H locs cells slots ls hw hS hc hs hl)
theorem y_new (C : yC p R s m args meth c cc nL own D s0 a0 A) {ci N index : Nat} {C0 : String} {T : u_T} (hin : ∀ w ∈ u_ws C0 T N, w ∈ lw_all) {ty0 : Nat → FieldType} (hty : ∀ k, k < N → parseFieldDescriptor (T k).2.2.1 = some (ty0 k)) (hcl : y_cl[ci]? = some (C0, T, N)) (h1 : Cond.classLink own index C0 ∈ lw_all) (h2 : Cond.instantiable C0 N ∈ lw_all) (h3 : Cond.initialized C0 ∈ lw_all) (fs : List yV) (hfs : ∀ j, j < N → defaultValue (ty0 j) = vp_V (yvs fs) j) (hrc : 1 ≤ rc) (hrs : N ≤ rs) (d : decode cc pc = .ok (.new index, 3)) (kk : ∀ q : Nat, M q = none → Y p l e R s m args below meth c Q D s0 A nL (yup M q (yo ci fs)) (rc - 1) (rs - N) lv (pc + 3) (yr (some q) :: st)) : Y p l e R s m args below meth c Q D s0 A nL M rc rs lv pc st := by
  intro H locs cells slots ls hw hS hc hs hl
  obtain ⟨ws, hP, hD, hws⟩ := y_dn hw
  refine va_new C.1.1 C.1.2.1 C.hts hin ty0 hty C.ow (C.hts _ h1) (C.hts _ h2) (C.hts _ h3) C.K hP hD hS C.top hcl hfs (by omega) (by omega) d (fun q H1 hP1 hD1 hS1 => ?_)
  obtain ⟨g1, g2⟩ := y_uppush C.2.2.2 hS hS1 hw hws hD1 hP1 (e := yo ci fs) ⟨rfl, rfl⟩
  exact kk q g2 H1 locs (cells + 1) (slots + N) ls g1 hS1 (by omega) (by omega) hl
theorem y_newai (C : yC p R s m args meth c cc nL own D s0 a0 A) {n : Int32} (hq : Cond.arrayClass .int ∈ lw_all) (hn : ¬ n < 0) (h9 : n.toNatClampNeg ≤ 65536) (hrc : 1 ≤ rc) (hrs : n.toNatClampNeg ≤ rs) (d : decode cc pc = .ok (.newarray .int, 2)) (kk : ∀ q : Nat, M q = none → Y p l e R s m args below meth c Q D s0 A nL (yup M q (yai n.toNatClampNeg (fun _ => 0))) (rc - 1) (rs - n.toNatClampNeg) lv (pc + 2) (yr (some q) :: st)) : Y p l e R s m args below meth c Q D s0 A nL M rc rs lv pc (yi n :: st) := by
  intro H locs cells slots ls hw hS hc hs hl
  obtain ⟨ws, hP, hD, hws⟩ := y_dn hw
  refine va_newa (atype := .int) (ty := .int) (a0 := (n.toNatClampNeg, .inl (fun _ => 0))) C.1.1 C.1.2.1 (C.hts _ hq) rfl C.K hP hD hS C.top (fun cA => rfl) hn rfl (Nat.le_trans (Nat.mul_le_mul h9 (show componentBytes .int ≤ 8 by decide)) (Nat.le_of_ble_eq_true rfl)) (by omega) (by omega) d (fun q cA H1 hK1 hP1 hD1 hS1 => ?_)
  have hq9 := hK1.2 0 (cA, .int) rfl
  obtain ⟨g1, g2⟩ := y_uppush C.2.2.2 hS hS1 hw hws hD1 hP1 (e := yai n.toNatClampNeg (fun _ => 0)) ⟨rfl, hq9⟩
  exact kk q g2 H1 locs (cells + 1) (slots + n.toNatClampNeg) ls g1 hS1 (by omega) (by omega) hl
theorem y_newaz (C : yC p R s m args meth c cc nL own D s0 a0 A) {n : Int32} (hq : Cond.arrayClass .boolean ∈ lw_all) (hn : ¬ n < 0) (h9 : n.toNatClampNeg ≤ 65536) (hrc : 1 ≤ rc) (hrs : n.toNatClampNeg ≤ rs) (d : decode cc pc = .ok (.newarray .boolean, 2)) (kk : ∀ q : Nat, M q = none → Y p l e R s m args below meth c Q D s0 A nL (yup M q (yaz n.toNatClampNeg (fun _ => 0))) (rc - 1) (rs - n.toNatClampNeg) lv (pc + 2) (yr (some q) :: st)) : Y p l e R s m args below meth c Q D s0 A nL M rc rs lv pc (yi n :: st) := by
  intro H locs cells slots ls hw hS hc hs hl
  obtain ⟨ws, hP, hD, hws⟩ := y_dn hw
  refine va_newa (atype := .boolean) (ty := .boolean) (a0 := (n.toNatClampNeg, .inl (fun _ => 0))) C.1.1 C.1.2.1 (C.hts _ hq) rfl C.K hP hD hS C.top (fun cA => rfl) hn rfl (Nat.le_trans (Nat.mul_le_mul h9 (show componentBytes .boolean ≤ 8 by decide)) (Nat.le_of_ble_eq_true rfl)) (by omega) (by omega) d (fun q cA H1 hK1 hP1 hD1 hS1 => ?_)
  have hq9 := hK1.2 0 (cA, .boolean) rfl
  obtain ⟨g1, g2⟩ := y_uppush C.2.2.2 hS hS1 hw hws hD1 hP1 (e := yaz n.toNatClampNeg (fun _ => 0)) ⟨rfl, hq9⟩
  exact kk q g2 H1 locs (cells + 1) (slots + n.toNatClampNeg) ls g1 hS1 (by omega) (by omega) hl
theorem y_newac (C : yC p R s m args meth c cc nL own D s0 a0 A) {n : Int32} (hq : Cond.arrayClass .char ∈ lw_all) (hn : ¬ n < 0) (h9 : n.toNatClampNeg ≤ 65536) (hrc : 1 ≤ rc) (hrs : n.toNatClampNeg ≤ rs) (d : decode cc pc = .ok (.newarray .char, 2)) (kk : ∀ q : Nat, M q = none → Y p l e R s m args below meth c Q D s0 A nL (yup M q (yac n.toNatClampNeg (fun _ => 0))) (rc - 1) (rs - n.toNatClampNeg) lv (pc + 2) (yr (some q) :: st)) : Y p l e R s m args below meth c Q D s0 A nL M rc rs lv pc (yi n :: st) := by
  intro H locs cells slots ls hw hS hc hs hl
  obtain ⟨ws, hP, hD, hws⟩ := y_dn hw
  refine va_newa (atype := .char) (ty := .char) (a0 := (n.toNatClampNeg, .inl (fun _ => 0))) C.1.1 C.1.2.1 (C.hts _ hq) rfl C.K hP hD hS C.top (fun cA => rfl) hn rfl (Nat.le_trans (Nat.mul_le_mul h9 (show componentBytes .char ≤ 8 by decide)) (Nat.le_of_ble_eq_true rfl)) (by omega) (by omega) d (fun q cA H1 hK1 hP1 hD1 hS1 => ?_)
  have hq9 := hK1.2 0 (cA, .char) rfl
  obtain ⟨g1, g2⟩ := y_uppush C.2.2.2 hS hS1 hw hws hD1 hP1 (e := yac n.toNatClampNeg (fun _ => 0)) ⟨rfl, hq9⟩
  exact kk q g2 H1 locs (cells + 1) (slots + n.toNatClampNeg) ls g1 hS1 (by omega) (by omega) hl
theorem y_newab (C : yC p R s m args meth c cc nL own D s0 a0 A) {n : Int32} (hq : Cond.arrayClass .byte ∈ lw_all) (hn : ¬ n < 0) (h9 : n.toNatClampNeg ≤ 65536) (hrc : 1 ≤ rc) (hrs : n.toNatClampNeg ≤ rs) (d : decode cc pc = .ok (.newarray .byte, 2)) (kk : ∀ q : Nat, M q = none → Y p l e R s m args below meth c Q D s0 A nL (yup M q (yab n.toNatClampNeg (fun _ => 0))) (rc - 1) (rs - n.toNatClampNeg) lv (pc + 2) (yr (some q) :: st)) : Y p l e R s m args below meth c Q D s0 A nL M rc rs lv pc (yi n :: st) := by
  intro H locs cells slots ls hw hS hc hs hl
  obtain ⟨ws, hP, hD, hws⟩ := y_dn hw
  refine va_newa (atype := .byte) (ty := .byte) (a0 := (n.toNatClampNeg, .inl (fun _ => 0))) C.1.1 C.1.2.1 (C.hts _ hq) rfl C.K hP hD hS C.top (fun cA => rfl) hn rfl (Nat.le_trans (Nat.mul_le_mul h9 (show componentBytes .byte ≤ 8 by decide)) (Nat.le_of_ble_eq_true rfl)) (by omega) (by omega) d (fun q cA H1 hK1 hP1 hD1 hS1 => ?_)
  have hq9 := hK1.2 0 (cA, .byte) rfl
  obtain ⟨g1, g2⟩ := y_uppush C.2.2.2 hS hS1 hw hws hD1 hP1 (e := yab n.toNatClampNeg (fun _ => 0)) ⟨rfl, hq9⟩
  exact kk q g2 H1 locs (cells + 1) (slots + n.toNatClampNeg) ls g1 hS1 (by omega) (by omega) hl
theorem y_anew (C : yC p R s m args meth c cc nL own D s0 a0 A) {n : Int32} {E : String} {index : Nat} (h1 : Cond.classLink own index E ∈ lw_all) (hq : Cond.arrayOver (.object E) ∈ lw_tbl) (hn : ¬ n < 0) (h9 : n.toNatClampNeg ≤ 65536) (hrc : 1 ≤ rc) (hrs : n.toNatClampNeg ≤ rs) (d : decode cc pc = .ok (.anewarray index, 3)) (kk : ∀ q : Nat, M q = none → Y p l e R s m args below meth c Q D s0 A nL (yup M q (yaq E n.toNatClampNeg (fun _ => none))) (rc - 1) (rs - n.toNatClampNeg) lv (pc + 3) (yr (some q) :: st)) : Y p l e R s m args below meth c Q D s0 A nL M rc rs lv pc (yi n :: st) := by
  intro H locs cells slots ls hw hS hc hs hl
  obtain ⟨ws, hP, hD, hws⟩ := y_dn hw
  refine va_newq C.1.1 C.1.2.1 C.ow (C.hts _ h1) (va_AO.moved C.2.2.2.2.2.2.2.alike (va_AO.of (C.2.2.1.1 _ hq))) C.K hP hD hS C.top hn rfl (Nat.le_trans (Nat.mul_le_mul h9 (Nat.le_refl 4)) (Nat.le_of_ble_eq_true rfl)) (by omega) (by omega) d (fun q cA H1 hK1 hP1 hD1 hS1 => ?_)
  have hq9 := hK1.2 0 (cA, .object E) rfl
  obtain ⟨g1, g2⟩ := y_uppush C.2.2.2 hS hS1 hw hws hD1 hP1 (e := yaq E n.toNatClampNeg (fun _ => none)) ⟨rfl, hq9⟩
  exact kk q g2 H1 locs (cells + 1) (slots + n.toNatClampNeg) ls g1 hS1 (by omega) (by omega) hl
theorem y_callVi (C : yC p R s m args meth c cc nL own D s0 a0 A) {y : MethodName} {bytes : ByteArray} {mL fr lo mc ms index n : Nat} {ret : Option FieldType} {ws : List Cond} {As rest : List yV} {b ci N : Nat} {C0 : String} {T : u_T} {fs : List yV} {post : Int32 → yM → Prop} (hM : yMi l y ws fr lo mc ms D s0 (yr (some b) :: As) M post) (cw : CallW R s args own C0 index y bytes mL ret ws { frames := fr, cells := mc, slots := ms, locals := lo } mc ms n) (hr : M b = some (yo ci fs)) (hcl : y_cl[ci]? = some (C0, T, N)) (hn : As.length = n) (hst : st = As.reverse ++ yr (some b) :: rest) (hcat : (rest.map ycat).sum ≤ 8) (d : decode cc pc = .ok (.invokevirtual index, 3)) (h1 : mc ≤ rc) (h2 : ms ≤ rs) (kk : ∀ (r : Int32) (M1 : yM), post r M1 → Y p l e R s m args below meth c Q D s0 A nL M1 (rc - mc) (rs - ms) lv (pc + 3) (yi r :: rest)) : Y p l e R s m args below meth c Q D s0 A nL M rc rs lv pc st := by
  intro H locs cells slots ls hw hS hc hs hl
  subst hst
  refine va_calli (va_runV (As := yvs As) (rest := yvs rest) C.1 (hM A) cw ⟨y_blind, y_recv C hw hr hcl, fun U hU hW => ⟨rfl, y_pre C hw hS hU hW⟩⟩ rfl (by rw [yvs_len]; exact hn) hl.1 ?_ (lv_room (by rw [ycat_sum]; exact hcat)) d ⟨by omega, by omega⟩) hS (fun q _ h => h) (fun q h => h) (fun r u t H1 locs1 ht hvm hp hB hz hk hS1 => kk r u hp H1 locs1 (cells + mc) (slots + ms) ls (by rw [ht] at hB; exact hB.moved hvm.symm) hS1 (by omega) (by omega) hl)
  show yvs _ = (yvs As).reverse ++ .ref b :: yvs rest
  first | (rw [yvs_app, yvs_rev]; done) | (rw [yvs_app, yvs_rev]; rfl)
theorem y_callSi (C : yC p R s m args meth c cc nL own D s0 a0 A) {y : MethodName} {bytes : ByteArray} {mL fr lo mc ms index n : Nat} {ret : Option FieldType} {ws : List Cond} {As rest : List yV} {post : Int32 → yM → Prop} (hM : yMi l y ws fr lo mc ms D s0 As M post) (cw : CallB R s args own index y bytes mL ret ws { frames := fr, cells := mc, slots := ms, locals := lo } mc ms n ∧ (Cond.static y).before args s = true) (hn : As.length = n) (hst : st = As.reverse ++ rest) (hcat : (rest.map ycat).sum ≤ 8) (d : decode cc pc = .ok (.invokestatic index, 3)) (h1 : mc ≤ rc) (h2 : ms ≤ rs) (kk : ∀ (r : Int32) (M1 : yM), post r M1 → Y p l e R s m args below meth c Q D s0 A nL M1 (rc - mc) (rs - ms) lv (pc + 3) (yi r :: rest)) : Y p l e R s m args below meth c Q D s0 A nL M rc rs lv pc st := by
  intro H locs cells slots ls hw hS hc hs hl
  subst hst
  refine va_calli (va_runS (As := yvs As) (rest := yvs rest) C.1 (hM A) cw ⟨y_blind, fun U hU hW => ⟨rfl, y_pre C hw hS hU hW⟩⟩ rfl (by rw [yvs_len]; exact hn) hl.1 ?_ (lv_room (by rw [ycat_sum]; exact hcat)) d ⟨by omega, by omega⟩) hS (fun q _ h => h) (fun q h => h) (fun r u t H1 locs1 ht hvm hp hB hz hk hS1 => kk r u hp H1 locs1 (cells + mc) (slots + ms) ls (by rw [ht] at hB; exact hB.moved hvm.symm) hS1 (by omega) (by omega) hl)
  show yvs _ = (yvs As).reverse ++ yvs rest
  first | (rw [yvs_app, yvs_rev]; done) | (rw [yvs_app, yvs_rev]; rfl)
theorem y_callVl (C : yC p R s m args meth c cc nL own D s0 a0 A) {y : MethodName} {bytes : ByteArray} {mL fr lo mc ms index n : Nat} {ret : Option FieldType} {ws : List Cond} {As rest : List yV} {b ci N : Nat} {C0 : String} {T : u_T} {fs : List yV} {post : Int64 → yM → Prop} (hM : yMl l y ws fr lo mc ms D s0 (yr (some b) :: As) M post) (cw : CallW R s args own C0 index y bytes mL ret ws { frames := fr, cells := mc, slots := ms, locals := lo } mc ms n) (hr : M b = some (yo ci fs)) (hcl : y_cl[ci]? = some (C0, T, N)) (hn : As.length = n) (hst : st = As.reverse ++ yr (some b) :: rest) (hcat : (rest.map ycat).sum ≤ 8) (d : decode cc pc = .ok (.invokevirtual index, 3)) (h1 : mc ≤ rc) (h2 : ms ≤ rs) (kk : ∀ (r : Int64) (M1 : yM), post r M1 → Y p l e R s m args below meth c Q D s0 A nL M1 (rc - mc) (rs - ms) lv (pc + 3) (yl r :: rest)) : Y p l e R s m args below meth c Q D s0 A nL M rc rs lv pc st := by
  intro H locs cells slots ls hw hS hc hs hl
  subst hst
  refine va_calll (va_runV (As := yvs As) (rest := yvs rest) C.1 (hM A) cw ⟨y_blind, y_recv C hw hr hcl, fun U hU hW => ⟨rfl, y_pre C hw hS hU hW⟩⟩ rfl (by rw [yvs_len]; exact hn) hl.1 ?_ (lv_room (by rw [ycat_sum]; exact hcat)) d ⟨by omega, by omega⟩) hS (fun q _ h => h) (fun q h => h) (fun r u t H1 locs1 ht hvm hp hB hz hk hS1 => kk r u hp H1 locs1 (cells + mc) (slots + ms) ls (by rw [ht] at hB; exact hB.moved hvm.symm) hS1 (by omega) (by omega) hl)
  show yvs _ = (yvs As).reverse ++ .ref b :: yvs rest
  first | (rw [yvs_app, yvs_rev]; done) | (rw [yvs_app, yvs_rev]; rfl)
theorem y_callSl (C : yC p R s m args meth c cc nL own D s0 a0 A) {y : MethodName} {bytes : ByteArray} {mL fr lo mc ms index n : Nat} {ret : Option FieldType} {ws : List Cond} {As rest : List yV} {post : Int64 → yM → Prop} (hM : yMl l y ws fr lo mc ms D s0 As M post) (cw : CallB R s args own index y bytes mL ret ws { frames := fr, cells := mc, slots := ms, locals := lo } mc ms n ∧ (Cond.static y).before args s = true) (hn : As.length = n) (hst : st = As.reverse ++ rest) (hcat : (rest.map ycat).sum ≤ 8) (d : decode cc pc = .ok (.invokestatic index, 3)) (h1 : mc ≤ rc) (h2 : ms ≤ rs) (kk : ∀ (r : Int64) (M1 : yM), post r M1 → Y p l e R s m args below meth c Q D s0 A nL M1 (rc - mc) (rs - ms) lv (pc + 3) (yl r :: rest)) : Y p l e R s m args below meth c Q D s0 A nL M rc rs lv pc st := by
  intro H locs cells slots ls hw hS hc hs hl
  subst hst
  refine va_calll (va_runS (As := yvs As) (rest := yvs rest) C.1 (hM A) cw ⟨y_blind, fun U hU hW => ⟨rfl, y_pre C hw hS hU hW⟩⟩ rfl (by rw [yvs_len]; exact hn) hl.1 ?_ (lv_room (by rw [ycat_sum]; exact hcat)) d ⟨by omega, by omega⟩) hS (fun q _ h => h) (fun q h => h) (fun r u t H1 locs1 ht hvm hp hB hz hk hS1 => kk r u hp H1 locs1 (cells + mc) (slots + ms) ls (by rw [ht] at hB; exact hB.moved hvm.symm) hS1 (by omega) (by omega) hl)
  show yvs _ = (yvs As).reverse ++ yvs rest
  first | (rw [yvs_app, yvs_rev]; done) | (rw [yvs_app, yvs_rev]; rfl)
theorem y_callVv (C : yC p R s m args meth c cc nL own D s0 a0 A) {y : MethodName} {bytes : ByteArray} {mL fr lo mc ms index n : Nat} {ret : Option FieldType} {ws : List Cond} {As rest : List yV} {b ci N : Nat} {C0 : String} {T : u_T} {fs : List yV} {post : yM → Prop} (hM : yMv l y ws fr lo mc ms D s0 (yr (some b) :: As) M post) (cw : CallW R s args own C0 index y bytes mL ret ws { frames := fr, cells := mc, slots := ms, locals := lo } mc ms n) (hr : M b = some (yo ci fs)) (hcl : y_cl[ci]? = some (C0, T, N)) (hn : As.length = n) (hst : st = As.reverse ++ yr (some b) :: rest) (hcat : (rest.map ycat).sum ≤ 8) (d : decode cc pc = .ok (.invokevirtual index, 3)) (h1 : mc ≤ rc) (h2 : ms ≤ rs) (kk : ∀ M1 : yM, post M1 → Y p l e R s m args below meth c Q D s0 A nL M1 (rc - mc) (rs - ms) lv (pc + 3) rest) : Y p l e R s m args below meth c Q D s0 A nL M rc rs lv pc st := by
  intro H locs cells slots ls hw hS hc hs hl
  subst hst
  refine va_callv (va_runV (As := yvs As) (rest := yvs rest) C.1 (hM A) cw ⟨y_blind, y_recv C hw hr hcl, fun U hU hW => ⟨rfl, y_pre C hw hS hU hW⟩⟩ rfl (by rw [yvs_len]; exact hn) hl.1 ?_ (lv_room (by rw [ycat_sum]; exact hcat)) d ⟨by omega, by omega⟩) hS (fun q _ h => h) (fun q h => h) (fun u t H1 locs1 ht hvm hp hB hz hk hS1 => kk u hp H1 locs1 (cells + mc) (slots + ms) ls (by rw [ht] at hB; exact hB.moved hvm.symm) hS1 (by omega) (by omega) hl)
  show yvs _ = (yvs As).reverse ++ .ref b :: yvs rest
  first | (rw [yvs_app, yvs_rev]; done) | (rw [yvs_app, yvs_rev]; rfl)
theorem y_callSv (C : yC p R s m args meth c cc nL own D s0 a0 A) {y : MethodName} {bytes : ByteArray} {mL fr lo mc ms index n : Nat} {ret : Option FieldType} {ws : List Cond} {As rest : List yV} {post : yM → Prop} (hM : yMv l y ws fr lo mc ms D s0 As M post) (cw : CallB R s args own index y bytes mL ret ws { frames := fr, cells := mc, slots := ms, locals := lo } mc ms n ∧ (Cond.static y).before args s = true) (hn : As.length = n) (hst : st = As.reverse ++ rest) (hcat : (rest.map ycat).sum ≤ 8) (d : decode cc pc = .ok (.invokestatic index, 3)) (h1 : mc ≤ rc) (h2 : ms ≤ rs) (kk : ∀ M1 : yM, post M1 → Y p l e R s m args below meth c Q D s0 A nL M1 (rc - mc) (rs - ms) lv (pc + 3) rest) : Y p l e R s m args below meth c Q D s0 A nL M rc rs lv pc st := by
  intro H locs cells slots ls hw hS hc hs hl
  subst hst
  refine va_callv (va_runS (As := yvs As) (rest := yvs rest) C.1 (hM A) cw ⟨y_blind, fun U hU hW => ⟨rfl, y_pre C hw hS hU hW⟩⟩ rfl (by rw [yvs_len]; exact hn) hl.1 ?_ (lv_room (by rw [ycat_sum]; exact hcat)) d ⟨by omega, by omega⟩) hS (fun q _ h => h) (fun q h => h) (fun u t H1 locs1 ht hvm hp hB hz hk hS1 => kk u hp H1 locs1 (cells + mc) (slots + ms) ls (by rw [ht] at hB; exact hB.moved hvm.symm) hS1 (by omega) (by omega) hl)
  show yvs _ = (yvs As).reverse ++ yvs rest
  first | (rw [yvs_app, yvs_rev]; done) | (rw [yvs_app, yvs_rev]; rfl)
theorem y_callVq (C : yC p R s m args meth c cc nL own D s0 a0 A) {y : MethodName} {bytes : ByteArray} {mL fr lo mc ms index n : Nat} {ret : Option FieldType} {ws : List Cond} {As rest : List yV} {b ci N : Nat} {C0 : String} {T : u_T} {fs : List yV} {post : Option Nat → yM → Prop} (hM : yMq l y ws fr lo mc ms D s0 (yr (some b) :: As) M post) (cw : CallW R s args own C0 index y bytes mL ret ws { frames := fr, cells := mc, slots := ms, locals := lo } mc ms n) (hr : M b = some (yo ci fs)) (hcl : y_cl[ci]? = some (C0, T, N)) (hn : As.length = n) (hst : st = As.reverse ++ yr (some b) :: rest) (hcat : (rest.map ycat).sum ≤ 8) (d : decode cc pc = .ok (.invokevirtual index, 3)) (h1 : mc ≤ rc) (h2 : ms ≤ rs) (kk : ∀ (r : Option Nat) (M1 : yM), post r M1 → Y p l e R s m args below meth c Q D s0 A nL M1 (rc - mc) (rs - ms) lv (pc + 3) (yr r :: rest)) : Y p l e R s m args below meth c Q D s0 A nL M rc rs lv pc st := by
  intro H locs cells slots ls hw hS hc hs hl
  subst hst
  refine va_callq (va_runV (As := yvs As) (rest := yvs rest) C.1 (hM A) cw ⟨y_blind, y_recv C hw hr hcl, fun U hU hW => ⟨rfl, y_pre C hw hS hU hW⟩⟩ rfl (by rw [yvs_len]; exact hn) hl.1 ?_ (lv_room (by rw [ycat_sum]; exact hcat)) d ⟨by omega, by omega⟩) hS (fun q _ h => h) (fun q h => h) (fun r u t H1 locs1 ht hvm hp hB hz hk hS1 => kk r u hp H1 locs1 (cells + mc) (slots + ms) ls (by rw [ht] at hB; exact hB.moved hvm.symm) hS1 (by omega) (by omega) hl)
  show yvs _ = (yvs As).reverse ++ .ref b :: yvs rest
  first | (rw [yvs_app, yvs_rev]; done) | (rw [yvs_app, yvs_rev]; rfl)
theorem y_callSq (C : yC p R s m args meth c cc nL own D s0 a0 A) {y : MethodName} {bytes : ByteArray} {mL fr lo mc ms index n : Nat} {ret : Option FieldType} {ws : List Cond} {As rest : List yV} {post : Option Nat → yM → Prop} (hM : yMq l y ws fr lo mc ms D s0 As M post) (cw : CallB R s args own index y bytes mL ret ws { frames := fr, cells := mc, slots := ms, locals := lo } mc ms n ∧ (Cond.static y).before args s = true) (hn : As.length = n) (hst : st = As.reverse ++ rest) (hcat : (rest.map ycat).sum ≤ 8) (d : decode cc pc = .ok (.invokestatic index, 3)) (h1 : mc ≤ rc) (h2 : ms ≤ rs) (kk : ∀ (r : Option Nat) (M1 : yM), post r M1 → Y p l e R s m args below meth c Q D s0 A nL M1 (rc - mc) (rs - ms) lv (pc + 3) (yr r :: rest)) : Y p l e R s m args below meth c Q D s0 A nL M rc rs lv pc st := by
  intro H locs cells slots ls hw hS hc hs hl
  subst hst
  refine va_callq (va_runS (As := yvs As) (rest := yvs rest) C.1 (hM A) cw ⟨y_blind, fun U hU hW => ⟨rfl, y_pre C hw hS hU hW⟩⟩ rfl (by rw [yvs_len]; exact hn) hl.1 ?_ (lv_room (by rw [ycat_sum]; exact hcat)) d ⟨by omega, by omega⟩) hS (fun q _ h => h) (fun q h => h) (fun r u t H1 locs1 ht hvm hp hB hz hk hS1 => kk r u hp H1 locs1 (cells + mc) (slots + ms) ls (by rw [ht] at hB; exact hB.moved hvm.symm) hS1 (by omega) (by omega) hl)
  show yvs _ = (yvs As).reverse ++ yvs rest
  first | (rw [yvs_app, yvs_rev]; done) | (rw [yvs_app, yvs_rev]; rfl)
theorem y_callIv (C : yC p R s m args meth c cc nL own D s0 a0 A) {y : MethodName} {bytes : ByteArray} {mL fr lo mc ms index n : Nat} {ws : List Cond} {As rest : List yV} {b : Nat} {post : yM → Prop} (hM : yMv l y ws fr lo mc ms D s0 (yr (some b) :: As) M post) (cw : CallB R s args own index y bytes mL none ws { frames := fr, cells := mc, slots := ms, locals := lo } mc ms n ∧ y.name = "<init>" ∧ (Cond.instanceMethod y).before args s = true) (hn : As.length = n) (hst : st = As.reverse ++ yr (some b) :: rest) (hcat : (rest.map ycat).sum ≤ 8) (d : decode cc pc = .ok (.invokespecial index, 3)) (h1 : mc ≤ rc) (h2 : ms ≤ rs) (kk : ∀ M1 : yM, post M1 → Y p l e R s m args below meth c Q D s0 A nL M1 (rc - mc) (rs - ms) lv (pc + 3) rest) : Y p l e R s m args below meth c Q D s0 A nL M rc rs lv pc st := by
  intro H locs cells slots ls hw hS hc hs hl
  subst hst
  refine va_callv (va_runI (As := yvs As) (rest := yvs rest) C.1 (hM A) cw ⟨y_blind, fun U hU hW => ⟨rfl, y_pre C hw hS hU hW⟩⟩ rfl (by rw [yvs_len]; exact hn) hl.1 ?_ (lv_room (by rw [ycat_sum]; exact hcat)) d ⟨by omega, by omega⟩) hS (fun q _ h => h) (fun q h => h) (fun u t H1 locs1 ht hvm hp hB hz hk hS1 => kk u hp H1 locs1 (cells + mc) (slots + ms) ls (by rw [ht] at hB; exact hB.moved hvm.symm) hS1 (by omega) (by omega) hl)
  show yvs _ = (yvs As).reverse ++ .ref b :: yvs rest
  first | (rw [yvs_app, yvs_rev]; done) | (rw [yvs_app, yvs_rev]; rfl)
theorem y_callVi0 (C : yC p R s m args meth c cc nL own D s0 a0 A) {y : MethodName} {bytes : ByteArray} {mL fr lo index n : Nat} {ret : Option FieldType} {ws : List Cond} {As rest : List yV} {b ci N : Nat} {C0 : String} {T : u_T} {fs : List yV} {post : Int32 → yM → Prop} (hM : yMi l y ws fr lo 0 0 D s0 (yr (some b) :: As) M post) (cw : CallW R s args own C0 index y bytes mL ret ws { frames := fr, cells := 0, slots := 0, locals := lo } 0 0 n) (hr : M b = some (yo ci fs)) (hcl : y_cl[ci]? = some (C0, T, N)) (hn : As.length = n) (hst : st = As.reverse ++ yr (some b) :: rest) (hcat : (rest.map ycat).sum ≤ 8) (d : decode cc pc = .ok (.invokevirtual index, 3)) (kk : ∀ (r : Int32) (M1 : yM), post r M1 → Y p l e R s m args below meth c Q D s0 A nL M1 rc rs lv (pc + 3) (yi r :: rest)) : Y p l e R s m args below meth c Q D s0 A nL M rc rs lv pc st := by
  intro H locs cells slots ls hw hS hc hs hl
  subst hst
  refine va_calli (va_runV (As := yvs As) (rest := yvs rest) C.1 (hM A) cw ⟨y_blind, y_recv C hw hr hcl, fun U hU hW => ⟨rfl, y_pre C hw hS hU hW⟩⟩ rfl (by rw [yvs_len]; exact hn) hl.1 ?_ (lv_room (by rw [ycat_sum]; exact hcat)) d ⟨by omega, by omega⟩) hS (fun q _ h => h) (fun q h => h) (fun r u t H1 locs1 ht hvm hp hB hz hk hS1 => kk r u hp H1 locs1 (cells + 0) (slots + 0) ls (by rw [ht] at hB; exact hB.moved hvm.symm) hS1 (by omega) (by omega) hl)
  show yvs _ = (yvs As).reverse ++ .ref b :: yvs rest
  first | (rw [yvs_app, yvs_rev]; done) | (rw [yvs_app, yvs_rev]; rfl)
theorem y_callSi0 (C : yC p R s m args meth c cc nL own D s0 a0 A) {y : MethodName} {bytes : ByteArray} {mL fr lo index n : Nat} {ret : Option FieldType} {ws : List Cond} {As rest : List yV} {post : Int32 → yM → Prop} (hM : yMi l y ws fr lo 0 0 D s0 As M post) (cw : CallB R s args own index y bytes mL ret ws { frames := fr, cells := 0, slots := 0, locals := lo } 0 0 n ∧ (Cond.static y).before args s = true) (hn : As.length = n) (hst : st = As.reverse ++ rest) (hcat : (rest.map ycat).sum ≤ 8) (d : decode cc pc = .ok (.invokestatic index, 3)) (kk : ∀ (r : Int32) (M1 : yM), post r M1 → Y p l e R s m args below meth c Q D s0 A nL M1 rc rs lv (pc + 3) (yi r :: rest)) : Y p l e R s m args below meth c Q D s0 A nL M rc rs lv pc st := by
  intro H locs cells slots ls hw hS hc hs hl
  subst hst
  refine va_calli (va_runS (As := yvs As) (rest := yvs rest) C.1 (hM A) cw ⟨y_blind, fun U hU hW => ⟨rfl, y_pre C hw hS hU hW⟩⟩ rfl (by rw [yvs_len]; exact hn) hl.1 ?_ (lv_room (by rw [ycat_sum]; exact hcat)) d ⟨by omega, by omega⟩) hS (fun q _ h => h) (fun q h => h) (fun r u t H1 locs1 ht hvm hp hB hz hk hS1 => kk r u hp H1 locs1 (cells + 0) (slots + 0) ls (by rw [ht] at hB; exact hB.moved hvm.symm) hS1 (by omega) (by omega) hl)
  show yvs _ = (yvs As).reverse ++ yvs rest
  first | (rw [yvs_app, yvs_rev]; done) | (rw [yvs_app, yvs_rev]; rfl)
theorem y_callVl0 (C : yC p R s m args meth c cc nL own D s0 a0 A) {y : MethodName} {bytes : ByteArray} {mL fr lo index n : Nat} {ret : Option FieldType} {ws : List Cond} {As rest : List yV} {b ci N : Nat} {C0 : String} {T : u_T} {fs : List yV} {post : Int64 → yM → Prop} (hM : yMl l y ws fr lo 0 0 D s0 (yr (some b) :: As) M post) (cw : CallW R s args own C0 index y bytes mL ret ws { frames := fr, cells := 0, slots := 0, locals := lo } 0 0 n) (hr : M b = some (yo ci fs)) (hcl : y_cl[ci]? = some (C0, T, N)) (hn : As.length = n) (hst : st = As.reverse ++ yr (some b) :: rest) (hcat : (rest.map ycat).sum ≤ 8) (d : decode cc pc = .ok (.invokevirtual index, 3)) (kk : ∀ (r : Int64) (M1 : yM), post r M1 → Y p l e R s m args below meth c Q D s0 A nL M1 rc rs lv (pc + 3) (yl r :: rest)) : Y p l e R s m args below meth c Q D s0 A nL M rc rs lv pc st := by
  intro H locs cells slots ls hw hS hc hs hl
  subst hst
  refine va_calll (va_runV (As := yvs As) (rest := yvs rest) C.1 (hM A) cw ⟨y_blind, y_recv C hw hr hcl, fun U hU hW => ⟨rfl, y_pre C hw hS hU hW⟩⟩ rfl (by rw [yvs_len]; exact hn) hl.1 ?_ (lv_room (by rw [ycat_sum]; exact hcat)) d ⟨by omega, by omega⟩) hS (fun q _ h => h) (fun q h => h) (fun r u t H1 locs1 ht hvm hp hB hz hk hS1 => kk r u hp H1 locs1 (cells + 0) (slots + 0) ls (by rw [ht] at hB; exact hB.moved hvm.symm) hS1 (by omega) (by omega) hl)
  show yvs _ = (yvs As).reverse ++ .ref b :: yvs rest
  first | (rw [yvs_app, yvs_rev]; done) | (rw [yvs_app, yvs_rev]; rfl)
theorem y_callSl0 (C : yC p R s m args meth c cc nL own D s0 a0 A) {y : MethodName} {bytes : ByteArray} {mL fr lo index n : Nat} {ret : Option FieldType} {ws : List Cond} {As rest : List yV} {post : Int64 → yM → Prop} (hM : yMl l y ws fr lo 0 0 D s0 As M post) (cw : CallB R s args own index y bytes mL ret ws { frames := fr, cells := 0, slots := 0, locals := lo } 0 0 n ∧ (Cond.static y).before args s = true) (hn : As.length = n) (hst : st = As.reverse ++ rest) (hcat : (rest.map ycat).sum ≤ 8) (d : decode cc pc = .ok (.invokestatic index, 3)) (kk : ∀ (r : Int64) (M1 : yM), post r M1 → Y p l e R s m args below meth c Q D s0 A nL M1 rc rs lv (pc + 3) (yl r :: rest)) : Y p l e R s m args below meth c Q D s0 A nL M rc rs lv pc st := by
  intro H locs cells slots ls hw hS hc hs hl
  subst hst
  refine va_calll (va_runS (As := yvs As) (rest := yvs rest) C.1 (hM A) cw ⟨y_blind, fun U hU hW => ⟨rfl, y_pre C hw hS hU hW⟩⟩ rfl (by rw [yvs_len]; exact hn) hl.1 ?_ (lv_room (by rw [ycat_sum]; exact hcat)) d ⟨by omega, by omega⟩) hS (fun q _ h => h) (fun q h => h) (fun r u t H1 locs1 ht hvm hp hB hz hk hS1 => kk r u hp H1 locs1 (cells + 0) (slots + 0) ls (by rw [ht] at hB; exact hB.moved hvm.symm) hS1 (by omega) (by omega) hl)
  show yvs _ = (yvs As).reverse ++ yvs rest
  first | (rw [yvs_app, yvs_rev]; done) | (rw [yvs_app, yvs_rev]; rfl)
theorem y_callVv0 (C : yC p R s m args meth c cc nL own D s0 a0 A) {y : MethodName} {bytes : ByteArray} {mL fr lo index n : Nat} {ret : Option FieldType} {ws : List Cond} {As rest : List yV} {b ci N : Nat} {C0 : String} {T : u_T} {fs : List yV} {post : yM → Prop} (hM : yMv l y ws fr lo 0 0 D s0 (yr (some b) :: As) M post) (cw : CallW R s args own C0 index y bytes mL ret ws { frames := fr, cells := 0, slots := 0, locals := lo } 0 0 n) (hr : M b = some (yo ci fs)) (hcl : y_cl[ci]? = some (C0, T, N)) (hn : As.length = n) (hst : st = As.reverse ++ yr (some b) :: rest) (hcat : (rest.map ycat).sum ≤ 8) (d : decode cc pc = .ok (.invokevirtual index, 3)) (kk : ∀ M1 : yM, post M1 → Y p l e R s m args below meth c Q D s0 A nL M1 rc rs lv (pc + 3) rest) : Y p l e R s m args below meth c Q D s0 A nL M rc rs lv pc st := by
  intro H locs cells slots ls hw hS hc hs hl
  subst hst
  refine va_callv (va_runV (As := yvs As) (rest := yvs rest) C.1 (hM A) cw ⟨y_blind, y_recv C hw hr hcl, fun U hU hW => ⟨rfl, y_pre C hw hS hU hW⟩⟩ rfl (by rw [yvs_len]; exact hn) hl.1 ?_ (lv_room (by rw [ycat_sum]; exact hcat)) d ⟨by omega, by omega⟩) hS (fun q _ h => h) (fun q h => h) (fun u t H1 locs1 ht hvm hp hB hz hk hS1 => kk u hp H1 locs1 (cells + 0) (slots + 0) ls (by rw [ht] at hB; exact hB.moved hvm.symm) hS1 (by omega) (by omega) hl)
  show yvs _ = (yvs As).reverse ++ .ref b :: yvs rest
  first | (rw [yvs_app, yvs_rev]; done) | (rw [yvs_app, yvs_rev]; rfl)
theorem y_callSv0 (C : yC p R s m args meth c cc nL own D s0 a0 A) {y : MethodName} {bytes : ByteArray} {mL fr lo index n : Nat} {ret : Option FieldType} {ws : List Cond} {As rest : List yV} {post : yM → Prop} (hM : yMv l y ws fr lo 0 0 D s0 As M post) (cw : CallB R s args own index y bytes mL ret ws { frames := fr, cells := 0, slots := 0, locals := lo } 0 0 n ∧ (Cond.static y).before args s = true) (hn : As.length = n) (hst : st = As.reverse ++ rest) (hcat : (rest.map ycat).sum ≤ 8) (d : decode cc pc = .ok (.invokestatic index, 3)) (kk : ∀ M1 : yM, post M1 → Y p l e R s m args below meth c Q D s0 A nL M1 rc rs lv (pc + 3) rest) : Y p l e R s m args below meth c Q D s0 A nL M rc rs lv pc st := by
  intro H locs cells slots ls hw hS hc hs hl
  subst hst
  refine va_callv (va_runS (As := yvs As) (rest := yvs rest) C.1 (hM A) cw ⟨y_blind, fun U hU hW => ⟨rfl, y_pre C hw hS hU hW⟩⟩ rfl (by rw [yvs_len]; exact hn) hl.1 ?_ (lv_room (by rw [ycat_sum]; exact hcat)) d ⟨by omega, by omega⟩) hS (fun q _ h => h) (fun q h => h) (fun u t H1 locs1 ht hvm hp hB hz hk hS1 => kk u hp H1 locs1 (cells + 0) (slots + 0) ls (by rw [ht] at hB; exact hB.moved hvm.symm) hS1 (by omega) (by omega) hl)
  show yvs _ = (yvs As).reverse ++ yvs rest
  first | (rw [yvs_app, yvs_rev]; done) | (rw [yvs_app, yvs_rev]; rfl)
theorem y_callVq0 (C : yC p R s m args meth c cc nL own D s0 a0 A) {y : MethodName} {bytes : ByteArray} {mL fr lo index n : Nat} {ret : Option FieldType} {ws : List Cond} {As rest : List yV} {b ci N : Nat} {C0 : String} {T : u_T} {fs : List yV} {post : Option Nat → yM → Prop} (hM : yMq l y ws fr lo 0 0 D s0 (yr (some b) :: As) M post) (cw : CallW R s args own C0 index y bytes mL ret ws { frames := fr, cells := 0, slots := 0, locals := lo } 0 0 n) (hr : M b = some (yo ci fs)) (hcl : y_cl[ci]? = some (C0, T, N)) (hn : As.length = n) (hst : st = As.reverse ++ yr (some b) :: rest) (hcat : (rest.map ycat).sum ≤ 8) (d : decode cc pc = .ok (.invokevirtual index, 3)) (kk : ∀ (r : Option Nat) (M1 : yM), post r M1 → Y p l e R s m args below meth c Q D s0 A nL M1 rc rs lv (pc + 3) (yr r :: rest)) : Y p l e R s m args below meth c Q D s0 A nL M rc rs lv pc st := by
  intro H locs cells slots ls hw hS hc hs hl
  subst hst
  refine va_callq (va_runV (As := yvs As) (rest := yvs rest) C.1 (hM A) cw ⟨y_blind, y_recv C hw hr hcl, fun U hU hW => ⟨rfl, y_pre C hw hS hU hW⟩⟩ rfl (by rw [yvs_len]; exact hn) hl.1 ?_ (lv_room (by rw [ycat_sum]; exact hcat)) d ⟨by omega, by omega⟩) hS (fun q _ h => h) (fun q h => h) (fun r u t H1 locs1 ht hvm hp hB hz hk hS1 => kk r u hp H1 locs1 (cells + 0) (slots + 0) ls (by rw [ht] at hB; exact hB.moved hvm.symm) hS1 (by omega) (by omega) hl)
  show yvs _ = (yvs As).reverse ++ .ref b :: yvs rest
  first | (rw [yvs_app, yvs_rev]; done) | (rw [yvs_app, yvs_rev]; rfl)
theorem y_callSq0 (C : yC p R s m args meth c cc nL own D s0 a0 A) {y : MethodName} {bytes : ByteArray} {mL fr lo index n : Nat} {ret : Option FieldType} {ws : List Cond} {As rest : List yV} {post : Option Nat → yM → Prop} (hM : yMq l y ws fr lo 0 0 D s0 As M post) (cw : CallB R s args own index y bytes mL ret ws { frames := fr, cells := 0, slots := 0, locals := lo } 0 0 n ∧ (Cond.static y).before args s = true) (hn : As.length = n) (hst : st = As.reverse ++ rest) (hcat : (rest.map ycat).sum ≤ 8) (d : decode cc pc = .ok (.invokestatic index, 3)) (kk : ∀ (r : Option Nat) (M1 : yM), post r M1 → Y p l e R s m args below meth c Q D s0 A nL M1 rc rs lv (pc + 3) (yr r :: rest)) : Y p l e R s m args below meth c Q D s0 A nL M rc rs lv pc st := by
  intro H locs cells slots ls hw hS hc hs hl
  subst hst
  refine va_callq (va_runS (As := yvs As) (rest := yvs rest) C.1 (hM A) cw ⟨y_blind, fun U hU hW => ⟨rfl, y_pre C hw hS hU hW⟩⟩ rfl (by rw [yvs_len]; exact hn) hl.1 ?_ (lv_room (by rw [ycat_sum]; exact hcat)) d ⟨by omega, by omega⟩) hS (fun q _ h => h) (fun q h => h) (fun r u t H1 locs1 ht hvm hp hB hz hk hS1 => kk r u hp H1 locs1 (cells + 0) (slots + 0) ls (by rw [ht] at hB; exact hB.moved hvm.symm) hS1 (by omega) (by omega) hl)
  show yvs _ = (yvs As).reverse ++ yvs rest
  first | (rw [yvs_app, yvs_rev]; done) | (rw [yvs_app, yvs_rev]; rfl)
theorem y_callIv0 (C : yC p R s m args meth c cc nL own D s0 a0 A) {y : MethodName} {bytes : ByteArray} {mL fr lo index n : Nat} {ws : List Cond} {As rest : List yV} {b : Nat} {post : yM → Prop} (hM : yMv l y ws fr lo 0 0 D s0 (yr (some b) :: As) M post) (cw : CallB R s args own index y bytes mL none ws { frames := fr, cells := 0, slots := 0, locals := lo } 0 0 n ∧ y.name = "<init>" ∧ (Cond.instanceMethod y).before args s = true) (hn : As.length = n) (hst : st = As.reverse ++ yr (some b) :: rest) (hcat : (rest.map ycat).sum ≤ 8) (d : decode cc pc = .ok (.invokespecial index, 3)) (kk : ∀ M1 : yM, post M1 → Y p l e R s m args below meth c Q D s0 A nL M1 rc rs lv (pc + 3) rest) : Y p l e R s m args below meth c Q D s0 A nL M rc rs lv pc st := by
  intro H locs cells slots ls hw hS hc hs hl
  subst hst
  refine va_callv (va_runI (As := yvs As) (rest := yvs rest) C.1 (hM A) cw ⟨y_blind, fun U hU hW => ⟨rfl, y_pre C hw hS hU hW⟩⟩ rfl (by rw [yvs_len]; exact hn) hl.1 ?_ (lv_room (by rw [ycat_sum]; exact hcat)) d ⟨by omega, by omega⟩) hS (fun q _ h => h) (fun q h => h) (fun u t H1 locs1 ht hvm hp hB hz hk hS1 => kk u hp H1 locs1 (cells + 0) (slots + 0) ls (by rw [ht] at hB; exact hB.moved hvm.symm) hS1 (by omega) (by omega) hl)
  show yvs _ = (yvs As).reverse ++ .ref b :: yvs rest
  first | (rw [yvs_app, yvs_rev]; done) | (rw [yvs_app, yvs_rev]; rfl)
def ysub : List (Option yV) → List (Option yV) → Prop
  | [], _ => True
  | none :: l, [] => ysub l []
  | none :: l, _ :: l' => ysub l l'
  | some v :: l, w :: l' => w = some v ∧ ysub l l'
  | some _ :: _, [] => False
theorem ysub_get : ∀ (l l' : List (Option yV)) (i : Nat) (v : yV), ysub l l' → yget l i = some v → yget l' i = some v
  | [], _, _, _, _, h => by simp [yget] at h
  | none :: l, [], 0, _, _, h => by simp [yget] at h
  | none :: l, [], i + 1, v, hs, h => by
    have := ysub_get l [] i v hs h
    simp [yget] at this
  | none :: l, _ :: l', 0, _, _, h => by simp [yget] at h
  | none :: l, _ :: l', i + 1, v, hs, h => ysub_get l l' i v hs h
  | some w :: l, _ :: l', 0, v, hs, h => hs.1.trans h
  | some w :: l, _ :: l', i + 1, v, hs, h => ysub_get l l' i v hs.2 h
  | some _ :: _, [], _, _, hs, _ => hs.elim
theorem y_to (C : yC p R s m args meth c cc nL own D s0 a0 A) (lv' : List (Option yV)) (hs9 : ysub lv' lv) (k : Y p l e R s m args below meth c Q D s0 A nL M rc rs lv' pc st) : Y p l e R s m args below meth c Q D s0 A nL M rc rs lv pc st := fun H locs cells slots ls hw hS hc hs hl => k H locs cells slots ls hw hS hc hs (hl.sub (fun i v h => ysub_get lv' lv i v hs9 h))
theorem y_ireti (C : yC p R s m args meth c cc nL own D s0 a0 A) {mc ms : Nat} (hr : meth.sig.returnType = some .int) (hrc : R.cells = mc) (hrs : R.slots = ms) {v : Int32} {post : Int32 → yM → Prop} (hp : post v M) (d : decode cc pc = .ok (.ireturn, 1)) : Y p l e R s m args below meth c (MQ below (yQi D s0 A post) args s mc ms A) D s0 A nL M rc rs lv pc [yi v] := fun H locs cells slots ls hw hS hc hs hl => W.widen (k := mc) (n := ms) (by omega) (by omega) (W.iret C.1.1 C.1.2.1 hr (fun t ht hW => ⟨⟨v, M, rfl, hp, (by show yCells D s0 A M t t.heap; rw [ht]; exact hw.moved hW.alike)⟩, hS.F ht⟩) hS.2.2 d C.2.1)
theorem y_iretz (C : yC p R s m args meth c cc nL own D s0 a0 A) {mc ms : Nat} (hr : meth.sig.returnType = some .boolean) (hrc : R.cells = mc) (hrs : R.slots = ms) {v : Int32} {post : Int32 → yM → Prop} (hv : v = 0 ∨ v = 1) (hp : post v M) (d : decode cc pc = .ok (.ireturn, 1)) : Y p l e R s m args below meth c (MQ below (yQi D s0 A post) args s mc ms A) D s0 A nL M rc rs lv pc [yi v] := fun H locs cells slots ls hw hS hc hs hl => W.widen (k := mc) (n := ms) (by omega) (by omega) (W.zret C.1.1 C.1.2.1 hr (y_nz hv) (fun t ht hW => ⟨⟨v, M, rfl, hp, (by show yCells D s0 A M t t.heap; rw [ht]; exact hw.moved hW.alike)⟩, hS.F ht⟩) hS.2.2 d C.2.1)
theorem y_lretl (C : yC p R s m args meth c cc nL own D s0 a0 A) {mc ms : Nat} (hr : meth.sig.returnType = some .long) (hrc : R.cells = mc) (hrs : R.slots = ms) {v : Int64} {post : Int64 → yM → Prop} (hp : post v M) (d : decode cc pc = .ok (.lreturn, 1)) : Y p l e R s m args below meth c (MQ below (yQl D s0 A post) args s mc ms A) D s0 A nL M rc rs lv pc [yl v] := fun H locs cells slots ls hw hS hc hs hl => W.widen (k := mc) (n := ms) (by omega) (by omega) (W.lret C.1.1 C.1.2.1 hr (fun t ht hW => ⟨⟨v, M, rfl, hp, (by show yCells D s0 A M t t.heap; rw [ht]; exact hw.moved hW.alike)⟩, hS.F ht⟩) hS.2.2 d C.2.1)
theorem y_vret (C : yC p R s m args meth c cc nL own D s0 a0 A) {mc ms : Nat} (hr : meth.sig.returnType = none) (hrc : R.cells = mc) (hrs : R.slots = ms) {post : yM → Prop} (hp : post M) (d : decode cc pc = .ok (.return_, 1)) : Y p l e R s m args below meth c (MQ below (yQv D s0 A post) args s mc ms A) D s0 A nL M rc rs lv pc [] := fun H locs cells slots ls hw hS hc hs hl => W.widen (k := mc) (n := ms) (by omega) (by omega) (W.vret C.1.1 C.1.2.1 hr (fun t ht hW => ⟨⟨M, rfl, hp, (by show yCells D s0 A M t t.heap; rw [ht]; exact hw.moved hW.alike)⟩, hS.F ht⟩) hS.2.2 d C.2.1)
theorem y_aretq (C : yC p R s m args meth c cc nL own D s0 a0 A) {mc ms : Nat} {rt : FieldType} (hr : meth.sig.returnType = some rt) (hrt : (∃ n, rt = .object n) ∨ ∃ t, rt = .array t) (hrc : R.cells = mc) (hrs : R.slots = ms) {r : Option Nat} {post : Option Nat → yM → Prop} (hp : post r M) (d : decode cc pc = .ok (.areturn, 1)) : Y p l e R s m args below meth c (MQ below (yQq D s0 A post) args s mc ms A) D s0 A nL M rc rs lv pc [yr r] := fun H locs cells slots ls hw hS hc hs hl => W.widen (k := mc) (n := ms) (by omega) (by omega) (W.aret C.1.1 C.1.2.1 hr hrt (by cases r with | none => exact Or.inl rfl | some a => exact Or.inr ⟨a, rfl⟩) (fun t ht hW => ⟨⟨r, M, rfl, hp, (by show yCells D s0 A M t t.heap; rw [ht]; exact hw.moved hW.alike)⟩, hS.F ht⟩) hS.2.2 d C.2.1)
theorem y_objInit (C : yC p R s m args meth c cc nL own D s0 a0 A) {index : Nat} {a : Nat} (h1 : Cond.methodLink own index objectInit ∈ lw_all) (h2 : Cond.instanceMethod objectInit ∈ lw_all) (h3 : Cond.code objectInit ⟨#[0xb1]⟩ 1 none ∈ lw_all) (hcat : (st.map ycat).sum ≤ 8) (hf : 1 ≤ R.frames) (ho : 20 ≤ R.locals) (d : decode cc pc = .ok (.invokespecial index, 3)) (k : Y p l e R s m args below meth c Q D s0 A nL M rc rs lv (pc + 3) st) : Y p l e R s m args below meth c Q D s0 A nL M rc rs lv pc (yr (some a) :: st) := by
  intro H locs cells slots ls hw hS hc hs hl
  have h9 := lv_room (m := m) (pc := pc) (ls := ls) (rest := yvs (yr (some a) :: st)) (st := yvs st) (by rw [ycat_sum]; exact hcat)
  exact W.objInit C.1.1 C.1.2.1 C.ow (C.hts _ h1) (C.hts _ h2) (C.hts _ h3) rfl (hl.1.trans C.1.2.2.1.symm) rfl d hf (by omega) (k H locs cells slots ls hw hS hc hs hl)
/-- fewer locals known -/
theorem y_lv (lv' : List (Option yV)) (hs9 : ∀ i v, yget lv' i = some v → yget lv i = some v) (k : Y p l e R s m args below meth c Q D s0 A nL M rc rs lv' pc st) : Y p l e R s m args below meth c Q D s0 A nL M rc rs lv pc st := fun H locs cells slots ls hw hS hc hs hl => k H locs cells slots ls hw hS hc hs (hl.sub hs9)
/-- less room -/
theorem y_rm {rc' rs' : Nat} (h1 : rc' ≤ rc) (h2 : rs' ≤ rs) (k : Y p l e R s m args below meth c Q D s0 A nL M rc' rs' lv pc st) : Y p l e R s m args below meth c Q D s0 A nL M rc rs lv pc st := fun H locs cells slots ls hw hS hc hs hl => k H locs cells slots ls hw hS (by omega) (by omega) hl
theorem y_meti {y : MethodName} {ret : Option FieldType} {fr lo mc ms : Nat} {av : List yV} {post : Int32 → yM → Prop} (hB : yB D s0 a0) (hy : plainName y.cls = true) (ho : own = y.cls) (hav : (av.map ycat).sum ≤ nL) (body : ∀ (p : Program) (e : Env) (s : State) (m : MethodId) (below : List Frame) (meth : Method) (c : Code) (A : Nat → Prop), meth.sig.returnType = ret → meth.name = y.name → yC p { frames := fr, cells := mc, slots := ms, locals := lo } s m (yvs av).toArray meth c cc nL own D s0 a0 A → Y p l e { frames := fr, cells := mc, slots := ms, locals := lo } s m (yvs av).toArray below meth c (MQ below (yQi D s0 A post) (yvs av).toArray s mc ms A) D s0 A nL M mc ms (yent av nL) 0 []) : yMi l y (ws_ y cc nL ret) fr lo mc ms D s0 av M post := by
  intro A
  refine Met.ofW (cc := cc) (maxL := nL) (ret := ret) hy rfl ?_
  intro p e s m args below meth c s₁ B hml hv
  obtain ⟨rfl, hcells, hbase⟩ := hv
  have hts := atoms_spec (ws := ws_ y cc nL ret) B.pre
  have hts : ∀ w ∈ lw_all, w.before _ s = true := fun w h => hts w (List.mem_cons_of_mem _ h)
  have hown : s.vm.findClass own = some m.cls := by rw [ho]; exact findClass_of_methodNamed B.named
  have hnm : meth.name = y.name := (name_of_methodNamed B.named B.method).1
  rw [lg_entry_eq]
  exact body p e s m below meth c A B.returns hnm ⟨⟨B.exec, B.bytes, hml, hown, hts⟩, B.notSynchronized, hB, hbase⟩ s.heap [] 0 0 _ hcells va_S.rf (by simp) (by simp) (yent_Lv av nL hav)
theorem y_metl {y : MethodName} {ret : Option FieldType} {fr lo mc ms : Nat} {av : List yV} {post : Int64 → yM → Prop} (hB : yB D s0 a0) (hy : plainName y.cls = true) (ho : own = y.cls) (hav : (av.map ycat).sum ≤ nL) (body : ∀ (p : Program) (e : Env) (s : State) (m : MethodId) (below : List Frame) (meth : Method) (c : Code) (A : Nat → Prop), meth.sig.returnType = ret → meth.name = y.name → yC p { frames := fr, cells := mc, slots := ms, locals := lo } s m (yvs av).toArray meth c cc nL own D s0 a0 A → Y p l e { frames := fr, cells := mc, slots := ms, locals := lo } s m (yvs av).toArray below meth c (MQ below (yQl D s0 A post) (yvs av).toArray s mc ms A) D s0 A nL M mc ms (yent av nL) 0 []) : yMl l y (ws_ y cc nL ret) fr lo mc ms D s0 av M post := by
  intro A
  refine Met.ofW (cc := cc) (maxL := nL) (ret := ret) hy rfl ?_
  intro p e s m args below meth c s₁ B hml hv
  obtain ⟨rfl, hcells, hbase⟩ := hv
  have hts := atoms_spec (ws := ws_ y cc nL ret) B.pre
  have hts : ∀ w ∈ lw_all, w.before _ s = true := fun w h => hts w (List.mem_cons_of_mem _ h)
  have hown : s.vm.findClass own = some m.cls := by rw [ho]; exact findClass_of_methodNamed B.named
  have hnm : meth.name = y.name := (name_of_methodNamed B.named B.method).1
  rw [lg_entry_eq]
  exact body p e s m below meth c A B.returns hnm ⟨⟨B.exec, B.bytes, hml, hown, hts⟩, B.notSynchronized, hB, hbase⟩ s.heap [] 0 0 _ hcells va_S.rf (by simp) (by simp) (yent_Lv av nL hav)
theorem y_metv {y : MethodName} {ret : Option FieldType} {fr lo mc ms : Nat} {av : List yV} {post : yM → Prop} (hB : yB D s0 a0) (hy : plainName y.cls = true) (ho : own = y.cls) (hav : (av.map ycat).sum ≤ nL) (body : ∀ (p : Program) (e : Env) (s : State) (m : MethodId) (below : List Frame) (meth : Method) (c : Code) (A : Nat → Prop), meth.sig.returnType = ret → meth.name = y.name → yC p { frames := fr, cells := mc, slots := ms, locals := lo } s m (yvs av).toArray meth c cc nL own D s0 a0 A → Y p l e { frames := fr, cells := mc, slots := ms, locals := lo } s m (yvs av).toArray below meth c (MQ below (yQv D s0 A post) (yvs av).toArray s mc ms A) D s0 A nL M mc ms (yent av nL) 0 []) : yMv l y (ws_ y cc nL ret) fr lo mc ms D s0 av M post := by
  intro A
  refine Met.ofW (cc := cc) (maxL := nL) (ret := ret) hy rfl ?_
  intro p e s m args below meth c s₁ B hml hv
  obtain ⟨rfl, hcells, hbase⟩ := hv
  have hts := atoms_spec (ws := ws_ y cc nL ret) B.pre
  have hts : ∀ w ∈ lw_all, w.before _ s = true := fun w h => hts w (List.mem_cons_of_mem _ h)
  have hown : s.vm.findClass own = some m.cls := by rw [ho]; exact findClass_of_methodNamed B.named
  have hnm : meth.name = y.name := (name_of_methodNamed B.named B.method).1
  rw [lg_entry_eq]
  exact body p e s m below meth c A B.returns hnm ⟨⟨B.exec, B.bytes, hml, hown, hts⟩, B.notSynchronized, hB, hbase⟩ s.heap [] 0 0 _ hcells va_S.rf (by simp) (by simp) (yent_Lv av nL hav)
theorem y_metq {y : MethodName} {ret : Option FieldType} {fr lo mc ms : Nat} {av : List yV} {post : Option Nat → yM → Prop} (hB : yB D s0 a0) (hy : plainName y.cls = true) (ho : own = y.cls) (hav : (av.map ycat).sum ≤ nL) (body : ∀ (p : Program) (e : Env) (s : State) (m : MethodId) (below : List Frame) (meth : Method) (c : Code) (A : Nat → Prop), meth.sig.returnType = ret → meth.name = y.name → yC p { frames := fr, cells := mc, slots := ms, locals := lo } s m (yvs av).toArray meth c cc nL own D s0 a0 A → Y p l e { frames := fr, cells := mc, slots := ms, locals := lo } s m (yvs av).toArray below meth c (MQ below (yQq D s0 A post) (yvs av).toArray s mc ms A) D s0 A nL M mc ms (yent av nL) 0 []) : yMq l y (ws_ y cc nL ret) fr lo mc ms D s0 av M post := by
  intro A
  refine Met.ofW (cc := cc) (maxL := nL) (ret := ret) hy rfl ?_
  intro p e s m args below meth c s₁ B hml hv
  obtain ⟨rfl, hcells, hbase⟩ := hv
  have hts := atoms_spec (ws := ws_ y cc nL ret) B.pre
  have hts : ∀ w ∈ lw_all, w.before _ s = true := fun w h => hts w (List.mem_cons_of_mem _ h)
  have hown : s.vm.findClass own = some m.cls := by rw [ho]; exact findClass_of_methodNamed B.named
  have hnm : meth.name = y.name := (name_of_methodNamed B.named B.method).1
  rw [lg_entry_eq]
  exact body p e s m below meth c A B.returns hnm ⟨⟨B.exec, B.bytes, hml, hown, hts⟩, B.notSynchronized, hB, hbase⟩ s.heap [] 0 0 _ hcells va_S.rf (by simp) (by simp) (yent_Lv av nL hav)
end YR

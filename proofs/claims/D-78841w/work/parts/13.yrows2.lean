/-! Further rows of Y (map mode), printed by gen/rows2.py. -/
set_option maxRecDepth 100000
/-- a field of an object of the map -/
def yF (M : yM) (a ci k : Nat) (v : yV) : Prop := ∃ fs, M a = some (yo ci fs) ∧ fs[k]? = some v
/-- the addresses that the law's start gives: 0, 1 ArrayList's two empty arrays; 2, 3 two Class objects; 4 .. the lambdas' objects -/
def yzT (n : Nat) : Term := match n with
  | 0 => .static "java/util/ArrayList" "DEFAULTCAPACITY_EMPTY_ELEMENTDATA" "[Ljava/lang/Object;"
  | _ => .static "java/util/ArrayList" "EMPTY_ELEMENTDATA" "[Ljava/lang/Object;"
def yzM (s0 : State) (C : String) : Nat := match s0.vm.findClass C with
  | some c => (match s0.vm.classes[c]? with | some k => k.mirror.getD 0 | none => 0)
  | none => 0
def yzS (n : Nat) : Cond := match n with
  | 4 => siteWord_1_1
  | 5 => siteWord_1_2
  | 6 => siteWord_1_3
  | 7 => siteWord_1_4
  | _ => siteWord_1_5
def yzA (s0 : State) (w : Cond) : Nat := match w with
  | .lambdaSite x pc index sh => (match s0.lambdaAt? x pc index sh with | some (_, some a) => a | _ => 0)
  | _ => 0
def yz (s0 : State) (a0 : Array Value) (n : Nat) : Nat := if n < 2 then (match (yzT n).eval a0 s0 none [] s0 with | some (.ref a) => a | _ => 0) else if n = 2 then yzM s0 "java/util/ArrayList" else if n = 3 then yzM s0 "[Ljava/lang/Object;" else yzA s0 (yzS n)
theorem yzM_of {s0 : State} {C : String} {mi : Nat} (h : va_Mi C mi s0) : yzM s0 C = mi := by
  obtain ⟨c, k, h1, h2, h3⟩ := h
  simp [yzM, h1, h2, h3]
section YR2
variable {p : Program} {l : Launch} {e : Env} {R : Room} {s : State} {m : MethodId} {args : Array Value} {below : List Frame} {meth : Method} {c : Code} {Q : State → Prop} {D : va_G} {s0 : State} {a0 : Array Value} {A : Nat → Prop} {cc : ByteArray} {nL : Nat} {own : String} {M M' : yM} {rc rs : Nat} {lv : List (Option yV)} {pc : Nat} {st : List yV}
theorem yC.flat (C : yC p R s m args meth c cc nL own D s0 a0 A) {w : Cond} (h : w ∈ flatC (Jvm.Cond.and given_1 narrow_1)) : w.before a0 s0 = true := flat_of_before _ C.2.2.1.2.1 w h
theorem yC.wt (C : yC p R s m args meth c cc nL own D s0 a0 A) {w : Cond} (h : w ∈ lw_tbl) : w.before a0 s0 = true := C.2.2.1.1 w h
theorem y_aald2 (C : yC p R s m args meth c cc nL own D s0 a0 A) {a n : Nat} {E : String} {f : Nat → Option Nat} {i : Int32} {r : Option Nat} (hM : M a = some (yaq E n f)) (hin : vp_in i n) (hr : f i.toNatClampNeg = r) (d : decode cc pc = .ok (.aaload, 1)) (kk : Y p l e R s m args below meth c Q D s0 A nL M rc rs lv (pc + 1) (yr r :: st)) : Y p l e R s m args below meth c Q D s0 A nL M rc rs lv pc (yi i :: yr (some a) :: st) := y_aald C hM hin d (by rw [hr]; exact kk)
theorem y_castN (C : yC p R s m args meth c cc nL own D s0 a0 A) {index : Nat} (d : decode cc pc = .ok (.checkcast index, 3)) (k : Y p l e R s m args below meth c Q D s0 A nL M rc rs lv (pc + 3) (yr none :: st)) : Y p l e R s m args below meth c Q D s0 A nL M rc rs lv pc (yr none :: st) := fun H locs cells slots ls hw hS hc hs hl => lv_castN C.1.1 C.1.2.1 d (k H locs cells slots ls hw hS hc hs hl)
theorem y_ckc (C : yC p R s m args meth c cc nL own D s0 a0 A) {ci N index : Nat} {C0 : String} {T : u_T} {r : Option Nat} (h1 : Cond.classLink own index C0 ∈ lw_all) (hcl : y_cl[ci]? = some (C0, T, N)) (hr : ∀ v, r = some v → ∃ vs, M v = some (yo ci vs)) (d : decode cc pc = .ok (.checkcast index, 3)) (k : Y p l e R s m args below meth c Q D s0 A nL M rc rs lv (pc + 3) (yr r :: st)) : Y p l e R s m args below meth c Q D s0 A nL M rc rs lv pc (yr r :: st) := by
  intro H locs cells slots ls hw hS hc hs hl
  cases r with
  | none => exact lv_castN C.1.1 C.1.2.1 d (k H locs cells slots ls hw hS hc hs hl)
  | some a =>
    obtain ⟨vs, hM⟩ := hr a rfl
    exact va_castS C.1.1 C.1.2.1 C.ow (C.hts _ h1) (C.K.1 ci _ hcl).2 (y_recv C hw hM hcl) d (k H locs cells slots ls hw hS hc hs hl)
theorem y_iretn (C : yC p R s m args meth c cc nL own D s0 a0 A) {mc ms : Nat} {ty : FieldType} (hr : meth.sig.returnType = some ty) (hrc : R.cells = mc) (hrs : R.slots = ms) {v : Int32} {post : Int32 → yM → Prop} (hv : narrow ty (.int v) = .int v) (hp : post v M) (d : decode cc pc = .ok (.ireturn, 1)) : Y p l e R s m args below meth c (MQ below (yQi D s0 A post) args s mc ms A) D s0 A nL M rc rs lv pc [yi v] := fun H locs cells slots ls hw hS hc hs hl => W.widen (k := mc) (n := ms) (by omega) (by omega) (W.zret C.1.1 C.1.2.1 hr hv (fun t ht hW => ⟨⟨v, M, rfl, hp, (by show yCells D s0 A M t t.heap; rw [ht]; exact hw.moved hW.alike)⟩, hS.F ht⟩) hS.2.2 d C.2.1)
theorem y_mmax (C : yC p R s m args meth c cc nL own D s0 a0 A) {index : Nat} {x y : Int32} (h1 : Cond.methodLink own index Lib.Math.max.name ∈ lw_all) (h2 : Cond.static Lib.Math.max.name ∈ lw_all) (h3 : Cond.initialized "java/lang/Math" ∈ lw_all) (h4 : Cond.code Lib.Math.max.name Lib.Math.max.code 2 (some .int) ∈ lw_all) (hcat : (st.map ycat).sum ≤ 8) (hf : 1 ≤ R.frames) (ho : 32 ≤ R.locals) (d : decode cc pc = .ok (.invokestatic index, 3)) (k : Y p l e R s m args below meth c Q D s0 A nL M rc rs lv (pc + 3) (yi (if x < y then y else x) :: st)) : Y p l e R s m args below meth c Q D s0 A nL M rc rs lv pc (yi y :: yi x :: st) := by
  intro H locs cells slots ls hw hS hc hs hl
  have h9 := ycat_sum st
  exact va_mmax C.1.1 C.1.2.1 (C.1.2.2.1.trans hl.1.symm) C.ow (C.hts _ h1) (C.hts _ h2) (C.hts _ h3) (C.hts _ h4) hf (by omega) (by omega) (by omega) d (k H locs cells slots ls hw hS hc hs hl)
theorem y_mmin (C : yC p R s m args meth c cc nL own D s0 a0 A) {index : Nat} {x y : Int32} (h1 : Cond.methodLink own index Lib.Math.min.name ∈ lw_all) (h2 : Cond.static Lib.Math.min.name ∈ lw_all) (h3 : Cond.initialized "java/lang/Math" ∈ lw_all) (h4 : Cond.code Lib.Math.min.name Lib.Math.min.code 2 (some .int) ∈ lw_all) (hcat : (st.map ycat).sum ≤ 8) (hf : 1 ≤ R.frames) (ho : 32 ≤ R.locals) (d : decode cc pc = .ok (.invokestatic index, 3)) (k : Y p l e R s m args below meth c Q D s0 A nL M rc rs lv (pc + 3) (yi (if y < x then y else x) :: st)) : Y p l e R s m args below meth c Q D s0 A nL M rc rs lv pc (yi y :: yi x :: st) := by
  intro H locs cells slots ls hw hS hc hs hl
  have h9 := ycat_sum st
  exact va_mmin C.1.1 C.1.2.1 (C.1.2.2.1.trans hl.1.symm) C.ow (C.hts _ h1) (C.hts _ h2) (C.hts _ h3) (C.hts _ h4) hf (by omega) (by omega) (by omega) d (k H locs cells slots ls hw hS hc hs hl)
theorem y_statv (C : yC p R s m args meth c cc nL own D s0 a0 A) {C0 n d0 ref : String} {v : yV} {index : Nat} (h1 : Cond.laysStatic C0 n d0 ∈ lw_tbl) (h2 : Cond.initialized C0 ∈ lw_tbl) (hv : (Term.static C0 n d0).eval a0 s0 none [] s0 = some (yval v)) (h3 : Cond.fieldLink own index C0 n d0 ∈ lw_all) (d : decode cc pc = .ok (.getstatic index, 3)) (k : Y p l e R s m args below meth c Q D s0 A nL M rc rs lv (pc + 3) (v :: st)) : Y p l e R s m args below meth c Q D s0 A nL M rc rs lv pc st := by
  intro H locs cells slots ls hw hS hc hs hl
  have hA : ∀ a : Nat, a < s0.heap.size → ¬ A a := fun a ha q => by have := C.2.2.2.2.1 a q; omega
  have hZ := va_Zof (A := A) (C.wt h1) (C.wt h2) hv hA
  have hZ := (hZ.moved C.2.2.2.2.2.2.2.alike).kept (H1 := s.heap) (fun a ha _ => C.2.2.2.2.2.2.1 a ha)
  exact va_gets C.1.1 C.1.2.1 hZ hS C.ow (C.hts _ h3) (fun _ h => h) d (k H locs cells slots ls hw hS hc hs hl)
theorem y_stat_COMPACT_STRINGS (C : yC p R s m args meth c cc nL own D s0 a0 A) {index : Nat} (h3 : Cond.fieldLink own index "java/lang/String" "COMPACT_STRINGS" "Z" ∈ lw_all) (d : decode cc pc = .ok (.getstatic index, 3)) (k : Y p l e R s m args below meth c Q D s0 A nL M rc rs lv (pc + 3) (yi 1 :: st)) : Y p l e R s m args below meth c Q D s0 A nL M rc rs lv pc st := y_statv (v := yi 1) (ref := "") C q233 (lw_all_tbl q95) (va_eqi (C.flat (by decide +kernel))) h3 d k
theorem y_stat_assertionsDisabled (C : yC p R s m args meth c cc nL own D s0 a0 A) {index : Nat} (h3 : Cond.fieldLink own index "java/lang/StringUTF16" "$assertionsDisabled" "Z" ∈ lw_all) (d : decode cc pc = .ok (.getstatic index, 3)) (k : Y p l e R s m args below meth c Q D s0 A nL M rc rs lv (pc + 3) (yi 1 :: st)) : Y p l e R s m args below meth c Q D s0 A nL M rc rs lv pc st := y_statv (v := yi 1) (ref := "") C q341 (lw_all_tbl q96) (va_eqi (C.flat (by decide +kernel))) h3 d k
theorem y_stat_HI_BYTE_SHIFT (C : yC p R s m args meth c cc nL own D s0 a0 A) {index : Nat} (h3 : Cond.fieldLink own index "java/lang/StringUTF16" "HI_BYTE_SHIFT" "I" ∈ lw_all) (d : decode cc pc = .ok (.getstatic index, 3)) (k : Y p l e R s m args below meth c Q D s0 A nL M rc rs lv (pc + 3) (yi 0 :: st)) : Y p l e R s m args below meth c Q D s0 A nL M rc rs lv pc st := y_statv (v := yi 0) (ref := "") C q343 (lw_all_tbl q96) (va_eqi (C.flat (by decide +kernel))) h3 d k
theorem y_stat_LO_BYTE_SHIFT (C : yC p R s m args meth c cc nL own D s0 a0 A) {index : Nat} (h3 : Cond.fieldLink own index "java/lang/StringUTF16" "LO_BYTE_SHIFT" "I" ∈ lw_all) (d : decode cc pc = .ok (.getstatic index, 3)) (k : Y p l e R s m args below meth c Q D s0 A nL M rc rs lv (pc + 3) (yi 8 :: st)) : Y p l e R s m args below meth c Q D s0 A nL M rc rs lv pc st := y_statv (v := yi 8) (ref := "") C q345 (lw_all_tbl q96) (va_eqi (C.flat (by decide +kernel))) h3 d k
theorem y_refof {C0 n d0 : String} (h : (Cond.isRef (.static C0 n d0)).before a0 s0 = true) : (∃ a, (Term.static C0 n d0).eval a0 s0 none [] s0 = some (.ref a)) ∨ (Term.static C0 n d0).eval a0 s0 none [] s0 = some .null := by
  simp only [Cond.before, Cond.holds, Cond.value] at h
  cases hv : (Term.static C0 n d0).eval a0 s0 none [] s0 with
  | none => simp [hv] at h
  | some v =>
    cases v with
    | ref a => exact Or.inl ⟨a, rfl⟩
    | null => exact Or.inr rfl
    | _ => simp [hv] at h
theorem yz_0 (hB : yB D s0 a0) : (Term.static "java/util/ArrayList" "DEFAULTCAPACITY_EMPTY_ELEMENTDATA" "[Ljava/lang/Object;").eval a0 s0 none [] s0 = some (.ref (yz s0 a0 0)) ∧ va_T (.object "java/lang/Object") (yz s0 a0 0) 0 (fun _ => .null) (fun q => s0.heap.size ≤ q) s0 s0.heap := by
  have hf : ∀ w ∈ flatC (Jvm.Cond.and given_1 narrow_1), w.before a0 s0 = true := flat_of_before _ hB.2.1
  have harr : (Cond.arrayOf (.static "java/util/ArrayList" "DEFAULTCAPACITY_EMPTY_ELEMENTDATA" "[Ljava/lang/Object;") (.object "java/lang/Object")).before a0 s0 = true := hf _ (by decide +kernel)
  have hlen : (Cond.eq (.length (.static "java/util/ArrayList" "DEFAULTCAPACITY_EMPTY_ELEMENTDATA" "[Ljava/lang/Object;")) (.int 0)).before a0 s0 = true := hf _ (by decide +kernel)
  obtain ⟨t, h1, h2⟩ := va_Tof (N := 0) (f := fun _ => .null) (A := fun q => s0.heap.size ≤ q) (by decide) harr (va_eqt hlen) (fun j hj => absurd hj (Nat.not_lt_zero j)) (fun a ha => Nat.not_le.mpr ha)
  have e : yz s0 a0 0 = t := by
    unfold yz
    rw [if_pos (by decide)]
    show (match (Term.static "java/util/ArrayList" "DEFAULTCAPACITY_EMPTY_ELEMENTDATA" "[Ljava/lang/Object;").eval a0 s0 none [] s0 with | some (.ref a) => a | _ => 0) = t
    rw [h1]
  rw [e]
  exact ⟨h1, h2⟩
theorem y_stat_z0 (C : yC p R s m args meth c cc nL own D s0 a0 A) {index : Nat} (h3 : Cond.fieldLink own index "java/util/ArrayList" "DEFAULTCAPACITY_EMPTY_ELEMENTDATA" "[Ljava/lang/Object;" ∈ lw_all) (d : decode cc pc = .ok (.getstatic index, 3)) (k : Y p l e R s m args below meth c Q D s0 A nL M rc rs lv (pc + 3) (yr (some (yz s0 a0 0)) :: st)) : Y p l e R s m args below meth c Q D s0 A nL M rc rs lv pc st := y_statv (v := yr (some (yz s0 a0 0))) (ref := "") C q139 (lw_all_tbl q90) (yz_0 C.2.2.1).1 h3 d k
theorem yz_1 (hB : yB D s0 a0) : (Term.static "java/util/ArrayList" "EMPTY_ELEMENTDATA" "[Ljava/lang/Object;").eval a0 s0 none [] s0 = some (.ref (yz s0 a0 1)) ∧ va_T (.object "java/lang/Object") (yz s0 a0 1) 0 (fun _ => .null) (fun q => s0.heap.size ≤ q) s0 s0.heap := by
  have hf : ∀ w ∈ flatC (Jvm.Cond.and given_1 narrow_1), w.before a0 s0 = true := flat_of_before _ hB.2.1
  have harr : (Cond.arrayOf (.static "java/util/ArrayList" "EMPTY_ELEMENTDATA" "[Ljava/lang/Object;") (.object "java/lang/Object")).before a0 s0 = true := hf _ (by decide +kernel)
  have hlen : (Cond.eq (.length (.static "java/util/ArrayList" "EMPTY_ELEMENTDATA" "[Ljava/lang/Object;")) (.int 0)).before a0 s0 = true := hf _ (by decide +kernel)
  obtain ⟨t, h1, h2⟩ := va_Tof (N := 0) (f := fun _ => .null) (A := fun q => s0.heap.size ≤ q) (by decide) harr (va_eqt hlen) (fun j hj => absurd hj (Nat.not_lt_zero j)) (fun a ha => Nat.not_le.mpr ha)
  have e : yz s0 a0 1 = t := by
    unfold yz
    rw [if_pos (by decide)]
    show (match (Term.static "java/util/ArrayList" "EMPTY_ELEMENTDATA" "[Ljava/lang/Object;").eval a0 s0 none [] s0 with | some (.ref a) => a | _ => 0) = t
    rw [h1]
  rw [e]
  exact ⟨h1, h2⟩
theorem y_stat_z1 (C : yC p R s m args meth c cc nL own D s0 a0 A) {index : Nat} (h3 : Cond.fieldLink own index "java/util/ArrayList" "EMPTY_ELEMENTDATA" "[Ljava/lang/Object;" ∈ lw_all) (d : decode cc pc = .ok (.getstatic index, 3)) (k : Y p l e R s m args below meth c Q D s0 A nL M rc rs lv (pc + 3) (yr (some (yz s0 a0 1)) :: st)) : Y p l e R s m args below meth c Q D s0 A nL M rc rs lv pc st := y_statv (v := yr (some (yz s0 a0 1))) (ref := "") C q1099 (lw_all_tbl q90) (yz_1 C.2.2.1).1 h3 d k
theorem yz_2 (hB : yB D s0 a0) : va_Mi "java/util/ArrayList" (yz s0 a0 2) s0 := by
  have hf : ∀ w ∈ flatC (Jvm.Cond.and given_1 narrow_1), w.before a0 s0 = true := flat_of_before _ hB.2.1
  obtain ⟨mi, h⟩ := va_Mi.of (C := "java/util/ArrayList") (hf _ (by decide +kernel))
  have e : yz s0 a0 2 = mi := yzM_of h
  rw [e]
  exact h
theorem y_ldcM2 (C : yC p R s m args meth c cc nL own D s0 a0 A) {index : Nat} (h1 : Cond.classLink own index "java/util/ArrayList" ∈ lw_all) (d : decode cc pc = .ok (.ldc index, 2)) (k : Y p l e R s m args below meth c Q D s0 A nL M rc rs lv (pc + 2) (yr (some (yz s0 a0 2)) :: st)) : Y p l e R s m args below meth c Q D s0 A nL M rc rs lv pc st := fun H locs cells slots ls hw hS hc hs hl => va_ldcM C.1.1 C.1.2.1 C.ow (C.hts _ h1) ((yz_2 C.2.2.1).moved C.2.2.2.2.2.2.2.alike) d (k H locs cells slots ls hw hS hc hs hl)
theorem yz_3 (hB : yB D s0 a0) : va_Mi "[Ljava/lang/Object;" (yz s0 a0 3) s0 := by
  have hf : ∀ w ∈ flatC (Jvm.Cond.and given_1 narrow_1), w.before a0 s0 = true := flat_of_before _ hB.2.1
  obtain ⟨mi, h⟩ := va_Mi.of (C := "[Ljava/lang/Object;") (hf _ (by decide +kernel))
  have e : yz s0 a0 3 = mi := yzM_of h
  rw [e]
  exact h
theorem y_ldcM3 (C : yC p R s m args meth c cc nL own D s0 a0 A) {index : Nat} (h1 : Cond.classLink own index "[Ljava/lang/Object;" ∈ lw_all) (d : decode cc pc = .ok (.ldc index, 2)) (k : Y p l e R s m args below meth c Q D s0 A nL M rc rs lv (pc + 2) (yr (some (yz s0 a0 3)) :: st)) : Y p l e R s m args below meth c Q D s0 A nL M rc rs lv pc st := fun H locs cells slots ls hw hS hc hs hl => va_ldcM C.1.1 C.1.2.1 C.ow (C.hts _ h1) ((yz_3 C.2.2.1).moved C.2.2.2.2.2.2.2.alike) d (k H locs cells slots ls hw hS hc hs hl)
theorem y_getCA (C : yC p R s m args meth c cc nL own D s0 a0 A) {index a n : Nat} {f : Nat → Option Nat} (h1 : Cond.methodLink own index ⟨"java/lang/Object", "getClass", "()Ljava/lang/Class;"⟩ ∈ lw_all) (hM : M a = some (yaq "java/lang/Object" n f)) (hcat : (st.map ycat).sum ≤ 8) (hf : 1 ≤ R.frames) (ho : 32 ≤ R.locals) (d : decode cc pc = .ok (.invokevirtual index, 3)) (k : Y p l e R s m args below meth c Q D s0 A nL M rc rs lv (pc + 3) (yr (some (yz s0 a0 3)) :: st)) : Y p l e R s m args below meth c Q D s0 A nL M rc rs lv pc (yr (some a) :: st) := by
  intro H locs cells slots ls hw hS hc hs hl
  have h9 := ycat_sum st
  obtain ⟨⟨x, hx, he⟩, -⟩ := hw a _ hM
  obtain ⟨cA, e9, g1, kA, comp, r1, r2, r3, r4⟩ := y_inl he
  subst e9
  exact va_getC C.1.1 C.1.2.1 (C.1.2.2.1.trans hl.1.symm) C.ow (C.hts _ h1) (va_Nw.use rfl (va_any rfl (C.wt q1092) |> fun h => va_Nw.warmD C.2.2.2.2.2.2.2 h)) (C.hts _ q1610) (C.hts _ q541) (C.hts _ q554) ((yz_3 C.2.2.1).moved C.2.2.2.2.2.2.2.alike) ⟨_, hx, rfl, r4⟩ hf (by omega) d (k H locs cells slots ls hw hS hc hs hl)
theorem y_callSNi (C : yC p R s m args meth c cc nL own D s0 a0 A) {y : MethodName} {bytes : ByteArray} {mL fr lo mc ms index n : Nat} {ret : Option FieldType} {ws : List Cond} {As rest : List yV} {host : String} {post : Int32 → yM → Prop} (hM : yMi l y ws fr lo mc ms D s0 As M post) (cw : va_CN R s args own index y host bytes mL ret ws { frames := fr, cells := mc, slots := ms, locals := lo } mc ms n ∧ (Cond.static y).before args s = true ∧ True) (hn : As.length = n) (hst : st = As.reverse ++ rest) (hcat : (rest.map ycat).sum ≤ 8) (d : decode cc pc = .ok (.invokestatic index, 3)) (h1 : mc ≤ rc) (h2 : ms ≤ rs) (kk : ∀ (r : Int32) (M1 : yM), post r M1 → Y p l e R s m args below meth c Q D s0 A nL M1 (rc - mc) (rs - ms) lv (pc + 3) (yi r :: rest)) : Y p l e R s m args below meth c Q D s0 A nL M rc rs lv pc st := by
  intro H locs cells slots ls hw hS hc hs hl
  subst hst
  refine va_calli (va_runSN (As := yvs As) (rest := yvs rest) C.1 (hM A) cw ⟨y_blind, fun U hU hW => ⟨rfl, y_pre C hw hS hU hW⟩⟩ rfl (by rw [yvs_len]; exact hn) hl.1 ?_ (lv_room (by rw [ycat_sum]; exact hcat)) d ⟨by omega, by omega⟩) hS (fun q _ h => h) (fun q h => h) (fun r u t H1 locs1 ht hvm hp hB hz hk hS1 => kk r u hp H1 locs1 (cells + mc) (slots + ms) ls (by rw [ht] at hB; exact hB.moved hvm.symm) hS1 (by omega) (by omega) hl)
  show yvs _ = (yvs As).reverse ++ yvs rest
  first | (rw [yvs_app, yvs_rev]; done) | (rw [yvs_app, yvs_rev]; rfl)
theorem y_callSNq (C : yC p R s m args meth c cc nL own D s0 a0 A) {y : MethodName} {bytes : ByteArray} {mL fr lo mc ms index n : Nat} {ret : Option FieldType} {ws : List Cond} {As rest : List yV} {host : String} {post : Option Nat → yM → Prop} (hM : yMq l y ws fr lo mc ms D s0 As M post) (cw : va_CN R s args own index y host bytes mL ret ws { frames := fr, cells := mc, slots := ms, locals := lo } mc ms n ∧ (Cond.static y).before args s = true ∧ True) (hn : As.length = n) (hst : st = As.reverse ++ rest) (hcat : (rest.map ycat).sum ≤ 8) (d : decode cc pc = .ok (.invokestatic index, 3)) (h1 : mc ≤ rc) (h2 : ms ≤ rs) (kk : ∀ (r : Option Nat) (M1 : yM), post r M1 → Y p l e R s m args below meth c Q D s0 A nL M1 (rc - mc) (rs - ms) lv (pc + 3) (yr r :: rest)) : Y p l e R s m args below meth c Q D s0 A nL M rc rs lv pc st := by
  intro H locs cells slots ls hw hS hc hs hl
  subst hst
  refine va_callq (va_runSN (As := yvs As) (rest := yvs rest) C.1 (hM A) cw ⟨y_blind, fun U hU hW => ⟨rfl, y_pre C hw hS hU hW⟩⟩ rfl (by rw [yvs_len]; exact hn) hl.1 ?_ (lv_room (by rw [ycat_sum]; exact hcat)) d ⟨by omega, by omega⟩) hS (fun q _ h => h) (fun q h => h) (fun r u t H1 locs1 ht hvm hp hB hz hk hS1 => kk r u hp H1 locs1 (cells + mc) (slots + ms) ls (by rw [ht] at hB; exact hB.moved hvm.symm) hS1 (by omega) (by omega) hl)
  show yvs _ = (yvs As).reverse ++ yvs rest
  first | (rw [yvs_app, yvs_rev]; done) | (rw [yvs_app, yvs_rev]; rfl)
theorem y_callINv (C : yC p R s m args meth c cc nL own D s0 a0 A) {y : MethodName} {bytes : ByteArray} {mL fr lo mc ms index n : Nat} {ws : List Cond} {As rest : List yV} {b : Nat} {host : String} {post : yM → Prop} (hM : yMv l y ws fr lo mc ms D s0 (yr (some b) :: As) M post) (cw : va_CN R s args own index y host bytes mL none ws { frames := fr, cells := mc, slots := ms, locals := lo } mc ms n ∧ y.name = "<init>" ∧ (Cond.instanceMethod y).before args s = true) (hn : As.length = n) (hst : st = As.reverse ++ yr (some b) :: rest) (hcat : (rest.map ycat).sum ≤ 8) (d : decode cc pc = .ok (.invokespecial index, 3)) (h1 : mc ≤ rc) (h2 : ms ≤ rs) (kk : ∀ M1 : yM, post M1 → Y p l e R s m args below meth c Q D s0 A nL M1 (rc - mc) (rs - ms) lv (pc + 3) rest) : Y p l e R s m args below meth c Q D s0 A nL M rc rs lv pc st := by
  intro H locs cells slots ls hw hS hc hs hl
  subst hst
  refine va_callv (va_runIN (As := yvs As) (rest := yvs rest) C.1 (hM A) cw ⟨y_blind, fun U hU hW => ⟨rfl, y_pre C hw hS hU hW⟩⟩ rfl (by rw [yvs_len]; exact hn) hl.1 ?_ (lv_room (by rw [ycat_sum]; exact hcat)) d ⟨by omega, by omega⟩) hS (fun q _ h => h) (fun q h => h) (fun u t H1 locs1 ht hvm hp hB hz hk hS1 => kk u hp H1 locs1 (cells + mc) (slots + ms) ls (by rw [ht] at hB; exact hB.moved hvm.symm) hS1 (by omega) (by omega) hl)
  show yvs _ = (yvs As).reverse ++ .ref b :: yvs rest
  first | (rw [yvs_app, yvs_rev]; done) | (rw [yvs_app, yvs_rev]; rfl)
theorem y_callSNi0 (C : yC p R s m args meth c cc nL own D s0 a0 A) {y : MethodName} {bytes : ByteArray} {mL fr lo index n : Nat} {ret : Option FieldType} {ws : List Cond} {As rest : List yV} {host : String} {post : Int32 → yM → Prop} (hM : yMi l y ws fr lo 0 0 D s0 As M post) (cw : va_CN R s args own index y host bytes mL ret ws { frames := fr, cells := 0, slots := 0, locals := lo } 0 0 n ∧ (Cond.static y).before args s = true ∧ True) (hn : As.length = n) (hst : st = As.reverse ++ rest) (hcat : (rest.map ycat).sum ≤ 8) (d : decode cc pc = .ok (.invokestatic index, 3)) (kk : ∀ (r : Int32) (M1 : yM), post r M1 → Y p l e R s m args below meth c Q D s0 A nL M1 rc rs lv (pc + 3) (yi r :: rest)) : Y p l e R s m args below meth c Q D s0 A nL M rc rs lv pc st := by
  intro H locs cells slots ls hw hS hc hs hl
  subst hst
  refine va_calli (va_runSN (As := yvs As) (rest := yvs rest) C.1 (hM A) cw ⟨y_blind, fun U hU hW => ⟨rfl, y_pre C hw hS hU hW⟩⟩ rfl (by rw [yvs_len]; exact hn) hl.1 ?_ (lv_room (by rw [ycat_sum]; exact hcat)) d ⟨by omega, by omega⟩) hS (fun q _ h => h) (fun q h => h) (fun r u t H1 locs1 ht hvm hp hB hz hk hS1 => kk r u hp H1 locs1 (cells + 0) (slots + 0) ls (by rw [ht] at hB; exact hB.moved hvm.symm) hS1 (by omega) (by omega) hl)
  show yvs _ = (yvs As).reverse ++ yvs rest
  first | (rw [yvs_app, yvs_rev]; done) | (rw [yvs_app, yvs_rev]; rfl)
theorem y_callSNq0 (C : yC p R s m args meth c cc nL own D s0 a0 A) {y : MethodName} {bytes : ByteArray} {mL fr lo index n : Nat} {ret : Option FieldType} {ws : List Cond} {As rest : List yV} {host : String} {post : Option Nat → yM → Prop} (hM : yMq l y ws fr lo 0 0 D s0 As M post) (cw : va_CN R s args own index y host bytes mL ret ws { frames := fr, cells := 0, slots := 0, locals := lo } 0 0 n ∧ (Cond.static y).before args s = true ∧ True) (hn : As.length = n) (hst : st = As.reverse ++ rest) (hcat : (rest.map ycat).sum ≤ 8) (d : decode cc pc = .ok (.invokestatic index, 3)) (kk : ∀ (r : Option Nat) (M1 : yM), post r M1 → Y p l e R s m args below meth c Q D s0 A nL M1 rc rs lv (pc + 3) (yr r :: rest)) : Y p l e R s m args below meth c Q D s0 A nL M rc rs lv pc st := by
  intro H locs cells slots ls hw hS hc hs hl
  subst hst
  refine va_callq (va_runSN (As := yvs As) (rest := yvs rest) C.1 (hM A) cw ⟨y_blind, fun U hU hW => ⟨rfl, y_pre C hw hS hU hW⟩⟩ rfl (by rw [yvs_len]; exact hn) hl.1 ?_ (lv_room (by rw [ycat_sum]; exact hcat)) d ⟨by omega, by omega⟩) hS (fun q _ h => h) (fun q h => h) (fun r u t H1 locs1 ht hvm hp hB hz hk hS1 => kk r u hp H1 locs1 (cells + 0) (slots + 0) ls (by rw [ht] at hB; exact hB.moved hvm.symm) hS1 (by omega) (by omega) hl)
  show yvs _ = (yvs As).reverse ++ yvs rest
  first | (rw [yvs_app, yvs_rev]; done) | (rw [yvs_app, yvs_rev]; rfl)
theorem y_callINv0 (C : yC p R s m args meth c cc nL own D s0 a0 A) {y : MethodName} {bytes : ByteArray} {mL fr lo index n : Nat} {ws : List Cond} {As rest : List yV} {b : Nat} {host : String} {post : yM → Prop} (hM : yMv l y ws fr lo 0 0 D s0 (yr (some b) :: As) M post) (cw : va_CN R s args own index y host bytes mL none ws { frames := fr, cells := 0, slots := 0, locals := lo } 0 0 n ∧ y.name = "<init>" ∧ (Cond.instanceMethod y).before args s = true) (hn : As.length = n) (hst : st = As.reverse ++ yr (some b) :: rest) (hcat : (rest.map ycat).sum ≤ 8) (d : decode cc pc = .ok (.invokespecial index, 3)) (kk : ∀ M1 : yM, post M1 → Y p l e R s m args below meth c Q D s0 A nL M1 rc rs lv (pc + 3) rest) : Y p l e R s m args below meth c Q D s0 A nL M rc rs lv pc st := by
  intro H locs cells slots ls hw hS hc hs hl
  subst hst
  refine va_callv (va_runIN (As := yvs As) (rest := yvs rest) C.1 (hM A) cw ⟨y_blind, fun U hU hW => ⟨rfl, y_pre C hw hS hU hW⟩⟩ rfl (by rw [yvs_len]; exact hn) hl.1 ?_ (lv_room (by rw [ycat_sum]; exact hcat)) d ⟨by omega, by omega⟩) hS (fun q _ h => h) (fun q h => h) (fun u t H1 locs1 ht hvm hp hB hz hk hS1 => kk u hp H1 locs1 (cells + 0) (slots + 0) ls (by rw [ht] at hB; exact hB.moved hvm.symm) hS1 (by omega) (by omega) hl)
  show yvs _ = (yvs As).reverse ++ .ref b :: yvs rest
  first | (rw [yvs_app, yvs_rev]; done) | (rw [yvs_app, yvs_rev]; rfl)
theorem y_copyq (C : yC p R s m args meth c cc nL own D s0 a0 A) {index b0 b1 n0 n1 : Nat} {E0 E1 : String} {f g : Nat → Option Nat} {sp dp n : Int32} (h1 : Cond.methodLink own index arraycopyName ∈ lw_all) (h2 : Cond.native arraycopyName ∈ lw_all) (h3 : Cond.static arraycopyName ∈ lw_all) (h4 : Cond.initialized "java/lang/System" ∈ lw_all) (hM0 : M b0 = some (yaq E0 n0 f)) (hM1 : M b1 = some (yaq E1 n1 g)) (p0 : 0 < n0) (p1 : 0 < n1) (q1 : ¬ sp < 0) (q2 : ¬ dp < 0) (q3 : ¬ n < 0) (q4 : sp.toNatClampNeg + n.toNatClampNeg ≤ n0) (q5 : dp.toNatClampNeg + n.toNatClampNeg ≤ n1) (hel : ∀ i : Nat, i < n.toNatClampNeg → ∀ v : Nat, f (sp.toNatClampNeg + i) = some v → ∃ ci vs, M v = some (yo ci vs) ∧ yAsg E1 ci) (hcat : (st.map ycat).sum ≤ 8) (hf : 1 ≤ R.frames) (ho : 64 ≤ R.locals) (d : decode cc pc = .ok (.invokestatic index, 3)) (k : Y p l e R s m args below meth c Q D s0 A nL (yup M b1 (yaq E1 n1 (va_cpy f g sp.toNatClampNeg dp.toNatClampNeg n.toNatClampNeg))) rc rs lv (pc + 3) st) : Y p l e R s m args below meth c Q D s0 A nL M rc rs lv pc (yi n :: yi dp :: yr (some b1) :: yi sp :: yr (some b0) :: st) := by
  intro H locs cells slots ls hw hS hc hs hl
  have h9 := ycat_sum st
  have hnw : nativeFrameWords "java/lang/System" "arraycopy" 5 + 11 ≤ 56 := by decide +kernel
  obtain ⟨ws, hP, hD, hws⟩ := y_dn hw
  obtain ⟨k0, x0, g0, e0⟩ := hws b0 _ hM0 (yA_arr hw hM0 p0)
  obtain ⟨c0, x0e, a1, a2⟩ := y_inl e0
  subst x0e
  obtain ⟨k1, x1, g1, e1⟩ := hws b1 _ hM1 (yA_arr hw hM1 p1)
  obtain ⟨c1, x1e, b1', b2⟩ := y_inl e1
  subst x1e
  have hK : va_K D y_cl [(c0, .object E0), (c1, .object E1)] s := (y_K1 C.K a1 a2).app (y_K1 C.K b1' b2)
  exact va_copyM C.1.1 C.1.2.1 (C.1.2.2.1.trans hl.1.symm) C.ow (C.hts _ h1) (C.hts _ h2) (C.hts _ h3) (C.hts _ h4) hK hP hD hS k0 k1 0 1 g0 g1 rfl rfl q1 q2 q3 q4 q5 (fun i hi v hv => by obtain ⟨ci, vs, r1, r2⟩ := hel i hi v hv; exact C.any r2 hw r1) hf (by omega) d (fun H1 locs1 hP1 hD1 hS1 => k H1 locs1 cells slots ls (y_upset C.2.2.2 hS hS1 hw hws hD g1 hP1 ⟨rfl, b1', b2⟩) hS1 hc hs hl)
/-- arraycopy of bytes -/
theorem y_copyb (C : yC p R s m args meth c cc nL own D s0 a0 A) {index b0 b1 n0 n1 : Nat} {f g : Nat → Int32} {sp dp n : Int32} (h1 : Cond.methodLink own index arraycopyName ∈ lw_all) (h2 : Cond.native arraycopyName ∈ lw_all) (h3 : Cond.static arraycopyName ∈ lw_all) (h4 : Cond.initialized "java/lang/System" ∈ lw_all) (hM0 : M b0 = some (yab n0 f)) (hM1 : M b1 = some (yab n1 g)) (p0 : 0 < n0) (p1 : 0 < n1) (q1 : ¬ sp < 0) (q2 : ¬ dp < 0) (q3 : ¬ n < 0) (q4 : sp.toNatClampNeg + n.toNatClampNeg ≤ n0) (q5 : dp.toNatClampNeg + n.toNatClampNeg ≤ n1) (hel : ∀ i : Nat, i < n.toNatClampNeg → fits .byte (.int (f (sp.toNatClampNeg + i))) = true) (hcat : (st.map ycat).sum ≤ 8) (hf : 1 ≤ R.frames) (ho : 64 ≤ R.locals) (d : decode cc pc = .ok (.invokestatic index, 3)) (k : Y p l e R s m args below meth c Q D s0 A nL (yup M b1 (yab n1 (va_cpy f g sp.toNatClampNeg dp.toNatClampNeg n.toNatClampNeg))) rc rs lv (pc + 3) st) : Y p l e R s m args below meth c Q D s0 A nL M rc rs lv pc (yi n :: yi dp :: yr (some b1) :: yi sp :: yr (some b0) :: st) := by
  intro H locs cells slots ls hw hS hc hs hl
  have h9 := ycat_sum st
  have hnw : nativeFrameWords "java/lang/System" "arraycopy" 5 + 11 ≤ 56 := by decide +kernel
  obtain ⟨ws, hP, hD, hws⟩ := y_dn hw
  obtain ⟨k0, x0, g0, e0⟩ := hws b0 _ hM0 (yA_arr hw hM0 p0)
  obtain ⟨c0, x0e, a1, a2⟩ := y_inl e0
  subst x0e
  obtain ⟨k1, x1, g1, e1⟩ := hws b1 _ hM1 (yA_arr hw hM1 p1)
  obtain ⟨c1, x1e, b1', b2⟩ := y_inl e1
  subst x1e
  have hK : va_K D y_cl [(c0, .byte), (c1, .byte)] s := (y_K1 C.K a1 a2).app (y_K1 C.K b1' b2)
  exact va_copyi C.1.1 C.1.2.1 (C.1.2.2.1.trans hl.1.symm) C.ow (C.hts _ h1) (C.hts _ h2) (C.hts _ h3) (C.hts _ h4) hK hP hD hS k0 k1 0 1 g0 g1 rfl rfl rfl q1 q2 q3 q4 q5 hel hf (by omega) d (fun H1 locs1 hP1 hD1 hS1 => k H1 locs1 cells slots ls (y_upset C.2.2.2 hS hS1 hw hws hD g1 hP1 ⟨rfl, b1', b2⟩) hS1 hc hs hl)
end YR2

set_option maxRecDepth 100000
/-- entry mi of cK's pool is resolved to the static method y of an initialised class -/
def yStat (e : Env) (U : State) (cK mi : Nat) (y : MethodName) (n : Nat) : Prop :=
  ∃ t kt metht, plainRef U e cK mi ∧ U.vm.methodReady cK mi t ∧ U.vm.classes[t.cls]? = some kt ∧ U.vm.method? t = some metht ∧ signaturePolymorphic kt metht = false ∧ metht.isStatic = true ∧ kt.init = .initialized ∧ metht.sig.parameters.length = n ∧ U.methodNamed? y = some t
theorem yStat_of {e : Env} {U : State} {cK mi ci nt n : Nat} {y : MethodName} {kK tk : Class} {file : ClassFile} {toy : ClassId} {t : MethodId} {bytes : ByteArray} {maxL : Nat} {ret : Option FieldType} {sig : MethodDescriptor}
    (hkK : U.vm.classes[cK]? = some kK) (hfile : kK.cf = some file) (hM : file.constantPool[mi]? = some (.methodref ci nt)) (hnt : file.constantPool.nameAndType? nt = some (y.name, y.desc))
    (hready : U.vm.methodReady cK mi t) (hclsR : U.vm.classReady cK ci toy) (htoy : U.vm.findClass y.cls = some toy) (htk : U.vm.classes[toy]? = some tk)
    (hlook : ((methodIn toy y.name y.desc tk.isInterface none).ask { classPath := fun _ => none } U.vm).1 = .ok t)
    (hy : y.cls ≠ "java/lang/invoke/MethodHandle" ∧ y.cls ≠ "java/lang/invoke/VarHandle")
    (hcode : (Cond.code y bytes maxL ret).before #[] U = true) (hst : (Cond.static y).before #[] U = true) (hini : (Cond.initialized y.cls).before #[] U = true)
    (hsig : parseMethodDescriptor y.desc = some sig) (hn : sig.parameters.length = n) : yStat e U cK mi y n := by
  cases hnB : U.methodNamed? y with
  | none => simp [Cond.before, Cond.holds, Cond.value, hnB] at hcode
  | some mB =>
  obtain ⟨methB, cB, hmB, -, -, -, -, -, -, hsigB⟩ := Cond.code_spec hnB hcode
  have hfT : U.vm.findClass y.cls = some mB.cls := findClass_of_methodNamed hnB
  cases htoy.symm.trans hfT
  obtain ⟨kT', hkT', hnameT⟩ := className_of_methodNamed hnB
  cases htk.symm.trans hkT'
  have h1 : U.methodFound? y.cls y.name y.desc = some mB := State.methodFound?_of_named hnB hy
  simp only [State.methodFound?, hfT, htk, Option.bind_eq_bind, Option.bind_some] at h1
  rw [hlook] at h1
  cases h1
  have hsp : ∀ z : Method, signaturePolymorphic tk z = false := fun z => by simp [signaturePolymorphic, hnameT, hy.1, hy.2]
  obtain ⟨b, hmem⟩ := memberRef_ask' (e := e) (vm := U.vm) (d := cK) (index := mi) hkK hfile (Or.inl hM) hnt
  exact ⟨t, tk, methB, ⟨ci, _, _, b, t.cls, tk, hmem, hclsR, htk, by simp [hsp]⟩, hready, htk, hmB, hsp _, Cond.static_spec hnB hmB hst, Cond.initialized_spec hfT htk hini, by rw [← Option.some.inj (hsig.symm.trans hsigB)]; exact hn, hnB⟩
theorem y_castR {l : Launch} {p : Program} {e : Env} {R : Room} {s : State} {m : MethodId} {args : Array Value} {below : List Frame} {meth : Method} {c : Code} {T : State} {locs : List Loc} {cells slots : Nat} (Y : Stand p l e R s m args below meth c T locs cells slots) (hexec : p.tables.exec = Jvm.exec) {g : JFrame} (hg : g.method = m) {index cT a : Nat} {rest : List Value} (hr : T.vm.classReady m.cls index cT) (hstack : g.stack = .ref a :: rest)
    {cell : Cell} {ks kt : Class} (h1 : T.heap[a]? = some cell) (h2 : ∀ k, cell.vm ≠ .statics k) (h3 : T.vm.classes[cell.cls]? = some ks) (h4 : T.vm.classes[cT]? = some kt) (h5 : T.vm.assignable cell.cls cT = true) (hdg : decode c.code g.pc = .ok (.checkcast index, 3)) : Steps p.tables e below (T.setTop g) (T.setTop { g with pc := g.pc + 3 }) := by
  subst hg
  jvm_step Y.here [hexec, hdg, checkcast.wp_ready (e := e) (s := T) (c := cT) (x := .ref a) (rest := rest) (f := g) Y.here.top hr hstack]
  exact ⟨cell, h1, h2, ks, h3, kt, h4, by rw [if_pos h5]; exact Steps.refl _⟩
/-- the made class's second method, entered: a static int method of one object, behind a cast -/
theorem y_cap1 {l : Launch} {p : Program} {e : Env} (hexec : p.tables.exec = Jvm.exec) {Rm R' : Room} {below : List Frame} {s : State} {args : Array Value} {m : MethodId} {meth : Method} {c : Code} {U : State} {L : List Loc} {cells slots : Nat} (X : Stand p l e Rm s m args below meth c U L cells slots)
    {cK ci mi cT : Nat} {y : MethodName} {methk : Method} {ck : Code} {len : Nat} {g : JFrame} {ig : Instr} {f v : Nat}
    (hd0 : decode ck.code 0 = .ok (.aload_n 1, 1)) (hd1 : decode ck.code 1 = .ok (.checkcast ci, 3)) (hd4 : decode ck.code 4 = .ok (.invokestatic mi, 3)) (hd7 : decode ck.code 7 = .ok (.ireturn, 1))
    (hmk : U.vm.method? ⟨cK, 1⟩ = some methk) (hck : methk.code = some ck) (hlk : methk.locks = false) (hpk : U.plainMethod ⟨cK, 1⟩) (hmL : ck.maxLocals = 2) (hret : methk.sig.returnType = some .int) (hcr : U.vm.classReady cK ci cT) (hS : yStat e U cK mi y 1)
    {cell : Cell} {ks kt0 : Class} (hcell : U.heap[v]? = some cell) (hcv : ∀ k, cell.vm ≠ .statics k) (hks : U.vm.classes[cell.cls]? = some ks) (hkt0 : U.vm.classes[cT]? = some kt0) (has : U.vm.assignable cell.cls cT = true)
    {PreT : Pt → Array Value → Prop} {PostT : Pt → Array Value → Option Value → Pt → Prop}
    (hT : Back l R' p e (.java g :: below) (U.calling g ⟨cK, 1⟩ #[.ref f, .ref v]) #[.ref f, .ref v] y 3 0 PreT PostT)
    (hretT : ∀ A a w B, PostT A a w B → ∃ r : Int32, w = some (.int r))
    (hg : g.method = m) (hsize : g.locals.size = c.maxLocals) (hdg : decode c.code g.pc = .ok (ig, len))
    (hfr : R'.frames + 1 ≤ Rm.frames) (hlo : 2 * g.monitorRoom + (g.stack.map fun v => v.category).sum + (2 + 11) + R'.locals ≤ Rm.locals) (hcells : cells + R'.cells ≤ Rm.cells) (hslots : slots + R'.slots ≤ Rm.slots)
    (hpre : ∀ U₀ : State, U₀.vm = U.vm → U₀.heap = U.heap → PreT ⟨U₀, [], 0, 0⟩ #[.ref v]) :
    ∃ (r : Int32) (T' U₀ U₁ : State) (L₁ : List Loc) (c₁ n₁ : Nat), Stand p l e Rm s m args below meth c T' (L ++ L₁) (cells + c₁) (slots + n₁) ∧ U₀.vm = U.vm ∧ U₀.heap = U.heap ∧ PostT ⟨U₀, [], 0, 0⟩ #[.ref v] (some (.int r)) ⟨U₁, L₁, c₁, n₁⟩ ∧ T'.heap = U₁.heap ∧ T'.vm = U₁.vm ∧
      ∀ acts, Steps p.tables e below (doInvoke e (U.setTop g) acts ⟨cK, 1⟩ #[.ref f, .ref v]).1 (T'.setTop { g with pc := g.pc + len, stack := .int r :: g.stack }) := by
  obtain ⟨Y₀, hin⟩ := X.into hg hsize hdg #[.ref f, .ref v] (R' := R') hmk hck hlk hpk hfr (by rw [hmL]; omega) hcells hslots
  obtain ⟨t, kt, metht, q1, q2, q3, q4, q5, q6, q7, q8, q9⟩ := hS
  have hent : entryFrame ⟨cK, 1⟩ #[.ref f, .ref v] 2 = { method := ⟨cK, 1⟩, pc := 0, locals := #[.val (.ref f), .val (.ref v)], stack := [], locked := none } := rfl
  generalize hU0 : (U.setTop g).pushFrame (.java (entryFrame ⟨cK, 1⟩ #[.ref f, .ref v] ck.maxLocals)) = U₀ at Y₀ hin
  have hvm : U₀.vm = U.vm := by rw [← hU0]; rfl
  have hheap : U₀.heap = U.heap := by rw [← hU0]; rfl
  rw [hmL, hent] at hin
  obtain ⟨w, ⟨U₁, L₁, c₁, n₁⟩, Y₁, hpost, st⟩ := hT ⟨cK, 1⟩ methk ck ⟨U₀, [], 0, 0⟩ { method := ⟨cK, 1⟩, pc := 4, locals := #[.val (.ref f), .val (.ref v)], stack := [], locked := none } (.invokestatic mi) t #[.ref v] Y₀ rfl (by rw [hmL]; rfl) hd4 (by show 2 * 0 + 0 ≤ 0; decide) (by show U₀.methodNamed? y = some t; rw [← hU0]; exact q9) (hpre U₀ hvm hheap)
  dsimp only [Pt.U, Pt.locs, Pt.cells, Pt.slots] at Y₁ st
  obtain ⟨r, rfl⟩ := hretT _ _ _ _ hpost
  obtain ⟨fs, hleave, -, hended, hWe, hsame⟩ := Y₁.leave (v := some (.int r)) (fun h => by rw [hret] at h; cases h) hlk
  obtain ⟨T', X', hW', -, ht⟩ := X.outOf hg hdg hended hWe hsame
  refine ⟨r, T', U₀, U₁, L₁, c₁, n₁, X', hvm, hheap, hpost, (congrArg State.heap ht).symm, (congrArg State.vm ht).symm, fun acts => ?_⟩
  rw [hin acts]
  show Steps p.tables e below _ (T'.setTop { g with pc := g.pc + len, stack := (some (Value.int r)).toList ++ g.stack })
  rw [← ht]
  have weak : ∀ {a b : State}, Steps p.tables e (.java g :: below) a b → Steps p.tables e below a b := by
    intro a b h
    obtain ⟨n, hn, w⟩ := h
    exact ⟨n, hn, fun k hk => (w k hk).weaken (mid := [.java g])⟩
  refine weak ?_
  have hs : U₀.topJava?.isSome := Y₀.here.top
  have hm' : U₁.vm.method? ⟨cK, 1⟩ = some methk := Y₁.method'
  jvm_step Y₀.here [hexec, hd0]
  refine ⟨rfl, ?_⟩
  refine (y_castR Y₀ hexec (g := { method := ⟨cK, 1⟩, pc := 1, locals := #[.val (.ref f), .val (.ref v)], stack := [.ref v], locked := none }) rfl (rest := []) (by rw [hvm]; exact hcr) rfl (by rw [hheap]; exact hcell) hcv (by rw [hvm]; exact hks) (by rw [hvm]; exact hkt0) (by rw [hvm]; exact has) hd1).trans ?_
  show Steps p.tables e (.java g :: below) (U₀.setTop { method := ⟨cK, 1⟩, pc := 4, locals := #[.val (.ref f), .val (.ref v)], stack := [.ref v], locked := none }) _
  jvm_step Y₀.here [hexec, hd4, invokestatic.wp_ready (e := e) (s := U₀) (m := t) (k := kt) (meth := metht) (args := [.ref v]) (rest := [])
    (f := { method := ⟨cK, 1⟩, pc := 4, locals := #[.val (.ref f), .val (.ref v)], stack := [.ref v], locked := none }) hs (by rw [← hU0]; exact q1) (by rw [hvm]; exact q2) (by rw [hvm]; exact q3) (by rw [hvm]; exact q4) q5 q6 q7 q8.symm rfl]
  intro acts'
  rw [doInvoke_state]
  refine st.trans ?_
  show Steps p.tables e (.java g :: below) (U₁.setTop { method := ⟨cK, 1⟩, pc := 7, locals := #[.val (.ref f), .val (.ref v)], stack := [.int r], locked := none }) _
  jvm_step Y₁.here [Y₁.here.top, hexec, hd7, hm', hret, narrow]
  first | (intro acts; rw [hleave _ acts rfl rfl rfl]) | rw [hleave _ _ rfl rfl rfl]
  exact Steps.refl _
section YLR
variable {p : Program} {l : Launch} {e : Env} {R : Room} {s : State} {m : MethodId} {args : Array Value} {below : List Frame} {meth : Method} {c : Code} {Q : State → Prop} {D : va_G} {s0 : State} {a0 : Array Value} {A : Nat → Prop} {cc : ByteArray} {nL : Nat} {own : String} {M M' : yM} {rc rs : Nat} {lv : List (Option yV)} {pc : Nat} {st : List yV}
/-- the site's one object, at the law's start -/
def yL (s0 : State) (x : MethodName) (pc index : Nat) (sg : Lambda.Shape) (a : Nat) : Prop := ∃ cK : ClassId, s0.lambdaAt? x pc index sg = some (cK, some a)
theorem yL_of {s0 : State} {x : MethodName} {pc index : Nat} {sg : Lambda.Shape} {A0 : Array Value} (h : (Cond.lambdaSite x pc index sg).before A0 s0 = true) (hc : sg.captured = []) : yL s0 x pc index sg (yzA s0 (.lambdaSite x pc index sg)) := by
  obtain ⟨c, one, h1⟩ := Cond.lambdaSite_spec h
  obtain ⟨_, _, _, _, _, _, _, _, _, _, _, _, _, _, h2⟩ := State.lambdaAt?_spec h1
  rcases h2 with ⟨a, cell, -, rfl, -⟩ | ⟨-, -, h3⟩
  · refine ⟨c, ?_⟩
    have e : yzA s0 (.lambdaSite x pc index sg) = a := by simp [yzA, h1]
    rw [e]; exact h1
  · exact absurd hc h3
/-- the site's object in a heap of the method -/
theorem yL_cell (hb : yBase s0 A s) {H : Heap} {locs : List Loc} (hS : va_S A s.heap H locs) {a : Nat} {cell : Cell} (h : s0.heap[a]? = some cell) : H[a]? = some cell := by
  have hlt : a < s0.heap.size := (Array.getElem?_eq_some_iff.mp h).1
  rw [hS.2.1 a (Nat.lt_of_lt_of_le hlt hb.2.2.1) (fun hA => by have := hb.2.1 a hA; omega), hb.2.2.2.1 a hlt]; exact h
theorem y_tr9 {u U : State} {c : Cond} (hc : c.onTables = true) (h : c.before #[] (u.setVm U.vm) = true) {A9 : Array Value} : c.before A9 U = true := by
  have e := Cond.onTables_vm (A := #[]) (A' := A9) (U := u) (U' := U) U.vm c hc
  have hU : U.setVm U.vm = U := rfl
  rw [hU] at e
  rw [← e]
  exact h
theorem y_tbD (C : yC p R s m args meth c cc nL own D s0 a0 A) {x : MethodName} (h : Cond.declares x ∈ lw_tbl) : (Cond.declares x).before args s = true := y_tr9 (u := s0) rfl (by rw [Cond.declares_setVm C.2.2.2.2.2.2.2.alike]; exact va_any rfl (C.wt h))
theorem y_tbI (C : yC p R s m args meth c cc nL own D s0 a0 A) {x : MethodName} (h0 : Cond.declares x ∈ lw_tbl) (h : Cond.interfaceMethod x.cls x.cls x.name x.desc ∈ lw_tbl) (hx : x.cls ≠ "java/lang/invoke/MethodHandle" ∧ x.cls ≠ "java/lang/invoke/VarHandle") : (Cond.interfaceMethod x.cls x.cls x.name x.desc).before args s = true := by
  obtain ⟨r, meth9, hn, -⟩ := Cond.declares_spec (C.wt h0)
  exact y_tr9 (u := s0) rfl (by rw [Cond.interfaceMethod_setVm C.2.2.2.2.2.2.2.alike (r := r) hn hx]; exact va_any rfl (C.wt h))
theorem y_indy (C : yC p R s m args meth c cc nL own D s0 a0 A) {x : MethodName} {index a : Nat} {sg : Lambda.Shape} (hL : yL s0 x pc index sg a) (hnamed : s.methodNamed? x = some m) (hcat : (st.map ycat).sum ≤ 8) (ho : 3080 ≤ R.locals) (d : decode cc pc = .ok (.invokedynamic index, 5)) (k : Y p l e R s m args below meth c Q D s0 A nL M rc rs lv (pc + 5) (yr (some a) :: st)) : Y p l e R s m args below meth c Q D s0 A nL M rc rs lv pc st := by
  intro H locs cells slots ls hw hS hc hs hl
  obtain ⟨cK, h1⟩ := hL
  obtain ⟨m0, k0, cf, i0, p0, lk, hm, hk, -, -, -, hfind, -, -, h2⟩ := State.lambdaAt?_spec h1
  have hW : s0.WarmedH s.vm := C.2.2.2.2.2.2.2
  have hm' : s.methodNamed? x = some m0 := by
    have := State.methodNamed?_setVm (s := s0) hW.alike x
    rw [hm] at this
    exact this
  cases hnamed.symm.trans hm'
  obtain ⟨k', hk', he⟩ := hW.alike.2.2 _ _ hk
  rcases h2 with ⟨b, cell, rfl, hb, -⟩ | ⟨-, h3, -⟩
  · cases hb
    intro T hT X
    obtain ⟨t, g1, g2⟩ := k H locs cells slots ls hw hS hc hs hl T hT X
    refine ⟨t, X.lambdaConstant C.1.1 (g := F0 m pc ls (yvs st)) rfl (by rw [C.1.2.2.1]; exact hl.1) (by rw [C.1.2.1]; exact d) (k := k') hk' (i0 := i0) (p0 := p0) (a := a) (by rw [he]; exact hfind) ?_ g1, g2⟩
    have hp : e.platform.lambdaLinkWords = 3072 := by rw [X.admits.platform]
    rw [hp]
    show 2 * 0 + ((yvs st).map fun v => v.category).sum + 3072 ≤ R.locals
    rw [ycat_sum]; omega
  · cases h3
theorem y_rank (C : yC p R s m args meth c cc nL own D s0 a0 A) {x y : MethodName} {bytes : ByteArray} {pc0 idx0 index count a v ci N fr lo : Nat} {sg : Lambda.Shape} {cast : String} {T : u_T} {fs : List yV} {sig : MethodDescriptor} {post : Int32 → yM → Prop} (hL : yL s0 x pc0 idx0 sg a) (hx : x.cls = y.cls)
    (hsh : sg.iface = "DimensionLines$Rank" ∧ sg.name = "of" ∧ sg.sam.toString = "(Ljava/lang/Object;)I" ∧ sg.captured = []) (hf : yLf sg y cast) (hM : yMi l y (ws_ y bytes 1 (some .int)) fr lo 0 0 D s0 [yr (some v)] M post)
    (hG : GoodIn lw_all (ws_ y bytes 1 (some .int))) (hst9 : Cond.static y ∈ lw_all) (hini : Cond.initialized y.cls ∈ lw_all) (hy : y.cls ≠ "java/lang/invoke/MethodHandle" ∧ y.cls ≠ "java/lang/invoke/VarHandle") (hsig : parseMethodDescriptor y.desc = some sig ∧ sig.parameters.length = 1)
    (h1 : Cond.methodLink own index ⟨"DimensionLines$Rank", "of", "(Ljava/lang/Object;)I"⟩ ∈ lw_all) (h2 : Cond.declares ⟨"DimensionLines$Rank", "of", "(Ljava/lang/Object;)I"⟩ ∈ lw_tbl) (h3 : Cond.interfaceMethod "DimensionLines$Rank" "DimensionLines$Rank" "of" "(Ljava/lang/Object;)I" ∈ lw_tbl)
    (hv : M v = some (yo ci fs)) (hcl : y_cl[ci]? = some (cast, T, N)) (hcat : (st.map ycat).sum ≤ 8) (hfr : fr + 2 ≤ R.frames) (hlo : 33 + lo ≤ R.locals) (d : decode cc pc = .ok (.invokeinterface index count, 5))
    (kk : ∀ (r : Int32) (M1 : yM), post r M1 → Y p l e R s m args below meth c Q D s0 A nL M1 rc rs lv (pc + 5) (yi r :: st)) : Y p l e R s m args below meth c Q D s0 A nL M rc rs lv pc (yr (some v) :: yr (some a) :: st) := by
  intro H locs cells slots ls hw hS hc hs hl
  obtain ⟨cK, h9⟩ := hL
  obtain ⟨m0, k0, cf, i0, p0, lk, hm, hk, -, -, -, -, hmade0, hcan0, h8⟩ := State.lambdaAt?_spec h9
  have hW0 : s0.WarmedH s.vm := C.2.2.2.2.2.2.2
  obtain ⟨cell, hcell, hcK, hvm0⟩ : ∃ cell : Cell, s0.heap[a]? = some cell ∧ cell.cls = cK ∧ cell.vm = .none := by
    rcases h8 with ⟨b, cell, -, hb, -, hcell, hcK, hvm0, -⟩ | ⟨-, h7, -⟩
    · cases hb
      exact ⟨cell, hcell, hcK, hvm0⟩
    · cases h7
  obtain ⟨dk, hdk, hdn⟩ := className_of_methodNamed hm
  have hmadeS : Lambda.isMade { classPath := fun _ => none } s.vm m0.cls sg cK = true := Lambda.isMade_warmer hW0 hmade0
  obtain ⟨dkS, hdkS, heS⟩ := hW0.alike.2.2 _ _ hdk
  have hdnS : dkS.name = y.cls := by rw [heS, ← hx]; exact hdn
  have hcanS : s.lambdaCallable sg cK = true := by
    have hA := hW0.alike
    simp only [State.lambdaCallable, hA.findClass, hA.assignable, hA.superclasses, hA.declaredIn] at hcan0 ⊢
    exact hcan0
  obtain ⟨hcT, kT, hkT, -⟩ := (C.K.1 ci _ hcl).2
  obtain ⟨kS, tkS, fileS, methS, ckS, toyS, tS, hkS, hplS, hfileS, -, -, hmkS, hckS, hbS, hmlS, hlkS, hflS, hretS, -⟩ := hf s.vm m0.cls cK _ dkS hdkS hdnS hmadeS hcT
  have hdecl : (Cond.declares ⟨"DimensionLines$Rank", "of", "(Ljava/lang/Object;)I"⟩).before args s = true := y_tbD C h2
  have hface : (Cond.interfaceMethod "DimensionLines$Rank" "DimensionLines$Rank" "of" "(Ljava/lang/Object;)I").before args s = true := y_tbI (x := ⟨"DimensionLines$Rank", "of", "(Ljava/lang/Object;)I"⟩) C h2 h3 (by decide)
  have wU : ∀ w ∈ ws_ y bytes 1 (some .int), ∀ (a' : Array Value) (U : State), s.WarmedH U.vm → w.before a' U = true := pay_in C.hts hG
  have hcodeM : Cond.code y bytes 1 (some .int) ∈ ws_ y bytes 1 (some .int) := List.mem_cons_self
  have hcellH := yL_cell C.2.2.2 hS hcell
  obtain ⟨cv, hcv, hov, hclv⟩ := y_recv C hw hv hcl
  have hcv2 : s.vm.classes[cv.cls]? = some kT := by rw [← Option.some.inj (hcT.symm.trans hclv)]; exact hkT
  have hasg : s.vm.assignable cv.cls cv.cls = true := by rw [← Option.some.inj (hcT.symm.trans hclv)]; exact va_assign (C.K.1 ci _ hcl).2
  obtain ⟨r0, r, hn, hrm, hstR, hsigR⟩ := Cond.declares_spec hdecl
  obtain ⟨cL, kL, r1, hcL, hkL, hiL, hfoundL, hn1⟩ := Cond.interfaceMethod_spec hface
  cases hn.symm.trans hn1
  have hr0cls : r0.cls = cL := Option.some.inj ((findClass_of_methodNamed hn).symm.trans hcL)
  obtain ⟨hnameR, hdescR⟩ := name_of_methodNamed hn hrm
  obtain ⟨-, -, -, -, -, -, -, iface', -, -, -, -, found, -, -, -, -, -, hi', -, -, -, -, -, -, hfound', -, -, -, -, -, -, -, -, -, -, hsel⟩ := Lambda.isMade_spec hmadeS
  rw [hsh.1] at hi'
  cases hcL.symm.trans hi'
  have hfr0 : found = r0 := by
    have g1 : s.methodFound? "DimensionLines$Rank" "of" "(Ljava/lang/Object;)I" = some r0 := hfoundL
    simp only [State.methodFound?, hcL, hkL, hiL, Option.bind_eq_bind, Option.bind_some] at g1
    rw [hsh.2.1, hsh.2.2.1] at hfound'
    rw [hfound'] at g1
    exact Option.some.inj g1
  subst hfr0
  obtain ⟨i2, hi2, hasgK, hway⟩ := State.lambdaCallable_spec hcanS
  rw [hsh.1] at hi2
  cases hcL.symm.trans hi2
  refine va_callFi (rest := yvs st) (free := A) (A1 := A) (post := post) (B := fun u t => yCells D s0 A u t t.heap) (mc := 0) (ms := 0) (a := #[.ref a, .ref v]) (fun T hT X => ?_) hS (fun q _ h => h) (fun q h => h) (fun r u t H1 locs1 ht hvm hp hB hz hk hS1 => kk r u hp H1 locs1 (cells + 0) (slots + 0) ls (by rw [ht] at hB; exact hB.moved hvm.symm) hS1 (by omega) (by omega) hl)
  obtain ⟨vm1, X1, hstep1⟩ := X.invokeinterface C.1.1 C.ow (C.hts _ h1) hn hrm hstR (by rw [hr0cls]; exact hkL) hiL (by decide) (a := a) (cell := cell) (kcell := kS) (by rw [hT]; exact hcellH) (fun z h => by rw [hvm0] at h; cases h) (by rw [hcK]; exact hkS) (by rw [hr0cls, hcK]; exact hasgK)
    (m' := ⟨cK, 1⟩) (meth' := methS) (by rw [Launch.admits_selectMethod X.admits, hcK]; exact hsel) hmkS (by rw [hcK, hnameR, hdescR]; rw [hsh.2.1, hsh.2.2.1] at hway; exact hway) (by rw [hflS]; decide) (by simp [Method.isAbstract, hflS, hasFlag, Acc.abstract])
    (g := F0 m pc ls (.ref v :: .ref a :: yvs st)) rfl (argsL := [.ref v]) (rest := yvs st) (by rw [← Option.some.inj ((show parseMethodDescriptor "(Ljava/lang/Object;)I" = some ⟨[.object "java/lang/Object"], some .int⟩ from by decide +kernel).symm.trans hsigR)]; rfl) rfl (by rw [C.1.2.1]; exact d)
  have hW1 : s.WarmedH vm1 := X1.warmed
  have hmadeU := Lambda.isMade_warmer hW1 hmadeS
  obtain ⟨dkU, hdkU, heU⟩ := hW1.alike.2.2 _ _ hdkS
  have hcTU : vm1.findClass cast = some (D.1 ci) := by rw [hW1.alike.findClass]; exact hcT
  obtain ⟨kU, tkU, fileU, methU, ckU, toyU, tU, hkU, hplU, hfileU, hcM, hcN, hmkU, hckU, hbU, hmlU, hlkU, hflU, hretU, htoy, htk, hlook, hready, hclsR, hcast⟩ := hf vm1 m0.cls cK _ dkU hdkU (by rw [heU]; exact hdnS) hmadeU hcTU
  obtain ⟨kv1, hkv1, hev1⟩ := hW1.alike.2.2 _ _ hcv2
  have ecv := Option.some.inj (hcT.symm.trans hclv)
  have hd1 : decode c.code pc = .ok (.invokeinterface index count, 5) := by rw [C.1.2.1]; exact d
  have hW' : (T.setVm vm1).vm = vm1 := rfl
  obtain ⟨r, T', U0, U1, L1, c1, n1, X', hv0, hh0, ⟨g, mk, t, L, q1, q2, q3, q4, q5, q6, q7⟩, r1, r2, hsteps⟩ := y_cap1 C.1.1 X1 (R' := { frames := fr + 1, cells := 0, slots := 0, locals := 12 + lo }) (cK := cK) (ci := 14) (mi := 20) (cT := cv.cls) (y := y) (methk := methU) (ck := ckU) (len := 5) (g := F0 m pc ls (yvs st)) (f := a) (v := v)
    (by rw [hbU]; exact y_f0) (by rw [hbU]; exact y_f1) (by rw [hbU]; exact y_f4) (by rw [hbU]; exact y_f7) hmkU hckU hlkU (State.plainMethod.of_name (fun k' hk' => by cases hkU.symm.trans hk'; exact hplU)) hmlU hretU (by rw [← ecv]; exact hcast)
    (yStat_of (y := y) (ci := 16) (nt := 19) hkU hfileU hcM hcN hready hclsR htoy htk hlook hy (wU _ hcodeM #[] (T.setVm vm1) hW1) (word_at (U := T.setVm vm1) hW1 (Or.inl rfl) (C.hts _ hst9)) (word_at (U := T.setVm vm1) hW1 (Or.inl rfl) (C.hts _ hini)) hsig.1 hsig.2)
    (cell := cv) (by show T.heap[v]? = _; rw [hT]; exact hcv) (fun k9 hk9 => by rw [hk9] at hov; cases hov) hkv1 hkv1 (by show vm1.assignable _ _ = true; rw [hW1.alike.assignable]; exact hasg)
    (PreT := PreOf { frames := fr + 1, cells := 0, slots := 0, locals := 12 + lo } 0 0 (yPc D s0 A [yr (some v)] M)) (PostT := PostOf (yQi D s0 A post) 0 0 A)
    (back_of (bytes := bytes) (maxL := 1) (ret := some .int) (hM A) y_blind rfl rfl (Nat.le_refl _) (by show 0 + (1 + 11) + lo ≤ 12 + lo; omega) (fun w hw a9 U9 hW9 => wU w hw a9 U9 (State.WarmedH.trans (t := T.setVm vm1) hW1 hW9)) hcodeM (fun a9 U9 hW9 => word_at (State.WarmedH.trans (t := T.setVm vm1) hW1 hW9) (Or.inl rfl) (C.hts _ hini)))
    (fun A9 a9 v9 B9 h => by
      obtain ⟨g, mk, t, L, -, -, ⟨⟨r, u, hr, -⟩, -⟩, -⟩ := h
      exact ⟨r, Outcome.returned.inj hr⟩)
    rfl (by rw [C.1.2.2.1]; exact hl.1) hd1 (by show fr + 1 + 1 ≤ R.frames; omega) (by show 2 * 0 + ((yvs st).map fun v => v.category).sum + 13 + (12 + lo) ≤ R.locals; rw [ycat_sum]; omega) (by show cells + 0 ≤ R.cells; omega) (by show slots + 0 ≤ R.slots; omega)
    (fun U0 e1 e2 => ⟨Nat.zero_le _, Nat.zero_le _, rfl, y_pre C hw hS (by rw [e2]; exact hT) (by rw [e1]; exact hW1)⟩)
  dsimp only [Pt.U, Pt.locs, Pt.cells, Pt.slots] at q1 q2 q3 q4 q5 q6 q7
  simp only [List.nil_append, Nat.zero_add] at q4 q6 q7
  subst q4; subst q6; subst q7
  exact ⟨some (.int r), U0.calling g mk #[.ref v], t, T', L1, by show U0.heap = H; rw [hh0]; exact hT, X', q5, by rw [r1, q1], by rw [r2, q2], q3, fun target h => hstep1 _ fun acts => (hsteps acts).trans h⟩
theorem y_selC {U : State} {A9 : Array Value} {C0 I : String} (h : (Cond.selects C0 ⟨"java/lang/Object", "getClass", "()Ljava/lang/Class;"⟩ ⟨"java/lang/Object", "getClass", "()Ljava/lang/Class;"⟩).before A9 U = true) (hI : (Cond.interfaceMethod I "java/lang/Object" "getClass" "()Ljava/lang/Class;").before A9 U = true) : (Cond.selects C0 ⟨I, "getClass", "()Ljava/lang/Class;"⟩ ⟨"java/lang/Object", "getClass", "()Ljava/lang/Class;"⟩).before A9 U = true := by
  obtain ⟨cL, kL, r1, hcL, hkL, hiL, hfoundL, hn1⟩ := Cond.interfaceMethod_spec hI
  have e : U.methodFound? I "getClass" "()Ljava/lang/Class;" = U.methodFound? "java/lang/Object" "getClass" "()Ljava/lang/Class;" := by
    rw [hfoundL]
    exact (State.methodFound?_of_named hn1 (by decide)).symm
  simp only [Cond.before, Cond.holds, Cond.value] at h ⊢
  rw [e]; exact h
theorem y_getCI (C : yC p R s m args meth c cc nL own D s0 a0 A) {a count : Nat} {fs : List yV} (hown : own = "java/util/ArrayList") (hM : M a = some (yo 9 fs)) (hcat : (st.map ycat).sum ≤ 8) (hf : 1 ≤ R.frames) (ho : 32 ≤ R.locals) (d : decode cc pc = .ok (.invokeinterface 52 count, 5)) (k : Y p l e R s m args below meth c Q D s0 A nL M rc rs lv (pc + 5) (yr (some (yz s0 a0 2)) :: st)) : Y p l e R s m args below meth c Q D s0 A nL M rc rs lv pc (yr (some a) :: st) := by
  subst hown
  intro H locs cells slots ls hw hS hc hs hl
  have hal := C.2.2.2.2.2.2.2.alike
  obtain ⟨r9, meth9, hn9, -⟩ := Cond.declares_spec (C.wt q1092)
  have hface : (Cond.interfaceMethod "java/util/Collection" "java/lang/Object" "getClass" "()Ljava/lang/Class;").before args s = true := y_tr9 (u := s0) rfl (by
    have h9 : (Cond.interfaceMethod "java/util/Collection" "java/lang/Object" "getClass" "()Ljava/lang/Class;").before #[] s0 = true := va_any rfl (C.wt q1091)
    simp only [Cond.before, Cond.holds, Cond.value, State.methodFound?_setVm hal, State.methodNamed?_setVm hal, State.vm_setVm, hal.findClass, arm_isInterface_setVm hal] at h9 ⊢
    exact h9)
  obtain ⟨c0, k0, e1, e2, e3⟩ := (yz_2 C.2.2.1).moved hal
  obtain ⟨cell, g1, g2, g3⟩ := y_recv C hw hM rfl
  cases e1.symm.trans g3
  intro T hT X
  obtain ⟨vm1, X1, st1⟩ := X.getClassOfI C.1.1 (C := "java/util/ArrayList") (xi := ⟨"java/util/Collection", "getClass", "()Ljava/lang/Class;"⟩) C.ow (C.hts _ q1090) (y_tbD C q1092) hface (y_selC (C.hts _ q553) hface) (C.hts _ q541)
    (y_tr9 (u := s0) rfl (by rw [Cond.publicMethod_setVm hal]; exact va_any rfl (C.wt q1094))) (y_tr9 (u := s0) rfl (by rw [Cond.unhidden_setVm hal]; exact va_any rfl (C.wt q1093))) (va_Nw.use rfl (C.cast q1083)) (C.hts _ q554) (by decide) (by decide) rfl rfl
    e1 e2 ⟨cell, by rw [hT]; exact g1, rfl, g2⟩ e3 (g := F0 m pc ls (.ref a :: yvs st)) rfl (by rw [C.1.2.2.1]; exact hl.1) (rest := yvs st) rfl (by rw [C.1.2.1]; exact d) hf (by show 2 * 0 + ((yvs st).map fun v => v.category).sum + (nativeFrameWords "java/lang/Object" "getClass" 1 + 11) ≤ R.locals; have hw : nativeFrameWords "java/lang/Object" "getClass" 1 = 3 := (by decide); rw [ycat_sum]; omega)
  obtain ⟨t, h1, h2⟩ := k H locs cells slots ls hw hS hc hs hl (T.setVm vm1) hT X1
  exact ⟨t, st1 t h1, h2⟩
end YLR

/-! Rows of Y: calls through interfaces, inherited methods, super's methods, default methods; casts to an interface. Printed by gen/rows3.py. -/
set_option maxRecDepth 100000
theorem lw_F {own : String} {idx : Nat} {C : String} {x y : MethodName} {b : ByteArray} {L : Nat} {r : Option FieldType} (h1 : Cond.methodLink own idx x ∈ lw_all) (h3 : Cond.selects C x y ∈ lw_all) (h2 : Cond.instanceMethod y ∈ lw_all) (h4 : Cond.initialized y.cls ∈ lw_all) (h5 : Cond.code y b L r ∈ lw_all) : GoodIn lw_all (va_wsF own idx C x y (ws_ y b L r)) := by
  refine lw_app ?_ (lw_meth h5)
  intro w hw
  simp only [List.mem_cons, List.not_mem_nil, or_false] at hw
  rcases hw with e | e | e | e
  · rw [e]; exact h1
  · rw [e]; exact h3
  · rw [e]; exact h2
  · rw [e]; exact h4
theorem lw_U {own : String} {idx : Nat} {C owner : String} {x y : MethodName} {b : ByteArray} {L : Nat} {r : Option FieldType} (h1 : Cond.methodLink own idx x ∈ lw_all) (h6 : Cond.sameMethod x.cls owner x.name x.desc ∈ lw_all) (h3 : Cond.selects C x y ∈ lw_all) (h2 : Cond.instanceMethod y ∈ lw_all) (h4 : Cond.initialized y.cls ∈ lw_all) (h5 : Cond.code y b L r ∈ lw_all) : GoodIn lw_all (va_wsU own idx C owner x y (ws_ y b L r)) := by
  refine lw_app ?_ (lw_meth h5)
  intro w hw
  simp only [List.mem_cons, List.not_mem_nil, or_false] at hw
  rcases hw with e | e | e | e | e
  · rw [e]; exact h1
  · rw [e]; exact h6
  · rw [e]; exact h3
  · rw [e]; exact h2
  · rw [e]; exact h4
theorem lw_SU {own : String} {idx : Nat} {y : MethodName} {b : ByteArray} {L : Nat} {r : Option FieldType} (h1 : Cond.methodLink own idx y ∈ lw_all) (h6 : Cond.sameMethod y.cls y.cls y.name y.desc ∈ lw_all) (h3 : Cond.superclass own y.cls ∈ lw_all) (h2 : Cond.instanceMethod y ∈ lw_all) (h4 : Cond.initialized y.cls ∈ lw_all) (h5 : Cond.code y b L r ∈ lw_all) : GoodIn lw_all (va_wsSU own idx y (ws_ y b L r)) := by
  refine lw_app ?_ (lw_meth h5)
  intro w hw
  simp only [List.mem_cons, List.not_mem_nil, or_false] at hw
  rcases hw with e | e | e | e | e
  · rw [e]; exact h1
  · rw [e]; exact h6
  · rw [e]; exact h3
  · rw [e]; exact h2
  · rw [e]; exact h4
section YR3
variable {p : Program} {l : Launch} {e : Env} {R : Room} {s : State} {m : MethodId} {args : Array Value} {below : List Frame} {meth : Method} {c : Code} {Q : State → Prop} {D : va_G} {s0 : State} {a0 : Array Value} {A : Nat → Prop} {cc : ByteArray} {nL : Nat} {own : String} {M M' : yM} {rc rs : Nat} {lv : List (Option yV)} {pc : Nat} {st : List yV}
theorem y_Fw (C : yC p R s m args meth c cc nL own D s0 a0 A) {C0 : String} {x y : MethodName} (h1 : Cond.declares x ∈ lw_tbl) (h2 : Cond.interfaceMethod x.cls x.cls x.name x.desc ∈ lw_tbl) (h3 : Cond.publicMethod y ∈ lw_tbl) (h4 : Cond.unhidden C0 x.name x.desc ∈ lw_tbl) (h5 : Cond.castable C0 x.cls ∈ lw_tbl) (hx : x.cls ≠ "java/lang/invoke/MethodHandle" ∧ x.cls ≠ "java/lang/invoke/VarHandle") : va_Fw C0 x y s := (va_Fw.of (C.wt h1) (C.wt h2) (C.wt h3) (C.wt h4) (C.wt h5)).moved hx C.2.2.2.2.2.2.2.alike
theorem y_castY (C : yC p R s m args meth c cc nL own D s0 a0 A) {ci N index a : Nat} {fs : List yV} {C0 nm : String} {T : u_T} (h1 : Cond.classLink own index nm ∈ lw_all) (h2 : Cond.castable C0 nm ∈ lw_tbl) (hcl : y_cl[ci]? = some (C0, T, N)) (hM : M a = some (yo ci fs)) (d : decode cc pc = .ok (.checkcast index, 3)) (k : Y p l e R s m args below meth c Q D s0 A nL M rc rs lv (pc + 3) (yr (some a) :: st)) : Y p l e R s m args below meth c Q D s0 A nL M rc rs lv pc (yr (some a) :: st) := fun H locs cells slots ls hw hS hc hs hl => va_castY C.1.1 C.1.2.1 C.ow (C.hts _ h1) (C.cast h2) (y_recv C hw hM hcl) d (k H locs cells slots ls hw hS hc hs hl)
theorem y_callFi0 (C : yC p R s m args meth c cc nL own D s0 a0 A) {x y : MethodName} {bytes : ByteArray} {mL fr lo index n : Nat} {ret : Option FieldType} {ws : List Cond} {As rest : List yV} {b ci N : Nat} {C0 : String} {T : u_T} {fs : List yV} {count : Nat} {post : Int32 → yM → Prop} (hM : yMi l y ws fr lo 0 0 D s0 (yr (some b) :: As) M post) (cw : va_CI R s args own C0 index x y bytes mL ret ws { frames := fr, cells := 0, slots := 0, locals := lo } 0 0 n) (hr : M b = some (yo ci fs)) (hcl : y_cl[ci]? = some (C0, T, N)) (hn : As.length = n) (hst : st = As.reverse ++ yr (some b) :: rest) (hcat : (rest.map ycat).sum ≤ 8) (d : decode cc pc = .ok (.invokeinterface index count, 5)) (kk : ∀ (r : Int32) (M1 : yM), post r M1 → Y p l e R s m args below meth c Q D s0 A nL M1 rc rs lv (pc + 5) (yi r :: rest)) : Y p l e R s m args below meth c Q D s0 A nL M rc rs lv pc st := by
  intro H locs cells slots ls hw hS hc hs hl
  subst hst
  refine va_callFi (va_runF (C.K.1 ci _ hcl).2 (As := yvs As) (rest := yvs rest) C.1 (hM A) cw ⟨y_blind, y_recv C hw hr hcl, fun U hU hW => ⟨rfl, y_pre C hw hS hU hW⟩⟩ rfl (by rw [yvs_len]; exact hn) hl.1 ?_ (lv_room (by rw [ycat_sum]; exact hcat)) d ⟨by omega, by omega⟩) hS (fun q _ h => h) (fun q h => h) (fun r u t H1 locs1 ht hvm hp hB hz hk hS1 => kk r u hp H1 locs1 (cells + 0) (slots + 0) ls (by rw [ht] at hB; exact hB.moved hvm.symm) hS1 (by omega) (by omega) hl)
  show yvs _ = (yvs As).reverse ++ .ref b :: yvs rest
  first | (rw [yvs_app, yvs_rev]; done) | (rw [yvs_app, yvs_rev]; rfl)
theorem y_callFi (C : yC p R s m args meth c cc nL own D s0 a0 A) {x y : MethodName} {bytes : ByteArray} {mL fr lo mc ms index n : Nat} {ret : Option FieldType} {ws : List Cond} {As rest : List yV} {b ci N : Nat} {C0 : String} {T : u_T} {fs : List yV} {count : Nat} {post : Int32 → yM → Prop} (hM : yMi l y ws fr lo mc ms D s0 (yr (some b) :: As) M post) (cw : va_CI R s args own C0 index x y bytes mL ret ws { frames := fr, cells := mc, slots := ms, locals := lo } mc ms n) (hr : M b = some (yo ci fs)) (hcl : y_cl[ci]? = some (C0, T, N)) (hn : As.length = n) (hst : st = As.reverse ++ yr (some b) :: rest) (hcat : (rest.map ycat).sum ≤ 8) (d : decode cc pc = .ok (.invokeinterface index count, 5)) (h1 : mc ≤ rc) (h2 : ms ≤ rs) (kk : ∀ (r : Int32) (M1 : yM), post r M1 → Y p l e R s m args below meth c Q D s0 A nL M1 (rc - mc) (rs - ms) lv (pc + 5) (yi r :: rest)) : Y p l e R s m args below meth c Q D s0 A nL M rc rs lv pc st := by
  intro H locs cells slots ls hw hS hc hs hl
  subst hst
  refine va_callFi (va_runF (C.K.1 ci _ hcl).2 (As := yvs As) (rest := yvs rest) C.1 (hM A) cw ⟨y_blind, y_recv C hw hr hcl, fun U hU hW => ⟨rfl, y_pre C hw hS hU hW⟩⟩ rfl (by rw [yvs_len]; exact hn) hl.1 ?_ (lv_room (by rw [ycat_sum]; exact hcat)) d ⟨by omega, by omega⟩) hS (fun q _ h => h) (fun q h => h) (fun r u t H1 locs1 ht hvm hp hB hz hk hS1 => kk r u hp H1 locs1 (cells + mc) (slots + ms) ls (by rw [ht] at hB; exact hB.moved hvm.symm) hS1 (by omega) (by omega) hl)
  show yvs _ = (yvs As).reverse ++ .ref b :: yvs rest
  first | (rw [yvs_app, yvs_rev]; done) | (rw [yvs_app, yvs_rev]; rfl)
theorem y_callFq0 (C : yC p R s m args meth c cc nL own D s0 a0 A) {x y : MethodName} {bytes : ByteArray} {mL fr lo index n : Nat} {ret : Option FieldType} {ws : List Cond} {As rest : List yV} {b ci N : Nat} {C0 : String} {T : u_T} {fs : List yV} {count : Nat} {post : Option Nat → yM → Prop} (hM : yMq l y ws fr lo 0 0 D s0 (yr (some b) :: As) M post) (cw : va_CI R s args own C0 index x y bytes mL ret ws { frames := fr, cells := 0, slots := 0, locals := lo } 0 0 n) (hr : M b = some (yo ci fs)) (hcl : y_cl[ci]? = some (C0, T, N)) (hn : As.length = n) (hst : st = As.reverse ++ yr (some b) :: rest) (hcat : (rest.map ycat).sum ≤ 8) (d : decode cc pc = .ok (.invokeinterface index count, 5)) (kk : ∀ (r : Option Nat) (M1 : yM), post r M1 → Y p l e R s m args below meth c Q D s0 A nL M1 rc rs lv (pc + 5) (yr r :: rest)) : Y p l e R s m args below meth c Q D s0 A nL M rc rs lv pc st := by
  intro H locs cells slots ls hw hS hc hs hl
  subst hst
  refine va_callFq (va_runF (C.K.1 ci _ hcl).2 (As := yvs As) (rest := yvs rest) C.1 (hM A) cw ⟨y_blind, y_recv C hw hr hcl, fun U hU hW => ⟨rfl, y_pre C hw hS hU hW⟩⟩ rfl (by rw [yvs_len]; exact hn) hl.1 ?_ (lv_room (by rw [ycat_sum]; exact hcat)) d ⟨by omega, by omega⟩) hS (fun q _ h => h) (fun q h => h) (fun r u t H1 locs1 ht hvm hp hB hz hk hS1 => kk r u hp H1 locs1 (cells + 0) (slots + 0) ls (by rw [ht] at hB; exact hB.moved hvm.symm) hS1 (by omega) (by omega) hl)
  show yvs _ = (yvs As).reverse ++ .ref b :: yvs rest
  first | (rw [yvs_app, yvs_rev]; done) | (rw [yvs_app, yvs_rev]; rfl)
theorem y_callFq (C : yC p R s m args meth c cc nL own D s0 a0 A) {x y : MethodName} {bytes : ByteArray} {mL fr lo mc ms index n : Nat} {ret : Option FieldType} {ws : List Cond} {As rest : List yV} {b ci N : Nat} {C0 : String} {T : u_T} {fs : List yV} {count : Nat} {post : Option Nat → yM → Prop} (hM : yMq l y ws fr lo mc ms D s0 (yr (some b) :: As) M post) (cw : va_CI R s args own C0 index x y bytes mL ret ws { frames := fr, cells := mc, slots := ms, locals := lo } mc ms n) (hr : M b = some (yo ci fs)) (hcl : y_cl[ci]? = some (C0, T, N)) (hn : As.length = n) (hst : st = As.reverse ++ yr (some b) :: rest) (hcat : (rest.map ycat).sum ≤ 8) (d : decode cc pc = .ok (.invokeinterface index count, 5)) (h1 : mc ≤ rc) (h2 : ms ≤ rs) (kk : ∀ (r : Option Nat) (M1 : yM), post r M1 → Y p l e R s m args below meth c Q D s0 A nL M1 (rc - mc) (rs - ms) lv (pc + 5) (yr r :: rest)) : Y p l e R s m args below meth c Q D s0 A nL M rc rs lv pc st := by
  intro H locs cells slots ls hw hS hc hs hl
  subst hst
  refine va_callFq (va_runF (C.K.1 ci _ hcl).2 (As := yvs As) (rest := yvs rest) C.1 (hM A) cw ⟨y_blind, y_recv C hw hr hcl, fun U hU hW => ⟨rfl, y_pre C hw hS hU hW⟩⟩ rfl (by rw [yvs_len]; exact hn) hl.1 ?_ (lv_room (by rw [ycat_sum]; exact hcat)) d ⟨by omega, by omega⟩) hS (fun q _ h => h) (fun q h => h) (fun r u t H1 locs1 ht hvm hp hB hz hk hS1 => kk r u hp H1 locs1 (cells + mc) (slots + ms) ls (by rw [ht] at hB; exact hB.moved hvm.symm) hS1 (by omega) (by omega) hl)
  show yvs _ = (yvs As).reverse ++ .ref b :: yvs rest
  first | (rw [yvs_app, yvs_rev]; done) | (rw [yvs_app, yvs_rev]; rfl)
theorem y_callUi0 (C : yC p R s m args meth c cc nL own D s0 a0 A) {x y : MethodName} {bytes : ByteArray} {mL fr lo index n : Nat} {ret : Option FieldType} {ws : List Cond} {As rest : List yV} {b ci N : Nat} {C0 : String} {T : u_T} {fs : List yV} {post : Int32 → yM → Prop} (hM : yMi l y ws fr lo 0 0 D s0 (yr (some b) :: As) M post) {owner : String} (cw : va_CU R s args own C0 owner index x y bytes mL ret ws { frames := fr, cells := 0, slots := 0, locals := lo } 0 0 n) (hr : M b = some (yo ci fs)) (hcl : y_cl[ci]? = some (C0, T, N)) (hn : As.length = n) (hst : st = As.reverse ++ yr (some b) :: rest) (hcat : (rest.map ycat).sum ≤ 8) (d : decode cc pc = .ok (.invokevirtual index, 3)) (kk : ∀ (r : Int32) (M1 : yM), post r M1 → Y p l e R s m args below meth c Q D s0 A nL M1 rc rs lv (pc + 3) (yi r :: rest)) : Y p l e R s m args below meth c Q D s0 A nL M rc rs lv pc st := by
  intro H locs cells slots ls hw hS hc hs hl
  subst hst
  refine va_calli (va_runU (As := yvs As) (rest := yvs rest) C.1 (hM A) cw ⟨y_blind, y_recv C hw hr hcl, fun U hU hW => ⟨rfl, y_pre C hw hS hU hW⟩⟩ rfl (by rw [yvs_len]; exact hn) hl.1 ?_ (lv_room (by rw [ycat_sum]; exact hcat)) d ⟨by omega, by omega⟩) hS (fun q _ h => h) (fun q h => h) (fun r u t H1 locs1 ht hvm hp hB hz hk hS1 => kk r u hp H1 locs1 (cells + 0) (slots + 0) ls (by rw [ht] at hB; exact hB.moved hvm.symm) hS1 (by omega) (by omega) hl)
  show yvs _ = (yvs As).reverse ++ .ref b :: yvs rest
  first | (rw [yvs_app, yvs_rev]; done) | (rw [yvs_app, yvs_rev]; rfl)
theorem y_callUi (C : yC p R s m args meth c cc nL own D s0 a0 A) {x y : MethodName} {bytes : ByteArray} {mL fr lo mc ms index n : Nat} {ret : Option FieldType} {ws : List Cond} {As rest : List yV} {b ci N : Nat} {C0 : String} {T : u_T} {fs : List yV} {post : Int32 → yM → Prop} (hM : yMi l y ws fr lo mc ms D s0 (yr (some b) :: As) M post) {owner : String} (cw : va_CU R s args own C0 owner index x y bytes mL ret ws { frames := fr, cells := mc, slots := ms, locals := lo } mc ms n) (hr : M b = some (yo ci fs)) (hcl : y_cl[ci]? = some (C0, T, N)) (hn : As.length = n) (hst : st = As.reverse ++ yr (some b) :: rest) (hcat : (rest.map ycat).sum ≤ 8) (d : decode cc pc = .ok (.invokevirtual index, 3)) (h1 : mc ≤ rc) (h2 : ms ≤ rs) (kk : ∀ (r : Int32) (M1 : yM), post r M1 → Y p l e R s m args below meth c Q D s0 A nL M1 (rc - mc) (rs - ms) lv (pc + 3) (yi r :: rest)) : Y p l e R s m args below meth c Q D s0 A nL M rc rs lv pc st := by
  intro H locs cells slots ls hw hS hc hs hl
  subst hst
  refine va_calli (va_runU (As := yvs As) (rest := yvs rest) C.1 (hM A) cw ⟨y_blind, y_recv C hw hr hcl, fun U hU hW => ⟨rfl, y_pre C hw hS hU hW⟩⟩ rfl (by rw [yvs_len]; exact hn) hl.1 ?_ (lv_room (by rw [ycat_sum]; exact hcat)) d ⟨by omega, by omega⟩) hS (fun q _ h => h) (fun q h => h) (fun r u t H1 locs1 ht hvm hp hB hz hk hS1 => kk r u hp H1 locs1 (cells + mc) (slots + ms) ls (by rw [ht] at hB; exact hB.moved hvm.symm) hS1 (by omega) (by omega) hl)
  show yvs _ = (yvs As).reverse ++ .ref b :: yvs rest
  first | (rw [yvs_app, yvs_rev]; done) | (rw [yvs_app, yvs_rev]; rfl)
theorem y_callUv0 (C : yC p R s m args meth c cc nL own D s0 a0 A) {x y : MethodName} {bytes : ByteArray} {mL fr lo index n : Nat} {ret : Option FieldType} {ws : List Cond} {As rest : List yV} {b ci N : Nat} {C0 : String} {T : u_T} {fs : List yV} {post : yM → Prop} (hM : yMv l y ws fr lo 0 0 D s0 (yr (some b) :: As) M post) {owner : String} (cw : va_CU R s args own C0 owner index x y bytes mL ret ws { frames := fr, cells := 0, slots := 0, locals := lo } 0 0 n) (hr : M b = some (yo ci fs)) (hcl : y_cl[ci]? = some (C0, T, N)) (hn : As.length = n) (hst : st = As.reverse ++ yr (some b) :: rest) (hcat : (rest.map ycat).sum ≤ 8) (d : decode cc pc = .ok (.invokevirtual index, 3)) (kk : ∀ M1 : yM, post M1 → Y p l e R s m args below meth c Q D s0 A nL M1 rc rs lv (pc + 3) rest) : Y p l e R s m args below meth c Q D s0 A nL M rc rs lv pc st := by
  intro H locs cells slots ls hw hS hc hs hl
  subst hst
  refine va_callv (va_runU (As := yvs As) (rest := yvs rest) C.1 (hM A) cw ⟨y_blind, y_recv C hw hr hcl, fun U hU hW => ⟨rfl, y_pre C hw hS hU hW⟩⟩ rfl (by rw [yvs_len]; exact hn) hl.1 ?_ (lv_room (by rw [ycat_sum]; exact hcat)) d ⟨by omega, by omega⟩) hS (fun q _ h => h) (fun q h => h) (fun u t H1 locs1 ht hvm hp hB hz hk hS1 => kk u hp H1 locs1 (cells + 0) (slots + 0) ls (by rw [ht] at hB; exact hB.moved hvm.symm) hS1 (by omega) (by omega) hl)
  show yvs _ = (yvs As).reverse ++ .ref b :: yvs rest
  first | (rw [yvs_app, yvs_rev]; done) | (rw [yvs_app, yvs_rev]; rfl)
theorem y_callUv (C : yC p R s m args meth c cc nL own D s0 a0 A) {x y : MethodName} {bytes : ByteArray} {mL fr lo mc ms index n : Nat} {ret : Option FieldType} {ws : List Cond} {As rest : List yV} {b ci N : Nat} {C0 : String} {T : u_T} {fs : List yV} {post : yM → Prop} (hM : yMv l y ws fr lo mc ms D s0 (yr (some b) :: As) M post) {owner : String} (cw : va_CU R s args own C0 owner index x y bytes mL ret ws { frames := fr, cells := mc, slots := ms, locals := lo } mc ms n) (hr : M b = some (yo ci fs)) (hcl : y_cl[ci]? = some (C0, T, N)) (hn : As.length = n) (hst : st = As.reverse ++ yr (some b) :: rest) (hcat : (rest.map ycat).sum ≤ 8) (d : decode cc pc = .ok (.invokevirtual index, 3)) (h1 : mc ≤ rc) (h2 : ms ≤ rs) (kk : ∀ M1 : yM, post M1 → Y p l e R s m args below meth c Q D s0 A nL M1 (rc - mc) (rs - ms) lv (pc + 3) rest) : Y p l e R s m args below meth c Q D s0 A nL M rc rs lv pc st := by
  intro H locs cells slots ls hw hS hc hs hl
  subst hst
  refine va_callv (va_runU (As := yvs As) (rest := yvs rest) C.1 (hM A) cw ⟨y_blind, y_recv C hw hr hcl, fun U hU hW => ⟨rfl, y_pre C hw hS hU hW⟩⟩ rfl (by rw [yvs_len]; exact hn) hl.1 ?_ (lv_room (by rw [ycat_sum]; exact hcat)) d ⟨by omega, by omega⟩) hS (fun q _ h => h) (fun q h => h) (fun u t H1 locs1 ht hvm hp hB hz hk hS1 => kk u hp H1 locs1 (cells + mc) (slots + ms) ls (by rw [ht] at hB; exact hB.moved hvm.symm) hS1 (by omega) (by omega) hl)
  show yvs _ = (yvs As).reverse ++ .ref b :: yvs rest
  first | (rw [yvs_app, yvs_rev]; done) | (rw [yvs_app, yvs_rev]; rfl)
theorem y_callUq0 (C : yC p R s m args meth c cc nL own D s0 a0 A) {x y : MethodName} {bytes : ByteArray} {mL fr lo index n : Nat} {ret : Option FieldType} {ws : List Cond} {As rest : List yV} {b ci N : Nat} {C0 : String} {T : u_T} {fs : List yV} {post : Option Nat → yM → Prop} (hM : yMq l y ws fr lo 0 0 D s0 (yr (some b) :: As) M post) {owner : String} (cw : va_CU R s args own C0 owner index x y bytes mL ret ws { frames := fr, cells := 0, slots := 0, locals := lo } 0 0 n) (hr : M b = some (yo ci fs)) (hcl : y_cl[ci]? = some (C0, T, N)) (hn : As.length = n) (hst : st = As.reverse ++ yr (some b) :: rest) (hcat : (rest.map ycat).sum ≤ 8) (d : decode cc pc = .ok (.invokevirtual index, 3)) (kk : ∀ (r : Option Nat) (M1 : yM), post r M1 → Y p l e R s m args below meth c Q D s0 A nL M1 rc rs lv (pc + 3) (yr r :: rest)) : Y p l e R s m args below meth c Q D s0 A nL M rc rs lv pc st := by
  intro H locs cells slots ls hw hS hc hs hl
  subst hst
  refine va_callq (va_runU (As := yvs As) (rest := yvs rest) C.1 (hM A) cw ⟨y_blind, y_recv C hw hr hcl, fun U hU hW => ⟨rfl, y_pre C hw hS hU hW⟩⟩ rfl (by rw [yvs_len]; exact hn) hl.1 ?_ (lv_room (by rw [ycat_sum]; exact hcat)) d ⟨by omega, by omega⟩) hS (fun q _ h => h) (fun q h => h) (fun r u t H1 locs1 ht hvm hp hB hz hk hS1 => kk r u hp H1 locs1 (cells + 0) (slots + 0) ls (by rw [ht] at hB; exact hB.moved hvm.symm) hS1 (by omega) (by omega) hl)
  show yvs _ = (yvs As).reverse ++ .ref b :: yvs rest
  first | (rw [yvs_app, yvs_rev]; done) | (rw [yvs_app, yvs_rev]; rfl)
theorem y_callUq (C : yC p R s m args meth c cc nL own D s0 a0 A) {x y : MethodName} {bytes : ByteArray} {mL fr lo mc ms index n : Nat} {ret : Option FieldType} {ws : List Cond} {As rest : List yV} {b ci N : Nat} {C0 : String} {T : u_T} {fs : List yV} {post : Option Nat → yM → Prop} (hM : yMq l y ws fr lo mc ms D s0 (yr (some b) :: As) M post) {owner : String} (cw : va_CU R s args own C0 owner index x y bytes mL ret ws { frames := fr, cells := mc, slots := ms, locals := lo } mc ms n) (hr : M b = some (yo ci fs)) (hcl : y_cl[ci]? = some (C0, T, N)) (hn : As.length = n) (hst : st = As.reverse ++ yr (some b) :: rest) (hcat : (rest.map ycat).sum ≤ 8) (d : decode cc pc = .ok (.invokevirtual index, 3)) (h1 : mc ≤ rc) (h2 : ms ≤ rs) (kk : ∀ (r : Option Nat) (M1 : yM), post r M1 → Y p l e R s m args below meth c Q D s0 A nL M1 (rc - mc) (rs - ms) lv (pc + 3) (yr r :: rest)) : Y p l e R s m args below meth c Q D s0 A nL M rc rs lv pc st := by
  intro H locs cells slots ls hw hS hc hs hl
  subst hst
  refine va_callq (va_runU (As := yvs As) (rest := yvs rest) C.1 (hM A) cw ⟨y_blind, y_recv C hw hr hcl, fun U hU hW => ⟨rfl, y_pre C hw hS hU hW⟩⟩ rfl (by rw [yvs_len]; exact hn) hl.1 ?_ (lv_room (by rw [ycat_sum]; exact hcat)) d ⟨by omega, by omega⟩) hS (fun q _ h => h) (fun q h => h) (fun r u t H1 locs1 ht hvm hp hB hz hk hS1 => kk r u hp H1 locs1 (cells + mc) (slots + ms) ls (by rw [ht] at hB; exact hB.moved hvm.symm) hS1 (by omega) (by omega) hl)
  show yvs _ = (yvs As).reverse ++ .ref b :: yvs rest
  first | (rw [yvs_app, yvs_rev]; done) | (rw [yvs_app, yvs_rev]; rfl)
theorem y_callSUi0 (C : yC p R s m args meth c cc nL own D s0 a0 A) {y : MethodName} {bytes : ByteArray} {mL fr lo index n : Nat} {ret : Option FieldType} {ws : List Cond} {As rest : List yV} {b ci N : Nat} {C0 : String} {T : u_T} {fs : List yV} {post : Int32 → yM → Prop} (hM : yMi l y ws fr lo 0 0 D s0 (yr (some b) :: As) M post) (cw : va_CS R s args own index y bytes mL ret ws { frames := fr, cells := 0, slots := 0, locals := lo } 0 0 n) (hr : M b = some (yo ci fs)) (hcl : y_cl[ci]? = some (C0, T, N)) (hn : As.length = n) (hst : st = As.reverse ++ yr (some b) :: rest) (hcat : (rest.map ycat).sum ≤ 8) (d : decode cc pc = .ok (.invokespecial index, 3)) (kk : ∀ (r : Int32) (M1 : yM), post r M1 → Y p l e R s m args below meth c Q D s0 A nL M1 rc rs lv (pc + 3) (yi r :: rest)) : Y p l e R s m args below meth c Q D s0 A nL M rc rs lv pc st := by
  intro H locs cells slots ls hw hS hc hs hl
  subst hst
  refine va_calli (va_runSU (C.K.1 ci _ hcl).2 (As := yvs As) (rest := yvs rest) C.1 (hM A) cw ⟨y_blind, y_recv C hw hr hcl, fun U hU hW => ⟨rfl, y_pre C hw hS hU hW⟩⟩ rfl (by rw [yvs_len]; exact hn) hl.1 ?_ (lv_room (by rw [ycat_sum]; exact hcat)) d ⟨by omega, by omega⟩) hS (fun q _ h => h) (fun q h => h) (fun r u t H1 locs1 ht hvm hp hB hz hk hS1 => kk r u hp H1 locs1 (cells + 0) (slots + 0) ls (by rw [ht] at hB; exact hB.moved hvm.symm) hS1 (by omega) (by omega) hl)
  show yvs _ = (yvs As).reverse ++ .ref b :: yvs rest
  first | (rw [yvs_app, yvs_rev]; done) | (rw [yvs_app, yvs_rev]; rfl)
theorem y_callSUi (C : yC p R s m args meth c cc nL own D s0 a0 A) {y : MethodName} {bytes : ByteArray} {mL fr lo mc ms index n : Nat} {ret : Option FieldType} {ws : List Cond} {As rest : List yV} {b ci N : Nat} {C0 : String} {T : u_T} {fs : List yV} {post : Int32 → yM → Prop} (hM : yMi l y ws fr lo mc ms D s0 (yr (some b) :: As) M post) (cw : va_CS R s args own index y bytes mL ret ws { frames := fr, cells := mc, slots := ms, locals := lo } mc ms n) (hr : M b = some (yo ci fs)) (hcl : y_cl[ci]? = some (C0, T, N)) (hn : As.length = n) (hst : st = As.reverse ++ yr (some b) :: rest) (hcat : (rest.map ycat).sum ≤ 8) (d : decode cc pc = .ok (.invokespecial index, 3)) (h1 : mc ≤ rc) (h2 : ms ≤ rs) (kk : ∀ (r : Int32) (M1 : yM), post r M1 → Y p l e R s m args below meth c Q D s0 A nL M1 (rc - mc) (rs - ms) lv (pc + 3) (yi r :: rest)) : Y p l e R s m args below meth c Q D s0 A nL M rc rs lv pc st := by
  intro H locs cells slots ls hw hS hc hs hl
  subst hst
  refine va_calli (va_runSU (C.K.1 ci _ hcl).2 (As := yvs As) (rest := yvs rest) C.1 (hM A) cw ⟨y_blind, y_recv C hw hr hcl, fun U hU hW => ⟨rfl, y_pre C hw hS hU hW⟩⟩ rfl (by rw [yvs_len]; exact hn) hl.1 ?_ (lv_room (by rw [ycat_sum]; exact hcat)) d ⟨by omega, by omega⟩) hS (fun q _ h => h) (fun q h => h) (fun r u t H1 locs1 ht hvm hp hB hz hk hS1 => kk r u hp H1 locs1 (cells + mc) (slots + ms) ls (by rw [ht] at hB; exact hB.moved hvm.symm) hS1 (by omega) (by omega) hl)
  show yvs _ = (yvs As).reverse ++ .ref b :: yvs rest
  first | (rw [yvs_app, yvs_rev]; done) | (rw [yvs_app, yvs_rev]; rfl)
theorem y_callSUq0 (C : yC p R s m args meth c cc nL own D s0 a0 A) {y : MethodName} {bytes : ByteArray} {mL fr lo index n : Nat} {ret : Option FieldType} {ws : List Cond} {As rest : List yV} {b ci N : Nat} {C0 : String} {T : u_T} {fs : List yV} {post : Option Nat → yM → Prop} (hM : yMq l y ws fr lo 0 0 D s0 (yr (some b) :: As) M post) (cw : va_CS R s args own index y bytes mL ret ws { frames := fr, cells := 0, slots := 0, locals := lo } 0 0 n) (hr : M b = some (yo ci fs)) (hcl : y_cl[ci]? = some (C0, T, N)) (hn : As.length = n) (hst : st = As.reverse ++ yr (some b) :: rest) (hcat : (rest.map ycat).sum ≤ 8) (d : decode cc pc = .ok (.invokespecial index, 3)) (kk : ∀ (r : Option Nat) (M1 : yM), post r M1 → Y p l e R s m args below meth c Q D s0 A nL M1 rc rs lv (pc + 3) (yr r :: rest)) : Y p l e R s m args below meth c Q D s0 A nL M rc rs lv pc st := by
  intro H locs cells slots ls hw hS hc hs hl
  subst hst
  refine va_callq (va_runSU (C.K.1 ci _ hcl).2 (As := yvs As) (rest := yvs rest) C.1 (hM A) cw ⟨y_blind, y_recv C hw hr hcl, fun U hU hW => ⟨rfl, y_pre C hw hS hU hW⟩⟩ rfl (by rw [yvs_len]; exact hn) hl.1 ?_ (lv_room (by rw [ycat_sum]; exact hcat)) d ⟨by omega, by omega⟩) hS (fun q _ h => h) (fun q h => h) (fun r u t H1 locs1 ht hvm hp hB hz hk hS1 => kk r u hp H1 locs1 (cells + 0) (slots + 0) ls (by rw [ht] at hB; exact hB.moved hvm.symm) hS1 (by omega) (by omega) hl)
  show yvs _ = (yvs As).reverse ++ .ref b :: yvs rest
  first | (rw [yvs_app, yvs_rev]; done) | (rw [yvs_app, yvs_rev]; rfl)
theorem y_callSUq (C : yC p R s m args meth c cc nL own D s0 a0 A) {y : MethodName} {bytes : ByteArray} {mL fr lo mc ms index n : Nat} {ret : Option FieldType} {ws : List Cond} {As rest : List yV} {b ci N : Nat} {C0 : String} {T : u_T} {fs : List yV} {post : Option Nat → yM → Prop} (hM : yMq l y ws fr lo mc ms D s0 (yr (some b) :: As) M post) (cw : va_CS R s args own index y bytes mL ret ws { frames := fr, cells := mc, slots := ms, locals := lo } mc ms n) (hr : M b = some (yo ci fs)) (hcl : y_cl[ci]? = some (C0, T, N)) (hn : As.length = n) (hst : st = As.reverse ++ yr (some b) :: rest) (hcat : (rest.map ycat).sum ≤ 8) (d : decode cc pc = .ok (.invokespecial index, 3)) (h1 : mc ≤ rc) (h2 : ms ≤ rs) (kk : ∀ (r : Option Nat) (M1 : yM), post r M1 → Y p l e R s m args below meth c Q D s0 A nL M1 (rc - mc) (rs - ms) lv (pc + 3) (yr r :: rest)) : Y p l e R s m args below meth c Q D s0 A nL M rc rs lv pc st := by
  intro H locs cells slots ls hw hS hc hs hl
  subst hst
  refine va_callq (va_runSU (C.K.1 ci _ hcl).2 (As := yvs As) (rest := yvs rest) C.1 (hM A) cw ⟨y_blind, y_recv C hw hr hcl, fun U hU hW => ⟨rfl, y_pre C hw hS hU hW⟩⟩ rfl (by rw [yvs_len]; exact hn) hl.1 ?_ (lv_room (by rw [ycat_sum]; exact hcat)) d ⟨by omega, by omega⟩) hS (fun q _ h => h) (fun q h => h) (fun r u t H1 locs1 ht hvm hp hB hz hk hS1 => kk r u hp H1 locs1 (cells + mc) (slots + ms) ls (by rw [ht] at hB; exact hB.moved hvm.symm) hS1 (by omega) (by omega) hl)
  show yvs _ = (yvs As).reverse ++ .ref b :: yvs rest
  first | (rw [yvs_app, yvs_rev]; done) | (rw [yvs_app, yvs_rev]; rfl)
theorem y_i2b (C : yC p R s m args meth c cc nL own D s0 a0 A) {x : Int32} (d : decode cc pc = .ok (.i2b, 1)) (k : Y p l e R s m args below meth c Q D s0 A nL M rc rs lv (pc + 1) (yi x.toInt8.toInt32 :: st)) : Y p l e R s m args below meth c Q D s0 A nL M rc rs lv pc (yi x :: st) := fun H locs cells slots ls hw hS hc hs hl => lv_i2b C.1.1 C.1.2.1 d rfl (k H locs cells slots ls hw hS hc hs hl)
theorem y_statq (C : yC p R s m args meth c cc nL own D s0 a0 A) {C0 n d0 : String} {index : Nat} (h1 : Cond.laysStatic C0 n d0 ∈ lw_tbl) (h2 : Cond.initialized C0 ∈ lw_tbl) (hv : Cond.isRef (.static C0 n d0) ∈ flatC (Jvm.Cond.and given_1 narrow_1)) (h3 : Cond.fieldLink own index C0 n d0 ∈ lw_all) (d : decode cc pc = .ok (.getstatic index, 3)) (k : ∀ r : Option Nat, Y p l e R s m args below meth c Q D s0 A nL M rc rs lv (pc + 3) (yr r :: st)) : Y p l e R s m args below meth c Q D s0 A nL M rc rs lv pc st := by
  rcases y_refof (C.flat hv) with ⟨a, ha⟩ | ha
  · exact y_statv (v := yr (some a)) (ref := "") C h1 h2 ha h3 d (k (some a))
  · exact y_statv (v := yr none) (ref := "") C h1 h2 ha h3 d (k none)
/-- a private method of a superclass, called on an object of a class that can be made -/
theorem y_selP (C : yC p R s m args meth c cc nL own D s0 a0 A) {C0 : String} {x : MethodName} {n : Nat} (h1 : Cond.instantiable C0 n ∈ lw_tbl) (h2 : Cond.privateMethod x ∈ lw_tbl) (h3 : Cond.instanceMethod x ∈ lw_tbl) (h4 : Cond.sameMethod x.cls x.cls x.name x.desc ∈ lw_tbl) (hy : x.cls ≠ "java/lang/invoke/MethodHandle" ∧ x.cls ≠ "java/lang/invoke/VarHandle") : (Cond.selects C0 x x).before args s = true := by
  have h0 : (Cond.selects C0 x x).before a0 s0 = true := by
    obtain ⟨c, k, hc, hk, -, -, -, -⟩ := Cond.instantiable_spec (C.wt h1)
    obtain ⟨mk, methM, hnamed, hmethM, -, -⟩ := Cond.instanceMethod_spec (C.wt h3)
    have hfound : s0.methodFound? x.cls x.name x.desc = some mk := State.methodFound?_of_named hnamed hy
    obtain ⟨cn, ck, r1, hcn, hck, hni, hf, hn1⟩ := Cond.sameMethod_found (C.wt h4)
    have hcls : mk.cls = cn := Option.some.inj ((findClass_of_methodNamed hnamed).symm.trans hcn)
    have hsel : selectMethod {} s0.vm c mk = .method mk := selectMethod_private hmethM (Cond.privateMethod_at (C.wt h2) mk methM hnamed hmethM)
    simp only [Cond.before, Cond.holds, Cond.value, hc, hfound, hnamed, hsel, hcls, hck]
    simp [hni]
  exact word_at C.2.2.2.2.2.2.2 (Or.inl rfl) h0
theorem lw_UP {own : String} {idx : Nat} {C : String} {x : MethodName} {b : ByteArray} {L : Nat} {r : Option FieldType} (h1 : Cond.methodLink own idx x ∈ lw_all) (h6 : Cond.sameMethod x.cls x.cls x.name x.desc ∈ lw_all) (h2 : Cond.instanceMethod x ∈ lw_all) (h4 : Cond.initialized x.cls ∈ lw_all) (h5 : Cond.code x b L r ∈ lw_all) : GoodIn (Cond.selects C x x :: lw_all) (va_wsU own idx C x.cls x x (ws_ x b L r)) := by
  intro w hw
  rcases List.mem_append.mp hw with hw | hw
  · simp only [List.mem_cons, List.not_mem_nil, or_false] at hw
    rcases hw with e | e | e | e | e
    · rw [e]; exact ⟨List.mem_cons_of_mem _ h1, (lw_self _ h1).2⟩
    · rw [e]; exact ⟨List.mem_cons_of_mem _ h6, (lw_self _ h6).2⟩
    · rw [e]; exact ⟨List.mem_cons_self, Or.inl rfl⟩
    · rw [e]; exact ⟨List.mem_cons_of_mem _ h2, (lw_self _ h2).2⟩
    · rw [e]; exact ⟨List.mem_cons_of_mem _ h4, (lw_self _ h4).2⟩
  · exact ⟨List.mem_cons_of_mem _ (lw_meth h5 w hw).1, (lw_meth h5 w hw).2⟩
theorem y_htsP (C : yC p R s m args meth c cc nL own D s0 a0 A) {C0 : String} {x : MethodName} (h : (Cond.selects C0 x x).before args s = true) : ∀ w ∈ Cond.selects C0 x x :: lw_all, w.before args s = true := fun w hw => by
  rcases List.mem_cons.mp hw with rfl | hw
  · exact h
  · exact C.hts w hw
/-- a default method of an interface, called through its class -/
theorem y_callDi0 (C : yC p R s m args meth c cc nL own D s0 a0 A) {x y : MethodName} {bytes : ByteArray} {mL fr lo index n : Nat} {ret : Option FieldType} {As rest : List yV} {b ci N : Nat} {C0 : String} {T : u_T} {fs : List yV} {post : Int32 → yM → Prop} (hM : yMi l y (ws_ y bytes mL ret) fr lo 0 0 D s0 (yr (some b) :: As) M post) (w1 : Cond.methodLink own index x ∈ flatC (Jvm.Cond.and given_1 narrow_1)) (w2 : Cond.sameMethod x.cls y.cls x.name x.desc ∈ flatC (Jvm.Cond.and given_1 narrow_1)) (w3 : Cond.landsInDefault C0 x y ∈ flatC (Jvm.Cond.and given_1 narrow_1)) (h0 : Cond.declares ⟨y.cls, x.name, x.desc⟩ ∈ lw_tbl) (h2 : Cond.instanceMethod y ∈ lw_all) (h4 : Cond.initialized y.cls ∈ lw_all) (h5 : Cond.code y bytes mL ret ∈ lw_all) (hy : y.cls ≠ "java/lang/invoke/MethodHandle" ∧ y.cls ≠ "java/lang/invoke/VarHandle") (hlen : (parseMethodDescriptor x.desc).map (fun d => d.parameters.length) = some n) (hR : fr + 1 ≤ R.frames ∧ 8 + (mL + 11) + lo ≤ R.locals) (hr : M b = some (yo ci fs)) (hcl : y_cl[ci]? = some (C0, T, N)) (hn : As.length = n) (hst : st = As.reverse ++ yr (some b) :: rest) (hcat : (rest.map ycat).sum ≤ 8) (d : decode cc pc = .ok (.invokevirtual index, 3)) (kk : ∀ (r : Int32) (M1 : yM), post r M1 → Y p l e R s m args below meth c Q D s0 A nL M1 rc rs lv (pc + 3) (yi r :: rest)) : Y p l e R s m args below meth c Q D s0 A nL M rc rs lv pc st := by
  intro H locs cells slots ls hw hS hc hs hl
  subst hst
  have hWW : s0.WarmedH s.vm := C.2.2.2.2.2.2.2
  have hg9 := lw_meth h5
  have hK : Back l R p e below s args y 3 8 (PreOf R 0 0 (yPc D s0 A (yr (some b) :: As) M)) (PostOf (yQi D s0 A post) 0 0 A) := back_of (hM A) y_blind rfl rfl hR.1 hR.2 (pay_in C.hts hg9) List.mem_cons_self (fun a' U hW => word_at hW (lw_self _ h4).2 (C.hts _ h4))
  obtain ⟨cellB, r1, r2, r3⟩ := y_recv C hw hr hcl
  have v1 : (Cond.methodLink own index x).before args s = true := word_at hWW (Or.inl rfl) (C.flat w1)
  have v2 : (Cond.sameMethod x.cls y.cls x.name x.desc).before args s = true := word_at hWW (Or.inl rfl) (C.flat w2)
  have v3 : (Cond.landsInDefault C0 x y).before args s = true := by
    have e9 := Cond.landsInDefault_setVm (args := a0) (args' := args) (s := s0) (vm' := s.vm) hWW.alike (cls := C0) (x := x) (y := y) (State.methodFound?_setVm hWW.alike _ _ _)
    have e8 : (Cond.landsInDefault C0 x y).before args (s0.setVm s.vm) = true := by rw [e9]; exact C.flat w3
    simp only [Cond.before, Cond.holds, Cond.value] at e8 ⊢
    exact e8
  have v0 : (Cond.declares ⟨y.cls, x.name, x.desc⟩).before args s = true := va_Nw.use rfl (va_Nw.warmD hWW (va_Nw.of rfl (C.wt h0)))
  have hcat9 : 2 * (F0 m pc ls (yvs (As.reverse ++ yr (some b) :: rest))).monitorRoom + ((yvs rest).map fun v => v.category).sum ≤ 8 := lv_room (by rw [ycat_sum]; exact hcat)
  have hstk : (F0 m pc ls (yvs (As.reverse ++ yr (some b) :: rest))).stack = (yvs As).reverse ++ .ref b :: yvs rest := by
    show yvs _ = (yvs As).reverse ++ .ref b :: yvs rest
    first | (rw [yvs_app, yvs_rev]; done) | (rw [yvs_app, yvs_rev]; rfl)
  have run : va_Run p l e R s m args below meth c H locs cells slots 0 0 (F0 m pc ls (yvs (As.reverse ++ yr (some b) :: rest))) (yvs rest) (yQi D s0 A post (yvs (yr (some b) :: As)).toArray) A := by
    intro T hT X
    obtain ⟨v, vm₁, ⟨U', l2, c2, s2⟩, hW₁, X', ⟨g', mk, t, L, e1, e2, hq, q1, hL, q2, q3⟩, st9⟩ := X.virtualBackUpD C.1.1 C.ow v1 v2 v0 hy v3 (C.hts _ h2) hK r3 ⟨cellB, by rw [hT]; exact r1, rfl, r2⟩ (g := F0 m pc ls (yvs (As.reverse ++ yr (some b) :: rest))) rfl (hl.1.trans C.1.2.2.1.symm) (Steps.refl _) (argsL := yvs As) (rest := yvs rest) (fun sig h => by rw [yvs_len, hn]; rw [h] at hlen; exact (Option.some.inj hlen).symm) hstk hcat9 (by rw [C.1.2.1]; exact d) (fun vm₁ hW₁ => ⟨by show cells + 0 ≤ _; omega, by show slots + 0 ≤ _; omega, rfl, y_pre C hw hS (U := T.setVm vm₁) hT hW₁⟩)
    dsimp only [Pt.U, Pt.locs, Pt.cells, Pt.slots] at X' e1 e2 q1 q2 q3 st9
    subst q1; subst q2; subst q3
    exact ⟨v, (T.setVm vm₁).calling g' mk (yvs (yr (some b) :: As)).toArray, t, U', L, hT, X', hL, e1, e2, hq, fun target h => st9.trans h⟩
  refine va_calli run hS (fun q _ h => h) (fun q h => h) (fun r u t H1 locs1 ht hvm hp hB hz hk hS1 => kk r u hp H1 locs1 (cells + 0) (slots + 0) ls (by rw [ht] at hB; exact hB.moved hvm.symm) hS1 (by omega) (by omega) hl)
theorem y_metiF {y : MethodName} {ret : Option FieldType} {fr lo mc ms : Nat} {av : List yV} {post : Int32 → yM → Prop} (hB : yB D s0 a0) (hy : plainFor y = true) (ho : own = y.cls) (hav : (av.map ycat).sum ≤ nL) (body : ∀ (p : Program) (e : Env) (s : State) (m : MethodId) (below : List Frame) (meth : Method) (c : Code) (A : Nat → Prop), meth.sig.returnType = ret → meth.name = y.name → yC p { frames := fr, cells := mc, slots := ms, locals := lo } s m (yvs av).toArray meth c cc nL own D s0 a0 A → Y p l e { frames := fr, cells := mc, slots := ms, locals := lo } s m (yvs av).toArray below meth c (MQ below (yQi D s0 A post) (yvs av).toArray s mc ms A) D s0 A nL M mc ms (yent av nL) 0 []) : yMi l y (ws_ y cc nL ret) fr lo mc ms D s0 av M post := by
  intro A
  refine va_MetF (cc := cc) (maxL := nL) (ret := ret) hy rfl ?_
  intro p e s m args below meth c s₁ B hml hv
  obtain ⟨rfl, hcells, hbase⟩ := hv
  have hts := atoms_spec (ws := ws_ y cc nL ret) B.pre
  have hts : ∀ w ∈ lw_all, w.before _ s = true := fun w h => hts w (List.mem_cons_of_mem _ h)
  have hown : s.vm.findClass own = some m.cls := by rw [ho]; exact findClass_of_methodNamed B.named
  have hnm : meth.name = y.name := (name_of_methodNamed B.named B.method).1
  rw [lg_entry_eq]
  exact body p e s m below meth c A B.returns hnm ⟨⟨B.exec, B.bytes, hml, hown, hts⟩, B.notSynchronized, hB, hbase⟩ s.heap [] 0 0 _ hcells va_S.rf (by simp) (by simp) (yent_Lv av nL hav)
end YR3

set_option maxRecDepth 100000
def wpX2_fails (c_ft : Int32) (c_fa : Int32) (a1 : Int32) (a2 : Int32) (post : Int32 → Int32 → Int32 → Prop) : Prop := post 0 a1 a2
theorem metX2_fails {l : Launch} {D : va_G} {s0 : State} {a0 : Array Value} {ad : Nat → Nat} (hd : yAd ad) (hB : yB D s0 a0) {c_pg : Nat → Int32} {c_bm : Int32} {c_tx : Nat → Int32} {c_ty : Int32} {c_ft : Int32} {c_fa : Int32} {c_sp : Int32} {c_nu : Int32} {c_un : Nat → Int32} {c_sf : Nat → Int32} {c_st : Nat → Int32} {c_ll : Nat → Int32} {c_ln : Nat → Int32} {c_ip : Nat → Int32} {c_gr : Nat → Int32} {c_hs : Int64} {a1 : Int32} {a2 : Int32} {post : Int32 → Int32 → Int32 → Prop} (h : wpX2_fails c_ft c_fa a1 a2 post) : yMi l yX2_fails (ws_ yX2_fails cX2_fails 3 (some .boolean)) 1 64 0 0 D s0 [yr (some (ad 0)), yi a1, yi a2] (mM ad c_pg c_bm c_tx c_ty c_ft c_fa c_sp c_nu c_un c_sf c_st c_ll c_ln c_ip c_gr c_hs) (fun r M1 => ∃ (w_ft : Int32) (w_fa : Int32), M1 = mM ad c_pg c_bm c_tx c_ty w_ft w_fa c_sp c_nu c_un c_sf c_st c_ll c_ln c_ip c_gr c_hs ∧ post r w_ft w_fa) := by
  refine y_meti hB (by decide) rfl (Nat.le_of_ble_eq_true rfl) ?_
  intro p e s m below meth c A hr hnm C
  rw [wpX2_fails] at h
  refine y_aload_n C 0 rfl rfl dX2_fails_0 ?_
  refine y_iload_n C 1 rfl rfl dX2_fails_1 ?_
  refine y_put (ci := 2) (k := 4) C in_X2 tyX2_ok nmX2 rfl (by decide) q1173 (fun _ h => h) rfl mM_0 (y_lt rfl) rfl rfl (mU_ft _) dX2_fails_2 ?_
  refine y_aload_n C 0 rfl rfl dX2_fails_5 ?_
  refine y_iload_n C 2 rfl rfl dX2_fails_6 ?_
  refine y_put (ci := 2) (k := 5) C in_X2 tyX2_ok nmX2 rfl (by decide) q1174 (fun _ h => h) rfl mM_0 (y_lt rfl) rfl rfl (mU_fa _) dX2_fails_7 ?_
  refine y_iconst C 0 dX2_fails_10 lit0 ?_
  exact y_iretz C hr rfl rfl (by decide) ⟨_, _, rfl, h⟩ dX2_fails_11
theorem kdX2_fails : yX2_fails.cls = RX2 ∧ yX2_fails.cls ≠ "java/lang/invoke/MethodHandle" ∧ yX2_fails.cls ≠ "java/lang/invoke/VarHandle" ∧ (parseMethodDescriptor yX2_fails.desc).map (fun d => d.parameters.length) = some 2 := by decide +kernel
def wpX2_reads (c_tx : Nat → Int32) (c_ty : Int32) (c_ft : Int32) (c_fa : Int32) (c_sp : Int32) (a1 : Int32) (post : Int32 → Int32 → Int32 → Int32 → Prop) : Prop := wpX2_here c_tx c_ty c_sp (fun r1 => ((r1 = a1 → ∀ x2 : Int32, x2 = (c_sp + 1) → post 1 c_ft c_fa x2) ∧ (¬ r1 = a1 → wpX2_fails c_ft c_fa 1 c_sp (fun r5 w_ft3 w_fa4 => ((r5 = 0 ∨ r5 = 1) ∧ post r5 w_ft3 w_fa4 c_sp)))))
theorem metX2_reads {l : Launch} {D : va_G} {s0 : State} {a0 : Array Value} {ad : Nat → Nat} (hd : yAd ad) (hB : yB D s0 a0) {c_pg : Nat → Int32} {c_bm : Int32} {c_tx : Nat → Int32} {c_ty : Int32} {c_ft : Int32} {c_fa : Int32} {c_sp : Int32} {c_nu : Int32} {c_un : Nat → Int32} {c_sf : Nat → Int32} {c_st : Nat → Int32} {c_ll : Nat → Int32} {c_ln : Nat → Int32} {c_ip : Nat → Int32} {c_gr : Nat → Int32} {c_hs : Int64} {a1 : Int32} {post : Int32 → Int32 → Int32 → Int32 → Prop} (h : wpX2_reads c_tx c_ty c_ft c_fa c_sp a1 post) : yMi l yX2_reads (ws_ yX2_reads cX2_reads 2 (some .boolean)) 2 86 0 0 D s0 [yr (some (ad 0)), yi a1] (mM ad c_pg c_bm c_tx c_ty c_ft c_fa c_sp c_nu c_un c_sf c_st c_ll c_ln c_ip c_gr c_hs) (fun r M1 => ∃ (w_ft : Int32) (w_fa : Int32) (w_sp : Int32), M1 = mM ad c_pg c_bm c_tx c_ty w_ft w_fa w_sp c_nu c_un c_sf c_st c_ll c_ln c_ip c_gr c_hs ∧ post r w_ft w_fa w_sp) := by
  refine y_meti hB (by decide) rfl (Nat.le_of_ble_eq_true rfl) ?_
  intro p e s m below meth c A hr hnm C
  rw [wpX2_reads] at h
  refine y_aload_n C 0 rfl rfl dX2_reads_0 ?_
  refine y_callVi0 C (metX2_here hd hB h) (cwV 0 C.hts (lw_V q1346 q1348 qs40 q91 q1349) rfl rfl rfl kdX2_here ⟨Nat.le_of_ble_eq_true rfl, Nat.le_of_ble_eq_true rfl⟩) mM_0 rfl rfl rfl (Nat.le_of_ble_eq_true rfl) dX2_reads_1 (fun r1 M1 hp => ?_)
  clear h
  obtain ⟨rfl, h⟩ := hp
  refine y_iload_n C 1 rfl rfl dX2_reads_4 ?_
  refine y_icmp_eq C 18 dX2_reads_5 (by decide) (fun c9 => ?_) (fun c9 => ?_)
  · replace h := h.1 c9
    refine y_aload_n C 0 rfl rfl dX2_reads_18 ?_
    refine y_dup C rfl dX2_reads_19 ?_
    refine y_get (ci := 2) (k := 6) C in_X2 rfl (by decide) q1175 (fun _ h => h) mM_0 rfl dX2_reads_20 ?_
    refine y_iconst C 1 dX2_reads_23 lit1 ?_
    refine y_iadd C dX2_reads_24 ?_
    replace h := h _ rfl
    refine y_put (ci := 2) (k := 6) C in_X2 tyX2_ok nmX2 rfl (by decide) q1175 (fun _ h => h) rfl mM_0 (y_lt rfl) rfl rfl (mU_sp _) dX2_reads_25 ?_
    refine y_iconst C 1 dX2_reads_28 lit1 ?_
    exact y_iretz C hr rfl rfl (by decide) ⟨_, _, _, rfl, h⟩ dX2_reads_29
  · replace h := h.2 c9
    refine y_aload_n C 0 rfl rfl dX2_reads_8 ?_
    refine y_iconst C 1 dX2_reads_9 lit1 ?_
    refine y_aload_n C 0 rfl rfl dX2_reads_10 ?_
    refine y_get (ci := 2) (k := 6) C in_X2 rfl (by decide) q1175 (fun _ h => h) mM_0 rfl dX2_reads_11 ?_
    refine y_callVi0 C (metX2_fails hd hB h) (cwV 2 C.hts (lw_V q1350 q1352 qs41 q91 q1353) rfl rfl rfl kdX2_fails ⟨Nat.le_of_ble_eq_true rfl, Nat.le_of_ble_eq_true rfl⟩) mM_0 rfl rfl rfl (Nat.le_of_ble_eq_true rfl) dX2_reads_14 (fun r5 M1 hp => ?_)
    clear h
    obtain ⟨w_ft3, w_fa4, rfl, h⟩ := hp
    obtain ⟨z9, h⟩ := h
    exact y_iretz C hr rfl rfl z9 ⟨_, _, _, rfl, h⟩ dX2_reads_17
theorem kdX2_reads : yX2_reads.cls = RX2 ∧ yX2_reads.cls ≠ "java/lang/invoke/MethodHandle" ∧ yX2_reads.cls ≠ "java/lang/invoke/VarHandle" ∧ (parseMethodDescriptor yX2_reads.desc).map (fun d => d.parameters.length) = some 1 := by decide +kernel
def wpX2_isDigit (c_tx : Nat → Int32) (c_ty : Int32) (c_sp : Int32)  (post : Int32 → Prop) : Prop := wpX2_here c_tx c_ty c_sp (fun r1 => wpX2_in r1 48 57 (fun r2 => ((r2 = 0 ∨ r2 = 1) ∧ post r2)))
theorem metX2_isDigit {l : Launch} {D : va_G} {s0 : State} {a0 : Array Value} {ad : Nat → Nat} (hd : yAd ad) (hB : yB D s0 a0) {c_pg : Nat → Int32} {c_bm : Int32} {c_tx : Nat → Int32} {c_ty : Int32} {c_ft : Int32} {c_fa : Int32} {c_sp : Int32} {c_nu : Int32} {c_un : Nat → Int32} {c_sf : Nat → Int32} {c_st : Nat → Int32} {c_ll : Nat → Int32} {c_ln : Nat → Int32} {c_ip : Nat → Int32} {c_gr : Nat → Int32} {c_hs : Int64}  {post : Int32 → Prop} (h : wpX2_isDigit c_tx c_ty c_sp  post) : yMi l yX2_isDigit (ws_ yX2_isDigit cX2_isDigit 1 (some .boolean)) 2 86 0 0 D s0 [yr (some (ad 0))] (mM ad c_pg c_bm c_tx c_ty c_ft c_fa c_sp c_nu c_un c_sf c_st c_ll c_ln c_ip c_gr c_hs) (fun r M1 => M1 = mM ad c_pg c_bm c_tx c_ty c_ft c_fa c_sp c_nu c_un c_sf c_st c_ll c_ln c_ip c_gr c_hs ∧ post r) := by
  refine y_meti hB (by decide) rfl (Nat.le_of_ble_eq_true rfl) ?_
  intro p e s m below meth c A hr hnm C
  rw [wpX2_isDigit] at h
  refine y_aload_n C 0 rfl rfl dX2_isDigit_0 ?_
  refine y_callVi0 C (metX2_here hd hB h) (cwV 0 C.hts (lw_V q1346 q1348 qs40 q91 q1349) rfl rfl rfl kdX2_here ⟨Nat.le_of_ble_eq_true rfl, Nat.le_of_ble_eq_true rfl⟩) mM_0 rfl rfl rfl (Nat.le_of_ble_eq_true rfl) dX2_isDigit_1 (fun r1 M1 hp => ?_)
  clear h
  obtain ⟨rfl, h⟩ := hp
  refine y_bipush C 48 dX2_isDigit_4 y_b48 ?_
  refine y_bipush C 57 dX2_isDigit_6 y_b57 ?_
  refine y_callSi0 C (metX2_in hB h) (va_cwS 3 C.hts (lw_S q1231 q1232 q91 q1233) rfl rfl rfl kdX2_in.2 ⟨Nat.le_of_ble_eq_true rfl, Nat.le_of_ble_eq_true rfl⟩) rfl rfl (Nat.le_of_ble_eq_true rfl) dX2_isDigit_8 (fun r2 M1 hp => ?_)
  clear h
  obtain ⟨rfl, h⟩ := hp
  obtain ⟨z9, h⟩ := h
  exact y_iretz C hr rfl rfl z9 ⟨rfl, h⟩ dX2_isDigit_11
theorem kdX2_isDigit : yX2_isDigit.cls = RX2 ∧ yX2_isDigit.cls ≠ "java/lang/invoke/MethodHandle" ∧ yX2_isDigit.cls ≠ "java/lang/invoke/VarHandle" ∧ (parseMethodDescriptor yX2_isDigit.desc).map (fun d => d.parameters.length) = some 0 := by decide +kernel
section sX2_readsNumber
variable {p : Program} {l : Launch} {e : Env} {s : State} {m : MethodId} {args : Array Value} {below : List Frame} {meth : Method} {c : Code} {D : va_G} {s0 : State} {a0 : Array Value} {A : Nat → Prop} {ad : Nat → Nat} {c_pg : Nat → Int32} {c_bm : Int32} {c_tx : Nat → Int32} {c_ty : Int32} {c_ft : Int32} {c_fa : Int32} {c_sp : Int32} {c_nu : Int32} {c_un : Nat → Int32} {c_sf : Nat → Int32} {c_st : Nat → Int32} {c_ll : Nat → Int32} {c_ln : Nat → Int32} {c_ip : Nat → Int32} {c_gr : Nat → Int32} {c_hs : Int64}
def wpX2_readsNumber_b77 (post : Int32 → Int32 → Int32 → Int32 → Int32 → Prop) (c_tx : Nat → Int32) (c_ty : Int32) (c_ft : Int32) (c_fa : Int32) (c_sp : Int32) (c_nu : Int32) : Prop := wpX2_fails c_ft c_fa 1 c_sp (fun r4 w_ft2 w_fa3 => ((r4 = 0 ∨ r4 = 1) ∧ post r4 w_ft2 w_fa3 c_sp c_nu))
theorem okX2_readsNumber_b77 (C : yC p { frames := 3, cells := 0, slots := 0, locals := 106 } s m args meth c cX2_readsNumber 5 RX2 D s0 a0 A) (hB : yB D s0 a0) (hd : yAd ad) (hr : meth.sig.returnType = (some .boolean)) {post : Int32 → Int32 → Int32 → Int32 → Int32 → Prop}  : ∀ (c_tx : Nat → Int32) (c_ty : Int32) (c_ft : Int32) (c_fa : Int32) (c_sp : Int32) (c_nu : Int32), wpX2_readsNumber_b77 post c_tx c_ty c_ft c_fa c_sp c_nu → Y p l e { frames := 3, cells := 0, slots := 0, locals := 106 } s m args below meth c (MQ below (yQi D s0 A (fun r M1 => ∃ (w_ft : Int32) (w_fa : Int32) (w_sp : Int32) (w_nu : Int32), M1 = mM ad c_pg c_bm c_tx c_ty w_ft w_fa w_sp w_nu c_un c_sf c_st c_ll c_ln c_ip c_gr c_hs ∧ post r w_ft w_fa w_sp w_nu)) args s 0 0 A) D s0 A 5 (mM ad c_pg c_bm c_tx c_ty c_ft c_fa c_sp c_nu c_un c_sf c_st c_ll c_ln c_ip c_gr c_hs) 0 0 [some (yr (some (ad 0))), none, none, none, none] 77 [] := by
  intro c_tx c_ty c_ft c_fa c_sp c_nu h
  rw [wpX2_readsNumber_b77] at h
  refine y_aload_n C 0 rfl rfl dX2_readsNumber_77 ?_
  refine y_iconst C 1 dX2_readsNumber_78 lit1 ?_
  refine y_aload_n C 0 rfl rfl dX2_readsNumber_79 ?_
  refine y_get (ci := 2) (k := 6) C in_X2 rfl (by decide) q1175 (fun _ h => h) mM_0 rfl dX2_readsNumber_80 ?_
  refine y_callVi0 C (metX2_fails hd hB h) (cwV 2 C.hts (lw_V q1350 q1352 qs41 q91 q1353) rfl rfl rfl kdX2_fails ⟨Nat.le_of_ble_eq_true rfl, Nat.le_of_ble_eq_true rfl⟩) mM_0 rfl rfl rfl (Nat.le_of_ble_eq_true rfl) dX2_readsNumber_83 (fun r4 M1 hp => ?_)
  clear h
  obtain ⟨w_ft2, w_fa3, rfl, h⟩ := hp
  obtain ⟨z9, h⟩ := h
  exact y_iretz C hr rfl rfl z9 ⟨_, _, _, _, rfl, h⟩ dX2_readsNumber_86
def wpX2_readsNumber_b61 (post : Int32 → Int32 → Int32 → Int32 → Int32 → Prop) (c_tx : Nat → Int32) (c_ty : Int32) (c_ft : Int32) (c_fa : Int32) (c_sp : Int32) (c_nu : Int32) (v2 : Int32) (v3 : Int32) (v4 : Int32) : Prop := ((c_sp = v4 → wpX2_readsNumber_b77 post c_tx c_ty c_ft c_fa c_sp c_nu) ∧ (¬ c_sp = v4 → wpX2_isDigit c_tx c_ty c_sp (fun r5 => ((r5 = 0 → wpX2_in c_nu v2 v3 (fun r6 => ((¬ r6 = 0 → post 1 c_ft c_fa c_sp c_nu) ∧ (r6 = 0 → wpX2_fails c_ft c_fa 2 v4 (fun r9 w_ft7 w_fa8 => ((r9 = 0 → post 0 w_ft7 w_fa8 c_sp c_nu) ∧ (¬ r9 = 0 → post 1 w_ft7 w_fa8 c_sp c_nu))))))) ∧ (¬ r5 = 0 → wpX2_readsNumber_b77 post c_tx c_ty c_ft c_fa c_sp c_nu)))))
theorem okX2_readsNumber_b61 (C : yC p { frames := 3, cells := 0, slots := 0, locals := 106 } s m args meth c cX2_readsNumber 5 RX2 D s0 a0 A) (hB : yB D s0 a0) (hd : yAd ad) (hr : meth.sig.returnType = (some .boolean)) {post : Int32 → Int32 → Int32 → Int32 → Int32 → Prop}  : ∀ (c_tx : Nat → Int32) (c_ty : Int32) (c_ft : Int32) (c_fa : Int32) (c_sp : Int32) (c_nu : Int32) (v2 : Int32) (v3 : Int32) (v4 : Int32), wpX2_readsNumber_b61 post c_tx c_ty c_ft c_fa c_sp c_nu v2 v3 v4 → Y p l e { frames := 3, cells := 0, slots := 0, locals := 106 } s m args below meth c (MQ below (yQi D s0 A (fun r M1 => ∃ (w_ft : Int32) (w_fa : Int32) (w_sp : Int32) (w_nu : Int32), M1 = mM ad c_pg c_bm c_tx c_ty w_ft w_fa w_sp w_nu c_un c_sf c_st c_ll c_ln c_ip c_gr c_hs ∧ post r w_ft w_fa w_sp w_nu)) args s 0 0 A) D s0 A 5 (mM ad c_pg c_bm c_tx c_ty c_ft c_fa c_sp c_nu c_un c_sf c_st c_ll c_ln c_ip c_gr c_hs) 0 0 [some (yr (some (ad 0))), none, some (yi v2), some (yi v3), some (yi v4)] 61 [] := by
  intro c_tx c_ty c_ft c_fa c_sp c_nu v2 v3 v4 h
  rw [wpX2_readsNumber_b61] at h
  refine y_aload_n C 0 rfl rfl dX2_readsNumber_61 ?_
  refine y_get (ci := 2) (k := 6) C in_X2 rfl (by decide) q1175 (fun _ h => h) mM_0 rfl dX2_readsNumber_62 ?_
  refine y_iload C 4 rfl dX2_readsNumber_65 ?_
  refine y_icmp_eq C 77 dX2_readsNumber_67 (by decide) (fun c9 => ?_) (fun c9 => ?_)
  · replace h := h.1 c9
    refine y_to C _ ?_ (okX2_readsNumber_b77 C hB hd hr  _ _ _ _ _ _ h)
    exact (And.intro rfl trivial)
  · replace h := h.2 c9
    refine y_aload_n C 0 rfl rfl dX2_readsNumber_70 ?_
    refine y_callVi0 C (metX2_isDigit hd hB h) (cwV 0 C.hts (lw_V q1358 q1360 qs43 q91 q1361) rfl rfl rfl kdX2_isDigit ⟨Nat.le_of_ble_eq_true rfl, Nat.le_of_ble_eq_true rfl⟩) mM_0 rfl rfl rfl (Nat.le_of_ble_eq_true rfl) dX2_readsNumber_71 (fun r5 M1 hp => ?_)
    clear h
    obtain ⟨rfl, h⟩ := hp
    refine y_if_eq C 87 dX2_readsNumber_74 (by decide) (fun c9 => ?_) (fun c9 => ?_)
    · replace h := h.1 c9
      refine y_aload_n C 0 rfl rfl dX2_readsNumber_87 ?_
      refine y_get (ci := 2) (k := 7) C in_X2 rfl (by decide) q1176 (fun _ h => h) mM_0 rfl dX2_readsNumber_88 ?_
      refine y_iload_n C 2 rfl rfl dX2_readsNumber_91 ?_
      refine y_iload_n C 3 rfl rfl dX2_readsNumber_92 ?_
      refine y_callSi0 C (metX2_in hB h) (va_cwS 3 C.hts (lw_S q1231 q1232 q91 q1233) rfl rfl rfl kdX2_in.2 ⟨Nat.le_of_ble_eq_true rfl, Nat.le_of_ble_eq_true rfl⟩) rfl rfl (Nat.le_of_ble_eq_true rfl) dX2_readsNumber_93 (fun r6 M1 hp => ?_)
      clear h
      obtain ⟨rfl, h⟩ := hp
      refine y_if_ne C 109 dX2_readsNumber_96 (by decide) (fun c9 => ?_) (fun c9 => ?_)
      · replace h := h.1 c9
        refine y_iconst C 1 dX2_readsNumber_109 lit1 ?_
        refine y_goto C 114 dX2_readsNumber_110 (by decide) ?_
        exact y_iretz C hr rfl rfl (by decide) ⟨_, _, _, _, rfl, h⟩ dX2_readsNumber_114
      · replace h := h.2 c9
        refine y_aload_n C 0 rfl rfl dX2_readsNumber_99 ?_
        refine y_iconst C 2 dX2_readsNumber_100 lit2 ?_
        refine y_iload C 4 rfl dX2_readsNumber_101 ?_
        refine y_callVi0 C (metX2_fails hd hB h) (cwV 2 C.hts (lw_V q1350 q1352 qs41 q91 q1353) rfl rfl rfl kdX2_fails ⟨Nat.le_of_ble_eq_true rfl, Nat.le_of_ble_eq_true rfl⟩) mM_0 rfl rfl rfl (Nat.le_of_ble_eq_true rfl) dX2_readsNumber_103 (fun r9 M1 hp => ?_)
        clear h
        obtain ⟨w_ft7, w_fa8, rfl, h⟩ := hp
        refine y_if_eq C 113 dX2_readsNumber_106 (by decide) (fun c9 => ?_) (fun c9 => ?_)
        · replace h := h.1 c9
          refine y_iconst C 0 dX2_readsNumber_113 lit0 ?_
          exact y_iretz C hr rfl rfl (by decide) ⟨_, _, _, _, rfl, h⟩ dX2_readsNumber_114
        · replace h := h.2 c9
          refine y_iconst C 1 dX2_readsNumber_109 lit1 ?_
          refine y_goto C 114 dX2_readsNumber_110 (by decide) ?_
          exact y_iretz C hr rfl rfl (by decide) ⟨_, _, _, _, rfl, h⟩ dX2_readsNumber_114
    · replace h := h.2 c9
      refine y_to C _ ?_ (okX2_readsNumber_b77 C hB hd hr  _ _ _ _ _ _ h)
      exact (And.intro rfl trivial)
def wpX2_readsNumber_b11 (post : Int32 → Int32 → Int32 → Int32 → Int32 → Prop) : Nat → (Nat → Int32) → Int32 → Int32 → Int32 → Int32 → Int32 → Int32 → Int32 → Int32 → Int32 → Prop
  | 0, _, _, _, _, _, _, _, _, _, _ => False
  | nn + 1, c_tx, c_ty, c_ft, c_fa, c_sp, c_nu, v1, v2, v3, v4 => wpX2_isDigit c_tx c_ty c_sp (fun r1 => ((r1 = 0 → wpX2_readsNumber_b61 post c_tx c_ty c_ft c_fa c_sp c_nu v2 v3 v4) ∧ (¬ r1 = 0 → (((v4 + v1) ≤ c_sp → wpX2_readsNumber_b61 post c_tx c_ty c_ft c_fa c_sp c_nu v2 v3 v4) ∧ (¬ (v4 + v1) ≤ c_sp → wpX2_here c_tx c_ty c_sp (fun r10 => ∀ x11 : Int32, x11 = (((10 * c_nu) + r10) - 48) → ∀ x12 : Int32, x12 = (c_sp + 1) → wpX2_readsNumber_b11 post nn c_tx c_ty c_ft c_fa x12 x11 v1 v2 v3 v4))))))
theorem okX2_readsNumber_b11 (C : yC p { frames := 3, cells := 0, slots := 0, locals := 106 } s m args meth c cX2_readsNumber 5 RX2 D s0 a0 A) (hB : yB D s0 a0) (hd : yAd ad) (hr : meth.sig.returnType = (some .boolean)) {post : Int32 → Int32 → Int32 → Int32 → Int32 → Prop}  : ∀ (nn : Nat) (c_tx : Nat → Int32) (c_ty : Int32) (c_ft : Int32) (c_fa : Int32) (c_sp : Int32) (c_nu : Int32) (v1 : Int32) (v2 : Int32) (v3 : Int32) (v4 : Int32), wpX2_readsNumber_b11 post nn c_tx c_ty c_ft c_fa c_sp c_nu v1 v2 v3 v4 → Y p l e { frames := 3, cells := 0, slots := 0, locals := 106 } s m args below meth c (MQ below (yQi D s0 A (fun r M1 => ∃ (w_ft : Int32) (w_fa : Int32) (w_sp : Int32) (w_nu : Int32), M1 = mM ad c_pg c_bm c_tx c_ty w_ft w_fa w_sp w_nu c_un c_sf c_st c_ll c_ln c_ip c_gr c_hs ∧ post r w_ft w_fa w_sp w_nu)) args s 0 0 A) D s0 A 5 (mM ad c_pg c_bm c_tx c_ty c_ft c_fa c_sp c_nu c_un c_sf c_st c_ll c_ln c_ip c_gr c_hs) 0 0 [some (yr (some (ad 0))), some (yi v1), some (yi v2), some (yi v3), some (yi v4)] 11 [] := by
  intro nn
  induction nn with
  | zero => intro c_tx c_ty c_ft c_fa c_sp c_nu v1 v2 v3 v4 h; exact absurd h (by rw [wpX2_readsNumber_b11]; exact id)
  | succ nn ih =>
    intro c_tx c_ty c_ft c_fa c_sp c_nu v1 v2 v3 v4 h
    rw [wpX2_readsNumber_b11] at h
    refine y_aload_n C 0 rfl rfl dX2_readsNumber_11 ?_
    refine y_callVi0 C (metX2_isDigit hd hB h) (cwV 0 C.hts (lw_V q1358 q1360 qs43 q91 q1361) rfl rfl rfl kdX2_isDigit ⟨Nat.le_of_ble_eq_true rfl, Nat.le_of_ble_eq_true rfl⟩) mM_0 rfl rfl rfl (Nat.le_of_ble_eq_true rfl) dX2_readsNumber_12 (fun r1 M1 hp => ?_)
    clear h
    obtain ⟨rfl, h⟩ := hp
    refine y_if_eq C 61 dX2_readsNumber_15 (by decide) (fun c9 => ?_) (fun c9 => ?_)
    · replace h := h.1 c9
      refine y_to C _ ?_ (okX2_readsNumber_b61 C hB hd hr  _ _ _ _ _ _ _ _ _ h)
      exact (And.intro rfl (And.intro rfl (And.intro rfl (And.intro rfl trivial))))
    · replace h := h.2 c9
      refine y_aload_n C 0 rfl rfl dX2_readsNumber_18 ?_
      refine y_get (ci := 2) (k := 6) C in_X2 rfl (by decide) q1175 (fun _ h => h) mM_0 rfl dX2_readsNumber_19 ?_
      refine y_iload C 4 rfl dX2_readsNumber_22 ?_
      refine y_iload_n C 1 rfl rfl dX2_readsNumber_24 ?_
      refine y_iadd C dX2_readsNumber_25 ?_
      refine y_icmp_ge C 61 dX2_readsNumber_26 (by decide) (fun c9 => ?_) (fun c9 => ?_)
      · replace h := h.1 c9
        refine y_to C _ ?_ (okX2_readsNumber_b61 C hB hd hr  _ _ _ _ _ _ _ _ _ h)
        exact (And.intro rfl (And.intro rfl (And.intro rfl (And.intro rfl trivial))))
      · replace h := h.2 c9
        refine y_aload_n C 0 rfl rfl dX2_readsNumber_29 ?_
        refine y_bipush C 10 dX2_readsNumber_30 y_b10 ?_
        refine y_aload_n C 0 rfl rfl dX2_readsNumber_32 ?_
        refine y_get (ci := 2) (k := 7) C in_X2 rfl (by decide) q1176 (fun _ h => h) mM_0 rfl dX2_readsNumber_33 ?_
        refine y_imul C dX2_readsNumber_36 ?_
        refine y_aload_n C 0 rfl rfl dX2_readsNumber_37 ?_
        refine y_callVi0 C (metX2_here hd hB h) (cwV 0 C.hts (lw_V q1346 q1348 qs40 q91 q1349) rfl rfl rfl kdX2_here ⟨Nat.le_of_ble_eq_true rfl, Nat.le_of_ble_eq_true rfl⟩) mM_0 rfl rfl rfl (Nat.le_of_ble_eq_true rfl) dX2_readsNumber_38 (fun r10 M1 hp => ?_)
        clear h
        obtain ⟨rfl, h⟩ := hp
        refine y_iadd C dX2_readsNumber_41 ?_
        refine y_bipush C 48 dX2_readsNumber_42 y_b48 ?_
        refine y_isub C dX2_readsNumber_44 ?_
        replace h := h _ rfl
        refine y_put (ci := 2) (k := 7) C in_X2 tyX2_ok nmX2 rfl (by decide) q1176 (fun _ h => h) rfl mM_0 (y_lt rfl) rfl rfl (mU_nu _) dX2_readsNumber_45 ?_
        refine y_aload_n C 0 rfl rfl dX2_readsNumber_48 ?_
        refine y_dup C rfl dX2_readsNumber_49 ?_
        refine y_get (ci := 2) (k := 6) C in_X2 rfl (by decide) q1175 (fun _ h => h) mM_0 rfl dX2_readsNumber_50 ?_
        refine y_iconst C 1 dX2_readsNumber_53 lit1 ?_
        refine y_iadd C dX2_readsNumber_54 ?_
        replace h := h _ rfl
        refine y_put (ci := 2) (k := 6) C in_X2 tyX2_ok nmX2 rfl (by decide) q1175 (fun _ h => h) rfl mM_0 (y_lt rfl) rfl rfl (mU_sp _) dX2_readsNumber_55 ?_
        refine y_goto C 11 dX2_readsNumber_58 (by decide) ?_
        refine y_to C _ ?_ (ih _ _ _ _ _ _ _ _ _ _ h)
        exact (And.intro rfl (And.intro rfl (And.intro rfl (And.intro rfl (And.intro rfl trivial)))))
end sX2_readsNumber
def wpX2_readsNumber (c_tx : Nat → Int32) (c_ty : Int32) (c_ft : Int32) (c_fa : Int32) (c_sp : Int32) (c_nu : Int32) (a1 : Int32) (a2 : Int32) (a3 : Int32) (post : Int32 → Int32 → Int32 → Int32 → Int32 → Prop) : Prop := ∃ nf9 : Nat, wpX2_readsNumber_b11 post nf9 c_tx c_ty c_ft c_fa c_sp 0 a1 a2 a3 c_sp
theorem metX2_readsNumber {l : Launch} {D : va_G} {s0 : State} {a0 : Array Value} {ad : Nat → Nat} (hd : yAd ad) (hB : yB D s0 a0) {c_pg : Nat → Int32} {c_bm : Int32} {c_tx : Nat → Int32} {c_ty : Int32} {c_ft : Int32} {c_fa : Int32} {c_sp : Int32} {c_nu : Int32} {c_un : Nat → Int32} {c_sf : Nat → Int32} {c_st : Nat → Int32} {c_ll : Nat → Int32} {c_ln : Nat → Int32} {c_ip : Nat → Int32} {c_gr : Nat → Int32} {c_hs : Int64} {a1 : Int32} {a2 : Int32} {a3 : Int32} {post : Int32 → Int32 → Int32 → Int32 → Int32 → Prop} (h : wpX2_readsNumber c_tx c_ty c_ft c_fa c_sp c_nu a1 a2 a3 post) : yMi l yX2_readsNumber (ws_ yX2_readsNumber cX2_readsNumber 5 (some .boolean)) 3 106 0 0 D s0 [yr (some (ad 0)), yi a1, yi a2, yi a3] (mM ad c_pg c_bm c_tx c_ty c_ft c_fa c_sp c_nu c_un c_sf c_st c_ll c_ln c_ip c_gr c_hs) (fun r M1 => ∃ (w_ft : Int32) (w_fa : Int32) (w_sp : Int32) (w_nu : Int32), M1 = mM ad c_pg c_bm c_tx c_ty w_ft w_fa w_sp w_nu c_un c_sf c_st c_ll c_ln c_ip c_gr c_hs ∧ post r w_ft w_fa w_sp w_nu) := by
  refine y_meti hB (by decide) rfl (Nat.le_of_ble_eq_true rfl) ?_
  intro p e s m below meth c A hr hnm C
  rw [wpX2_readsNumber] at h
  refine y_aload_n C 0 rfl rfl dX2_readsNumber_0 ?_
  refine y_get (ci := 2) (k := 6) C in_X2 rfl (by decide) q1175 (fun _ h => h) mM_0 rfl dX2_readsNumber_1 ?_
  refine y_istore C 4 (by decide) dX2_readsNumber_4 ?_
  refine y_aload_n C 0 rfl rfl dX2_readsNumber_6 ?_
  refine y_iconst C 0 dX2_readsNumber_7 lit0 ?_
  refine y_put (ci := 2) (k := 7) C in_X2 tyX2_ok nmX2 rfl (by decide) q1176 (fun _ h => h) rfl mM_0 (y_lt rfl) rfl rfl (mU_nu _) dX2_readsNumber_8 ?_
  obtain ⟨nf9, h⟩ := h
  refine y_to C _ ?_ (okX2_readsNumber_b11 C hB hd hr  nf9 _ _ _ _ _ _ _ _ _ _ h)
  exact (And.intro rfl (And.intro rfl (And.intro rfl (And.intro rfl (And.intro rfl trivial)))))
theorem kdX2_readsNumber : yX2_readsNumber.cls = RX2 ∧ yX2_readsNumber.cls ≠ "java/lang/invoke/MethodHandle" ∧ yX2_readsNumber.cls ≠ "java/lang/invoke/VarHandle" ∧ (parseMethodDescriptor yX2_readsNumber.desc).map (fun d => d.parameters.length) = some 3 := by decide +kernel
section sX2_readsPositions
variable {p : Program} {l : Launch} {e : Env} {s : State} {m : MethodId} {args : Array Value} {below : List Frame} {meth : Method} {c : Code} {D : va_G} {s0 : State} {a0 : Array Value} {A : Nat → Prop} {ad : Nat → Nat} {c_pg : Nat → Int32} {c_bm : Int32} {c_tx : Nat → Int32} {c_ty : Int32} {c_ft : Int32} {c_fa : Int32} {c_sp : Int32} {c_nu : Int32} {c_un : Nat → Int32} {c_sf : Nat → Int32} {c_st : Nat → Int32} {c_ll : Nat → Int32} {c_ln : Nat → Int32} {c_ip : Nat → Int32} {c_gr : Nat → Int32} {c_hs : Int64}
def wpX2_readsPositions_b101 (post : Int32 → (Nat → Int32) → Int32 → Int32 → Int32 → Int32 → Prop) (k9 : (Nat → Int32) → (Nat → Int32) → Int32 → Int32 → Int32 → Int32 → Int32 → Int32 → Int32 → Prop) (c_pg : Nat → Int32) (c_tx : Nat → Int32) (c_ty : Int32) (c_ft : Int32) (c_fa : Int32) (c_sp : Int32) (c_nu : Int32) (v1 : Int32) (v2 : Int32) (u1 : Int32) (u2 : Int32) : Prop := ∀ x13 : Int32, x13 = (u1 + u2) → k9 c_pg c_tx c_ty c_ft c_fa x13 c_nu v1 v2
theorem okX2_readsPositions_b101 (C : yC p { frames := 4, cells := 0, slots := 0, locals := 130 } s m args meth c cX2_readsPositions 3 RX2 D s0 a0 A) (hB : yB D s0 a0) (hd : yAd ad) (hr : meth.sig.returnType = (some .boolean)) {post : Int32 → (Nat → Int32) → Int32 → Int32 → Int32 → Int32 → Prop} {k9 : (Nat → Int32) → (Nat → Int32) → Int32 → Int32 → Int32 → Int32 → Int32 → Int32 → Int32 → Prop} (hk9 : ∀ (c_pg : Nat → Int32) (c_tx : Nat → Int32) (c_ty : Int32) (c_ft : Int32) (c_fa : Int32) (c_sp : Int32) (c_nu : Int32) (v1 : Int32) (v2 : Int32), k9 c_pg c_tx c_ty c_ft c_fa c_sp c_nu v1 v2 → Y p l e { frames := 4, cells := 0, slots := 0, locals := 130 } s m args below meth c (MQ below (yQi D s0 A (fun r M1 => ∃ (w_pg : Nat → Int32) (w_ft : Int32) (w_fa : Int32) (w_sp : Int32) (w_nu : Int32), M1 = mM ad w_pg c_bm c_tx c_ty w_ft w_fa w_sp w_nu c_un c_sf c_st c_ll c_ln c_ip c_gr c_hs ∧ post r w_pg w_ft w_fa w_sp w_nu)) args s 0 0 A) D s0 A 3 (mM ad c_pg c_bm c_tx c_ty c_ft c_fa c_sp c_nu c_un c_sf c_st c_ll c_ln c_ip c_gr c_hs) 0 0 [some (yr (some (ad 0))), some (yi v1), some (yi v2)] 9 []) : ∀ (c_pg : Nat → Int32) (c_tx : Nat → Int32) (c_ty : Int32) (c_ft : Int32) (c_fa : Int32) (c_sp : Int32) (c_nu : Int32) (v1 : Int32) (v2 : Int32) (u1 : Int32) (u2 : Int32), wpX2_readsPositions_b101 post k9 c_pg c_tx c_ty c_ft c_fa c_sp c_nu v1 v2 u1 u2 → Y p l e { frames := 4, cells := 0, slots := 0, locals := 130 } s m args below meth c (MQ below (yQi D s0 A (fun r M1 => ∃ (w_pg : Nat → Int32) (w_ft : Int32) (w_fa : Int32) (w_sp : Int32) (w_nu : Int32), M1 = mM ad w_pg c_bm c_tx c_ty w_ft w_fa w_sp w_nu c_un c_sf c_st c_ll c_ln c_ip c_gr c_hs ∧ post r w_pg w_ft w_fa w_sp w_nu)) args s 0 0 A) D s0 A 3 (mM ad c_pg c_bm c_tx c_ty c_ft c_fa c_sp c_nu c_un c_sf c_st c_ll c_ln c_ip c_gr c_hs) 0 0 [some (yr (some (ad 0))), some (yi v1), some (yi v2)] 101 [yi u2, yi u1, yr (some (ad 0))] := by
  intro c_pg c_tx c_ty c_ft c_fa c_sp c_nu v1 v2 u1 u2 h
  rw [wpX2_readsPositions_b101] at h
  refine y_iadd C dX2_readsPositions_101 ?_
  replace h := h _ rfl
  refine y_put (ci := 2) (k := 6) C in_X2 tyX2_ok nmX2 rfl (by decide) q1175 (fun _ h => h) rfl mM_0 (y_lt rfl) rfl rfl (mU_sp _) dX2_readsPositions_102 ?_
  refine y_goto C 9 dX2_readsPositions_105 (by decide) ?_
  refine y_to C _ ?_ (hk9 _ _ _ _ _ _ _ _ _ h)
  exact (And.intro rfl (And.intro rfl (And.intro rfl trivial)))
def wpX2_readsPositions_b86 (post : Int32 → (Nat → Int32) → Int32 → Int32 → Int32 → Int32 → Prop) (k9 : (Nat → Int32) → (Nat → Int32) → Int32 → Int32 → Int32 → Int32 → Int32 → Int32 → Int32 → Prop) (c_pg : Nat → Int32) (c_tx : Nat → Int32) (c_ty : Int32) (c_ft : Int32) (c_fa : Int32) (c_sp : Int32) (c_nu : Int32) (v1 : Int32) (u0 : Int32) : Prop := ((u0 = 0 → wpX2_readsPositions_b101 post k9 c_pg c_tx c_ty c_ft c_fa c_sp c_nu v1 u0 c_sp 0) ∧ (¬ u0 = 0 → wpX2_readsPositions_b101 post k9 c_pg c_tx c_ty c_ft c_fa c_sp c_nu v1 u0 c_sp 1))
theorem okX2_readsPositions_b86 (C : yC p { frames := 4, cells := 0, slots := 0, locals := 130 } s m args meth c cX2_readsPositions 3 RX2 D s0 a0 A) (hB : yB D s0 a0) (hd : yAd ad) (hr : meth.sig.returnType = (some .boolean)) {post : Int32 → (Nat → Int32) → Int32 → Int32 → Int32 → Int32 → Prop} {k9 : (Nat → Int32) → (Nat → Int32) → Int32 → Int32 → Int32 → Int32 → Int32 → Int32 → Int32 → Prop} (hk9 : ∀ (c_pg : Nat → Int32) (c_tx : Nat → Int32) (c_ty : Int32) (c_ft : Int32) (c_fa : Int32) (c_sp : Int32) (c_nu : Int32) (v1 : Int32) (v2 : Int32), k9 c_pg c_tx c_ty c_ft c_fa c_sp c_nu v1 v2 → Y p l e { frames := 4, cells := 0, slots := 0, locals := 130 } s m args below meth c (MQ below (yQi D s0 A (fun r M1 => ∃ (w_pg : Nat → Int32) (w_ft : Int32) (w_fa : Int32) (w_sp : Int32) (w_nu : Int32), M1 = mM ad w_pg c_bm c_tx c_ty w_ft w_fa w_sp w_nu c_un c_sf c_st c_ll c_ln c_ip c_gr c_hs ∧ post r w_pg w_ft w_fa w_sp w_nu)) args s 0 0 A) D s0 A 3 (mM ad c_pg c_bm c_tx c_ty c_ft c_fa c_sp c_nu c_un c_sf c_st c_ll c_ln c_ip c_gr c_hs) 0 0 [some (yr (some (ad 0))), some (yi v1), some (yi v2)] 9 []) : ∀ (c_pg : Nat → Int32) (c_tx : Nat → Int32) (c_ty : Int32) (c_ft : Int32) (c_fa : Int32) (c_sp : Int32) (c_nu : Int32) (v1 : Int32) (u0 : Int32), wpX2_readsPositions_b86 post k9 c_pg c_tx c_ty c_ft c_fa c_sp c_nu v1 u0 → Y p l e { frames := 4, cells := 0, slots := 0, locals := 130 } s m args below meth c (MQ below (yQi D s0 A (fun r M1 => ∃ (w_pg : Nat → Int32) (w_ft : Int32) (w_fa : Int32) (w_sp : Int32) (w_nu : Int32), M1 = mM ad w_pg c_bm c_tx c_ty w_ft w_fa w_sp w_nu c_un c_sf c_st c_ll c_ln c_ip c_gr c_hs ∧ post r w_pg w_ft w_fa w_sp w_nu)) args s 0 0 A) D s0 A 3 (mM ad c_pg c_bm c_tx c_ty c_ft c_fa c_sp c_nu c_un c_sf c_st c_ll c_ln c_ip c_gr c_hs) 0 0 [some (yr (some (ad 0))), some (yi v1), none] 86 [yi u0] := by
  intro c_pg c_tx c_ty c_ft c_fa c_sp c_nu v1 u0 h
  rw [wpX2_readsPositions_b86] at h
  refine y_istore_n C 2 rfl (by decide) dX2_readsPositions_86 ?_
  refine y_aload_n C 0 rfl rfl dX2_readsPositions_87 ?_
  refine y_dup C rfl dX2_readsPositions_88 ?_
  refine y_get (ci := 2) (k := 6) C in_X2 rfl (by decide) q1175 (fun _ h => h) mM_0 rfl dX2_readsPositions_89 ?_
  refine y_iload_n C 2 rfl rfl dX2_readsPositions_92 ?_
  refine y_if_eq C 100 dX2_readsPositions_93 (by decide) (fun c9 => ?_) (fun c9 => ?_)
  · replace h := h.1 c9
    refine y_iconst C 0 dX2_readsPositions_100 lit0 ?_
    refine y_to C _ ?_ (okX2_readsPositions_b101 C hB hd hr hk9 _ _ _ _ _ _ _ _ _ _ _ h)
    exact (And.intro rfl (And.intro rfl (And.intro rfl trivial)))
  · replace h := h.2 c9
    refine y_iconst C 1 dX2_readsPositions_96 lit1 ?_
    refine y_goto C 101 dX2_readsPositions_97 (by decide) ?_
    refine y_to C _ ?_ (okX2_readsPositions_b101 C hB hd hr hk9 _ _ _ _ _ _ _ _ _ _ _ h)
    exact (And.intro rfl (And.intro rfl (And.intro rfl trivial)))
def wpX2_readsPositions_b85 (post : Int32 → (Nat → Int32) → Int32 → Int32 → Int32 → Int32 → Prop) (k9 : (Nat → Int32) → (Nat → Int32) → Int32 → Int32 → Int32 → Int32 → Int32 → Int32 → Int32 → Prop) (c_pg : Nat → Int32) (c_tx : Nat → Int32) (c_ty : Int32) (c_ft : Int32) (c_fa : Int32) (c_sp : Int32) (c_nu : Int32) (v1 : Int32) : Prop := wpX2_readsPositions_b86 post k9 c_pg c_tx c_ty c_ft c_fa c_sp c_nu v1 0
theorem okX2_readsPositions_b85 (C : yC p { frames := 4, cells := 0, slots := 0, locals := 130 } s m args meth c cX2_readsPositions 3 RX2 D s0 a0 A) (hB : yB D s0 a0) (hd : yAd ad) (hr : meth.sig.returnType = (some .boolean)) {post : Int32 → (Nat → Int32) → Int32 → Int32 → Int32 → Int32 → Prop} {k9 : (Nat → Int32) → (Nat → Int32) → Int32 → Int32 → Int32 → Int32 → Int32 → Int32 → Int32 → Prop} (hk9 : ∀ (c_pg : Nat → Int32) (c_tx : Nat → Int32) (c_ty : Int32) (c_ft : Int32) (c_fa : Int32) (c_sp : Int32) (c_nu : Int32) (v1 : Int32) (v2 : Int32), k9 c_pg c_tx c_ty c_ft c_fa c_sp c_nu v1 v2 → Y p l e { frames := 4, cells := 0, slots := 0, locals := 130 } s m args below meth c (MQ below (yQi D s0 A (fun r M1 => ∃ (w_pg : Nat → Int32) (w_ft : Int32) (w_fa : Int32) (w_sp : Int32) (w_nu : Int32), M1 = mM ad w_pg c_bm c_tx c_ty w_ft w_fa w_sp w_nu c_un c_sf c_st c_ll c_ln c_ip c_gr c_hs ∧ post r w_pg w_ft w_fa w_sp w_nu)) args s 0 0 A) D s0 A 3 (mM ad c_pg c_bm c_tx c_ty c_ft c_fa c_sp c_nu c_un c_sf c_st c_ll c_ln c_ip c_gr c_hs) 0 0 [some (yr (some (ad 0))), some (yi v1), some (yi v2)] 9 []) : ∀ (c_pg : Nat → Int32) (c_tx : Nat → Int32) (c_ty : Int32) (c_ft : Int32) (c_fa : Int32) (c_sp : Int32) (c_nu : Int32) (v1 : Int32), wpX2_readsPositions_b85 post k9 c_pg c_tx c_ty c_ft c_fa c_sp c_nu v1 → Y p l e { frames := 4, cells := 0, slots := 0, locals := 130 } s m args below meth c (MQ below (yQi D s0 A (fun r M1 => ∃ (w_pg : Nat → Int32) (w_ft : Int32) (w_fa : Int32) (w_sp : Int32) (w_nu : Int32), M1 = mM ad w_pg c_bm c_tx c_ty w_ft w_fa w_sp w_nu c_un c_sf c_st c_ll c_ln c_ip c_gr c_hs ∧ post r w_pg w_ft w_fa w_sp w_nu)) args s 0 0 A) D s0 A 3 (mM ad c_pg c_bm c_tx c_ty c_ft c_fa c_sp c_nu c_un c_sf c_st c_ll c_ln c_ip c_gr c_hs) 0 0 [some (yr (some (ad 0))), some (yi v1), none] 85 [] := by
  intro c_pg c_tx c_ty c_ft c_fa c_sp c_nu v1 h
  rw [wpX2_readsPositions_b85] at h
  refine y_iconst C 0 dX2_readsPositions_85 lit0 ?_
  refine y_to C _ ?_ (okX2_readsPositions_b86 C hB hd hr hk9 _ _ _ _ _ _ _ _ _ h)
  exact (And.intro rfl (And.intro rfl trivial))
def wpX2_readsPositions_b9 (post : Int32 → (Nat → Int32) → Int32 → Int32 → Int32 → Int32 → Prop) : Nat → (Nat → Int32) → (Nat → Int32) → Int32 → Int32 → Int32 → Int32 → Int32 → Int32 → Int32 → Prop
  | 0, _, _, _, _, _, _, _, _, _ => False
  | nn + 1, c_pg, c_tx, c_ty, c_ft, c_fa, c_sp, c_nu, v1, v2 => ((v2 = 0 → ((¬ c_ft = 0 → post 0 c_pg c_ft c_fa c_sp c_nu) ∧ (c_ft = 0 → post 1 c_pg c_ft c_fa c_sp c_nu))) ∧ (¬ v2 = 0 → wpX2_readsNumber c_tx c_ty c_ft c_fa c_sp c_nu 3 (v1 + 1) 300 (fun r9 w_ft5 w_fa6 w_sp7 w_nu8 => ((¬ r9 = 0 → vp_in 0 1120 ∧ vp_in (1 + (c_pg (Int32.toNatClampNeg 0))) 1120 ∧ ∀ f10 : Nat → Int32, f10 = upd c_pg (Int32.toNatClampNeg (1 + (c_pg (Int32.toNatClampNeg 0)))) w_nu8 → vp_in 0 1120 ∧ vp_in 0 1120 ∧ ∀ f11 : Nat → Int32, f11 = upd f10 (Int32.toNatClampNeg 0) ((f10 (Int32.toNatClampNeg 0)) + 1) → wpX2_here c_tx c_ty w_sp7 (fun r12 => ((¬ r12 = 44 → wpX2_readsPositions_b85 post (fun c_pg c_tx c_ty c_ft c_fa c_sp c_nu v1 v2 => wpX2_readsPositions_b9 post nn c_pg c_tx c_ty c_ft c_fa c_sp c_nu v1 v2) f11 c_tx c_ty w_ft5 w_fa6 w_sp7 w_nu8 w_nu8) ∧ (r12 = 44 → vp_in 0 1120 ∧ ((12 ≤ (f11 (Int32.toNatClampNeg 0)) → wpX2_readsPositions_b85 post (fun c_pg c_tx c_ty c_ft c_fa c_sp c_nu v1 v2 => wpX2_readsPositions_b9 post nn c_pg c_tx c_ty c_ft c_fa c_sp c_nu v1 v2) f11 c_tx c_ty w_ft5 w_fa6 w_sp7 w_nu8 w_nu8) ∧ (¬ 12 ≤ (f11 (Int32.toNatClampNeg 0)) → wpX2_readsPositions_b86 post (fun c_pg c_tx c_ty c_ft c_fa c_sp c_nu v1 v2 => wpX2_readsPositions_b9 post nn c_pg c_tx c_ty c_ft c_fa c_sp c_nu v1 v2) f11 c_tx c_ty w_ft5 w_fa6 w_sp7 w_nu8 w_nu8 1)))))) ∧ (r9 = 0 → post 0 c_pg w_ft5 w_fa6 w_sp7 w_nu8)))))
theorem okX2_readsPositions_b9 (C : yC p { frames := 4, cells := 0, slots := 0, locals := 130 } s m args meth c cX2_readsPositions 3 RX2 D s0 a0 A) (hB : yB D s0 a0) (hd : yAd ad) (hr : meth.sig.returnType = (some .boolean)) {post : Int32 → (Nat → Int32) → Int32 → Int32 → Int32 → Int32 → Prop}  : ∀ (nn : Nat) (c_pg : Nat → Int32) (c_tx : Nat → Int32) (c_ty : Int32) (c_ft : Int32) (c_fa : Int32) (c_sp : Int32) (c_nu : Int32) (v1 : Int32) (v2 : Int32), wpX2_readsPositions_b9 post nn c_pg c_tx c_ty c_ft c_fa c_sp c_nu v1 v2 → Y p l e { frames := 4, cells := 0, slots := 0, locals := 130 } s m args below meth c (MQ below (yQi D s0 A (fun r M1 => ∃ (w_pg : Nat → Int32) (w_ft : Int32) (w_fa : Int32) (w_sp : Int32) (w_nu : Int32), M1 = mM ad w_pg c_bm c_tx c_ty w_ft w_fa w_sp w_nu c_un c_sf c_st c_ll c_ln c_ip c_gr c_hs ∧ post r w_pg w_ft w_fa w_sp w_nu)) args s 0 0 A) D s0 A 3 (mM ad c_pg c_bm c_tx c_ty c_ft c_fa c_sp c_nu c_un c_sf c_st c_ll c_ln c_ip c_gr c_hs) 0 0 [some (yr (some (ad 0))), some (yi v1), some (yi v2)] 9 [] := by
  intro nn
  induction nn with
  | zero => intro c_pg c_tx c_ty c_ft c_fa c_sp c_nu v1 v2 h; exact absurd h (by rw [wpX2_readsPositions_b9]; exact id)
  | succ nn ih =>
    intro c_pg c_tx c_ty c_ft c_fa c_sp c_nu v1 v2 h
    rw [wpX2_readsPositions_b9] at h
    refine y_iload_n C 2 rfl rfl dX2_readsPositions_9 ?_
    refine y_if_eq C 108 dX2_readsPositions_10 (by decide) (fun c9 => ?_) (fun c9 => ?_)
    · replace h := h.1 c9
      refine y_aload_n C 0 rfl rfl dX2_readsPositions_108 ?_
      refine y_get (ci := 2) (k := 4) C in_X2 rfl (by decide) q1173 (fun _ h => h) mM_0 rfl dX2_readsPositions_109 ?_
      refine y_if_ne C 119 dX2_readsPositions_112 (by decide) (fun c9 => ?_) (fun c9 => ?_)
      · replace h := h.1 c9
        refine y_iconst C 0 dX2_readsPositions_119 lit0 ?_
        exact y_iretz C hr rfl rfl (by decide) ⟨_, _, _, _, _, rfl, h⟩ dX2_readsPositions_120
      · replace h := h.2 c9
        refine y_iconst C 1 dX2_readsPositions_115 lit1 ?_
        refine y_goto C 120 dX2_readsPositions_116 (by decide) ?_
        exact y_iretz C hr rfl rfl (by decide) ⟨_, _, _, _, _, rfl, h⟩ dX2_readsPositions_120
    · replace h := h.2 c9
      refine y_aload_n C 0 rfl rfl dX2_readsPositions_13 ?_
      refine y_iconst C 3 dX2_readsPositions_14 lit3 ?_
      refine y_iload_n C 1 rfl rfl dX2_readsPositions_15 ?_
      refine y_iconst C 1 dX2_readsPositions_16 lit1 ?_
      refine y_iadd C dX2_readsPositions_17 ?_
      refine y_sipush C 300 dX2_readsPositions_18 y_s300 ?_
      refine y_callVi0 C (metX2_readsNumber hd hB h) (cwV 3 C.hts (lw_V q1354 q1356 qs42 q91 q1357) rfl rfl rfl kdX2_readsNumber ⟨Nat.le_of_ble_eq_true rfl, Nat.le_of_ble_eq_true rfl⟩) mM_0 rfl rfl rfl (Nat.le_of_ble_eq_true rfl) dX2_readsPositions_21 (fun r9 M1 hp => ?_)
      clear h
      obtain ⟨w_ft5, w_fa6, w_sp7, w_nu8, rfl, h⟩ := hp
      refine y_if_ne C 29 dX2_readsPositions_24 (by decide) (fun c9 => ?_) (fun c9 => ?_)
      · replace h := h.1 c9
        refine y_aload_n C 0 rfl rfl dX2_readsPositions_29 ?_
        refine y_get (ci := 2) (k := 7) C in_X2 rfl (by decide) q1176 (fun _ h => h) mM_0 rfl dX2_readsPositions_30 ?_
        refine y_istore_n C 1 rfl (by decide) dX2_readsPositions_33 ?_
        refine y_aload_n C 0 rfl rfl dX2_readsPositions_34 ?_
        refine y_get (ci := 2) (k := 0) C in_X2 rfl (by decide) q1169 (fun _ h => h) mM_0 rfl dX2_readsPositions_35 ?_
        refine y_iconst C 1 dX2_readsPositions_38 lit1 ?_
        refine y_aload_n C 0 rfl rfl dX2_readsPositions_39 ?_
        refine y_get (ci := 2) (k := 0) C in_X2 rfl (by decide) q1169 (fun _ h => h) mM_0 rfl dX2_readsPositions_40 ?_
        refine y_iconst C 0 dX2_readsPositions_43 lit0 ?_
        obtain ⟨i9, h⟩ := h
        refine y_iald C (mM_1 hd) i9 dX2_readsPositions_44 ?_
        refine y_iadd C dX2_readsPositions_45 ?_
        refine y_aload_n C 0 rfl rfl dX2_readsPositions_46 ?_
        refine y_get (ci := 2) (k := 7) C in_X2 rfl (by decide) q1176 (fun _ h => h) mM_0 rfl dX2_readsPositions_47 ?_
        obtain ⟨i9, h⟩ := h
        replace h := h _ rfl
        refine y_iast C (mM_1 hd) i9 (mU_pg hd _) dX2_readsPositions_50 ?_
        refine y_aload_n C 0 rfl rfl dX2_readsPositions_51 ?_
        refine y_get (ci := 2) (k := 0) C in_X2 rfl (by decide) q1169 (fun _ h => h) mM_0 rfl dX2_readsPositions_52 ?_
        refine y_iconst C 0 dX2_readsPositions_55 lit0 ?_
        refine y_dup2 C rfl rfl dX2_readsPositions_56 ?_
        obtain ⟨i9, h⟩ := h
        refine y_iald C (mM_1 hd) i9 dX2_readsPositions_57 ?_
        refine y_iconst C 1 dX2_readsPositions_58 lit1 ?_
        refine y_iadd C dX2_readsPositions_59 ?_
        obtain ⟨i9, h⟩ := h
        replace h := h _ rfl
        refine y_iast C (mM_1 hd) i9 (mU_pg hd _) dX2_readsPositions_60 ?_
        refine y_aload_n C 0 rfl rfl dX2_readsPositions_61 ?_
        refine y_callVi0 C (metX2_here hd hB h) (cwV 0 C.hts (lw_V q1346 q1348 qs40 q91 q1349) rfl rfl rfl kdX2_here ⟨Nat.le_of_ble_eq_true rfl, Nat.le_of_ble_eq_true rfl⟩) mM_0 rfl rfl rfl (Nat.le_of_ble_eq_true rfl) dX2_readsPositions_62 (fun r12 M1 hp => ?_)
        clear h
        obtain ⟨rfl, h⟩ := hp
        refine y_bipush C 44 dX2_readsPositions_65 y_b44 ?_
        refine y_icmp_ne C 85 dX2_readsPositions_67 (by decide) (fun c9 => ?_) (fun c9 => ?_)
        · replace h := h.1 c9
          refine y_to C _ ?_ (okX2_readsPositions_b85 C hB hd hr ih _ _ _ _ _ _ _ _ h)
          exact (And.intro rfl (And.intro rfl trivial))
        · replace h := h.2 c9
          refine y_aload_n C 0 rfl rfl dX2_readsPositions_70 ?_
          refine y_get (ci := 2) (k := 0) C in_X2 rfl (by decide) q1169 (fun _ h => h) mM_0 rfl dX2_readsPositions_71 ?_
          refine y_iconst C 0 dX2_readsPositions_74 lit0 ?_
          obtain ⟨i9, h⟩ := h
          refine y_iald C (mM_1 hd) i9 dX2_readsPositions_75 ?_
          refine y_bipush C 12 dX2_readsPositions_76 y_b12 ?_
          refine y_icmp_ge C 85 dX2_readsPositions_78 (by decide) (fun c9 => ?_) (fun c9 => ?_)
          · replace h := h.1 c9
            refine y_to C _ ?_ (okX2_readsPositions_b85 C hB hd hr ih _ _ _ _ _ _ _ _ h)
            exact (And.intro rfl (And.intro rfl trivial))
          · replace h := h.2 c9
            refine y_iconst C 1 dX2_readsPositions_81 lit1 ?_
            refine y_goto C 86 dX2_readsPositions_82 (by decide) ?_
            refine y_to C _ ?_ (okX2_readsPositions_b86 C hB hd hr ih _ _ _ _ _ _ _ _ _ h)
            exact (And.intro rfl (And.intro rfl trivial))
      · replace h := h.2 c9
        refine y_iconst C 0 dX2_readsPositions_27 lit0 ?_
        exact y_iretz C hr rfl rfl (by decide) ⟨_, _, _, _, _, rfl, h⟩ dX2_readsPositions_28
end sX2_readsPositions
def wpX2_readsPositions (c_pg : Nat → Int32) (c_tx : Nat → Int32) (c_ty : Int32) (c_ft : Int32) (c_fa : Int32) (c_sp : Int32) (c_nu : Int32)  (post : Int32 → (Nat → Int32) → Int32 → Int32 → Int32 → Int32 → Prop) : Prop := wpX2_reads c_tx c_ty c_ft c_fa c_sp 112 (fun r4 w_ft1 w_fa2 w_sp3 => ∃ nf9 : Nat, wpX2_readsPositions_b9 post nf9 c_pg c_tx c_ty w_ft1 w_fa2 w_sp3 c_nu (-1) r4)
theorem metX2_readsPositions {l : Launch} {D : va_G} {s0 : State} {a0 : Array Value} {ad : Nat → Nat} (hd : yAd ad) (hB : yB D s0 a0) {c_pg : Nat → Int32} {c_bm : Int32} {c_tx : Nat → Int32} {c_ty : Int32} {c_ft : Int32} {c_fa : Int32} {c_sp : Int32} {c_nu : Int32} {c_un : Nat → Int32} {c_sf : Nat → Int32} {c_st : Nat → Int32} {c_ll : Nat → Int32} {c_ln : Nat → Int32} {c_ip : Nat → Int32} {c_gr : Nat → Int32} {c_hs : Int64}  {post : Int32 → (Nat → Int32) → Int32 → Int32 → Int32 → Int32 → Prop} (h : wpX2_readsPositions c_pg c_tx c_ty c_ft c_fa c_sp c_nu  post) : yMi l yX2_readsPositions (ws_ yX2_readsPositions cX2_readsPositions 3 (some .boolean)) 4 130 0 0 D s0 [yr (some (ad 0))] (mM ad c_pg c_bm c_tx c_ty c_ft c_fa c_sp c_nu c_un c_sf c_st c_ll c_ln c_ip c_gr c_hs) (fun r M1 => ∃ (w_pg : Nat → Int32) (w_ft : Int32) (w_fa : Int32) (w_sp : Int32) (w_nu : Int32), M1 = mM ad w_pg c_bm c_tx c_ty w_ft w_fa w_sp w_nu c_un c_sf c_st c_ll c_ln c_ip c_gr c_hs ∧ post r w_pg w_ft w_fa w_sp w_nu) := by
  refine y_meti hB (by decide) rfl (Nat.le_of_ble_eq_true rfl) ?_
  intro p e s m below meth c A hr hnm C
  rw [wpX2_readsPositions] at h
  refine y_iconst C (-1) dX2_readsPositions_0 litm1 ?_
  refine y_istore_n C 1 rfl (by decide) dX2_readsPositions_1 ?_
  refine y_aload_n C 0 rfl rfl dX2_readsPositions_2 ?_
  refine y_bipush C 112 dX2_readsPositions_3 y_b112 ?_
  refine y_callVi0 C (metX2_reads hd hB h) (cwV 1 C.hts (lw_V q1342 q1344 qs39 q91 q1345) rfl rfl rfl kdX2_reads ⟨Nat.le_of_ble_eq_true rfl, Nat.le_of_ble_eq_true rfl⟩) mM_0 rfl rfl rfl (Nat.le_of_ble_eq_true rfl) dX2_readsPositions_5 (fun r4 M1 hp => ?_)
  clear h
  obtain ⟨w_ft1, w_fa2, w_sp3, rfl, h⟩ := hp
  refine y_istore_n C 2 rfl (by decide) dX2_readsPositions_8 ?_
  obtain ⟨nf9, h⟩ := h
  refine y_to C _ ?_ (okX2_readsPositions_b9 C hB hd hr  nf9 _ _ _ _ _ _ _ _ _ h)
  exact (And.intro rfl (And.intro rfl (And.intro rfl trivial)))
theorem kdX2_readsPositions : yX2_readsPositions.cls = RX2 ∧ yX2_readsPositions.cls ≠ "java/lang/invoke/MethodHandle" ∧ yX2_readsPositions.cls ≠ "java/lang/invoke/VarHandle" ∧ (parseMethodDescriptor yX2_readsPositions.desc).map (fun d => d.parameters.length) = some 0 := by decide +kernel
def wpX2_readsBehind (c_tx : Nat → Int32) (c_ty : Int32) (c_ft : Int32) (c_fa : Int32) (c_sp : Int32) (c_nu : Int32) (a1 : Int32) (a2 : Int32) (a3 : Int32) (a4 : Int32) (post : Int32 → Int32 → Int32 → Int32 → Int32 → Prop) : Prop := wpX2_here c_tx c_ty c_sp (fun r1 => ((r1 = a1 → ∀ x2 : Int32, x2 = (c_sp + 1) → wpX2_readsNumber c_tx c_ty c_ft c_fa x2 0 a2 a3 a4 (fun r7 w_ft3 w_fa4 w_sp5 w_nu6 => ((r7 = 0 ∨ r7 = 1) ∧ post r7 w_ft3 w_fa4 w_sp5 w_nu6))) ∧ (¬ r1 = a1 → post 1 c_ft c_fa c_sp 0)))
theorem metX2_readsBehind {l : Launch} {D : va_G} {s0 : State} {a0 : Array Value} {ad : Nat → Nat} (hd : yAd ad) (hB : yB D s0 a0) {c_pg : Nat → Int32} {c_bm : Int32} {c_tx : Nat → Int32} {c_ty : Int32} {c_ft : Int32} {c_fa : Int32} {c_sp : Int32} {c_nu : Int32} {c_un : Nat → Int32} {c_sf : Nat → Int32} {c_st : Nat → Int32} {c_ll : Nat → Int32} {c_ln : Nat → Int32} {c_ip : Nat → Int32} {c_gr : Nat → Int32} {c_hs : Int64} {a1 : Int32} {a2 : Int32} {a3 : Int32} {a4 : Int32} {post : Int32 → Int32 → Int32 → Int32 → Int32 → Prop} (h : wpX2_readsBehind c_tx c_ty c_ft c_fa c_sp c_nu a1 a2 a3 a4 post) : yMi l yX2_readsBehind (ws_ yX2_readsBehind cX2_readsBehind 5 (some .boolean)) 4 130 0 0 D s0 [yr (some (ad 0)), yi a1, yi a2, yi a3, yi a4] (mM ad c_pg c_bm c_tx c_ty c_ft c_fa c_sp c_nu c_un c_sf c_st c_ll c_ln c_ip c_gr c_hs) (fun r M1 => ∃ (w_ft : Int32) (w_fa : Int32) (w_sp : Int32) (w_nu : Int32), M1 = mM ad c_pg c_bm c_tx c_ty w_ft w_fa w_sp w_nu c_un c_sf c_st c_ll c_ln c_ip c_gr c_hs ∧ post r w_ft w_fa w_sp w_nu) := by
  refine y_meti hB (by decide) rfl (Nat.le_of_ble_eq_true rfl) ?_
  intro p e s m below meth c A hr hnm C
  rw [wpX2_readsBehind] at h
  refine y_aload_n C 0 rfl rfl dX2_readsBehind_0 ?_
  refine y_iconst C 0 dX2_readsBehind_1 lit0 ?_
  refine y_put (ci := 2) (k := 7) C in_X2 tyX2_ok nmX2 rfl (by decide) q1176 (fun _ h => h) rfl mM_0 (y_lt rfl) rfl rfl (mU_nu _) dX2_readsBehind_2 ?_
  refine y_aload_n C 0 rfl rfl dX2_readsBehind_5 ?_
  refine y_callVi0 C (metX2_here hd hB h) (cwV 0 C.hts (lw_V q1346 q1348 qs40 q91 q1349) rfl rfl rfl kdX2_here ⟨Nat.le_of_ble_eq_true rfl, Nat.le_of_ble_eq_true rfl⟩) mM_0 rfl rfl rfl (Nat.le_of_ble_eq_true rfl) dX2_readsBehind_6 (fun r1 M1 hp => ?_)
  clear h
  obtain ⟨rfl, h⟩ := hp
  refine y_iload_n C 1 rfl rfl dX2_readsBehind_9 ?_
  refine y_icmp_eq C 15 dX2_readsBehind_10 (by decide) (fun c9 => ?_) (fun c9 => ?_)
  · replace h := h.1 c9
    refine y_aload_n C 0 rfl rfl dX2_readsBehind_15 ?_
    refine y_dup C rfl dX2_readsBehind_16 ?_
    refine y_get (ci := 2) (k := 6) C in_X2 rfl (by decide) q1175 (fun _ h => h) mM_0 rfl dX2_readsBehind_17 ?_
    refine y_iconst C 1 dX2_readsBehind_20 lit1 ?_
    refine y_iadd C dX2_readsBehind_21 ?_
    replace h := h _ rfl
    refine y_put (ci := 2) (k := 6) C in_X2 tyX2_ok nmX2 rfl (by decide) q1175 (fun _ h => h) rfl mM_0 (y_lt rfl) rfl rfl (mU_sp _) dX2_readsBehind_22 ?_
    refine y_aload_n C 0 rfl rfl dX2_readsBehind_25 ?_
    refine y_iload_n C 2 rfl rfl dX2_readsBehind_26 ?_
    refine y_iload_n C 3 rfl rfl dX2_readsBehind_27 ?_
    refine y_iload C 4 rfl dX2_readsBehind_28 ?_
    refine y_callVi0 C (metX2_readsNumber hd hB h) (cwV 3 C.hts (lw_V q1354 q1356 qs42 q91 q1357) rfl rfl rfl kdX2_readsNumber ⟨Nat.le_of_ble_eq_true rfl, Nat.le_of_ble_eq_true rfl⟩) mM_0 rfl rfl rfl (Nat.le_of_ble_eq_true rfl) dX2_readsBehind_30 (fun r7 M1 hp => ?_)
    clear h
    obtain ⟨w_ft3, w_fa4, w_sp5, w_nu6, rfl, h⟩ := hp
    obtain ⟨z9, h⟩ := h
    exact y_iretz C hr rfl rfl z9 ⟨_, _, _, _, rfl, h⟩ dX2_readsBehind_33
  · replace h := h.2 c9
    refine y_iconst C 1 dX2_readsBehind_13 lit1 ?_
    exact y_iretz C hr rfl rfl (by decide) ⟨_, _, _, _, rfl, h⟩ dX2_readsBehind_14
theorem kdX2_readsBehind : yX2_readsBehind.cls = RX2 ∧ yX2_readsBehind.cls ≠ "java/lang/invoke/MethodHandle" ∧ yX2_readsBehind.cls ≠ "java/lang/invoke/VarHandle" ∧ (parseMethodDescriptor yX2_readsBehind.desc).map (fun d => d.parameters.length) = some 4 := by decide +kernel
def wpX2_readsDimension (c_pg : Nat → Int32) (c_tx : Nat → Int32) (c_ty : Int32) (c_ft : Int32) (c_fa : Int32) (c_sp : Int32) (c_nu : Int32)  (post : Int32 → (Nat → Int32) → Int32 → Int32 → Int32 → Int32 → Prop) : Prop := vp_in 0 1120 ∧ wpX2_readsNumber c_tx c_ty c_ft c_fa c_sp c_nu 1 0 ((c_pg (Int32.toNatClampNeg 0)) - 1) (fun r5 w_ft1 w_fa2 w_sp3 w_nu4 => ((¬ r5 = 0 → wpX2_reads c_tx c_ty w_ft1 w_fa2 w_sp3 45 (fun r9 w_ft6 w_fa7 w_sp8 => ((r9 = 0 → post 0 c_pg w_ft6 w_fa7 w_sp8 w_nu4) ∧ (¬ r9 = 0 → vp_in 0 1120 ∧ wpX2_readsNumber c_tx c_ty w_ft6 w_fa7 w_sp8 w_nu4 1 (w_nu4 + 1) ((c_pg (Int32.toNatClampNeg 0)) - 1) (fun r14 w_ft10 w_fa11 w_sp12 w_nu13 => ((¬ r14 = 0 → wpX2_readsBehind c_tx c_ty w_ft10 w_fa11 w_sp12 w_nu13 43 2 0 20 (fun r19 w_ft15 w_fa16 w_sp17 w_nu18 => ((¬ r19 = 0 → wpX2_readsBehind c_tx c_ty w_ft15 w_fa16 w_sp17 w_nu18 45 2 0 20 (fun r24 w_ft20 w_fa21 w_sp22 w_nu23 => ((¬ r24 = 0 → wpX2_readsBehind c_tx c_ty w_ft20 w_fa21 w_sp22 w_nu23 99 1 0 5 (fun r29 w_ft25 w_fa26 w_sp27 w_nu28 => ((¬ r29 = 0 → wpX2_lays c_pg w_nu4 w_nu13 w_nu23 w_nu18 w_nu28 (fun w_pg30 => post 1 w_pg30 w_ft25 w_fa26 w_sp27 w_nu28)) ∧ (r29 = 0 → post 0 c_pg w_ft25 w_fa26 w_sp27 w_nu28)))) ∧ (r24 = 0 → post 0 c_pg w_ft20 w_fa21 w_sp22 w_nu23)))) ∧ (r19 = 0 → post 0 c_pg w_ft15 w_fa16 w_sp17 w_nu18)))) ∧ (r14 = 0 → post 0 c_pg w_ft10 w_fa11 w_sp12 w_nu13))))))) ∧ (r5 = 0 → post 0 c_pg w_ft1 w_fa2 w_sp3 w_nu4)))
theorem metX2_readsDimension {l : Launch} {D : va_G} {s0 : State} {a0 : Array Value} {ad : Nat → Nat} (hd : yAd ad) (hB : yB D s0 a0) {c_pg : Nat → Int32} {c_bm : Int32} {c_tx : Nat → Int32} {c_ty : Int32} {c_ft : Int32} {c_fa : Int32} {c_sp : Int32} {c_nu : Int32} {c_un : Nat → Int32} {c_sf : Nat → Int32} {c_st : Nat → Int32} {c_ll : Nat → Int32} {c_ln : Nat → Int32} {c_ip : Nat → Int32} {c_gr : Nat → Int32} {c_hs : Int64}  {post : Int32 → (Nat → Int32) → Int32 → Int32 → Int32 → Int32 → Prop} (h : wpX2_readsDimension c_pg c_tx c_ty c_ft c_fa c_sp c_nu  post) : yMi l yX2_readsDimension (ws_ yX2_readsDimension cX2_readsDimension 5 (some .boolean)) 5 154 0 0 D s0 [yr (some (ad 0))] (mM ad c_pg c_bm c_tx c_ty c_ft c_fa c_sp c_nu c_un c_sf c_st c_ll c_ln c_ip c_gr c_hs) (fun r M1 => ∃ (w_pg : Nat → Int32) (w_ft : Int32) (w_fa : Int32) (w_sp : Int32) (w_nu : Int32), M1 = mM ad w_pg c_bm c_tx c_ty w_ft w_fa w_sp w_nu c_un c_sf c_st c_ll c_ln c_ip c_gr c_hs ∧ post r w_pg w_ft w_fa w_sp w_nu) := by
  refine y_meti hB (by decide) rfl (Nat.le_of_ble_eq_true rfl) ?_
  intro p e s m below meth c A hr hnm C
  rw [wpX2_readsDimension] at h
  refine y_aload_n C 0 rfl rfl dX2_readsDimension_0 ?_
  refine y_iconst C 1 dX2_readsDimension_1 lit1 ?_
  refine y_iconst C 0 dX2_readsDimension_2 lit0 ?_
  refine y_aload_n C 0 rfl rfl dX2_readsDimension_3 ?_
  refine y_get (ci := 2) (k := 0) C in_X2 rfl (by decide) q1169 (fun _ h => h) mM_0 rfl dX2_readsDimension_4 ?_
  refine y_iconst C 0 dX2_readsDimension_7 lit0 ?_
  obtain ⟨i9, h⟩ := h
  refine y_iald C (mM_1 hd) i9 dX2_readsDimension_8 ?_
  refine y_iconst C 1 dX2_readsDimension_9 lit1 ?_
  refine y_isub C dX2_readsDimension_10 ?_
  refine y_callVi0 C (metX2_readsNumber hd hB h) (cwV 3 C.hts (lw_V q1354 q1356 qs42 q91 q1357) rfl rfl rfl kdX2_readsNumber ⟨Nat.le_of_ble_eq_true rfl, Nat.le_of_ble_eq_true rfl⟩) mM_0 rfl rfl rfl (Nat.le_of_ble_eq_true rfl) dX2_readsDimension_11 (fun r5 M1 hp => ?_)
  clear h
  obtain ⟨w_ft1, w_fa2, w_sp3, w_nu4, rfl, h⟩ := hp
  refine y_if_ne C 19 dX2_readsDimension_14 (by decide) (fun c9 => ?_) (fun c9 => ?_)
  · replace h := h.1 c9
    refine y_aload_n C 0 rfl rfl dX2_readsDimension_19 ?_
    refine y_get (ci := 2) (k := 7) C in_X2 rfl (by decide) q1176 (fun _ h => h) mM_0 rfl dX2_readsDimension_20 ?_
    refine y_istore_n C 1 rfl (by decide) dX2_readsDimension_23 ?_
    refine y_aload_n C 0 rfl rfl dX2_readsDimension_24 ?_
    refine y_bipush C 45 dX2_readsDimension_25 y_b45 ?_
    refine y_callVi0 C (metX2_reads hd hB h) (cwV 1 C.hts (lw_V q1342 q1344 qs39 q91 q1345) rfl rfl rfl kdX2_reads ⟨Nat.le_of_ble_eq_true rfl, Nat.le_of_ble_eq_true rfl⟩) mM_0 rfl rfl rfl (Nat.le_of_ble_eq_true rfl) dX2_readsDimension_27 (fun r9 M1 hp => ?_)
    clear h
    obtain ⟨w_ft6, w_fa7, w_sp8, rfl, h⟩ := hp
    refine y_if_eq C 52 dX2_readsDimension_30 (by decide) (fun c9 => ?_) (fun c9 => ?_)
    · replace h := h.1 c9
      refine y_iconst C 0 dX2_readsDimension_52 lit0 ?_
      exact y_iretz C hr rfl rfl (by decide) ⟨_, _, _, _, _, rfl, h⟩ dX2_readsDimension_53
    · replace h := h.2 c9
      refine y_aload_n C 0 rfl rfl dX2_readsDimension_33 ?_
      refine y_iconst C 1 dX2_readsDimension_34 lit1 ?_
      refine y_iload_n C 1 rfl rfl dX2_readsDimension_35 ?_
      refine y_iconst C 1 dX2_readsDimension_36 lit1 ?_
      refine y_iadd C dX2_readsDimension_37 ?_
      refine y_aload_n C 0 rfl rfl dX2_readsDimension_38 ?_
      refine y_get (ci := 2) (k := 0) C in_X2 rfl (by decide) q1169 (fun _ h => h) mM_0 rfl dX2_readsDimension_39 ?_
      refine y_iconst C 0 dX2_readsDimension_42 lit0 ?_
      obtain ⟨i9, h⟩ := h
      refine y_iald C (mM_1 hd) i9 dX2_readsDimension_43 ?_
      refine y_iconst C 1 dX2_readsDimension_44 lit1 ?_
      refine y_isub C dX2_readsDimension_45 ?_
      refine y_callVi0 C (metX2_readsNumber hd hB h) (cwV 3 C.hts (lw_V q1354 q1356 qs42 q91 q1357) rfl rfl rfl kdX2_readsNumber ⟨Nat.le_of_ble_eq_true rfl, Nat.le_of_ble_eq_true rfl⟩) mM_0 rfl rfl rfl (Nat.le_of_ble_eq_true rfl) dX2_readsDimension_46 (fun r14 M1 hp => ?_)
      clear h
      obtain ⟨w_ft10, w_fa11, w_sp12, w_nu13, rfl, h⟩ := hp
      refine y_if_ne C 54 dX2_readsDimension_49 (by decide) (fun c9 => ?_) (fun c9 => ?_)
      · replace h := h.1 c9
        refine y_aload_n C 0 rfl rfl dX2_readsDimension_54 ?_
        refine y_get (ci := 2) (k := 7) C in_X2 rfl (by decide) q1176 (fun _ h => h) mM_0 rfl dX2_readsDimension_55 ?_
        refine y_istore_n C 2 rfl (by decide) dX2_readsDimension_58 ?_
        refine y_aload_n C 0 rfl rfl dX2_readsDimension_59 ?_
        refine y_bipush C 43 dX2_readsDimension_60 y_b43 ?_
        refine y_iconst C 2 dX2_readsDimension_62 lit2 ?_
        refine y_iconst C 0 dX2_readsDimension_63 lit0 ?_
        refine y_bipush C 20 dX2_readsDimension_64 y_b20 ?_
        refine y_callVi0 C (metX2_readsBehind hd hB h) (cwV 4 C.hts (lw_V q1366 q1368 qs45 q91 q1369) rfl rfl rfl kdX2_readsBehind ⟨Nat.le_of_ble_eq_true rfl, Nat.le_of_ble_eq_true rfl⟩) mM_0 rfl rfl rfl (Nat.le_of_ble_eq_true rfl) dX2_readsDimension_66 (fun r19 M1 hp => ?_)
        clear h
        obtain ⟨w_ft15, w_fa16, w_sp17, w_nu18, rfl, h⟩ := hp
        refine y_if_ne C 74 dX2_readsDimension_69 (by decide) (fun c9 => ?_) (fun c9 => ?_)
        · replace h := h.1 c9
          refine y_aload_n C 0 rfl rfl dX2_readsDimension_74 ?_
          refine y_get (ci := 2) (k := 7) C in_X2 rfl (by decide) q1176 (fun _ h => h) mM_0 rfl dX2_readsDimension_75 ?_
          refine y_istore_n C 3 rfl (by decide) dX2_readsDimension_78 ?_
          refine y_aload_n C 0 rfl rfl dX2_readsDimension_79 ?_
          refine y_bipush C 45 dX2_readsDimension_80 y_b45 ?_
          refine y_iconst C 2 dX2_readsDimension_82 lit2 ?_
          refine y_iconst C 0 dX2_readsDimension_83 lit0 ?_
          refine y_bipush C 20 dX2_readsDimension_84 y_b20 ?_
          refine y_callVi0 C (metX2_readsBehind hd hB h) (cwV 4 C.hts (lw_V q1366 q1368 qs45 q91 q1369) rfl rfl rfl kdX2_readsBehind ⟨Nat.le_of_ble_eq_true rfl, Nat.le_of_ble_eq_true rfl⟩) mM_0 rfl rfl rfl (Nat.le_of_ble_eq_true rfl) dX2_readsDimension_86 (fun r24 M1 hp => ?_)
          clear h
          obtain ⟨w_ft20, w_fa21, w_sp22, w_nu23, rfl, h⟩ := hp
          refine y_if_ne C 94 dX2_readsDimension_89 (by decide) (fun c9 => ?_) (fun c9 => ?_)
          · replace h := h.1 c9
            refine y_aload_n C 0 rfl rfl dX2_readsDimension_94 ?_
            refine y_get (ci := 2) (k := 7) C in_X2 rfl (by decide) q1176 (fun _ h => h) mM_0 rfl dX2_readsDimension_95 ?_
            refine y_istore C 4 (by decide) dX2_readsDimension_98 ?_
            refine y_aload_n C 0 rfl rfl dX2_readsDimension_100 ?_
            refine y_bipush C 99 dX2_readsDimension_101 y_b99 ?_
            refine y_iconst C 1 dX2_readsDimension_103 lit1 ?_
            refine y_iconst C 0 dX2_readsDimension_104 lit0 ?_
            refine y_iconst C 5 dX2_readsDimension_105 lit5 ?_
            refine y_callVi0 C (metX2_readsBehind hd hB h) (cwV 4 C.hts (lw_V q1366 q1368 qs45 q91 q1369) rfl rfl rfl kdX2_readsBehind ⟨Nat.le_of_ble_eq_true rfl, Nat.le_of_ble_eq_true rfl⟩) mM_0 rfl rfl rfl (Nat.le_of_ble_eq_true rfl) dX2_readsDimension_106 (fun r29 M1 hp => ?_)
            clear h
            obtain ⟨w_ft25, w_fa26, w_sp27, w_nu28, rfl, h⟩ := hp
            refine y_if_ne C 114 dX2_readsDimension_109 (by decide) (fun c9 => ?_) (fun c9 => ?_)
            · replace h := h.1 c9
              refine y_aload_n C 0 rfl rfl dX2_readsDimension_114 ?_
              refine y_iload_n C 1 rfl rfl dX2_readsDimension_115 ?_
              refine y_iload_n C 2 rfl rfl dX2_readsDimension_116 ?_
              refine y_iload C 4 rfl dX2_readsDimension_117 ?_
              refine y_iload_n C 3 rfl rfl dX2_readsDimension_119 ?_
              refine y_aload_n C 0 rfl rfl dX2_readsDimension_120 ?_
              refine y_get (ci := 2) (k := 7) C in_X2 rfl (by decide) q1176 (fun _ h => h) mM_0 rfl dX2_readsDimension_121 ?_
              refine y_callVv0 C (metX2_lays hd hB h) (cwV 5 C.hts (lw_V q1282 q1284 qs33 q91 q1285) rfl rfl rfl kdX2_lays ⟨Nat.le_of_ble_eq_true rfl, Nat.le_of_ble_eq_true rfl⟩) mM_0 rfl rfl rfl (Nat.le_of_ble_eq_true rfl) dX2_readsDimension_124 (fun M1 hp => ?_)
              clear h
              obtain ⟨w_pg30, rfl, h⟩ := hp
              refine y_iconst C 1 dX2_readsDimension_127 lit1 ?_
              exact y_iretz C hr rfl rfl (by decide) ⟨_, _, _, _, _, rfl, h⟩ dX2_readsDimension_128
            · replace h := h.2 c9
              refine y_iconst C 0 dX2_readsDimension_112 lit0 ?_
              exact y_iretz C hr rfl rfl (by decide) ⟨_, _, _, _, _, rfl, h⟩ dX2_readsDimension_113
          · replace h := h.2 c9
            refine y_iconst C 0 dX2_readsDimension_92 lit0 ?_
            exact y_iretz C hr rfl rfl (by decide) ⟨_, _, _, _, _, rfl, h⟩ dX2_readsDimension_93
        · replace h := h.2 c9
          refine y_iconst C 0 dX2_readsDimension_72 lit0 ?_
          exact y_iretz C hr rfl rfl (by decide) ⟨_, _, _, _, _, rfl, h⟩ dX2_readsDimension_73
      · replace h := h.2 c9
        refine y_iconst C 0 dX2_readsDimension_52 lit0 ?_
        exact y_iretz C hr rfl rfl (by decide) ⟨_, _, _, _, _, rfl, h⟩ dX2_readsDimension_53
  · replace h := h.2 c9
    refine y_iconst C 0 dX2_readsDimension_17 lit0 ?_
    exact y_iretz C hr rfl rfl (by decide) ⟨_, _, _, _, _, rfl, h⟩ dX2_readsDimension_18
theorem kdX2_readsDimension : yX2_readsDimension.cls = RX2 ∧ yX2_readsDimension.cls ≠ "java/lang/invoke/MethodHandle" ∧ yX2_readsDimension.cls ≠ "java/lang/invoke/VarHandle" ∧ (parseMethodDescriptor yX2_readsDimension.desc).map (fun d => d.parameters.length) = some 0 := by decide +kernel
section sX2_readsAll
variable {p : Program} {l : Launch} {e : Env} {s : State} {m : MethodId} {args : Array Value} {below : List Frame} {meth : Method} {c : Code} {D : va_G} {s0 : State} {a0 : Array Value} {A : Nat → Prop} {ad : Nat → Nat} {c_pg : Nat → Int32} {c_bm : Int32} {c_tx : Nat → Int32} {c_ty : Int32} {c_ft : Int32} {c_fa : Int32} {c_sp : Int32} {c_nu : Int32} {c_un : Nat → Int32} {c_sf : Nat → Int32} {c_st : Nat → Int32} {c_ll : Nat → Int32} {c_ln : Nat → Int32} {c_ip : Nat → Int32} {c_gr : Nat → Int32} {c_hs : Int64}
def wpX2_readsAll_b103 (post : (Nat → Int32) → Int32 → Int32 → Int32 → Int32 → Prop) (k15 : (Nat → Int32) → (Nat → Int32) → Int32 → Int32 → Int32 → Int32 → Int32 → Int32 → Prop) (c_pg : Nat → Int32) (c_tx : Nat → Int32) (c_ty : Int32) (c_ft : Int32) (c_fa : Int32) (c_sp : Int32) (c_nu : Int32) (u0 : Int32) : Prop := k15 c_pg c_tx c_ty c_ft c_fa c_sp c_nu u0
theorem okX2_readsAll_b103 (C : yC p { frames := 6, cells := 0, slots := 0, locals := 178 } s m args meth c cX2_readsAll 2 RX2 D s0 a0 A) (hB : yB D s0 a0) (hd : yAd ad) (hr : meth.sig.returnType = none) {post : (Nat → Int32) → Int32 → Int32 → Int32 → Int32 → Prop} {k15 : (Nat → Int32) → (Nat → Int32) → Int32 → Int32 → Int32 → Int32 → Int32 → Int32 → Prop} (hk15 : ∀ (c_pg : Nat → Int32) (c_tx : Nat → Int32) (c_ty : Int32) (c_ft : Int32) (c_fa : Int32) (c_sp : Int32) (c_nu : Int32) (v1 : Int32), k15 c_pg c_tx c_ty c_ft c_fa c_sp c_nu v1 → Y p l e { frames := 6, cells := 0, slots := 0, locals := 178 } s m args below meth c (MQ below (yQv D s0 A (fun M1 => ∃ (w_pg : Nat → Int32) (w_ft : Int32) (w_fa : Int32) (w_sp : Int32) (w_nu : Int32), M1 = mM ad w_pg c_bm c_tx c_ty w_ft w_fa w_sp w_nu c_un c_sf c_st c_ll c_ln c_ip c_gr c_hs ∧ post w_pg w_ft w_fa w_sp w_nu)) args s 0 0 A) D s0 A 2 (mM ad c_pg c_bm c_tx c_ty c_ft c_fa c_sp c_nu c_un c_sf c_st c_ll c_ln c_ip c_gr c_hs) 0 0 [some (yr (some (ad 0))), some (yi v1)] 15 []) : ∀ (c_pg : Nat → Int32) (c_tx : Nat → Int32) (c_ty : Int32) (c_ft : Int32) (c_fa : Int32) (c_sp : Int32) (c_nu : Int32) (u0 : Int32), wpX2_readsAll_b103 post k15 c_pg c_tx c_ty c_ft c_fa c_sp c_nu u0 → Y p l e { frames := 6, cells := 0, slots := 0, locals := 178 } s m args below meth c (MQ below (yQv D s0 A (fun M1 => ∃ (w_pg : Nat → Int32) (w_ft : Int32) (w_fa : Int32) (w_sp : Int32) (w_nu : Int32), M1 = mM ad w_pg c_bm c_tx c_ty w_ft w_fa w_sp w_nu c_un c_sf c_st c_ll c_ln c_ip c_gr c_hs ∧ post w_pg w_ft w_fa w_sp w_nu)) args s 0 0 A) D s0 A 2 (mM ad c_pg c_bm c_tx c_ty c_ft c_fa c_sp c_nu c_un c_sf c_st c_ll c_ln c_ip c_gr c_hs) 0 0 [some (yr (some (ad 0))), none] 103 [yi u0] := by
  intro c_pg c_tx c_ty c_ft c_fa c_sp c_nu u0 h
  rw [wpX2_readsAll_b103] at h
  refine y_istore_n C 1 rfl (by decide) dX2_readsAll_103 ?_
  refine y_goto C 15 dX2_readsAll_104 (by decide) ?_
  refine y_to C _ ?_ (hk15 _ _ _ _ _ _ _ _ h)
  exact (And.intro rfl (And.intro rfl trivial))
def wpX2_readsAll_b102 (post : (Nat → Int32) → Int32 → Int32 → Int32 → Int32 → Prop) (k15 : (Nat → Int32) → (Nat → Int32) → Int32 → Int32 → Int32 → Int32 → Int32 → Int32 → Prop) (c_pg : Nat → Int32) (c_tx : Nat → Int32) (c_ty : Int32) (c_ft : Int32) (c_fa : Int32) (c_sp : Int32) (c_nu : Int32) : Prop := wpX2_readsAll_b103 post k15 c_pg c_tx c_ty c_ft c_fa c_sp c_nu 0
theorem okX2_readsAll_b102 (C : yC p { frames := 6, cells := 0, slots := 0, locals := 178 } s m args meth c cX2_readsAll 2 RX2 D s0 a0 A) (hB : yB D s0 a0) (hd : yAd ad) (hr : meth.sig.returnType = none) {post : (Nat → Int32) → Int32 → Int32 → Int32 → Int32 → Prop} {k15 : (Nat → Int32) → (Nat → Int32) → Int32 → Int32 → Int32 → Int32 → Int32 → Int32 → Prop} (hk15 : ∀ (c_pg : Nat → Int32) (c_tx : Nat → Int32) (c_ty : Int32) (c_ft : Int32) (c_fa : Int32) (c_sp : Int32) (c_nu : Int32) (v1 : Int32), k15 c_pg c_tx c_ty c_ft c_fa c_sp c_nu v1 → Y p l e { frames := 6, cells := 0, slots := 0, locals := 178 } s m args below meth c (MQ below (yQv D s0 A (fun M1 => ∃ (w_pg : Nat → Int32) (w_ft : Int32) (w_fa : Int32) (w_sp : Int32) (w_nu : Int32), M1 = mM ad w_pg c_bm c_tx c_ty w_ft w_fa w_sp w_nu c_un c_sf c_st c_ll c_ln c_ip c_gr c_hs ∧ post w_pg w_ft w_fa w_sp w_nu)) args s 0 0 A) D s0 A 2 (mM ad c_pg c_bm c_tx c_ty c_ft c_fa c_sp c_nu c_un c_sf c_st c_ll c_ln c_ip c_gr c_hs) 0 0 [some (yr (some (ad 0))), some (yi v1)] 15 []) : ∀ (c_pg : Nat → Int32) (c_tx : Nat → Int32) (c_ty : Int32) (c_ft : Int32) (c_fa : Int32) (c_sp : Int32) (c_nu : Int32), wpX2_readsAll_b102 post k15 c_pg c_tx c_ty c_ft c_fa c_sp c_nu → Y p l e { frames := 6, cells := 0, slots := 0, locals := 178 } s m args below meth c (MQ below (yQv D s0 A (fun M1 => ∃ (w_pg : Nat → Int32) (w_ft : Int32) (w_fa : Int32) (w_sp : Int32) (w_nu : Int32), M1 = mM ad w_pg c_bm c_tx c_ty w_ft w_fa w_sp w_nu c_un c_sf c_st c_ll c_ln c_ip c_gr c_hs ∧ post w_pg w_ft w_fa w_sp w_nu)) args s 0 0 A) D s0 A 2 (mM ad c_pg c_bm c_tx c_ty c_ft c_fa c_sp c_nu c_un c_sf c_st c_ll c_ln c_ip c_gr c_hs) 0 0 [some (yr (some (ad 0))), none] 102 [] := by
  intro c_pg c_tx c_ty c_ft c_fa c_sp c_nu h
  rw [wpX2_readsAll_b102] at h
  refine y_iconst C 0 dX2_readsAll_102 lit0 ?_
  refine y_to C _ ?_ (okX2_readsAll_b103 C hB hd hr hk15 _ _ _ _ _ _ _ _ h)
  exact (And.intro rfl trivial)
def wpX2_readsAll_b83 (post : (Nat → Int32) → Int32 → Int32 → Int32 → Int32 → Prop) (k15 : (Nat → Int32) → (Nat → Int32) → Int32 → Int32 → Int32 → Int32 → Int32 → Int32 → Prop) (c_pg : Nat → Int32) (c_tx : Nat → Int32) (c_ty : Int32) (c_ft : Int32) (c_fa : Int32) (c_sp : Int32) (c_nu : Int32) (v1 : Int32) (u1 : Int32) (u2 : Int32) : Prop := ∀ x11 : Int32, x11 = (u1 + u2) → ((v1 = 0 → wpX2_readsAll_b102 post k15 c_pg c_tx c_ty c_ft c_fa x11 c_nu) ∧ (¬ v1 = 0 → wpX2_readsDimension c_pg c_tx c_ty c_ft c_fa x11 c_nu (fun r17 w_pg12 w_ft13 w_fa14 w_sp15 w_nu16 => ((r17 = 0 → wpX2_readsAll_b102 post k15 w_pg12 c_tx c_ty w_ft13 w_fa14 w_sp15 w_nu16) ∧ (¬ r17 = 0 → wpX2_readsAll_b103 post k15 w_pg12 c_tx c_ty w_ft13 w_fa14 w_sp15 w_nu16 1)))))
theorem okX2_readsAll_b83 (C : yC p { frames := 6, cells := 0, slots := 0, locals := 178 } s m args meth c cX2_readsAll 2 RX2 D s0 a0 A) (hB : yB D s0 a0) (hd : yAd ad) (hr : meth.sig.returnType = none) {post : (Nat → Int32) → Int32 → Int32 → Int32 → Int32 → Prop} {k15 : (Nat → Int32) → (Nat → Int32) → Int32 → Int32 → Int32 → Int32 → Int32 → Int32 → Prop} (hk15 : ∀ (c_pg : Nat → Int32) (c_tx : Nat → Int32) (c_ty : Int32) (c_ft : Int32) (c_fa : Int32) (c_sp : Int32) (c_nu : Int32) (v1 : Int32), k15 c_pg c_tx c_ty c_ft c_fa c_sp c_nu v1 → Y p l e { frames := 6, cells := 0, slots := 0, locals := 178 } s m args below meth c (MQ below (yQv D s0 A (fun M1 => ∃ (w_pg : Nat → Int32) (w_ft : Int32) (w_fa : Int32) (w_sp : Int32) (w_nu : Int32), M1 = mM ad w_pg c_bm c_tx c_ty w_ft w_fa w_sp w_nu c_un c_sf c_st c_ll c_ln c_ip c_gr c_hs ∧ post w_pg w_ft w_fa w_sp w_nu)) args s 0 0 A) D s0 A 2 (mM ad c_pg c_bm c_tx c_ty c_ft c_fa c_sp c_nu c_un c_sf c_st c_ll c_ln c_ip c_gr c_hs) 0 0 [some (yr (some (ad 0))), some (yi v1)] 15 []) : ∀ (c_pg : Nat → Int32) (c_tx : Nat → Int32) (c_ty : Int32) (c_ft : Int32) (c_fa : Int32) (c_sp : Int32) (c_nu : Int32) (v1 : Int32) (u1 : Int32) (u2 : Int32), wpX2_readsAll_b83 post k15 c_pg c_tx c_ty c_ft c_fa c_sp c_nu v1 u1 u2 → Y p l e { frames := 6, cells := 0, slots := 0, locals := 178 } s m args below meth c (MQ below (yQv D s0 A (fun M1 => ∃ (w_pg : Nat → Int32) (w_ft : Int32) (w_fa : Int32) (w_sp : Int32) (w_nu : Int32), M1 = mM ad w_pg c_bm c_tx c_ty w_ft w_fa w_sp w_nu c_un c_sf c_st c_ll c_ln c_ip c_gr c_hs ∧ post w_pg w_ft w_fa w_sp w_nu)) args s 0 0 A) D s0 A 2 (mM ad c_pg c_bm c_tx c_ty c_ft c_fa c_sp c_nu c_un c_sf c_st c_ll c_ln c_ip c_gr c_hs) 0 0 [some (yr (some (ad 0))), some (yi v1)] 83 [yi u2, yi u1, yr (some (ad 0))] := by
  intro c_pg c_tx c_ty c_ft c_fa c_sp c_nu v1 u1 u2 h
  rw [wpX2_readsAll_b83] at h
  refine y_iadd C dX2_readsAll_83 ?_
  replace h := h _ rfl
  refine y_put (ci := 2) (k := 6) C in_X2 tyX2_ok nmX2 rfl (by decide) q1175 (fun _ h => h) rfl mM_0 (y_lt rfl) rfl rfl (mU_sp _) dX2_readsAll_84 ?_
  refine y_iload_n C 1 rfl rfl dX2_readsAll_87 ?_
  refine y_if_eq C 102 dX2_readsAll_88 (by decide) (fun c9 => ?_) (fun c9 => ?_)
  · replace h := h.1 c9
    refine y_to C _ ?_ (okX2_readsAll_b102 C hB hd hr hk15 _ _ _ _ _ _ _ h)
    exact (And.intro rfl trivial)
  · replace h := h.2 c9
    refine y_aload_n C 0 rfl rfl dX2_readsAll_91 ?_
    refine y_callVi0 C (metX2_readsDimension hd hB h) (cwV 0 C.hts (lw_V q1362 q1364 qs44 q91 q1365) rfl rfl rfl kdX2_readsDimension ⟨Nat.le_of_ble_eq_true rfl, Nat.le_of_ble_eq_true rfl⟩) mM_0 rfl rfl rfl (Nat.le_of_ble_eq_true rfl) dX2_readsAll_92 (fun r17 M1 hp => ?_)
    clear h
    obtain ⟨w_pg12, w_ft13, w_fa14, w_sp15, w_nu16, rfl, h⟩ := hp
    refine y_if_eq C 102 dX2_readsAll_95 (by decide) (fun c9 => ?_) (fun c9 => ?_)
    · replace h := h.1 c9
      refine y_to C _ ?_ (okX2_readsAll_b102 C hB hd hr hk15 _ _ _ _ _ _ _ h)
      exact (And.intro rfl trivial)
    · replace h := h.2 c9
      refine y_iconst C 1 dX2_readsAll_98 lit1 ?_
      refine y_goto C 103 dX2_readsAll_99 (by decide) ?_
      refine y_to C _ ?_ (okX2_readsAll_b103 C hB hd hr hk15 _ _ _ _ _ _ _ _ h)
      exact (And.intro rfl trivial)
def wpX2_readsAll_b68 (post : (Nat → Int32) → Int32 → Int32 → Int32 → Int32 → Prop) (k15 : (Nat → Int32) → (Nat → Int32) → Int32 → Int32 → Int32 → Int32 → Int32 → Int32 → Prop) (c_pg : Nat → Int32) (c_tx : Nat → Int32) (c_ty : Int32) (c_ft : Int32) (c_fa : Int32) (c_sp : Int32) (c_nu : Int32) (u0 : Int32) : Prop := ((u0 = 0 → wpX2_readsAll_b83 post k15 c_pg c_tx c_ty c_ft c_fa c_sp c_nu u0 c_sp 0) ∧ (¬ u0 = 0 → wpX2_readsAll_b83 post k15 c_pg c_tx c_ty c_ft c_fa c_sp c_nu u0 c_sp 1))
theorem okX2_readsAll_b68 (C : yC p { frames := 6, cells := 0, slots := 0, locals := 178 } s m args meth c cX2_readsAll 2 RX2 D s0 a0 A) (hB : yB D s0 a0) (hd : yAd ad) (hr : meth.sig.returnType = none) {post : (Nat → Int32) → Int32 → Int32 → Int32 → Int32 → Prop} {k15 : (Nat → Int32) → (Nat → Int32) → Int32 → Int32 → Int32 → Int32 → Int32 → Int32 → Prop} (hk15 : ∀ (c_pg : Nat → Int32) (c_tx : Nat → Int32) (c_ty : Int32) (c_ft : Int32) (c_fa : Int32) (c_sp : Int32) (c_nu : Int32) (v1 : Int32), k15 c_pg c_tx c_ty c_ft c_fa c_sp c_nu v1 → Y p l e { frames := 6, cells := 0, slots := 0, locals := 178 } s m args below meth c (MQ below (yQv D s0 A (fun M1 => ∃ (w_pg : Nat → Int32) (w_ft : Int32) (w_fa : Int32) (w_sp : Int32) (w_nu : Int32), M1 = mM ad w_pg c_bm c_tx c_ty w_ft w_fa w_sp w_nu c_un c_sf c_st c_ll c_ln c_ip c_gr c_hs ∧ post w_pg w_ft w_fa w_sp w_nu)) args s 0 0 A) D s0 A 2 (mM ad c_pg c_bm c_tx c_ty c_ft c_fa c_sp c_nu c_un c_sf c_st c_ll c_ln c_ip c_gr c_hs) 0 0 [some (yr (some (ad 0))), some (yi v1)] 15 []) : ∀ (c_pg : Nat → Int32) (c_tx : Nat → Int32) (c_ty : Int32) (c_ft : Int32) (c_fa : Int32) (c_sp : Int32) (c_nu : Int32) (u0 : Int32), wpX2_readsAll_b68 post k15 c_pg c_tx c_ty c_ft c_fa c_sp c_nu u0 → Y p l e { frames := 6, cells := 0, slots := 0, locals := 178 } s m args below meth c (MQ below (yQv D s0 A (fun M1 => ∃ (w_pg : Nat → Int32) (w_ft : Int32) (w_fa : Int32) (w_sp : Int32) (w_nu : Int32), M1 = mM ad w_pg c_bm c_tx c_ty w_ft w_fa w_sp w_nu c_un c_sf c_st c_ll c_ln c_ip c_gr c_hs ∧ post w_pg w_ft w_fa w_sp w_nu)) args s 0 0 A) D s0 A 2 (mM ad c_pg c_bm c_tx c_ty c_ft c_fa c_sp c_nu c_un c_sf c_st c_ll c_ln c_ip c_gr c_hs) 0 0 [some (yr (some (ad 0))), none] 68 [yi u0] := by
  intro c_pg c_tx c_ty c_ft c_fa c_sp c_nu u0 h
  rw [wpX2_readsAll_b68] at h
  refine y_istore_n C 1 rfl (by decide) dX2_readsAll_68 ?_
  refine y_aload_n C 0 rfl rfl dX2_readsAll_69 ?_
  refine y_dup C rfl dX2_readsAll_70 ?_
  refine y_get (ci := 2) (k := 6) C in_X2 rfl (by decide) q1175 (fun _ h => h) mM_0 rfl dX2_readsAll_71 ?_
  refine y_iload_n C 1 rfl rfl dX2_readsAll_74 ?_
  refine y_if_eq C 82 dX2_readsAll_75 (by decide) (fun c9 => ?_) (fun c9 => ?_)
  · replace h := h.1 c9
    refine y_iconst C 0 dX2_readsAll_82 lit0 ?_
    refine y_to C _ ?_ (okX2_readsAll_b83 C hB hd hr hk15 _ _ _ _ _ _ _ _ _ _ h)
    exact (And.intro rfl (And.intro rfl trivial))
  · replace h := h.2 c9
    refine y_iconst C 1 dX2_readsAll_78 lit1 ?_
    refine y_goto C 83 dX2_readsAll_79 (by decide) ?_
    refine y_to C _ ?_ (okX2_readsAll_b83 C hB hd hr hk15 _ _ _ _ _ _ _ _ _ _ h)
    exact (And.intro rfl (And.intro rfl trivial))
def wpX2_readsAll_b63 (post : (Nat → Int32) → Int32 → Int32 → Int32 → Int32 → Prop) (k15 : (Nat → Int32) → (Nat → Int32) → Int32 → Int32 → Int32 → Int32 → Int32 → Int32 → Prop) (c_pg : Nat → Int32) (c_tx : Nat → Int32) (c_ty : Int32) (c_ft : Int32) (c_fa : Int32) (c_sp : Int32) (c_nu : Int32) : Prop := wpX2_readsAll_b68 post k15 c_pg c_tx c_ty c_ft c_fa c_sp c_nu 1
theorem okX2_readsAll_b63 (C : yC p { frames := 6, cells := 0, slots := 0, locals := 178 } s m args meth c cX2_readsAll 2 RX2 D s0 a0 A) (hB : yB D s0 a0) (hd : yAd ad) (hr : meth.sig.returnType = none) {post : (Nat → Int32) → Int32 → Int32 → Int32 → Int32 → Prop} {k15 : (Nat → Int32) → (Nat → Int32) → Int32 → Int32 → Int32 → Int32 → Int32 → Int32 → Prop} (hk15 : ∀ (c_pg : Nat → Int32) (c_tx : Nat → Int32) (c_ty : Int32) (c_ft : Int32) (c_fa : Int32) (c_sp : Int32) (c_nu : Int32) (v1 : Int32), k15 c_pg c_tx c_ty c_ft c_fa c_sp c_nu v1 → Y p l e { frames := 6, cells := 0, slots := 0, locals := 178 } s m args below meth c (MQ below (yQv D s0 A (fun M1 => ∃ (w_pg : Nat → Int32) (w_ft : Int32) (w_fa : Int32) (w_sp : Int32) (w_nu : Int32), M1 = mM ad w_pg c_bm c_tx c_ty w_ft w_fa w_sp w_nu c_un c_sf c_st c_ll c_ln c_ip c_gr c_hs ∧ post w_pg w_ft w_fa w_sp w_nu)) args s 0 0 A) D s0 A 2 (mM ad c_pg c_bm c_tx c_ty c_ft c_fa c_sp c_nu c_un c_sf c_st c_ll c_ln c_ip c_gr c_hs) 0 0 [some (yr (some (ad 0))), some (yi v1)] 15 []) : ∀ (c_pg : Nat → Int32) (c_tx : Nat → Int32) (c_ty : Int32) (c_ft : Int32) (c_fa : Int32) (c_sp : Int32) (c_nu : Int32), wpX2_readsAll_b63 post k15 c_pg c_tx c_ty c_ft c_fa c_sp c_nu → Y p l e { frames := 6, cells := 0, slots := 0, locals := 178 } s m args below meth c (MQ below (yQv D s0 A (fun M1 => ∃ (w_pg : Nat → Int32) (w_ft : Int32) (w_fa : Int32) (w_sp : Int32) (w_nu : Int32), M1 = mM ad w_pg c_bm c_tx c_ty w_ft w_fa w_sp w_nu c_un c_sf c_st c_ll c_ln c_ip c_gr c_hs ∧ post w_pg w_ft w_fa w_sp w_nu)) args s 0 0 A) D s0 A 2 (mM ad c_pg c_bm c_tx c_ty c_ft c_fa c_sp c_nu c_un c_sf c_st c_ll c_ln c_ip c_gr c_hs) 0 0 [some (yr (some (ad 0))), none] 63 [] := by
  intro c_pg c_tx c_ty c_ft c_fa c_sp c_nu h
  rw [wpX2_readsAll_b63] at h
  refine y_iconst C 1 dX2_readsAll_63 lit1 ?_
  refine y_goto C 68 dX2_readsAll_64 (by decide) ?_
  refine y_to C _ ?_ (okX2_readsAll_b68 C hB hd hr hk15 _ _ _ _ _ _ _ _ h)
  exact (And.intro rfl trivial)
def wpX2_readsAll_b51 (post : (Nat → Int32) → Int32 → Int32 → Int32 → Int32 → Prop) (k15 : (Nat → Int32) → (Nat → Int32) → Int32 → Int32 → Int32 → Int32 → Int32 → Int32 → Prop) (c_pg : Nat → Int32) (c_tx : Nat → Int32) (c_ty : Int32) (c_ft : Int32) (c_fa : Int32) (c_sp : Int32) (c_nu : Int32) : Prop := wpX2_fails c_ft c_fa 1 c_sp (fun r10 w_ft8 w_fa9 => ((r10 = 0 → wpX2_readsAll_b68 post k15 c_pg c_tx c_ty w_ft8 w_fa9 c_sp c_nu 0) ∧ (¬ r10 = 0 → wpX2_readsAll_b63 post k15 c_pg c_tx c_ty w_ft8 w_fa9 c_sp c_nu)))
theorem okX2_readsAll_b51 (C : yC p { frames := 6, cells := 0, slots := 0, locals := 178 } s m args meth c cX2_readsAll 2 RX2 D s0 a0 A) (hB : yB D s0 a0) (hd : yAd ad) (hr : meth.sig.returnType = none) {post : (Nat → Int32) → Int32 → Int32 → Int32 → Int32 → Prop} {k15 : (Nat → Int32) → (Nat → Int32) → Int32 → Int32 → Int32 → Int32 → Int32 → Int32 → Prop} (hk15 : ∀ (c_pg : Nat → Int32) (c_tx : Nat → Int32) (c_ty : Int32) (c_ft : Int32) (c_fa : Int32) (c_sp : Int32) (c_nu : Int32) (v1 : Int32), k15 c_pg c_tx c_ty c_ft c_fa c_sp c_nu v1 → Y p l e { frames := 6, cells := 0, slots := 0, locals := 178 } s m args below meth c (MQ below (yQv D s0 A (fun M1 => ∃ (w_pg : Nat → Int32) (w_ft : Int32) (w_fa : Int32) (w_sp : Int32) (w_nu : Int32), M1 = mM ad w_pg c_bm c_tx c_ty w_ft w_fa w_sp w_nu c_un c_sf c_st c_ll c_ln c_ip c_gr c_hs ∧ post w_pg w_ft w_fa w_sp w_nu)) args s 0 0 A) D s0 A 2 (mM ad c_pg c_bm c_tx c_ty c_ft c_fa c_sp c_nu c_un c_sf c_st c_ll c_ln c_ip c_gr c_hs) 0 0 [some (yr (some (ad 0))), some (yi v1)] 15 []) : ∀ (c_pg : Nat → Int32) (c_tx : Nat → Int32) (c_ty : Int32) (c_ft : Int32) (c_fa : Int32) (c_sp : Int32) (c_nu : Int32), wpX2_readsAll_b51 post k15 c_pg c_tx c_ty c_ft c_fa c_sp c_nu → Y p l e { frames := 6, cells := 0, slots := 0, locals := 178 } s m args below meth c (MQ below (yQv D s0 A (fun M1 => ∃ (w_pg : Nat → Int32) (w_ft : Int32) (w_fa : Int32) (w_sp : Int32) (w_nu : Int32), M1 = mM ad w_pg c_bm c_tx c_ty w_ft w_fa w_sp w_nu c_un c_sf c_st c_ll c_ln c_ip c_gr c_hs ∧ post w_pg w_ft w_fa w_sp w_nu)) args s 0 0 A) D s0 A 2 (mM ad c_pg c_bm c_tx c_ty c_ft c_fa c_sp c_nu c_un c_sf c_st c_ll c_ln c_ip c_gr c_hs) 0 0 [some (yr (some (ad 0))), none] 51 [] := by
  intro c_pg c_tx c_ty c_ft c_fa c_sp c_nu h
  rw [wpX2_readsAll_b51] at h
  refine y_aload_n C 0 rfl rfl dX2_readsAll_51 ?_
  refine y_iconst C 1 dX2_readsAll_52 lit1 ?_
  refine y_aload_n C 0 rfl rfl dX2_readsAll_53 ?_
  refine y_get (ci := 2) (k := 6) C in_X2 rfl (by decide) q1175 (fun _ h => h) mM_0 rfl dX2_readsAll_54 ?_
  refine y_callVi0 C (metX2_fails hd hB h) (cwV 2 C.hts (lw_V q1350 q1352 qs41 q91 q1353) rfl rfl rfl kdX2_fails ⟨Nat.le_of_ble_eq_true rfl, Nat.le_of_ble_eq_true rfl⟩) mM_0 rfl rfl rfl (Nat.le_of_ble_eq_true rfl) dX2_readsAll_57 (fun r10 M1 hp => ?_)
  clear h
  obtain ⟨w_ft8, w_fa9, rfl, h⟩ := hp
  refine y_if_eq C 67 dX2_readsAll_60 (by decide) (fun c9 => ?_) (fun c9 => ?_)
  · replace h := h.1 c9
    refine y_iconst C 0 dX2_readsAll_67 lit0 ?_
    refine y_to C _ ?_ (okX2_readsAll_b68 C hB hd hr hk15 _ _ _ _ _ _ _ _ h)
    exact (And.intro rfl trivial)
  · replace h := h.2 c9
    refine y_to C _ ?_ (okX2_readsAll_b63 C hB hd hr hk15 _ _ _ _ _ _ _ h)
    exact (And.intro rfl trivial)
def wpX2_readsAll_b15 (post : (Nat → Int32) → Int32 → Int32 → Int32 → Int32 → Prop) : Nat → (Nat → Int32) → (Nat → Int32) → Int32 → Int32 → Int32 → Int32 → Int32 → Int32 → Prop
  | 0, _, _, _, _, _, _, _, _ => False
  | nn + 1, c_pg, c_tx, c_ty, c_ft, c_fa, c_sp, c_nu, v1 => ((v1 = 0 → post c_pg c_ft c_fa c_sp c_nu) ∧ (¬ v1 = 0 → ((c_ty ≤ c_sp → post c_pg c_ft c_fa c_sp c_nu) ∧ (¬ c_ty ≤ c_sp → wpX2_here c_tx c_ty c_sp (fun r7 => ((¬ r7 = 59 → wpX2_readsAll_b51 post (fun c_pg c_tx c_ty c_ft c_fa c_sp c_nu v1 => wpX2_readsAll_b15 post nn c_pg c_tx c_ty c_ft c_fa c_sp c_nu v1) c_pg c_tx c_ty c_ft c_fa c_sp c_nu) ∧ (r7 = 59 → vp_in 13 1120 ∧ (((c_pg (Int32.toNatClampNeg 13)) < 16 → wpX2_readsAll_b63 post (fun c_pg c_tx c_ty c_ft c_fa c_sp c_nu v1 => wpX2_readsAll_b15 post nn c_pg c_tx c_ty c_ft c_fa c_sp c_nu v1) c_pg c_tx c_ty c_ft c_fa c_sp c_nu) ∧ (¬ (c_pg (Int32.toNatClampNeg 13)) < 16 → wpX2_readsAll_b51 post (fun c_pg c_tx c_ty c_ft c_fa c_sp c_nu v1 => wpX2_readsAll_b15 post nn c_pg c_tx c_ty c_ft c_fa c_sp c_nu v1) c_pg c_tx c_ty c_ft c_fa c_sp c_nu)))))))))
theorem okX2_readsAll_b15 (C : yC p { frames := 6, cells := 0, slots := 0, locals := 178 } s m args meth c cX2_readsAll 2 RX2 D s0 a0 A) (hB : yB D s0 a0) (hd : yAd ad) (hr : meth.sig.returnType = none) {post : (Nat → Int32) → Int32 → Int32 → Int32 → Int32 → Prop}  : ∀ (nn : Nat) (c_pg : Nat → Int32) (c_tx : Nat → Int32) (c_ty : Int32) (c_ft : Int32) (c_fa : Int32) (c_sp : Int32) (c_nu : Int32) (v1 : Int32), wpX2_readsAll_b15 post nn c_pg c_tx c_ty c_ft c_fa c_sp c_nu v1 → Y p l e { frames := 6, cells := 0, slots := 0, locals := 178 } s m args below meth c (MQ below (yQv D s0 A (fun M1 => ∃ (w_pg : Nat → Int32) (w_ft : Int32) (w_fa : Int32) (w_sp : Int32) (w_nu : Int32), M1 = mM ad w_pg c_bm c_tx c_ty w_ft w_fa w_sp w_nu c_un c_sf c_st c_ll c_ln c_ip c_gr c_hs ∧ post w_pg w_ft w_fa w_sp w_nu)) args s 0 0 A) D s0 A 2 (mM ad c_pg c_bm c_tx c_ty c_ft c_fa c_sp c_nu c_un c_sf c_st c_ll c_ln c_ip c_gr c_hs) 0 0 [some (yr (some (ad 0))), some (yi v1)] 15 [] := by
  intro nn
  induction nn with
  | zero => intro c_pg c_tx c_ty c_ft c_fa c_sp c_nu v1 h; exact absurd h (by rw [wpX2_readsAll_b15]; exact id)
  | succ nn ih =>
    intro c_pg c_tx c_ty c_ft c_fa c_sp c_nu v1 h
    rw [wpX2_readsAll_b15] at h
    refine y_iload_n C 1 rfl rfl dX2_readsAll_15 ?_
    refine y_if_eq C 107 dX2_readsAll_16 (by decide) (fun c9 => ?_) (fun c9 => ?_)
    · replace h := h.1 c9
      exact y_vret C hr rfl rfl ⟨_, _, _, _, _, rfl, h⟩ dX2_readsAll_107
    · replace h := h.2 c9
      refine y_aload_n C 0 rfl rfl dX2_readsAll_19 ?_
      refine y_get (ci := 2) (k := 6) C in_X2 rfl (by decide) q1175 (fun _ h => h) mM_0 rfl dX2_readsAll_20 ?_
      refine y_aload_n C 0 rfl rfl dX2_readsAll_23 ?_
      refine y_get (ci := 2) (k := 3) C in_X2 rfl (by decide) q1172 (fun _ h => h) mM_0 rfl dX2_readsAll_24 ?_
      refine y_icmp_ge C 107 dX2_readsAll_27 (by decide) (fun c9 => ?_) (fun c9 => ?_)
      · replace h := h.1 c9
        exact y_vret C hr rfl rfl ⟨_, _, _, _, _, rfl, h⟩ dX2_readsAll_107
      · replace h := h.2 c9
        refine y_aload_n C 0 rfl rfl dX2_readsAll_30 ?_
        refine y_callVi0 C (metX2_here hd hB h) (cwV 0 C.hts (lw_V q1346 q1348 qs40 q91 q1349) rfl rfl rfl kdX2_here ⟨Nat.le_of_ble_eq_true rfl, Nat.le_of_ble_eq_true rfl⟩) mM_0 rfl rfl rfl (Nat.le_of_ble_eq_true rfl) dX2_readsAll_31 (fun r7 M1 hp => ?_)
        clear h
        obtain ⟨rfl, h⟩ := hp
        refine y_bipush C 59 dX2_readsAll_34 y_b59 ?_
        refine y_icmp_ne C 51 dX2_readsAll_36 (by decide) (fun c9 => ?_) (fun c9 => ?_)
        · replace h := h.1 c9
          refine y_to C _ ?_ (okX2_readsAll_b51 C hB hd hr ih _ _ _ _ _ _ _ h)
          exact (And.intro rfl trivial)
        · replace h := h.2 c9
          refine y_aload_n C 0 rfl rfl dX2_readsAll_39 ?_
          refine y_get (ci := 2) (k := 0) C in_X2 rfl (by decide) q1169 (fun _ h => h) mM_0 rfl dX2_readsAll_40 ?_
          refine y_bipush C 13 dX2_readsAll_43 y_b13 ?_
          obtain ⟨i9, h⟩ := h
          refine y_iald C (mM_1 hd) i9 dX2_readsAll_45 ?_
          refine y_bipush C 16 dX2_readsAll_46 y_b16 ?_
          refine y_icmp_lt C 63 dX2_readsAll_48 (by decide) (fun c9 => ?_) (fun c9 => ?_)
          · replace h := h.1 c9
            refine y_to C _ ?_ (okX2_readsAll_b63 C hB hd hr ih _ _ _ _ _ _ _ h)
            exact (And.intro rfl trivial)
          · replace h := h.2 c9
            refine y_to C _ ?_ (okX2_readsAll_b51 C hB hd hr ih _ _ _ _ _ _ _ h)
            exact (And.intro rfl trivial)
end sX2_readsAll
def wpX2_readsAll (c_pg : Nat → Int32) (c_tx : Nat → Int32) (c_ty : Int32) (c_ft : Int32) (c_fa : Int32) (c_sp : Int32) (c_nu : Int32)  (post : (Nat → Int32) → Int32 → Int32 → Int32 → Int32 → Prop) : Prop := wpX2_readsPositions c_pg c_tx c_ty 0 c_fa 0 c_nu (fun r6 w_pg1 w_ft2 w_fa3 w_sp4 w_nu5 => ∃ nf9 : Nat, wpX2_readsAll_b15 post nf9 w_pg1 c_tx c_ty w_ft2 w_fa3 w_sp4 w_nu5 r6)
theorem metX2_readsAll {l : Launch} {D : va_G} {s0 : State} {a0 : Array Value} {ad : Nat → Nat} (hd : yAd ad) (hB : yB D s0 a0) {c_pg : Nat → Int32} {c_bm : Int32} {c_tx : Nat → Int32} {c_ty : Int32} {c_ft : Int32} {c_fa : Int32} {c_sp : Int32} {c_nu : Int32} {c_un : Nat → Int32} {c_sf : Nat → Int32} {c_st : Nat → Int32} {c_ll : Nat → Int32} {c_ln : Nat → Int32} {c_ip : Nat → Int32} {c_gr : Nat → Int32} {c_hs : Int64}  {post : (Nat → Int32) → Int32 → Int32 → Int32 → Int32 → Prop} (h : wpX2_readsAll c_pg c_tx c_ty c_ft c_fa c_sp c_nu  post) : yMv l yX2_readsAll (ws_ yX2_readsAll cX2_readsAll 2 none) 6 178 0 0 D s0 [yr (some (ad 0))] (mM ad c_pg c_bm c_tx c_ty c_ft c_fa c_sp c_nu c_un c_sf c_st c_ll c_ln c_ip c_gr c_hs) (fun M1 => ∃ (w_pg : Nat → Int32) (w_ft : Int32) (w_fa : Int32) (w_sp : Int32) (w_nu : Int32), M1 = mM ad w_pg c_bm c_tx c_ty w_ft w_fa w_sp w_nu c_un c_sf c_st c_ll c_ln c_ip c_gr c_hs ∧ post w_pg w_ft w_fa w_sp w_nu) := by
  refine y_metv hB (by decide) rfl (Nat.le_of_ble_eq_true rfl) ?_
  intro p e s m below meth c A hr hnm C
  rw [wpX2_readsAll] at h
  refine y_aload_n C 0 rfl rfl dX2_readsAll_0 ?_
  refine y_iconst C 0 dX2_readsAll_1 lit0 ?_
  refine y_put (ci := 2) (k := 4) C in_X2 tyX2_ok nmX2 rfl (by decide) q1173 (fun _ h => h) rfl mM_0 (y_lt rfl) rfl rfl (mU_ft _) dX2_readsAll_2 ?_
  refine y_aload_n C 0 rfl rfl dX2_readsAll_5 ?_
  refine y_iconst C 0 dX2_readsAll_6 lit0 ?_
  refine y_put (ci := 2) (k := 6) C in_X2 tyX2_ok nmX2 rfl (by decide) q1175 (fun _ h => h) rfl mM_0 (y_lt rfl) rfl rfl (mU_sp _) dX2_readsAll_7 ?_
  refine y_aload_n C 0 rfl rfl dX2_readsAll_10 ?_
  refine y_callVi0 C (metX2_readsPositions hd hB h) (cwV 0 C.hts (lw_V q1338 q1340 qs38 q91 q1341) rfl rfl rfl kdX2_readsPositions ⟨Nat.le_of_ble_eq_true rfl, Nat.le_of_ble_eq_true rfl⟩) mM_0 rfl rfl rfl (Nat.le_of_ble_eq_true rfl) dX2_readsAll_11 (fun r6 M1 hp => ?_)
  clear h
  obtain ⟨w_pg1, w_ft2, w_fa3, w_sp4, w_nu5, rfl, h⟩ := hp
  refine y_istore_n C 1 rfl (by decide) dX2_readsAll_14 ?_
  obtain ⟨nf9, h⟩ := h
  refine y_to C _ ?_ (okX2_readsAll_b15 C hB hd hr  nf9 _ _ _ _ _ _ _ _ h)
  exact (And.intro rfl (And.intro rfl trivial))
theorem kdX2_readsAll : yX2_readsAll.cls = RX2 ∧ yX2_readsAll.cls ≠ "java/lang/invoke/MethodHandle" ∧ yX2_readsAll.cls ≠ "java/lang/invoke/VarHandle" ∧ (parseMethodDescriptor yX2_readsAll.desc).map (fun d => d.parameters.length) = some 0 := by decide +kernel
section sX2_load
variable {p : Program} {l : Launch} {e : Env} {s : State} {m : MethodId} {args : Array Value} {below : List Frame} {meth : Method} {c : Code} {D : va_G} {s0 : State} {a0 : Array Value} {A : Nat → Prop} {ad : Nat → Nat} {c_pg : Nat → Int32} {c_bm : Int32} {c_tx : Nat → Int32} {c_ty : Int32} {c_ft : Int32} {c_fa : Int32} {c_sp : Int32} {c_nu : Int32} {c_un : Nat → Int32} {c_sf : Nat → Int32} {c_st : Nat → Int32} {c_ll : Nat → Int32} {c_ln : Nat → Int32} {c_ip : Nat → Int32} {c_gr : Nat → Int32} {c_hs : Int64}
def wpX2_load_b50 (post : Int32 → (Nat → Int32) → Int32 → Int32 → Int32 → Int32 → Int32 → Prop) : Nat → (Nat → Int32) → Int32 → (Nat → Int32) → Int32 → Int32 → Int32 → Int32 → Int32 → Int32 → Prop
  | 0, _, _, _, _, _, _, _, _, _ => False
  | nn + 1, c_pg, c_bm, c_tx, c_ty, c_ft, c_fa, c_sp, c_nu, v1 => ((112 ≤ v1 → wpX2_records c_pg c_bm (fun w_pg9 w_bm10 => wpX2_copies w_pg9 9 0 (fun w_pg11 => vp_in 13 1120 ∧ post (w_pg11 (Int32.toNatClampNeg 13)) w_pg11 w_bm10 c_ft c_fa c_sp c_nu))) ∧ (¬ 112 ≤ v1 → vp_in v1 1120 ∧ ∀ x12 : Int32, x12 = (c_pg (Int32.toNatClampNeg v1)) → vp_in (1008 + v1) 1120 ∧ vp_in v1 1120 ∧ ∀ f13 : Nat → Int32, f13 = upd c_pg (Int32.toNatClampNeg v1) (c_pg (Int32.toNatClampNeg (1008 + v1))) → vp_in (1008 + v1) 1120 ∧ ∀ f14 : Nat → Int32, f14 = upd f13 (Int32.toNatClampNeg (1008 + v1)) x12 → ∀ x15 : Int32, x15 = v1 + 1 → wpX2_load_b50 post nn f14 c_bm c_tx c_ty c_ft c_fa c_sp c_nu x15))
theorem okX2_load_b50 (C : yC p { frames := 7, cells := 0, slots := 0, locals := 199 } s m args meth c cX2_load 3 RX2 D s0 a0 A) (hB : yB D s0 a0) (hd : yAd ad) (hr : meth.sig.returnType = (some .int)) {post : Int32 → (Nat → Int32) → Int32 → Int32 → Int32 → Int32 → Int32 → Prop}  : ∀ (nn : Nat) (c_pg : Nat → Int32) (c_bm : Int32) (c_tx : Nat → Int32) (c_ty : Int32) (c_ft : Int32) (c_fa : Int32) (c_sp : Int32) (c_nu : Int32) (v1 : Int32), wpX2_load_b50 post nn c_pg c_bm c_tx c_ty c_ft c_fa c_sp c_nu v1 → Y p l e { frames := 7, cells := 0, slots := 0, locals := 199 } s m args below meth c (MQ below (yQi D s0 A (fun r M1 => ∃ (w_pg : Nat → Int32) (w_bm : Int32) (w_ft : Int32) (w_fa : Int32) (w_sp : Int32) (w_nu : Int32), M1 = mM ad w_pg w_bm c_tx c_ty w_ft w_fa w_sp w_nu c_un c_sf c_st c_ll c_ln c_ip c_gr c_hs ∧ post r w_pg w_bm w_ft w_fa w_sp w_nu)) args s 0 0 A) D s0 A 3 (mM ad c_pg c_bm c_tx c_ty c_ft c_fa c_sp c_nu c_un c_sf c_st c_ll c_ln c_ip c_gr c_hs) 0 0 [some (yr (some (ad 0))), some (yi v1), none] 50 [] := by
  intro nn
  induction nn with
  | zero => intro c_pg c_bm c_tx c_ty c_ft c_fa c_sp c_nu v1 h; exact absurd h (by rw [wpX2_load_b50]; exact id)
  | succ nn ih =>
    intro c_pg c_bm c_tx c_ty c_ft c_fa c_sp c_nu v1 h
    rw [wpX2_load_b50] at h
    refine y_iload_n C 1 rfl rfl dX2_load_50 ?_
    refine y_bipush C 112 dX2_load_51 y_b112 ?_
    refine y_icmp_ge C 96 dX2_load_53 (by decide) (fun c9 => ?_) (fun c9 => ?_)
    · replace h := h.1 c9
      refine y_aload_n C 0 rfl rfl dX2_load_96 ?_
      refine y_callVv0 C (metX2_records hd hB h) (cwV 0 C.hts (lw_V q1242 q1244 qs26 q91 q1245) rfl rfl rfl kdX2_records ⟨Nat.le_of_ble_eq_true rfl, Nat.le_of_ble_eq_true rfl⟩) mM_0 rfl rfl rfl (Nat.le_of_ble_eq_true rfl) dX2_load_97 (fun M1 hp => ?_)
      clear h
      obtain ⟨w_pg9, w_bm10, rfl, h⟩ := hp
      refine y_aload_n C 0 rfl rfl dX2_load_100 ?_
      refine y_bipush C 9 dX2_load_101 y_b9 ?_
      refine y_iconst C 0 dX2_load_103 lit0 ?_
      refine y_callVv0 C (metX2_copies hd hB h) (cwV 2 C.hts (lw_V q1223 q1225 qs23 q91 q1226) rfl rfl rfl kdX2_copies ⟨Nat.le_of_ble_eq_true rfl, Nat.le_of_ble_eq_true rfl⟩) mM_0 rfl rfl rfl (Nat.le_of_ble_eq_true rfl) dX2_load_104 (fun M1 hp => ?_)
      clear h
      obtain ⟨w_pg11, rfl, h⟩ := hp
      refine y_aload_n C 0 rfl rfl dX2_load_107 ?_
      refine y_get (ci := 2) (k := 0) C in_X2 rfl (by decide) q1169 (fun _ h => h) mM_0 rfl dX2_load_108 ?_
      refine y_bipush C 13 dX2_load_111 y_b13 ?_
      obtain ⟨i9, h⟩ := h
      refine y_iald C (mM_1 hd) i9 dX2_load_113 ?_
      exact y_ireti C hr rfl rfl ⟨_, _, _, _, _, _, rfl, h⟩ dX2_load_114
    · replace h := h.2 c9
      refine y_aload_n C 0 rfl rfl dX2_load_56 ?_
      refine y_get (ci := 2) (k := 0) C in_X2 rfl (by decide) q1169 (fun _ h => h) mM_0 rfl dX2_load_57 ?_
      refine y_iload_n C 1 rfl rfl dX2_load_60 ?_
      obtain ⟨i9, h⟩ := h
      refine y_iald C (mM_1 hd) i9 dX2_load_61 ?_
      replace h := h _ rfl
      refine y_istore_n C 2 rfl (by decide) dX2_load_62 ?_
      refine y_aload_n C 0 rfl rfl dX2_load_63 ?_
      refine y_get (ci := 2) (k := 0) C in_X2 rfl (by decide) q1169 (fun _ h => h) mM_0 rfl dX2_load_64 ?_
      refine y_iload_n C 1 rfl rfl dX2_load_67 ?_
      refine y_aload_n C 0 rfl rfl dX2_load_68 ?_
      refine y_get (ci := 2) (k := 0) C in_X2 rfl (by decide) q1169 (fun _ h => h) mM_0 rfl dX2_load_69 ?_
      refine y_sipush C 1008 dX2_load_72 y_s1008 ?_
      refine y_iload_n C 1 rfl rfl dX2_load_75 ?_
      refine y_iadd C dX2_load_76 ?_
      obtain ⟨i9, h⟩ := h
      refine y_iald C (mM_1 hd) i9 dX2_load_77 ?_
      obtain ⟨i9, h⟩ := h
      replace h := h _ rfl
      refine y_iast C (mM_1 hd) i9 (mU_pg hd _) dX2_load_78 ?_
      refine y_aload_n C 0 rfl rfl dX2_load_79 ?_
      refine y_get (ci := 2) (k := 0) C in_X2 rfl (by decide) q1169 (fun _ h => h) mM_0 rfl dX2_load_80 ?_
      refine y_sipush C 1008 dX2_load_83 y_s1008 ?_
      refine y_iload_n C 1 rfl rfl dX2_load_86 ?_
      refine y_iadd C dX2_load_87 ?_
      refine y_iload_n C 2 rfl rfl dX2_load_88 ?_
      obtain ⟨i9, h⟩ := h
      replace h := h _ rfl
      refine y_iast C (mM_1 hd) i9 (mU_pg hd _) dX2_load_89 ?_
      replace h := h _ rfl
      refine y_iinc C 1 _ rfl (y_inc1 _) (by decide) dX2_load_90 ?_
      refine y_goto C 50 dX2_load_93 (by decide) ?_
      refine y_to C _ ?_ (ih _ _ _ _ _ _ _ _ _ h)
      exact (And.intro rfl (And.intro rfl trivial))
end sX2_load
def wpX2_load (c_pg : Nat → Int32) (c_bm : Int32) (c_tx : Nat → Int32) (c_ty : Int32) (c_ft : Int32) (c_fa : Int32) (c_sp : Int32) (c_nu : Int32)  (post : Int32 → (Nat → Int32) → Int32 → Int32 → Int32 → Int32 → Int32 → Prop) : Prop := wpX2_copies c_pg 0 9 (fun w_pg1 => vp_in 0 1120 ∧ ∀ f2 : Nat → Int32, f2 = upd w_pg1 (Int32.toNatClampNeg 0) 0 → vp_in 13 1120 ∧ ∀ f3 : Nat → Int32, f3 = upd f2 (Int32.toNatClampNeg 13) 0 → wpX2_readsAll f3 c_tx c_ty c_ft c_fa c_sp c_nu (fun w_pg4 w_ft5 w_fa6 w_sp7 w_nu8 => ((w_ft5 = 0 → ∃ nf9 : Nat, wpX2_load_b50 post nf9 w_pg4 c_bm c_tx c_ty w_ft5 w_fa6 w_sp7 w_nu8 0) ∧ (¬ w_ft5 = 0 → wpX2_copies w_pg4 9 0 (fun w_pg16 => post ((-10) - w_fa6) w_pg16 c_bm w_ft5 w_fa6 w_sp7 w_nu8)))))
theorem metX2_load {l : Launch} {D : va_G} {s0 : State} {a0 : Array Value} {ad : Nat → Nat} (hd : yAd ad) (hB : yB D s0 a0) {c_pg : Nat → Int32} {c_bm : Int32} {c_tx : Nat → Int32} {c_ty : Int32} {c_ft : Int32} {c_fa : Int32} {c_sp : Int32} {c_nu : Int32} {c_un : Nat → Int32} {c_sf : Nat → Int32} {c_st : Nat → Int32} {c_ll : Nat → Int32} {c_ln : Nat → Int32} {c_ip : Nat → Int32} {c_gr : Nat → Int32} {c_hs : Int64}  {post : Int32 → (Nat → Int32) → Int32 → Int32 → Int32 → Int32 → Int32 → Prop} (h : wpX2_load c_pg c_bm c_tx c_ty c_ft c_fa c_sp c_nu  post) : yMi l yX2_load (ws_ yX2_load cX2_load 3 (some .int)) 7 199 0 0 D s0 [yr (some (ad 0))] (mM ad c_pg c_bm c_tx c_ty c_ft c_fa c_sp c_nu c_un c_sf c_st c_ll c_ln c_ip c_gr c_hs) (fun r M1 => ∃ (w_pg : Nat → Int32) (w_bm : Int32) (w_ft : Int32) (w_fa : Int32) (w_sp : Int32) (w_nu : Int32), M1 = mM ad w_pg w_bm c_tx c_ty w_ft w_fa w_sp w_nu c_un c_sf c_st c_ll c_ln c_ip c_gr c_hs ∧ post r w_pg w_bm w_ft w_fa w_sp w_nu) := by
  refine y_meti hB (by decide) rfl (Nat.le_of_ble_eq_true rfl) ?_
  intro p e s m below meth c A hr hnm C
  rw [wpX2_load] at h
  refine y_aload_n C 0 rfl rfl dX2_load_0 ?_
  refine y_iconst C 0 dX2_load_1 lit0 ?_
  refine y_bipush C 9 dX2_load_2 y_b9 ?_
  refine y_callVv0 C (metX2_copies hd hB h) (cwV 2 C.hts (lw_V q1223 q1225 qs23 q91 q1226) rfl rfl rfl kdX2_copies ⟨Nat.le_of_ble_eq_true rfl, Nat.le_of_ble_eq_true rfl⟩) mM_0 rfl rfl rfl (Nat.le_of_ble_eq_true rfl) dX2_load_4 (fun M1 hp => ?_)
  clear h
  obtain ⟨w_pg1, rfl, h⟩ := hp
  refine y_aload_n C 0 rfl rfl dX2_load_7 ?_
  refine y_get (ci := 2) (k := 0) C in_X2 rfl (by decide) q1169 (fun _ h => h) mM_0 rfl dX2_load_8 ?_
  refine y_iconst C 0 dX2_load_11 lit0 ?_
  refine y_iconst C 0 dX2_load_12 lit0 ?_
  obtain ⟨i9, h⟩ := h
  replace h := h _ rfl
  refine y_iast C (mM_1 hd) i9 (mU_pg hd _) dX2_load_13 ?_
  refine y_aload_n C 0 rfl rfl dX2_load_14 ?_
  refine y_get (ci := 2) (k := 0) C in_X2 rfl (by decide) q1169 (fun _ h => h) mM_0 rfl dX2_load_15 ?_
  refine y_bipush C 13 dX2_load_18 y_b13 ?_
  refine y_iconst C 0 dX2_load_20 lit0 ?_
  obtain ⟨i9, h⟩ := h
  replace h := h _ rfl
  refine y_iast C (mM_1 hd) i9 (mU_pg hd _) dX2_load_21 ?_
  refine y_aload_n C 0 rfl rfl dX2_load_22 ?_
  refine y_callVv0 C (metX2_readsAll hd hB h) (cwV 0 C.hts (lw_V q1334 q1336 qs37 q91 q1337) rfl rfl rfl kdX2_readsAll ⟨Nat.le_of_ble_eq_true rfl, Nat.le_of_ble_eq_true rfl⟩) mM_0 rfl rfl rfl (Nat.le_of_ble_eq_true rfl) dX2_load_23 (fun M1 hp => ?_)
  clear h
  obtain ⟨w_pg4, w_ft5, w_fa6, w_sp7, w_nu8, rfl, h⟩ := hp
  refine y_aload_n C 0 rfl rfl dX2_load_26 ?_
  refine y_get (ci := 2) (k := 4) C in_X2 rfl (by decide) q1173 (fun _ h => h) mM_0 rfl dX2_load_27 ?_
  refine y_if_eq C 48 dX2_load_30 (by decide) (fun c9 => ?_) (fun c9 => ?_)
  · replace h := h.1 c9
    refine y_iconst C 0 dX2_load_48 lit0 ?_
    refine y_istore_n C 1 rfl (by decide) dX2_load_49 ?_
    obtain ⟨nf9, h⟩ := h
    refine y_to C _ ?_ (okX2_load_b50 C hB hd hr  nf9 _ _ _ _ _ _ _ _ _ h)
    exact (And.intro rfl (And.intro rfl trivial))
  · replace h := h.2 c9
    refine y_aload_n C 0 rfl rfl dX2_load_33 ?_
    refine y_bipush C 9 dX2_load_34 y_b9 ?_
    refine y_iconst C 0 dX2_load_36 lit0 ?_
    refine y_callVv0 C (metX2_copies hd hB h) (cwV 2 C.hts (lw_V q1223 q1225 qs23 q91 q1226) rfl rfl rfl kdX2_copies ⟨Nat.le_of_ble_eq_true rfl, Nat.le_of_ble_eq_true rfl⟩) mM_0 rfl rfl rfl (Nat.le_of_ble_eq_true rfl) dX2_load_37 (fun M1 hp => ?_)
    clear h
    obtain ⟨w_pg16, rfl, h⟩ := hp
    refine y_bipush C (-10) dX2_load_40 y_bm10 ?_
    refine y_aload_n C 0 rfl rfl dX2_load_42 ?_
    refine y_get (ci := 2) (k := 5) C in_X2 rfl (by decide) q1174 (fun _ h => h) mM_0 rfl dX2_load_43 ?_
    refine y_isub C dX2_load_46 ?_
    exact y_ireti C hr rfl rfl ⟨_, _, _, _, _, _, rfl, h⟩ dX2_load_47
theorem kdX2_load : yX2_load.cls = RX2 ∧ yX2_load.cls ≠ "java/lang/invoke/MethodHandle" ∧ yX2_load.cls ≠ "java/lang/invoke/VarHandle" ∧ (parseMethodDescriptor yX2_load.desc).map (fun d => d.parameters.length) = some 0 := by decide +kernel
def wpX2_faultKind (c_ft : Int32)  (post : Int32 → Prop) : Prop := post c_ft
theorem metX2_faultKind {l : Launch} {D : va_G} {s0 : State} {a0 : Array Value} {ad : Nat → Nat} (hd : yAd ad) (hB : yB D s0 a0) {c_pg : Nat → Int32} {c_bm : Int32} {c_tx : Nat → Int32} {c_ty : Int32} {c_ft : Int32} {c_fa : Int32} {c_sp : Int32} {c_nu : Int32} {c_un : Nat → Int32} {c_sf : Nat → Int32} {c_st : Nat → Int32} {c_ll : Nat → Int32} {c_ln : Nat → Int32} {c_ip : Nat → Int32} {c_gr : Nat → Int32} {c_hs : Int64}  {post : Int32 → Prop} (h : wpX2_faultKind c_ft  post) : yMi l yX2_faultKind (ws_ yX2_faultKind cX2_faultKind 1 (some .int)) 1 64 0 0 D s0 [yr (some (ad 0))] (mM ad c_pg c_bm c_tx c_ty c_ft c_fa c_sp c_nu c_un c_sf c_st c_ll c_ln c_ip c_gr c_hs) (fun r M1 => M1 = mM ad c_pg c_bm c_tx c_ty c_ft c_fa c_sp c_nu c_un c_sf c_st c_ll c_ln c_ip c_gr c_hs ∧ post r) := by
  refine y_meti hB (by decide) rfl (Nat.le_of_ble_eq_true rfl) ?_
  intro p e s m below meth c A hr hnm C
  rw [wpX2_faultKind] at h
  refine y_aload_n C 0 rfl rfl dX2_faultKind_0 ?_
  refine y_get (ci := 2) (k := 4) C in_X2 rfl (by decide) q1173 (fun _ h => h) mM_0 rfl dX2_faultKind_1 ?_
  exact y_ireti C hr rfl rfl ⟨rfl, h⟩ dX2_faultKind_4
theorem kdX2_faultKind : yX2_faultKind.cls = RX2 ∧ yX2_faultKind.cls ≠ "java/lang/invoke/MethodHandle" ∧ yX2_faultKind.cls ≠ "java/lang/invoke/VarHandle" ∧ (parseMethodDescriptor yX2_faultKind.desc).map (fun d => d.parameters.length) = some 0 := by decide +kernel
def wpX2_to (c_pg : Nat → Int32) (a1 : Int32) (post : Int32 → Prop) : Prop := wpX2_of c_pg a1 1 (fun r1 => wpX2_position c_pg r1 (fun r2 => post r2))
theorem metX2_to {l : Launch} {D : va_G} {s0 : State} {a0 : Array Value} {ad : Nat → Nat} (hd : yAd ad) (hB : yB D s0 a0) {c_pg : Nat → Int32} {c_bm : Int32} {c_tx : Nat → Int32} {c_ty : Int32} {c_ft : Int32} {c_fa : Int32} {c_sp : Int32} {c_nu : Int32} {c_un : Nat → Int32} {c_sf : Nat → Int32} {c_st : Nat → Int32} {c_ll : Nat → Int32} {c_ln : Nat → Int32} {c_ip : Nat → Int32} {c_gr : Nat → Int32} {c_hs : Int64} {a1 : Int32} {post : Int32 → Prop} (h : wpX2_to c_pg a1 post) : yMi l yX2_to (ws_ yX2_to cX2_to 2 (some .int)) 2 86 0 0 D s0 [yr (some (ad 0)), yi a1] (mM ad c_pg c_bm c_tx c_ty c_ft c_fa c_sp c_nu c_un c_sf c_st c_ll c_ln c_ip c_gr c_hs) (fun r M1 => M1 = mM ad c_pg c_bm c_tx c_ty c_ft c_fa c_sp c_nu c_un c_sf c_st c_ll c_ln c_ip c_gr c_hs ∧ post r) := by
  refine y_meti hB (by decide) rfl (Nat.le_of_ble_eq_true rfl) ?_
  intro p e s m below meth c A hr hnm C
  rw [wpX2_to] at h
  refine y_aload_n C 0 rfl rfl dX2_to_0 ?_
  refine y_aload_n C 0 rfl rfl dX2_to_1 ?_
  refine y_iload_n C 1 rfl rfl dX2_to_2 ?_
  refine y_iconst C 1 dX2_to_3 lit1 ?_
  refine y_callVi0 C (metX2_of hd hB h) (cwV 2 C.hts (lw_V q1250 q1252 qs28 q91 q1253) rfl rfl rfl kdX2_of ⟨Nat.le_of_ble_eq_true rfl, Nat.le_of_ble_eq_true rfl⟩) mM_0 rfl rfl rfl (Nat.le_of_ble_eq_true rfl) dX2_to_4 (fun r1 M1 hp => ?_)
  clear h
  obtain ⟨rfl, h⟩ := hp
  refine y_callVi0 C (metX2_position hd hB h) (cwV 1 C.hts (lw_V q1238 q1240 qs25 q91 q1241) rfl rfl rfl kdX2_position ⟨Nat.le_of_ble_eq_true rfl, Nat.le_of_ble_eq_true rfl⟩) mM_0 rfl rfl rfl (Nat.le_of_ble_eq_true rfl) dX2_to_7 (fun r2 M1 hp => ?_)
  clear h
  obtain ⟨rfl, h⟩ := hp
  exact y_ireti C hr rfl rfl ⟨rfl, h⟩ dX2_to_10
theorem kdX2_to : yX2_to.cls = RX2 ∧ yX2_to.cls ≠ "java/lang/invoke/MethodHandle" ∧ yX2_to.cls ≠ "java/lang/invoke/VarHandle" ∧ (parseMethodDescriptor yX2_to.desc).map (fun d => d.parameters.length) = some 1 := by decide +kernel
def wpX2_from (c_pg : Nat → Int32) (a1 : Int32) (post : Int32 → Prop) : Prop := wpX2_of c_pg a1 0 (fun r1 => wpX2_position c_pg r1 (fun r2 => post r2))
theorem metX2_from {l : Launch} {D : va_G} {s0 : State} {a0 : Array Value} {ad : Nat → Nat} (hd : yAd ad) (hB : yB D s0 a0) {c_pg : Nat → Int32} {c_bm : Int32} {c_tx : Nat → Int32} {c_ty : Int32} {c_ft : Int32} {c_fa : Int32} {c_sp : Int32} {c_nu : Int32} {c_un : Nat → Int32} {c_sf : Nat → Int32} {c_st : Nat → Int32} {c_ll : Nat → Int32} {c_ln : Nat → Int32} {c_ip : Nat → Int32} {c_gr : Nat → Int32} {c_hs : Int64} {a1 : Int32} {post : Int32 → Prop} (h : wpX2_from c_pg a1 post) : yMi l yX2_from (ws_ yX2_from cX2_from 2 (some .int)) 2 86 0 0 D s0 [yr (some (ad 0)), yi a1] (mM ad c_pg c_bm c_tx c_ty c_ft c_fa c_sp c_nu c_un c_sf c_st c_ll c_ln c_ip c_gr c_hs) (fun r M1 => M1 = mM ad c_pg c_bm c_tx c_ty c_ft c_fa c_sp c_nu c_un c_sf c_st c_ll c_ln c_ip c_gr c_hs ∧ post r) := by
  refine y_meti hB (by decide) rfl (Nat.le_of_ble_eq_true rfl) ?_
  intro p e s m below meth c A hr hnm C
  rw [wpX2_from] at h
  refine y_aload_n C 0 rfl rfl dX2_from_0 ?_
  refine y_aload_n C 0 rfl rfl dX2_from_1 ?_
  refine y_iload_n C 1 rfl rfl dX2_from_2 ?_
  refine y_iconst C 0 dX2_from_3 lit0 ?_
  refine y_callVi0 C (metX2_of hd hB h) (cwV 2 C.hts (lw_V q1250 q1252 qs28 q91 q1253) rfl rfl rfl kdX2_of ⟨Nat.le_of_ble_eq_true rfl, Nat.le_of_ble_eq_true rfl⟩) mM_0 rfl rfl rfl (Nat.le_of_ble_eq_true rfl) dX2_from_4 (fun r1 M1 hp => ?_)
  clear h
  obtain ⟨rfl, h⟩ := hp
  refine y_callVi0 C (metX2_position hd hB h) (cwV 1 C.hts (lw_V q1238 q1240 qs25 q91 q1241) rfl rfl rfl kdX2_position ⟨Nat.le_of_ble_eq_true rfl, Nat.le_of_ble_eq_true rfl⟩) mM_0 rfl rfl rfl (Nat.le_of_ble_eq_true rfl) dX2_from_7 (fun r2 M1 hp => ?_)
  clear h
  obtain ⟨rfl, h⟩ := hp
  exact y_ireti C hr rfl rfl ⟨rfl, h⟩ dX2_from_10
theorem kdX2_from : yX2_from.cls = RX2 ∧ yX2_from.cls ≠ "java/lang/invoke/MethodHandle" ∧ yX2_from.cls ≠ "java/lang/invoke/VarHandle" ∧ (parseMethodDescriptor yX2_from.desc).map (fun d => d.parameters.length) = some 1 := by decide +kernel
def wpX2_value (c_pg : Nat → Int32) (a1 : Int32) (post : Int32 → Prop) : Prop := wpX2_to c_pg a1 (fun r1 => wpX2_from c_pg a1 (fun r2 => post (r1 - r2)))
theorem metX2_value {l : Launch} {D : va_G} {s0 : State} {a0 : Array Value} {ad : Nat → Nat} (hd : yAd ad) (hB : yB D s0 a0) {c_pg : Nat → Int32} {c_bm : Int32} {c_tx : Nat → Int32} {c_ty : Int32} {c_ft : Int32} {c_fa : Int32} {c_sp : Int32} {c_nu : Int32} {c_un : Nat → Int32} {c_sf : Nat → Int32} {c_st : Nat → Int32} {c_ll : Nat → Int32} {c_ln : Nat → Int32} {c_ip : Nat → Int32} {c_gr : Nat → Int32} {c_hs : Int64} {a1 : Int32} {post : Int32 → Prop} (h : wpX2_value c_pg a1 post) : yMi l yX2_value (ws_ yX2_value cX2_value 2 (some .int)) 3 107 0 0 D s0 [yr (some (ad 0)), yi a1] (mM ad c_pg c_bm c_tx c_ty c_ft c_fa c_sp c_nu c_un c_sf c_st c_ll c_ln c_ip c_gr c_hs) (fun r M1 => M1 = mM ad c_pg c_bm c_tx c_ty c_ft c_fa c_sp c_nu c_un c_sf c_st c_ll c_ln c_ip c_gr c_hs ∧ post r) := by
  refine y_meti hB (by decide) rfl (Nat.le_of_ble_eq_true rfl) ?_
  intro p e s m below meth c A hr hnm C
  rw [wpX2_value] at h
  refine y_aload_n C 0 rfl rfl dX2_value_0 ?_
  refine y_iload_n C 1 rfl rfl dX2_value_1 ?_
  refine y_callVi0 C (metX2_to hd hB h) (cwV 1 C.hts (lw_V q1387 q1389 qs48 q91 q1390) rfl rfl rfl kdX2_to ⟨Nat.le_of_ble_eq_true rfl, Nat.le_of_ble_eq_true rfl⟩) mM_0 rfl rfl rfl (Nat.le_of_ble_eq_true rfl) dX2_value_2 (fun r1 M1 hp => ?_)
  clear h
  obtain ⟨rfl, h⟩ := hp
  refine y_aload_n C 0 rfl rfl dX2_value_5 ?_
  refine y_iload_n C 1 rfl rfl dX2_value_6 ?_
  refine y_callVi0 C (metX2_from hd hB h) (cwV 1 C.hts (lw_V q1391 q1393 qs49 q91 q1394) rfl rfl rfl kdX2_from ⟨Nat.le_of_ble_eq_true rfl, Nat.le_of_ble_eq_true rfl⟩) mM_0 rfl rfl rfl (Nat.le_of_ble_eq_true rfl) dX2_value_7 (fun r2 M1 hp => ?_)
  clear h
  obtain ⟨rfl, h⟩ := hp
  refine y_isub C dX2_value_10 ?_
  exact y_ireti C hr rfl rfl ⟨rfl, h⟩ dX2_value_11
theorem kdX2_value : yX2_value.cls = RX2 ∧ yX2_value.cls ≠ "java/lang/invoke/MethodHandle" ∧ yX2_value.cls ≠ "java/lang/invoke/VarHandle" ∧ (parseMethodDescriptor yX2_value.desc).map (fun d => d.parameters.length) = some 1 := by decide +kernel
section sX2_bounds
variable {p : Program} {l : Launch} {e : Env} {s : State} {m : MethodId} {args : Array Value} {below : List Frame} {meth : Method} {c : Code} {D : va_G} {s0 : State} {a0 : Array Value} {A : Nat → Prop} {ad : Nat → Nat} {c_pg : Nat → Int32} {c_bm : Int32} {c_tx : Nat → Int32} {c_ty : Int32} {c_ft : Int32} {c_fa : Int32} {c_sp : Int32} {c_nu : Int32} {c_un : Nat → Int32} {c_sf : Nat → Int32} {c_st : Nat → Int32} {c_ll : Nat → Int32} {c_ln : Nat → Int32} {c_ip : Nat → Int32} {c_gr : Nat → Int32} {c_hs : Int64}
def wpX2_bounds_b40 (post : (Nat → Int32) → Prop) (c_gr : Nat → Int32) (u1 : Int32) (u2 : Int32) : Prop := vp_in u1 144 ∧ ∀ f1 : Nat → Int32, f1 = upd c_gr (Int32.toNatClampNeg u1) u2 → post f1
theorem okX2_bounds_b40 (C : yC p { frames := 1, cells := 0, slots := 0, locals := 64 } s m args meth c cX2_bounds 4 RX2 D s0 a0 A) (hB : yB D s0 a0) (hd : yAd ad) (hr : meth.sig.returnType = none) {post : (Nat → Int32) → Prop}  : ∀ (c_gr : Nat → Int32) (u1 : Int32) (u2 : Int32), wpX2_bounds_b40 post c_gr u1 u2 → Y p l e { frames := 1, cells := 0, slots := 0, locals := 64 } s m args below meth c (MQ below (yQv D s0 A (fun M1 => ∃ (w_gr : Nat → Int32), M1 = mM ad c_pg c_bm c_tx c_ty c_ft c_fa c_sp c_nu c_un c_sf c_st c_ll c_ln c_ip w_gr c_hs ∧ post w_gr)) args s 0 0 A) D s0 A 4 (mM ad c_pg c_bm c_tx c_ty c_ft c_fa c_sp c_nu c_un c_sf c_st c_ll c_ln c_ip c_gr c_hs) 0 0 [none, none, none, none] 40 [yi u2, yi u1, yr (some (ad 9))] := by
  intro c_gr u1 u2 h
  rw [wpX2_bounds_b40] at h
  obtain ⟨i9, h⟩ := h
  replace h := h _ rfl
  refine y_iast C (mM_9 hd) i9 (mU_gr hd _) dX2_bounds_40 ?_
  exact y_vret C hr rfl rfl ⟨_, rfl, h⟩ dX2_bounds_41
end sX2_bounds
def wpX2_bounds (c_gr : Nat → Int32) (a1 : Int32) (a2 : Int32) (a3 : Int32) (post : (Nat → Int32) → Prop) : Prop := vp_in ((12 * a1) + a2) 144 ∧ (((c_gr (Int32.toNatClampNeg ((12 * a1) + a2))) ≤ a3 → vp_in ((12 * a1) + a2) 144 ∧ wpX2_bounds_b40 post c_gr ((12 * a1) + a2) (c_gr (Int32.toNatClampNeg ((12 * a1) + a2)))) ∧ (¬ (c_gr (Int32.toNatClampNeg ((12 * a1) + a2))) ≤ a3 → wpX2_bounds_b40 post c_gr ((12 * a1) + a2) a3))
theorem metX2_bounds {l : Launch} {D : va_G} {s0 : State} {a0 : Array Value} {ad : Nat → Nat} (hd : yAd ad) (hB : yB D s0 a0) {c_pg : Nat → Int32} {c_bm : Int32} {c_tx : Nat → Int32} {c_ty : Int32} {c_ft : Int32} {c_fa : Int32} {c_sp : Int32} {c_nu : Int32} {c_un : Nat → Int32} {c_sf : Nat → Int32} {c_st : Nat → Int32} {c_ll : Nat → Int32} {c_ln : Nat → Int32} {c_ip : Nat → Int32} {c_gr : Nat → Int32} {c_hs : Int64} {a1 : Int32} {a2 : Int32} {a3 : Int32} {post : (Nat → Int32) → Prop} (h : wpX2_bounds c_gr a1 a2 a3 post) : yMv l yX2_bounds (ws_ yX2_bounds cX2_bounds 4 none) 1 64 0 0 D s0 [yr (some (ad 0)), yi a1, yi a2, yi a3] (mM ad c_pg c_bm c_tx c_ty c_ft c_fa c_sp c_nu c_un c_sf c_st c_ll c_ln c_ip c_gr c_hs) (fun M1 => ∃ (w_gr : Nat → Int32), M1 = mM ad c_pg c_bm c_tx c_ty c_ft c_fa c_sp c_nu c_un c_sf c_st c_ll c_ln c_ip w_gr c_hs ∧ post w_gr) := by
  refine y_metv hB (by decide) rfl (Nat.le_of_ble_eq_true rfl) ?_
  intro p e s m below meth c A hr hnm C
  rw [wpX2_bounds] at h
  refine y_aload_n C 0 rfl rfl dX2_bounds_0 ?_
  refine y_get (ci := 2) (k := 14) C in_X2 rfl (by decide) q1183 (fun _ h => h) mM_0 rfl dX2_bounds_1 ?_
  refine y_bipush C 12 dX2_bounds_4 y_b12 ?_
  refine y_iload_n C 1 rfl rfl dX2_bounds_6 ?_
  refine y_imul C dX2_bounds_7 ?_
  refine y_iload_n C 2 rfl rfl dX2_bounds_8 ?_
  refine y_iadd C dX2_bounds_9 ?_
  refine y_iload_n C 3 rfl rfl dX2_bounds_10 ?_
  refine y_aload_n C 0 rfl rfl dX2_bounds_11 ?_
  refine y_get (ci := 2) (k := 14) C in_X2 rfl (by decide) q1183 (fun _ h => h) mM_0 rfl dX2_bounds_12 ?_
  refine y_bipush C 12 dX2_bounds_15 y_b12 ?_
  refine y_iload_n C 1 rfl rfl dX2_bounds_17 ?_
  refine y_imul C dX2_bounds_18 ?_
  refine y_iload_n C 2 rfl rfl dX2_bounds_19 ?_
  refine y_iadd C dX2_bounds_20 ?_
  obtain ⟨i9, h⟩ := h
  refine y_iald C (mM_9 hd) i9 dX2_bounds_21 ?_
  refine y_icmp_ge C 29 dX2_bounds_22 (by decide) (fun c9 => ?_) (fun c9 => ?_)
  · replace h := h.1 c9
    refine y_aload_n C 0 rfl rfl dX2_bounds_29 ?_
    refine y_get (ci := 2) (k := 14) C in_X2 rfl (by decide) q1183 (fun _ h => h) mM_0 rfl dX2_bounds_30 ?_
    refine y_bipush C 12 dX2_bounds_33 y_b12 ?_
    refine y_iload_n C 1 rfl rfl dX2_bounds_35 ?_
    refine y_imul C dX2_bounds_36 ?_
    refine y_iload_n C 2 rfl rfl dX2_bounds_37 ?_
    refine y_iadd C dX2_bounds_38 ?_
    obtain ⟨i9, h⟩ := h
    refine y_iald C (mM_9 hd) i9 dX2_bounds_39 ?_
    refine y_to C _ ?_ (okX2_bounds_b40 C hB hd hr  _ _ _ h)
    exact trivial
  · replace h := h.2 c9
    refine y_iload_n C 3 rfl rfl dX2_bounds_25 ?_
    refine y_goto C 40 dX2_bounds_26 (by decide) ?_
    refine y_to C _ ?_ (okX2_bounds_b40 C hB hd hr  _ _ _ h)
    exact trivial
theorem kdX2_bounds : yX2_bounds.cls = RX2 ∧ yX2_bounds.cls ≠ "java/lang/invoke/MethodHandle" ∧ yX2_bounds.cls ≠ "java/lang/invoke/VarHandle" ∧ (parseMethodDescriptor yX2_bounds.desc).map (fun d => d.parameters.length) = some 3 := by decide +kernel
section sX2_laysDistances
variable {p : Program} {l : Launch} {e : Env} {s : State} {m : MethodId} {args : Array Value} {below : List Frame} {meth : Method} {c : Code} {D : va_G} {s0 : State} {a0 : Array Value} {A : Nat → Prop} {ad : Nat → Nat} {c_pg : Nat → Int32} {c_bm : Int32} {c_tx : Nat → Int32} {c_ty : Int32} {c_ft : Int32} {c_fa : Int32} {c_sp : Int32} {c_nu : Int32} {c_un : Nat → Int32} {c_sf : Nat → Int32} {c_st : Nat → Int32} {c_ll : Nat → Int32} {c_ln : Nat → Int32} {c_ip : Nat → Int32} {c_gr : Nat → Int32} {c_hs : Int64}
def wpX2_laysDistances_b229 (post : (Nat → Int32) → Prop) (k141 : (Nat → Int32) → (Nat → Int32) → Int32 → Prop) (k154 : (Nat → Int32) → (Nat → Int32) → Int32 → Int32 → Prop) (c_pg : Nat → Int32) (c_gr : Nat → Int32) (v3 : Int32) (v4 : Int32) : Prop := ∀ x4 : Int32, x4 = v4 + 1 → k154 c_pg c_gr v3 x4
theorem okX2_laysDistances_b229 (C : yC p { frames := 4, cells := 0, slots := 0, locals := 128 } s m args meth c cX2_laysDistances 7 RX2 D s0 a0 A) (hB : yB D s0 a0) (hd : yAd ad) (hr : meth.sig.returnType = none) {post : (Nat → Int32) → Prop} {k141 : (Nat → Int32) → (Nat → Int32) → Int32 → Prop} {k154 : (Nat → Int32) → (Nat → Int32) → Int32 → Int32 → Prop} (hk141 : ∀ (c_pg : Nat → Int32) (c_gr : Nat → Int32) (v3 : Int32), k141 c_pg c_gr v3 → Y p l e { frames := 4, cells := 0, slots := 0, locals := 128 } s m args below meth c (MQ below (yQv D s0 A (fun M1 => ∃ (w_gr : Nat → Int32), M1 = mM ad c_pg c_bm c_tx c_ty c_ft c_fa c_sp c_nu c_un c_sf c_st c_ll c_ln c_ip w_gr c_hs ∧ post w_gr)) args s 0 0 A) D s0 A 7 (mM ad c_pg c_bm c_tx c_ty c_ft c_fa c_sp c_nu c_un c_sf c_st c_ll c_ln c_ip c_gr c_hs) 0 0 [some (yr (some (ad 0))), none, none, some (yi v3), none, none, none] 141 []) (hk154 : ∀ (c_pg : Nat → Int32) (c_gr : Nat → Int32) (v3 : Int32) (v4 : Int32), k154 c_pg c_gr v3 v4 → Y p l e { frames := 4, cells := 0, slots := 0, locals := 128 } s m args below meth c (MQ below (yQv D s0 A (fun M1 => ∃ (w_gr : Nat → Int32), M1 = mM ad c_pg c_bm c_tx c_ty c_ft c_fa c_sp c_nu c_un c_sf c_st c_ll c_ln c_ip w_gr c_hs ∧ post w_gr)) args s 0 0 A) D s0 A 7 (mM ad c_pg c_bm c_tx c_ty c_ft c_fa c_sp c_nu c_un c_sf c_st c_ll c_ln c_ip c_gr c_hs) 0 0 [some (yr (some (ad 0))), none, none, some (yi v3), some (yi v4), none, none] 154 []) : ∀ (c_pg : Nat → Int32) (c_gr : Nat → Int32) (v3 : Int32) (v4 : Int32), wpX2_laysDistances_b229 post k141 k154 c_pg c_gr v3 v4 → Y p l e { frames := 4, cells := 0, slots := 0, locals := 128 } s m args below meth c (MQ below (yQv D s0 A (fun M1 => ∃ (w_gr : Nat → Int32), M1 = mM ad c_pg c_bm c_tx c_ty c_ft c_fa c_sp c_nu c_un c_sf c_st c_ll c_ln c_ip w_gr c_hs ∧ post w_gr)) args s 0 0 A) D s0 A 7 (mM ad c_pg c_bm c_tx c_ty c_ft c_fa c_sp c_nu c_un c_sf c_st c_ll c_ln c_ip c_gr c_hs) 0 0 [some (yr (some (ad 0))), none, none, some (yi v3), some (yi v4), none, none] 229 [] := by
  intro c_pg c_gr v3 v4 h
  rw [wpX2_laysDistances_b229] at h
  replace h := h _ rfl
  refine y_iinc C 4 _ rfl (y_inc1 _) (by decide) dX2_laysDistances_229 ?_
  refine y_goto C 154 dX2_laysDistances_232 (by decide) ?_
  refine y_to C _ ?_ (hk154 _ _ _ _ h)
  exact (And.intro rfl (And.intro rfl (And.intro rfl trivial)))
def wpX2_laysDistances_b154 (post : (Nat → Int32) → Prop) (k141 : (Nat → Int32) → (Nat → Int32) → Int32 → Prop) : Nat → (Nat → Int32) → (Nat → Int32) → Int32 → Int32 → Prop
  | 0, _, _, _, _ => False
  | nn + 1, c_pg, c_gr, v3, v4 => ((144 ≤ v4 → ∀ x1 : Int32, x1 = v3 + 1 → k141 c_pg c_gr x1) ∧ (¬ 144 ≤ v4 → vp_in (((v4 / 12) * 12) + v3) 144 ∧ ∀ x2 : Int32, x2 = (c_gr (Int32.toNatClampNeg (((v4 / 12) * 12) + v3))) → vp_in ((12 * v3) + (v4 - v4 / 12 * 12)) 144 ∧ ∀ x3 : Int32, x3 = (c_gr (Int32.toNatClampNeg ((12 * v3) + (v4 - v4 / 12 * 12)))) → ((x2 = 1000000 → wpX2_laysDistances_b229 post k141 (fun c_pg c_gr v3 v4 => wpX2_laysDistances_b154 post k141 nn c_pg c_gr v3 v4) c_pg c_gr v3 v4) ∧ (¬ x2 = 1000000 → ((x3 = 1000000 → wpX2_laysDistances_b229 post k141 (fun c_pg c_gr v3 v4 => wpX2_laysDistances_b154 post k141 nn c_pg c_gr v3 v4) c_pg c_gr v3 v4) ∧ (¬ x3 = 1000000 → wpX2_bounds c_gr (v4 / 12) (v4 - v4 / 12 * 12) (x2 + x3) (fun w_gr5 => wpX2_laysDistances_b229 post k141 (fun c_pg c_gr v3 v4 => wpX2_laysDistances_b154 post k141 nn c_pg c_gr v3 v4) c_pg w_gr5 v3 v4)))))))
theorem okX2_laysDistances_b154 (C : yC p { frames := 4, cells := 0, slots := 0, locals := 128 } s m args meth c cX2_laysDistances 7 RX2 D s0 a0 A) (hB : yB D s0 a0) (hd : yAd ad) (hr : meth.sig.returnType = none) {post : (Nat → Int32) → Prop} {k141 : (Nat → Int32) → (Nat → Int32) → Int32 → Prop} (hk141 : ∀ (c_pg : Nat → Int32) (c_gr : Nat → Int32) (v3 : Int32), k141 c_pg c_gr v3 → Y p l e { frames := 4, cells := 0, slots := 0, locals := 128 } s m args below meth c (MQ below (yQv D s0 A (fun M1 => ∃ (w_gr : Nat → Int32), M1 = mM ad c_pg c_bm c_tx c_ty c_ft c_fa c_sp c_nu c_un c_sf c_st c_ll c_ln c_ip w_gr c_hs ∧ post w_gr)) args s 0 0 A) D s0 A 7 (mM ad c_pg c_bm c_tx c_ty c_ft c_fa c_sp c_nu c_un c_sf c_st c_ll c_ln c_ip c_gr c_hs) 0 0 [some (yr (some (ad 0))), none, none, some (yi v3), none, none, none] 141 []) : ∀ (nn : Nat) (c_pg : Nat → Int32) (c_gr : Nat → Int32) (v3 : Int32) (v4 : Int32), wpX2_laysDistances_b154 post k141 nn c_pg c_gr v3 v4 → Y p l e { frames := 4, cells := 0, slots := 0, locals := 128 } s m args below meth c (MQ below (yQv D s0 A (fun M1 => ∃ (w_gr : Nat → Int32), M1 = mM ad c_pg c_bm c_tx c_ty c_ft c_fa c_sp c_nu c_un c_sf c_st c_ll c_ln c_ip w_gr c_hs ∧ post w_gr)) args s 0 0 A) D s0 A 7 (mM ad c_pg c_bm c_tx c_ty c_ft c_fa c_sp c_nu c_un c_sf c_st c_ll c_ln c_ip c_gr c_hs) 0 0 [some (yr (some (ad 0))), none, none, some (yi v3), some (yi v4), none, none] 154 [] := by
  intro nn
  induction nn with
  | zero => intro c_pg c_gr v3 v4 h; exact absurd h (by rw [wpX2_laysDistances_b154]; exact id)
  | succ nn ih =>
    intro c_pg c_gr v3 v4 h
    rw [wpX2_laysDistances_b154] at h
    refine y_iload C 4 rfl dX2_laysDistances_154 ?_
    refine y_sipush C 144 dX2_laysDistances_156 y_s144 ?_
    refine y_icmp_ge C 235 dX2_laysDistances_159 (by decide) (fun c9 => ?_) (fun c9 => ?_)
    · replace h := h.1 c9
      replace h := h _ rfl
      refine y_iinc C 3 _ rfl (y_inc1 _) (by decide) dX2_laysDistances_235 ?_
      refine y_goto C 141 dX2_laysDistances_238 (by decide) ?_
      refine y_to C _ ?_ (hk141 _ _ _ h)
      exact (And.intro rfl (And.intro rfl trivial))
    · replace h := h.2 c9
      refine y_aload_n C 0 rfl rfl dX2_laysDistances_162 ?_
      refine y_get (ci := 2) (k := 14) C in_X2 rfl (by decide) q1183 (fun _ h => h) mM_0 rfl dX2_laysDistances_163 ?_
      refine y_iload C 4 rfl dX2_laysDistances_166 ?_
      refine y_bipush C 12 dX2_laysDistances_168 y_b12 ?_
      refine y_idiv C (by decide) dX2_laysDistances_170 ?_
      refine y_bipush C 12 dX2_laysDistances_171 y_b12 ?_
      refine y_imul C dX2_laysDistances_173 ?_
      refine y_iload_n C 3 rfl rfl dX2_laysDistances_174 ?_
      refine y_iadd C dX2_laysDistances_175 ?_
      obtain ⟨i9, h⟩ := h
      refine y_iald C (mM_9 hd) i9 dX2_laysDistances_176 ?_
      replace h := h _ rfl
      refine y_istore C 5 (by decide) dX2_laysDistances_177 ?_
      refine y_aload_n C 0 rfl rfl dX2_laysDistances_179 ?_
      refine y_get (ci := 2) (k := 14) C in_X2 rfl (by decide) q1183 (fun _ h => h) mM_0 rfl dX2_laysDistances_180 ?_
      refine y_bipush C 12 dX2_laysDistances_183 y_b12 ?_
      refine y_iload_n C 3 rfl rfl dX2_laysDistances_185 ?_
      refine y_imul C dX2_laysDistances_186 ?_
      refine y_iload C 4 rfl dX2_laysDistances_187 ?_
      refine y_bipush C 12 dX2_laysDistances_189 y_b12 ?_
      refine y_irem C (by decide) dX2_laysDistances_191 ?_
      refine y_iadd C dX2_laysDistances_192 ?_
      obtain ⟨i9, h⟩ := h
      refine y_iald C (mM_9 hd) i9 dX2_laysDistances_193 ?_
      replace h := h _ rfl
      refine y_istore C 6 (by decide) dX2_laysDistances_194 ?_
      refine y_iload C 5 rfl dX2_laysDistances_196 ?_
      refine y_ldc C 1000000 q1382 dX2_laysDistances_198 ?_
      refine y_icmp_eq C 229 dX2_laysDistances_200 (by decide) (fun c9 => ?_) (fun c9 => ?_)
      · replace h := h.1 c9
        refine y_to C _ ?_ (okX2_laysDistances_b229 C hB hd hr hk141 ih _ _ _ _ h)
        exact (And.intro rfl (And.intro rfl (And.intro rfl trivial)))
      · replace h := h.2 c9
        refine y_iload C 6 rfl dX2_laysDistances_203 ?_
        refine y_ldc C 1000000 q1382 dX2_laysDistances_205 ?_
        refine y_icmp_eq C 229 dX2_laysDistances_207 (by decide) (fun c9 => ?_) (fun c9 => ?_)
        · replace h := h.1 c9
          refine y_to C _ ?_ (okX2_laysDistances_b229 C hB hd hr hk141 ih _ _ _ _ h)
          exact (And.intro rfl (And.intro rfl (And.intro rfl trivial)))
        · replace h := h.2 c9
          refine y_aload_n C 0 rfl rfl dX2_laysDistances_210 ?_
          refine y_iload C 4 rfl dX2_laysDistances_211 ?_
          refine y_bipush C 12 dX2_laysDistances_213 y_b12 ?_
          refine y_idiv C (by decide) dX2_laysDistances_215 ?_
          refine y_iload C 4 rfl dX2_laysDistances_216 ?_
          refine y_bipush C 12 dX2_laysDistances_218 y_b12 ?_
          refine y_irem C (by decide) dX2_laysDistances_220 ?_
          refine y_iload C 5 rfl dX2_laysDistances_221 ?_
          refine y_iload C 6 rfl dX2_laysDistances_223 ?_
          refine y_iadd C dX2_laysDistances_225 ?_
          refine y_callVv0 C (metX2_bounds hd hB h) (cwV 3 C.hts (lw_V q1395 q1397 qs50 q91 q1398) rfl rfl rfl kdX2_bounds ⟨Nat.le_of_ble_eq_true rfl, Nat.le_of_ble_eq_true rfl⟩) mM_0 rfl rfl rfl (Nat.le_of_ble_eq_true rfl) dX2_laysDistances_226 (fun M1 hp => ?_)
          clear h
          obtain ⟨w_gr5, rfl, h⟩ := hp
          refine y_to C _ ?_ (okX2_laysDistances_b229 C hB hd hr hk141 ih _ _ _ _ h)
          exact (And.intro rfl (And.intro rfl (And.intro rfl trivial)))
def wpX2_laysDistances_b141 (post : (Nat → Int32) → Prop) : Nat → (Nat → Int32) → (Nat → Int32) → Int32 → Prop
  | 0, _, _, _ => False
  | nn + 1, c_pg, c_gr, v3 => vp_in 0 1120 ∧ (((c_pg (Int32.toNatClampNeg 0)) ≤ v3 → post c_gr) ∧ (¬ (c_pg (Int32.toNatClampNeg 0)) ≤ v3 → ∃ nf9 : Nat, wpX2_laysDistances_b154 post (fun c_pg c_gr v3 => wpX2_laysDistances_b141 post nn c_pg c_gr v3) nf9 c_pg c_gr v3 0))
theorem okX2_laysDistances_b141 (C : yC p { frames := 4, cells := 0, slots := 0, locals := 128 } s m args meth c cX2_laysDistances 7 RX2 D s0 a0 A) (hB : yB D s0 a0) (hd : yAd ad) (hr : meth.sig.returnType = none) {post : (Nat → Int32) → Prop}  : ∀ (nn : Nat) (c_pg : Nat → Int32) (c_gr : Nat → Int32) (v3 : Int32), wpX2_laysDistances_b141 post nn c_pg c_gr v3 → Y p l e { frames := 4, cells := 0, slots := 0, locals := 128 } s m args below meth c (MQ below (yQv D s0 A (fun M1 => ∃ (w_gr : Nat → Int32), M1 = mM ad c_pg c_bm c_tx c_ty c_ft c_fa c_sp c_nu c_un c_sf c_st c_ll c_ln c_ip w_gr c_hs ∧ post w_gr)) args s 0 0 A) D s0 A 7 (mM ad c_pg c_bm c_tx c_ty c_ft c_fa c_sp c_nu c_un c_sf c_st c_ll c_ln c_ip c_gr c_hs) 0 0 [some (yr (some (ad 0))), none, none, some (yi v3), none, none, none] 141 [] := by
  intro nn
  induction nn with
  | zero => intro c_pg c_gr v3 h; exact absurd h (by rw [wpX2_laysDistances_b141]; exact id)
  | succ nn ih =>
    intro c_pg c_gr v3 h
    rw [wpX2_laysDistances_b141] at h
    refine y_iload_n C 3 rfl rfl dX2_laysDistances_141 ?_
    refine y_aload_n C 0 rfl rfl dX2_laysDistances_142 ?_
    refine y_get (ci := 2) (k := 0) C in_X2 rfl (by decide) q1169 (fun _ h => h) mM_0 rfl dX2_laysDistances_143 ?_
    refine y_iconst C 0 dX2_laysDistances_146 lit0 ?_
    obtain ⟨i9, h⟩ := h
    refine y_iald C (mM_1 hd) i9 dX2_laysDistances_147 ?_
    refine y_icmp_ge C 241 dX2_laysDistances_148 (by decide) (fun c9 => ?_) (fun c9 => ?_)
    · replace h := h.1 c9
      exact y_vret C hr rfl rfl ⟨_, rfl, h⟩ dX2_laysDistances_241
    · replace h := h.2 c9
      refine y_iconst C 0 dX2_laysDistances_151 lit0 ?_
      refine y_istore C 4 (by decide) dX2_laysDistances_152 ?_
      obtain ⟨nf9, h⟩ := h
      refine y_to C _ ?_ (okX2_laysDistances_b154 C hB hd hr ih nf9 _ _ _ _ h)
      exact (And.intro rfl (And.intro rfl (And.intro rfl trivial)))
def wpX2_laysDistances_b133 (post : (Nat → Int32) → Prop) (k40 : (Nat → Int32) → (Nat → Int32) → Int32 → Int32 → Int32 → Prop) (c_pg : Nat → Int32) (c_gr : Nat → Int32) (v1 : Int32) (v2 : Int32) (v3 : Int32) : Prop := ∀ x6 : Int32, x6 = v3 + 1 → k40 c_pg c_gr v1 v2 x6
theorem okX2_laysDistances_b133 (C : yC p { frames := 4, cells := 0, slots := 0, locals := 128 } s m args meth c cX2_laysDistances 7 RX2 D s0 a0 A) (hB : yB D s0 a0) (hd : yAd ad) (hr : meth.sig.returnType = none) {post : (Nat → Int32) → Prop} {k40 : (Nat → Int32) → (Nat → Int32) → Int32 → Int32 → Int32 → Prop} (hk40 : ∀ (c_pg : Nat → Int32) (c_gr : Nat → Int32) (v1 : Int32) (v2 : Int32) (v3 : Int32), k40 c_pg c_gr v1 v2 v3 → Y p l e { frames := 4, cells := 0, slots := 0, locals := 128 } s m args below meth c (MQ below (yQv D s0 A (fun M1 => ∃ (w_gr : Nat → Int32), M1 = mM ad c_pg c_bm c_tx c_ty c_ft c_fa c_sp c_nu c_un c_sf c_st c_ll c_ln c_ip w_gr c_hs ∧ post w_gr)) args s 0 0 A) D s0 A 7 (mM ad c_pg c_bm c_tx c_ty c_ft c_fa c_sp c_nu c_un c_sf c_st c_ll c_ln c_ip c_gr c_hs) 0 0 [some (yr (some (ad 0))), some (yi v1), some (yi v2), some (yi v3), none, none, none] 40 []) : ∀ (c_pg : Nat → Int32) (c_gr : Nat → Int32) (v1 : Int32) (v2 : Int32) (v3 : Int32), wpX2_laysDistances_b133 post k40 c_pg c_gr v1 v2 v3 → Y p l e { frames := 4, cells := 0, slots := 0, locals := 128 } s m args below meth c (MQ below (yQv D s0 A (fun M1 => ∃ (w_gr : Nat → Int32), M1 = mM ad c_pg c_bm c_tx c_ty c_ft c_fa c_sp c_nu c_un c_sf c_st c_ll c_ln c_ip w_gr c_hs ∧ post w_gr)) args s 0 0 A) D s0 A 7 (mM ad c_pg c_bm c_tx c_ty c_ft c_fa c_sp c_nu c_un c_sf c_st c_ll c_ln c_ip c_gr c_hs) 0 0 [some (yr (some (ad 0))), some (yi v1), some (yi v2), some (yi v3), none, none, none] 133 [] := by
  intro c_pg c_gr v1 v2 v3 h
  rw [wpX2_laysDistances_b133] at h
  replace h := h _ rfl
  refine y_iinc C 3 _ rfl (y_inc1 _) (by decide) dX2_laysDistances_133 ?_
  refine y_goto C 40 dX2_laysDistances_136 (by decide) ?_
  refine y_to C _ ?_ (hk40 _ _ _ _ _ h)
  exact (And.intro rfl (And.intro rfl (And.intro rfl (And.intro rfl trivial))))
def wpX2_laysDistances_b124 (post : (Nat → Int32) → Prop) (k40 : (Nat → Int32) → (Nat → Int32) → Int32 → Int32 → Int32 → Prop) (c_pg : Nat → Int32) (c_gr : Nat → Int32) (v1 : Int32) (v2 : Int32) (v3 : Int32) (u1 : Int32) (u2 : Int32) (u3 : Int32) : Prop := wpX2_value c_pg v3 (fun r15 => wpX2_bounds c_gr u1 u2 (u3 - r15) (fun w_gr16 => wpX2_laysDistances_b133 post k40 c_pg w_gr16 v1 v2 v3))
theorem okX2_laysDistances_b124 (C : yC p { frames := 4, cells := 0, slots := 0, locals := 128 } s m args meth c cX2_laysDistances 7 RX2 D s0 a0 A) (hB : yB D s0 a0) (hd : yAd ad) (hr : meth.sig.returnType = none) {post : (Nat → Int32) → Prop} {k40 : (Nat → Int32) → (Nat → Int32) → Int32 → Int32 → Int32 → Prop} (hk40 : ∀ (c_pg : Nat → Int32) (c_gr : Nat → Int32) (v1 : Int32) (v2 : Int32) (v3 : Int32), k40 c_pg c_gr v1 v2 v3 → Y p l e { frames := 4, cells := 0, slots := 0, locals := 128 } s m args below meth c (MQ below (yQv D s0 A (fun M1 => ∃ (w_gr : Nat → Int32), M1 = mM ad c_pg c_bm c_tx c_ty c_ft c_fa c_sp c_nu c_un c_sf c_st c_ll c_ln c_ip w_gr c_hs ∧ post w_gr)) args s 0 0 A) D s0 A 7 (mM ad c_pg c_bm c_tx c_ty c_ft c_fa c_sp c_nu c_un c_sf c_st c_ll c_ln c_ip c_gr c_hs) 0 0 [some (yr (some (ad 0))), some (yi v1), some (yi v2), some (yi v3), none, none, none] 40 []) : ∀ (c_pg : Nat → Int32) (c_gr : Nat → Int32) (v1 : Int32) (v2 : Int32) (v3 : Int32) (u1 : Int32) (u2 : Int32) (u3 : Int32), wpX2_laysDistances_b124 post k40 c_pg c_gr v1 v2 v3 u1 u2 u3 → Y p l e { frames := 4, cells := 0, slots := 0, locals := 128 } s m args below meth c (MQ below (yQv D s0 A (fun M1 => ∃ (w_gr : Nat → Int32), M1 = mM ad c_pg c_bm c_tx c_ty c_ft c_fa c_sp c_nu c_un c_sf c_st c_ll c_ln c_ip w_gr c_hs ∧ post w_gr)) args s 0 0 A) D s0 A 7 (mM ad c_pg c_bm c_tx c_ty c_ft c_fa c_sp c_nu c_un c_sf c_st c_ll c_ln c_ip c_gr c_hs) 0 0 [some (yr (some (ad 0))), some (yi v1), some (yi v2), some (yi v3), none, none, none] 124 [yi u3, yi u2, yi u1, yr (some (ad 0))] := by
  intro c_pg c_gr v1 v2 v3 u1 u2 u3 h
  rw [wpX2_laysDistances_b124] at h
  refine y_aload_n C 0 rfl rfl dX2_laysDistances_124 ?_
  refine y_iload_n C 3 rfl rfl dX2_laysDistances_125 ?_
  refine y_callVi0 C (metX2_value hd hB h) (cwV 1 C.hts (lw_V q1383 q1385 qs47 q91 q1386) rfl rfl rfl kdX2_value ⟨Nat.le_of_ble_eq_true rfl, Nat.le_of_ble_eq_true rfl⟩) mM_0 rfl rfl rfl (Nat.le_of_ble_eq_true rfl) dX2_laysDistances_126 (fun r15 M1 hp => ?_)
  clear h
  obtain ⟨rfl, h⟩ := hp
  refine y_isub C dX2_laysDistances_129 ?_
  refine y_callVv0 C (metX2_bounds hd hB h) (cwV 3 C.hts (lw_V q1395 q1397 qs50 q91 q1398) rfl rfl rfl kdX2_bounds ⟨Nat.le_of_ble_eq_true rfl, Nat.le_of_ble_eq_true rfl⟩) mM_0 rfl rfl rfl (Nat.le_of_ble_eq_true rfl) dX2_laysDistances_130 (fun M1 hp => ?_)
  clear h
  obtain ⟨w_gr16, rfl, h⟩ := hp
  refine y_to C _ ?_ (okX2_laysDistances_b133 C hB hd hr hk40 _ _ _ _ _ h)
  exact (And.intro rfl (And.intro rfl (And.intro rfl (And.intro rfl trivial))))
def wpX2_laysDistances_b92 (post : (Nat → Int32) → Prop) (k40 : (Nat → Int32) → (Nat → Int32) → Int32 → Int32 → Int32 → Prop) (c_pg : Nat → Int32) (c_gr : Nat → Int32) (v1 : Int32) (v2 : Int32) (v3 : Int32) (u1 : Int32) (u2 : Int32) (u3 : Int32) (u4 : Int32) : Prop := wpX2_bounds c_gr u1 u2 (u3 + u4) (fun w_gr11 => wpX2_of c_pg v3 1 (fun r12 => wpX2_of c_pg v3 0 (fun r13 => ((¬ v3 = v2 → wpX2_of c_pg v3 2 (fun r14 => wpX2_laysDistances_b124 post k40 c_pg w_gr11 v1 v2 v3 r12 r13 r14)) ∧ (v3 = v2 → wpX2_laysDistances_b124 post k40 c_pg w_gr11 v1 v2 v3 r12 r13 0)))))
theorem okX2_laysDistances_b92 (C : yC p { frames := 4, cells := 0, slots := 0, locals := 128 } s m args meth c cX2_laysDistances 7 RX2 D s0 a0 A) (hB : yB D s0 a0) (hd : yAd ad) (hr : meth.sig.returnType = none) {post : (Nat → Int32) → Prop} {k40 : (Nat → Int32) → (Nat → Int32) → Int32 → Int32 → Int32 → Prop} (hk40 : ∀ (c_pg : Nat → Int32) (c_gr : Nat → Int32) (v1 : Int32) (v2 : Int32) (v3 : Int32), k40 c_pg c_gr v1 v2 v3 → Y p l e { frames := 4, cells := 0, slots := 0, locals := 128 } s m args below meth c (MQ below (yQv D s0 A (fun M1 => ∃ (w_gr : Nat → Int32), M1 = mM ad c_pg c_bm c_tx c_ty c_ft c_fa c_sp c_nu c_un c_sf c_st c_ll c_ln c_ip w_gr c_hs ∧ post w_gr)) args s 0 0 A) D s0 A 7 (mM ad c_pg c_bm c_tx c_ty c_ft c_fa c_sp c_nu c_un c_sf c_st c_ll c_ln c_ip c_gr c_hs) 0 0 [some (yr (some (ad 0))), some (yi v1), some (yi v2), some (yi v3), none, none, none] 40 []) : ∀ (c_pg : Nat → Int32) (c_gr : Nat → Int32) (v1 : Int32) (v2 : Int32) (v3 : Int32) (u1 : Int32) (u2 : Int32) (u3 : Int32) (u4 : Int32), wpX2_laysDistances_b92 post k40 c_pg c_gr v1 v2 v3 u1 u2 u3 u4 → Y p l e { frames := 4, cells := 0, slots := 0, locals := 128 } s m args below meth c (MQ below (yQv D s0 A (fun M1 => ∃ (w_gr : Nat → Int32), M1 = mM ad c_pg c_bm c_tx c_ty c_ft c_fa c_sp c_nu c_un c_sf c_st c_ll c_ln c_ip w_gr c_hs ∧ post w_gr)) args s 0 0 A) D s0 A 7 (mM ad c_pg c_bm c_tx c_ty c_ft c_fa c_sp c_nu c_un c_sf c_st c_ll c_ln c_ip c_gr c_hs) 0 0 [some (yr (some (ad 0))), some (yi v1), some (yi v2), some (yi v3), none, none, none] 92 [yi u4, yi u3, yi u2, yi u1, yr (some (ad 0))] := by
  intro c_pg c_gr v1 v2 v3 u1 u2 u3 u4 h
  rw [wpX2_laysDistances_b92] at h
  refine y_iadd C dX2_laysDistances_92 ?_
  refine y_callVv0 C (metX2_bounds hd hB h) (cwV 3 C.hts (lw_V q1395 q1397 qs50 q91 q1398) rfl rfl rfl kdX2_bounds ⟨Nat.le_of_ble_eq_true rfl, Nat.le_of_ble_eq_true rfl⟩) mM_0 rfl rfl rfl (Nat.le_of_ble_eq_true rfl) dX2_laysDistances_93 (fun M1 hp => ?_)
  clear h
  obtain ⟨w_gr11, rfl, h⟩ := hp
  refine y_aload_n C 0 rfl rfl dX2_laysDistances_96 ?_
  refine y_aload_n C 0 rfl rfl dX2_laysDistances_97 ?_
  refine y_iload_n C 3 rfl rfl dX2_laysDistances_98 ?_
  refine y_iconst C 1 dX2_laysDistances_99 lit1 ?_
  refine y_callVi0 C (metX2_of hd hB h) (cwV 2 C.hts (lw_V q1250 q1252 qs28 q91 q1253) rfl rfl rfl kdX2_of ⟨Nat.le_of_ble_eq_true rfl, Nat.le_of_ble_eq_true rfl⟩) mM_0 rfl rfl rfl (Nat.le_of_ble_eq_true rfl) dX2_laysDistances_100 (fun r12 M1 hp => ?_)
  clear h
  obtain ⟨rfl, h⟩ := hp
  refine y_aload_n C 0 rfl rfl dX2_laysDistances_103 ?_
  refine y_iload_n C 3 rfl rfl dX2_laysDistances_104 ?_
  refine y_iconst C 0 dX2_laysDistances_105 lit0 ?_
  refine y_callVi0 C (metX2_of hd hB h) (cwV 2 C.hts (lw_V q1250 q1252 qs28 q91 q1253) rfl rfl rfl kdX2_of ⟨Nat.le_of_ble_eq_true rfl, Nat.le_of_ble_eq_true rfl⟩) mM_0 rfl rfl rfl (Nat.le_of_ble_eq_true rfl) dX2_laysDistances_106 (fun r13 M1 hp => ?_)
  clear h
  obtain ⟨rfl, h⟩ := hp
  refine y_iload_n C 3 rfl rfl dX2_laysDistances_109 ?_
  refine y_iload_n C 2 rfl rfl dX2_laysDistances_110 ?_
  refine y_icmp_ne C 118 dX2_laysDistances_111 (by decide) (fun c9 => ?_) (fun c9 => ?_)
  · replace h := h.1 c9
    refine y_aload_n C 0 rfl rfl dX2_laysDistances_118 ?_
    refine y_iload_n C 3 rfl rfl dX2_laysDistances_119 ?_
    refine y_iconst C 2 dX2_laysDistances_120 lit2 ?_
    refine y_callVi0 C (metX2_of hd hB h) (cwV 2 C.hts (lw_V q1250 q1252 qs28 q91 q1253) rfl rfl rfl kdX2_of ⟨Nat.le_of_ble_eq_true rfl, Nat.le_of_ble_eq_true rfl⟩) mM_0 rfl rfl rfl (Nat.le_of_ble_eq_true rfl) dX2_laysDistances_121 (fun r14 M1 hp => ?_)
    clear h
    obtain ⟨rfl, h⟩ := hp
    refine y_to C _ ?_ (okX2_laysDistances_b124 C hB hd hr hk40 _ _ _ _ _ _ _ _ h)
    exact (And.intro rfl (And.intro rfl (And.intro rfl (And.intro rfl trivial))))
  · replace h := h.2 c9
    refine y_iconst C 0 dX2_laysDistances_114 lit0 ?_
    refine y_goto C 124 dX2_laysDistances_115 (by decide) ?_
    refine y_to C _ ?_ (okX2_laysDistances_b124 C hB hd hr hk40 _ _ _ _ _ _ _ _ h)
    exact (And.intro rfl (And.intro rfl (And.intro rfl (And.intro rfl trivial))))
def wpX2_laysDistances_b40 (post : (Nat → Int32) → Prop) : Nat → (Nat → Int32) → (Nat → Int32) → Int32 → Int32 → Int32 → Prop
  | 0, _, _, _, _, _ => False
  | nn + 1, c_pg, c_gr, v1, v2, v3 => vp_in 13 1120 ∧ (((c_pg (Int32.toNatClampNeg 13)) ≤ v3 → ∃ nf9 : Nat, wpX2_laysDistances_b141 post nf9 c_pg c_gr 0) ∧ (¬ (c_pg (Int32.toNatClampNeg 13)) ≤ v3 → ((¬ ((v1 >>> (v3 &&& 31)) &&& 1) = 0 → wpX2_laysDistances_b133 post (fun c_pg c_gr v1 v2 v3 => wpX2_laysDistances_b40 post nn c_pg c_gr v1 v2 v3) c_pg c_gr v1 v2 v3) ∧ (((v1 >>> (v3 &&& 31)) &&& 1) = 0 → wpX2_of c_pg v3 0 (fun r7 => wpX2_of c_pg v3 1 (fun r8 => wpX2_value c_pg v3 (fun r9 => ((¬ v3 = v2 → wpX2_of c_pg v3 3 (fun r10 => wpX2_laysDistances_b92 post (fun c_pg c_gr v1 v2 v3 => wpX2_laysDistances_b40 post nn c_pg c_gr v1 v2 v3) c_pg c_gr v1 v2 v3 r7 r8 r9 r10)) ∧ (v3 = v2 → wpX2_laysDistances_b92 post (fun c_pg c_gr v1 v2 v3 => wpX2_laysDistances_b40 post nn c_pg c_gr v1 v2 v3) c_pg c_gr v1 v2 v3 r7 r8 r9 0)))))))))
theorem okX2_laysDistances_b40 (C : yC p { frames := 4, cells := 0, slots := 0, locals := 128 } s m args meth c cX2_laysDistances 7 RX2 D s0 a0 A) (hB : yB D s0 a0) (hd : yAd ad) (hr : meth.sig.returnType = none) {post : (Nat → Int32) → Prop}  : ∀ (nn : Nat) (c_pg : Nat → Int32) (c_gr : Nat → Int32) (v1 : Int32) (v2 : Int32) (v3 : Int32), wpX2_laysDistances_b40 post nn c_pg c_gr v1 v2 v3 → Y p l e { frames := 4, cells := 0, slots := 0, locals := 128 } s m args below meth c (MQ below (yQv D s0 A (fun M1 => ∃ (w_gr : Nat → Int32), M1 = mM ad c_pg c_bm c_tx c_ty c_ft c_fa c_sp c_nu c_un c_sf c_st c_ll c_ln c_ip w_gr c_hs ∧ post w_gr)) args s 0 0 A) D s0 A 7 (mM ad c_pg c_bm c_tx c_ty c_ft c_fa c_sp c_nu c_un c_sf c_st c_ll c_ln c_ip c_gr c_hs) 0 0 [some (yr (some (ad 0))), some (yi v1), some (yi v2), some (yi v3), none, none, none] 40 [] := by
  intro nn
  induction nn with
  | zero => intro c_pg c_gr v1 v2 v3 h; exact absurd h (by rw [wpX2_laysDistances_b40]; exact id)
  | succ nn ih =>
    intro c_pg c_gr v1 v2 v3 h
    rw [wpX2_laysDistances_b40] at h
    refine y_iload_n C 3 rfl rfl dX2_laysDistances_40 ?_
    refine y_aload_n C 0 rfl rfl dX2_laysDistances_41 ?_
    refine y_get (ci := 2) (k := 0) C in_X2 rfl (by decide) q1169 (fun _ h => h) mM_0 rfl dX2_laysDistances_42 ?_
    refine y_bipush C 13 dX2_laysDistances_45 y_b13 ?_
    obtain ⟨i9, h⟩ := h
    refine y_iald C (mM_1 hd) i9 dX2_laysDistances_47 ?_
    refine y_icmp_ge C 139 dX2_laysDistances_48 (by decide) (fun c9 => ?_) (fun c9 => ?_)
    · replace h := h.1 c9
      refine y_iconst C 0 dX2_laysDistances_139 lit0 ?_
      refine y_istore_n C 3 rfl (by decide) dX2_laysDistances_140 ?_
      obtain ⟨nf9, h⟩ := h
      refine y_to C _ ?_ (okX2_laysDistances_b141 C hB hd hr  nf9 _ _ _ h)
      exact (And.intro rfl (And.intro rfl trivial))
    · replace h := h.2 c9
      refine y_iload_n C 1 rfl rfl dX2_laysDistances_51 ?_
      refine y_iload_n C 3 rfl rfl dX2_laysDistances_52 ?_
      refine y_ishr C dX2_laysDistances_53 ?_
      refine y_iconst C 1 dX2_laysDistances_54 lit1 ?_
      refine y_iand C dX2_laysDistances_55 ?_
      refine y_if_ne C 133 dX2_laysDistances_56 (by decide) (fun c9 => ?_) (fun c9 => ?_)
      · replace h := h.1 c9
        refine y_to C _ ?_ (okX2_laysDistances_b133 C hB hd hr ih _ _ _ _ _ h)
        exact (And.intro rfl (And.intro rfl (And.intro rfl (And.intro rfl trivial))))
      · replace h := h.2 c9
        refine y_aload_n C 0 rfl rfl dX2_laysDistances_59 ?_
        refine y_aload_n C 0 rfl rfl dX2_laysDistances_60 ?_
        refine y_iload_n C 3 rfl rfl dX2_laysDistances_61 ?_
        refine y_iconst C 0 dX2_laysDistances_62 lit0 ?_
        refine y_callVi0 C (metX2_of hd hB h) (cwV 2 C.hts (lw_V q1250 q1252 qs28 q91 q1253) rfl rfl rfl kdX2_of ⟨Nat.le_of_ble_eq_true rfl, Nat.le_of_ble_eq_true rfl⟩) mM_0 rfl rfl rfl (Nat.le_of_ble_eq_true rfl) dX2_laysDistances_63 (fun r7 M1 hp => ?_)
        clear h
        obtain ⟨rfl, h⟩ := hp
        refine y_aload_n C 0 rfl rfl dX2_laysDistances_66 ?_
        refine y_iload_n C 3 rfl rfl dX2_laysDistances_67 ?_
        refine y_iconst C 1 dX2_laysDistances_68 lit1 ?_
        refine y_callVi0 C (metX2_of hd hB h) (cwV 2 C.hts (lw_V q1250 q1252 qs28 q91 q1253) rfl rfl rfl kdX2_of ⟨Nat.le_of_ble_eq_true rfl, Nat.le_of_ble_eq_true rfl⟩) mM_0 rfl rfl rfl (Nat.le_of_ble_eq_true rfl) dX2_laysDistances_69 (fun r8 M1 hp => ?_)
        clear h
        obtain ⟨rfl, h⟩ := hp
        refine y_aload_n C 0 rfl rfl dX2_laysDistances_72 ?_
        refine y_iload_n C 3 rfl rfl dX2_laysDistances_73 ?_
        refine y_callVi0 C (metX2_value hd hB h) (cwV 1 C.hts (lw_V q1383 q1385 qs47 q91 q1386) rfl rfl rfl kdX2_value ⟨Nat.le_of_ble_eq_true rfl, Nat.le_of_ble_eq_true rfl⟩) mM_0 rfl rfl rfl (Nat.le_of_ble_eq_true rfl) dX2_laysDistances_74 (fun r9 M1 hp => ?_)
        clear h
        obtain ⟨rfl, h⟩ := hp
        refine y_iload_n C 3 rfl rfl dX2_laysDistances_77 ?_
        refine y_iload_n C 2 rfl rfl dX2_laysDistances_78 ?_
        refine y_icmp_ne C 86 dX2_laysDistances_79 (by decide) (fun c9 => ?_) (fun c9 => ?_)
        · replace h := h.1 c9
          refine y_aload_n C 0 rfl rfl dX2_laysDistances_86 ?_
          refine y_iload_n C 3 rfl rfl dX2_laysDistances_87 ?_
          refine y_iconst C 3 dX2_laysDistances_88 lit3 ?_
          refine y_callVi0 C (metX2_of hd hB h) (cwV 2 C.hts (lw_V q1250 q1252 qs28 q91 q1253) rfl rfl rfl kdX2_of ⟨Nat.le_of_ble_eq_true rfl, Nat.le_of_ble_eq_true rfl⟩) mM_0 rfl rfl rfl (Nat.le_of_ble_eq_true rfl) dX2_laysDistances_89 (fun r10 M1 hp => ?_)
          clear h
          obtain ⟨rfl, h⟩ := hp
          refine y_to C _ ?_ (okX2_laysDistances_b92 C hB hd hr ih _ _ _ _ _ _ _ _ _ h)
          exact (And.intro rfl (And.intro rfl (And.intro rfl (And.intro rfl trivial))))
        · replace h := h.2 c9
          refine y_iconst C 0 dX2_laysDistances_82 lit0 ?_
          refine y_goto C 92 dX2_laysDistances_83 (by decide) ?_
          refine y_to C _ ?_ (okX2_laysDistances_b92 C hB hd hr ih _ _ _ _ _ _ _ _ _ h)
          exact (And.intro rfl (And.intro rfl (And.intro rfl (And.intro rfl trivial))))
def wpX2_laysDistances_b31 (post : (Nat → Int32) → Prop) (k2 : (Nat → Int32) → (Nat → Int32) → Int32 → Int32 → Int32 → Prop) (c_pg : Nat → Int32) (c_gr : Nat → Int32) (v1 : Int32) (v2 : Int32) (v3 : Int32) (u1 : Int32) (u2 : Int32) : Prop := vp_in u1 144 ∧ ∀ f17 : Nat → Int32, f17 = upd c_gr (Int32.toNatClampNeg u1) u2 → ∀ x18 : Int32, x18 = v3 + 1 → k2 c_pg f17 v1 v2 x18
theorem okX2_laysDistances_b31 (C : yC p { frames := 4, cells := 0, slots := 0, locals := 128 } s m args meth c cX2_laysDistances 7 RX2 D s0 a0 A) (hB : yB D s0 a0) (hd : yAd ad) (hr : meth.sig.returnType = none) {post : (Nat → Int32) → Prop} {k2 : (Nat → Int32) → (Nat → Int32) → Int32 → Int32 → Int32 → Prop} (hk2 : ∀ (c_pg : Nat → Int32) (c_gr : Nat → Int32) (v1 : Int32) (v2 : Int32) (v3 : Int32), k2 c_pg c_gr v1 v2 v3 → Y p l e { frames := 4, cells := 0, slots := 0, locals := 128 } s m args below meth c (MQ below (yQv D s0 A (fun M1 => ∃ (w_gr : Nat → Int32), M1 = mM ad c_pg c_bm c_tx c_ty c_ft c_fa c_sp c_nu c_un c_sf c_st c_ll c_ln c_ip w_gr c_hs ∧ post w_gr)) args s 0 0 A) D s0 A 7 (mM ad c_pg c_bm c_tx c_ty c_ft c_fa c_sp c_nu c_un c_sf c_st c_ll c_ln c_ip c_gr c_hs) 0 0 [some (yr (some (ad 0))), some (yi v1), some (yi v2), some (yi v3), none, none, none] 2 []) : ∀ (c_pg : Nat → Int32) (c_gr : Nat → Int32) (v1 : Int32) (v2 : Int32) (v3 : Int32) (u1 : Int32) (u2 : Int32), wpX2_laysDistances_b31 post k2 c_pg c_gr v1 v2 v3 u1 u2 → Y p l e { frames := 4, cells := 0, slots := 0, locals := 128 } s m args below meth c (MQ below (yQv D s0 A (fun M1 => ∃ (w_gr : Nat → Int32), M1 = mM ad c_pg c_bm c_tx c_ty c_ft c_fa c_sp c_nu c_un c_sf c_st c_ll c_ln c_ip w_gr c_hs ∧ post w_gr)) args s 0 0 A) D s0 A 7 (mM ad c_pg c_bm c_tx c_ty c_ft c_fa c_sp c_nu c_un c_sf c_st c_ll c_ln c_ip c_gr c_hs) 0 0 [some (yr (some (ad 0))), some (yi v1), some (yi v2), some (yi v3), none, none, none] 31 [yi u2, yi u1, yr (some (ad 9))] := by
  intro c_pg c_gr v1 v2 v3 u1 u2 h
  rw [wpX2_laysDistances_b31] at h
  obtain ⟨i9, h⟩ := h
  replace h := h _ rfl
  refine y_iast C (mM_9 hd) i9 (mU_gr hd _) dX2_laysDistances_31 ?_
  replace h := h _ rfl
  refine y_iinc C 3 _ rfl (y_inc1 _) (by decide) dX2_laysDistances_32 ?_
  refine y_goto C 2 dX2_laysDistances_35 (by decide) ?_
  refine y_to C _ ?_ (hk2 _ _ _ _ _ h)
  exact (And.intro rfl (And.intro rfl (And.intro rfl (And.intro rfl trivial))))
def wpX2_laysDistances_b2 (post : (Nat → Int32) → Prop) : Nat → (Nat → Int32) → (Nat → Int32) → Int32 → Int32 → Int32 → Prop
  | 0, _, _, _, _, _ => False
  | nn + 1, c_pg, c_gr, v1, v2, v3 => ((144 ≤ v3 → ∃ nf9 : Nat, wpX2_laysDistances_b40 post nf9 c_pg c_gr v1 v2 0) ∧ (¬ 144 ≤ v3 → ((¬ (v3 / 12) = (v3 - v3 / 12 * 12) → wpX2_laysDistances_b31 post (fun c_pg c_gr v1 v2 v3 => wpX2_laysDistances_b2 post nn c_pg c_gr v1 v2 v3) c_pg c_gr v1 v2 v3 v3 1000000) ∧ ((v3 / 12) = (v3 - v3 / 12 * 12) → wpX2_laysDistances_b31 post (fun c_pg c_gr v1 v2 v3 => wpX2_laysDistances_b2 post nn c_pg c_gr v1 v2 v3) c_pg c_gr v1 v2 v3 v3 0))))
theorem okX2_laysDistances_b2 (C : yC p { frames := 4, cells := 0, slots := 0, locals := 128 } s m args meth c cX2_laysDistances 7 RX2 D s0 a0 A) (hB : yB D s0 a0) (hd : yAd ad) (hr : meth.sig.returnType = none) {post : (Nat → Int32) → Prop}  : ∀ (nn : Nat) (c_pg : Nat → Int32) (c_gr : Nat → Int32) (v1 : Int32) (v2 : Int32) (v3 : Int32), wpX2_laysDistances_b2 post nn c_pg c_gr v1 v2 v3 → Y p l e { frames := 4, cells := 0, slots := 0, locals := 128 } s m args below meth c (MQ below (yQv D s0 A (fun M1 => ∃ (w_gr : Nat → Int32), M1 = mM ad c_pg c_bm c_tx c_ty c_ft c_fa c_sp c_nu c_un c_sf c_st c_ll c_ln c_ip w_gr c_hs ∧ post w_gr)) args s 0 0 A) D s0 A 7 (mM ad c_pg c_bm c_tx c_ty c_ft c_fa c_sp c_nu c_un c_sf c_st c_ll c_ln c_ip c_gr c_hs) 0 0 [some (yr (some (ad 0))), some (yi v1), some (yi v2), some (yi v3), none, none, none] 2 [] := by
  intro nn
  induction nn with
  | zero => intro c_pg c_gr v1 v2 v3 h; exact absurd h (by rw [wpX2_laysDistances_b2]; exact id)
  | succ nn ih =>
    intro c_pg c_gr v1 v2 v3 h
    rw [wpX2_laysDistances_b2] at h
    refine y_iload_n C 3 rfl rfl dX2_laysDistances_2 ?_
    refine y_sipush C 144 dX2_laysDistances_3 y_s144 ?_
    refine y_icmp_ge C 38 dX2_laysDistances_6 (by decide) (fun c9 => ?_) (fun c9 => ?_)
    · replace h := h.1 c9
      refine y_iconst C 0 dX2_laysDistances_38 lit0 ?_
      refine y_istore_n C 3 rfl (by decide) dX2_laysDistances_39 ?_
      obtain ⟨nf9, h⟩ := h
      refine y_to C _ ?_ (okX2_laysDistances_b40 C hB hd hr  nf9 _ _ _ _ _ h)
      exact (And.intro rfl (And.intro rfl (And.intro rfl (And.intro rfl trivial))))
    · replace h := h.2 c9
      refine y_aload_n C 0 rfl rfl dX2_laysDistances_9 ?_
      refine y_get (ci := 2) (k := 14) C in_X2 rfl (by decide) q1183 (fun _ h => h) mM_0 rfl dX2_laysDistances_10 ?_
      refine y_iload_n C 3 rfl rfl dX2_laysDistances_13 ?_
      refine y_iload_n C 3 rfl rfl dX2_laysDistances_14 ?_
      refine y_bipush C 12 dX2_laysDistances_15 y_b12 ?_
      refine y_idiv C (by decide) dX2_laysDistances_17 ?_
      refine y_iload_n C 3 rfl rfl dX2_laysDistances_18 ?_
      refine y_bipush C 12 dX2_laysDistances_19 y_b12 ?_
      refine y_irem C (by decide) dX2_laysDistances_21 ?_
      refine y_icmp_ne C 29 dX2_laysDistances_22 (by decide) (fun c9 => ?_) (fun c9 => ?_)
      · replace h := h.1 c9
        refine y_ldc C 1000000 q1382 dX2_laysDistances_29 ?_
        refine y_to C _ ?_ (okX2_laysDistances_b31 C hB hd hr ih _ _ _ _ _ _ _ h)
        exact (And.intro rfl (And.intro rfl (And.intro rfl (And.intro rfl trivial))))
      · replace h := h.2 c9
        refine y_iconst C 0 dX2_laysDistances_25 lit0 ?_
        refine y_goto C 31 dX2_laysDistances_26 (by decide) ?_
        refine y_to C _ ?_ (okX2_laysDistances_b31 C hB hd hr ih _ _ _ _ _ _ _ h)
        exact (And.intro rfl (And.intro rfl (And.intro rfl (And.intro rfl trivial))))
end sX2_laysDistances
def wpX2_laysDistances (c_pg : Nat → Int32) (c_gr : Nat → Int32) (a1 : Int32) (a2 : Int32) (post : (Nat → Int32) → Prop) : Prop := ∃ nf9 : Nat, wpX2_laysDistances_b2 post nf9 c_pg c_gr a1 a2 0
theorem metX2_laysDistances {l : Launch} {D : va_G} {s0 : State} {a0 : Array Value} {ad : Nat → Nat} (hd : yAd ad) (hB : yB D s0 a0) {c_pg : Nat → Int32} {c_bm : Int32} {c_tx : Nat → Int32} {c_ty : Int32} {c_ft : Int32} {c_fa : Int32} {c_sp : Int32} {c_nu : Int32} {c_un : Nat → Int32} {c_sf : Nat → Int32} {c_st : Nat → Int32} {c_ll : Nat → Int32} {c_ln : Nat → Int32} {c_ip : Nat → Int32} {c_gr : Nat → Int32} {c_hs : Int64} {a1 : Int32} {a2 : Int32} {post : (Nat → Int32) → Prop} (h : wpX2_laysDistances c_pg c_gr a1 a2 post) : yMv l yX2_laysDistances (ws_ yX2_laysDistances cX2_laysDistances 7 none) 4 128 0 0 D s0 [yr (some (ad 0)), yi a1, yi a2] (mM ad c_pg c_bm c_tx c_ty c_ft c_fa c_sp c_nu c_un c_sf c_st c_ll c_ln c_ip c_gr c_hs) (fun M1 => ∃ (w_gr : Nat → Int32), M1 = mM ad c_pg c_bm c_tx c_ty c_ft c_fa c_sp c_nu c_un c_sf c_st c_ll c_ln c_ip w_gr c_hs ∧ post w_gr) := by
  refine y_metv hB (by decide) rfl (Nat.le_of_ble_eq_true rfl) ?_
  intro p e s m below meth c A hr hnm C
  rw [wpX2_laysDistances] at h
  refine y_iconst C 0 dX2_laysDistances_0 lit0 ?_
  refine y_istore_n C 3 rfl (by decide) dX2_laysDistances_1 ?_
  obtain ⟨nf9, h⟩ := h
  refine y_to C _ ?_ (okX2_laysDistances_b2 C hB hd hr  nf9 _ _ _ _ _ h)
  exact (And.intro rfl (And.intro rfl (And.intro rfl (And.intro rfl trivial))))
theorem kdX2_laysDistances : yX2_laysDistances.cls = RX2 ∧ yX2_laysDistances.cls ≠ "java/lang/invoke/MethodHandle" ∧ yX2_laysDistances.cls ≠ "java/lang/invoke/VarHandle" ∧ (parseMethodDescriptor yX2_laysDistances.desc).map (fun d => d.parameters.length) = some 2 := by decide +kernel
def wpX2_areBound (c_gr : Nat → Int32) (a1 : Int32) (a2 : Int32) (post : Int32 → Prop) : Prop := vp_in ((12 * a1) + a2) 144 ∧ (((c_gr (Int32.toNatClampNeg ((12 * a1) + a2))) = 1000000 → post 0) ∧ (¬ (c_gr (Int32.toNatClampNeg ((12 * a1) + a2))) = 1000000 → post 1))
theorem metX2_areBound {l : Launch} {D : va_G} {s0 : State} {a0 : Array Value} {ad : Nat → Nat} (hd : yAd ad) (hB : yB D s0 a0) {c_pg : Nat → Int32} {c_bm : Int32} {c_tx : Nat → Int32} {c_ty : Int32} {c_ft : Int32} {c_fa : Int32} {c_sp : Int32} {c_nu : Int32} {c_un : Nat → Int32} {c_sf : Nat → Int32} {c_st : Nat → Int32} {c_ll : Nat → Int32} {c_ln : Nat → Int32} {c_ip : Nat → Int32} {c_gr : Nat → Int32} {c_hs : Int64} {a1 : Int32} {a2 : Int32} {post : Int32 → Prop} (h : wpX2_areBound c_gr a1 a2 post) : yMi l yX2_areBound (ws_ yX2_areBound cX2_areBound 3 (some .boolean)) 1 64 0 0 D s0 [yr (some (ad 0)), yi a1, yi a2] (mM ad c_pg c_bm c_tx c_ty c_ft c_fa c_sp c_nu c_un c_sf c_st c_ll c_ln c_ip c_gr c_hs) (fun r M1 => M1 = mM ad c_pg c_bm c_tx c_ty c_ft c_fa c_sp c_nu c_un c_sf c_st c_ll c_ln c_ip c_gr c_hs ∧ post r) := by
  refine y_meti hB (by decide) rfl (Nat.le_of_ble_eq_true rfl) ?_
  intro p e s m below meth c A hr hnm C
  rw [wpX2_areBound] at h
  refine y_aload_n C 0 rfl rfl dX2_areBound_0 ?_
  refine y_get (ci := 2) (k := 14) C in_X2 rfl (by decide) q1183 (fun _ h => h) mM_0 rfl dX2_areBound_1 ?_
  refine y_bipush C 12 dX2_areBound_4 y_b12 ?_
  refine y_iload_n C 1 rfl rfl dX2_areBound_6 ?_
  refine y_imul C dX2_areBound_7 ?_
  refine y_iload_n C 2 rfl rfl dX2_areBound_8 ?_
  refine y_iadd C dX2_areBound_9 ?_
  obtain ⟨i9, h⟩ := h
  refine y_iald C (mM_9 hd) i9 dX2_areBound_10 ?_
  refine y_ldc C 1000000 q1382 dX2_areBound_11 ?_
  refine y_icmp_eq C 20 dX2_areBound_13 (by decide) (fun c9 => ?_) (fun c9 => ?_)
  · replace h := h.1 c9
    refine y_iconst C 0 dX2_areBound_20 lit0 ?_
    exact y_iretz C hr rfl rfl (by decide) ⟨rfl, h⟩ dX2_areBound_21
  · replace h := h.2 c9
    refine y_iconst C 1 dX2_areBound_16 lit1 ?_
    refine y_goto C 21 dX2_areBound_17 (by decide) ?_
    exact y_iretz C hr rfl rfl (by decide) ⟨rfl, h⟩ dX2_areBound_21
theorem kdX2_areBound : yX2_areBound.cls = RX2 ∧ yX2_areBound.cls ≠ "java/lang/invoke/MethodHandle" ∧ yX2_areBound.cls ≠ "java/lang/invoke/VarHandle" ∧ (parseMethodDescriptor yX2_areBound.desc).map (fun d => d.parameters.length) = some 2 := by decide +kernel
section sX2_isFirst
variable {p : Program} {l : Launch} {e : Env} {s : State} {m : MethodId} {args : Array Value} {below : List Frame} {meth : Method} {c : Code} {D : va_G} {s0 : State} {a0 : Array Value} {A : Nat → Prop} {ad : Nat → Nat} {c_pg : Nat → Int32} {c_bm : Int32} {c_tx : Nat → Int32} {c_ty : Int32} {c_ft : Int32} {c_fa : Int32} {c_sp : Int32} {c_nu : Int32} {c_un : Nat → Int32} {c_sf : Nat → Int32} {c_st : Nat → Int32} {c_ll : Nat → Int32} {c_ln : Nat → Int32} {c_ip : Nat → Int32} {c_gr : Nat → Int32} {c_hs : Int64}
def wpX2_isFirst_b27 (post : Int32 → Prop) (k4 : (Nat → Int32) → Int32 → Int32 → Int32 → Prop) (c_gr : Nat → Int32) (v1 : Int32) (v3 : Int32) (u0 : Int32) : Prop := ∀ x1 : Int32, x1 = v3 + 1 → k4 c_gr v1 u0 x1
theorem okX2_isFirst_b27 (C : yC p { frames := 2, cells := 0, slots := 0, locals := 86 } s m args meth c cX2_isFirst 4 RX2 D s0 a0 A) (hB : yB D s0 a0) (hd : yAd ad) (hr : meth.sig.returnType = (some .boolean)) {post : Int32 → Prop} {k4 : (Nat → Int32) → Int32 → Int32 → Int32 → Prop} (hk4 : ∀ (c_gr : Nat → Int32) (v1 : Int32) (v2 : Int32) (v3 : Int32), k4 c_gr v1 v2 v3 → Y p l e { frames := 2, cells := 0, slots := 0, locals := 86 } s m args below meth c (MQ below (yQi D s0 A (fun r M1 => M1 = mM ad c_pg c_bm c_tx c_ty c_ft c_fa c_sp c_nu c_un c_sf c_st c_ll c_ln c_ip c_gr c_hs ∧ post r)) args s 0 0 A) D s0 A 4 (mM ad c_pg c_bm c_tx c_ty c_ft c_fa c_sp c_nu c_un c_sf c_st c_ll c_ln c_ip c_gr c_hs) 0 0 [some (yr (some (ad 0))), some (yi v1), some (yi v2), some (yi v3)] 4 []) : ∀ (c_gr : Nat → Int32) (v1 : Int32) (v3 : Int32) (u0 : Int32), wpX2_isFirst_b27 post k4 c_gr v1 v3 u0 → Y p l e { frames := 2, cells := 0, slots := 0, locals := 86 } s m args below meth c (MQ below (yQi D s0 A (fun r M1 => M1 = mM ad c_pg c_bm c_tx c_ty c_ft c_fa c_sp c_nu c_un c_sf c_st c_ll c_ln c_ip c_gr c_hs ∧ post r)) args s 0 0 A) D s0 A 4 (mM ad c_pg c_bm c_tx c_ty c_ft c_fa c_sp c_nu c_un c_sf c_st c_ll c_ln c_ip c_gr c_hs) 0 0 [some (yr (some (ad 0))), some (yi v1), none, some (yi v3)] 27 [yi u0] := by
  intro c_gr v1 v3 u0 h
  rw [wpX2_isFirst_b27] at h
  refine y_istore_n C 2 rfl (by decide) dX2_isFirst_27 ?_
  replace h := h _ rfl
  refine y_iinc C 3 _ rfl (y_inc1 _) (by decide) dX2_isFirst_28 ?_
  refine y_goto C 4 dX2_isFirst_31 (by decide) ?_
  refine y_to C _ ?_ (hk4 _ _ _ _ h)
  exact (And.intro rfl (And.intro rfl (And.intro rfl (And.intro rfl trivial))))
def wpX2_isFirst_b26 (post : Int32 → Prop) (k4 : (Nat → Int32) → Int32 → Int32 → Int32 → Prop) (c_gr : Nat → Int32) (v1 : Int32) (v3 : Int32) : Prop := wpX2_isFirst_b27 post k4 c_gr v1 v3 0
theorem okX2_isFirst_b26 (C : yC p { frames := 2, cells := 0, slots := 0, locals := 86 } s m args meth c cX2_isFirst 4 RX2 D s0 a0 A) (hB : yB D s0 a0) (hd : yAd ad) (hr : meth.sig.returnType = (some .boolean)) {post : Int32 → Prop} {k4 : (Nat → Int32) → Int32 → Int32 → Int32 → Prop} (hk4 : ∀ (c_gr : Nat → Int32) (v1 : Int32) (v2 : Int32) (v3 : Int32), k4 c_gr v1 v2 v3 → Y p l e { frames := 2, cells := 0, slots := 0, locals := 86 } s m args below meth c (MQ below (yQi D s0 A (fun r M1 => M1 = mM ad c_pg c_bm c_tx c_ty c_ft c_fa c_sp c_nu c_un c_sf c_st c_ll c_ln c_ip c_gr c_hs ∧ post r)) args s 0 0 A) D s0 A 4 (mM ad c_pg c_bm c_tx c_ty c_ft c_fa c_sp c_nu c_un c_sf c_st c_ll c_ln c_ip c_gr c_hs) 0 0 [some (yr (some (ad 0))), some (yi v1), some (yi v2), some (yi v3)] 4 []) : ∀ (c_gr : Nat → Int32) (v1 : Int32) (v3 : Int32), wpX2_isFirst_b26 post k4 c_gr v1 v3 → Y p l e { frames := 2, cells := 0, slots := 0, locals := 86 } s m args below meth c (MQ below (yQi D s0 A (fun r M1 => M1 = mM ad c_pg c_bm c_tx c_ty c_ft c_fa c_sp c_nu c_un c_sf c_st c_ll c_ln c_ip c_gr c_hs ∧ post r)) args s 0 0 A) D s0 A 4 (mM ad c_pg c_bm c_tx c_ty c_ft c_fa c_sp c_nu c_un c_sf c_st c_ll c_ln c_ip c_gr c_hs) 0 0 [some (yr (some (ad 0))), some (yi v1), none, some (yi v3)] 26 [] := by
  intro c_gr v1 v3 h
  rw [wpX2_isFirst_b26] at h
  refine y_iconst C 0 dX2_isFirst_26 lit0 ?_
  refine y_to C _ ?_ (okX2_isFirst_b27 C hB hd hr hk4 _ _ _ _ h)
  exact (And.intro rfl (And.intro rfl (And.intro rfl trivial)))
def wpX2_isFirst_b4 (post : Int32 → Prop) : Nat → (Nat → Int32) → Int32 → Int32 → Int32 → Prop
  | 0, _, _, _, _ => False
  | nn + 1, c_gr, v1, v2, v3 => ((v1 ≤ v3 → ((v2 = 0 ∨ v2 = 1) ∧ post v2)) ∧ (¬ v1 ≤ v3 → ((v2 = 0 → wpX2_isFirst_b26 post (fun c_gr v1 v2 v3 => wpX2_isFirst_b4 post nn c_gr v1 v2 v3) c_gr v1 v3) ∧ (¬ v2 = 0 → wpX2_areBound c_gr v3 v1 (fun r2 => ((¬ r2 = 0 → wpX2_isFirst_b26 post (fun c_gr v1 v2 v3 => wpX2_isFirst_b4 post nn c_gr v1 v2 v3) c_gr v1 v3) ∧ (r2 = 0 → wpX2_isFirst_b27 post (fun c_gr v1 v2 v3 => wpX2_isFirst_b4 post nn c_gr v1 v2 v3) c_gr v1 v3 1)))))))
theorem okX2_isFirst_b4 (C : yC p { frames := 2, cells := 0, slots := 0, locals := 86 } s m args meth c cX2_isFirst 4 RX2 D s0 a0 A) (hB : yB D s0 a0) (hd : yAd ad) (hr : meth.sig.returnType = (some .boolean)) {post : Int32 → Prop}  : ∀ (nn : Nat) (c_gr : Nat → Int32) (v1 : Int32) (v2 : Int32) (v3 : Int32), wpX2_isFirst_b4 post nn c_gr v1 v2 v3 → Y p l e { frames := 2, cells := 0, slots := 0, locals := 86 } s m args below meth c (MQ below (yQi D s0 A (fun r M1 => M1 = mM ad c_pg c_bm c_tx c_ty c_ft c_fa c_sp c_nu c_un c_sf c_st c_ll c_ln c_ip c_gr c_hs ∧ post r)) args s 0 0 A) D s0 A 4 (mM ad c_pg c_bm c_tx c_ty c_ft c_fa c_sp c_nu c_un c_sf c_st c_ll c_ln c_ip c_gr c_hs) 0 0 [some (yr (some (ad 0))), some (yi v1), some (yi v2), some (yi v3)] 4 [] := by
  intro nn
  induction nn with
  | zero => intro c_gr v1 v2 v3 h; exact absurd h (by rw [wpX2_isFirst_b4]; exact id)
  | succ nn ih =>
    intro c_gr v1 v2 v3 h
    rw [wpX2_isFirst_b4] at h
    refine y_iload_n C 3 rfl rfl dX2_isFirst_4 ?_
    refine y_iload_n C 1 rfl rfl dX2_isFirst_5 ?_
    refine y_icmp_ge C 34 dX2_isFirst_6 (by decide) (fun c9 => ?_) (fun c9 => ?_)
    · replace h := h.1 c9
      refine y_iload_n C 2 rfl rfl dX2_isFirst_34 ?_
      obtain ⟨z9, h⟩ := h
      exact y_iretz C hr rfl rfl z9 ⟨rfl, h⟩ dX2_isFirst_35
    · replace h := h.2 c9
      refine y_iload_n C 2 rfl rfl dX2_isFirst_9 ?_
      refine y_if_eq C 26 dX2_isFirst_10 (by decide) (fun c9 => ?_) (fun c9 => ?_)
      · replace h := h.1 c9
        refine y_to C _ ?_ (okX2_isFirst_b26 C hB hd hr ih _ _ _ h)
        exact (And.intro rfl (And.intro rfl (And.intro rfl trivial)))
      · replace h := h.2 c9
        refine y_aload_n C 0 rfl rfl dX2_isFirst_13 ?_
        refine y_iload_n C 3 rfl rfl dX2_isFirst_14 ?_
        refine y_iload_n C 1 rfl rfl dX2_isFirst_15 ?_
        refine y_callVi0 C (metX2_areBound hd hB h) (cwV 2 C.hts (lw_V q1403 q1405 qs52 q91 q1406) rfl rfl rfl kdX2_areBound ⟨Nat.le_of_ble_eq_true rfl, Nat.le_of_ble_eq_true rfl⟩) mM_0 rfl rfl rfl (Nat.le_of_ble_eq_true rfl) dX2_isFirst_16 (fun r2 M1 hp => ?_)
        clear h
        obtain ⟨rfl, h⟩ := hp
        refine y_if_ne C 26 dX2_isFirst_19 (by decide) (fun c9 => ?_) (fun c9 => ?_)
        · replace h := h.1 c9
          refine y_to C _ ?_ (okX2_isFirst_b26 C hB hd hr ih _ _ _ h)
          exact (And.intro rfl (And.intro rfl (And.intro rfl trivial)))
        · replace h := h.2 c9
          refine y_iconst C 1 dX2_isFirst_22 lit1 ?_
          refine y_goto C 27 dX2_isFirst_23 (by decide) ?_
          refine y_to C _ ?_ (okX2_isFirst_b27 C hB hd hr ih _ _ _ _ h)
          exact (And.intro rfl (And.intro rfl (And.intro rfl trivial)))
end sX2_isFirst
def wpX2_isFirst (c_gr : Nat → Int32) (a1 : Int32) (post : Int32 → Prop) : Prop := ∃ nf9 : Nat, wpX2_isFirst_b4 post nf9 c_gr a1 1 0
theorem metX2_isFirst {l : Launch} {D : va_G} {s0 : State} {a0 : Array Value} {ad : Nat → Nat} (hd : yAd ad) (hB : yB D s0 a0) {c_pg : Nat → Int32} {c_bm : Int32} {c_tx : Nat → Int32} {c_ty : Int32} {c_ft : Int32} {c_fa : Int32} {c_sp : Int32} {c_nu : Int32} {c_un : Nat → Int32} {c_sf : Nat → Int32} {c_st : Nat → Int32} {c_ll : Nat → Int32} {c_ln : Nat → Int32} {c_ip : Nat → Int32} {c_gr : Nat → Int32} {c_hs : Int64} {a1 : Int32} {post : Int32 → Prop} (h : wpX2_isFirst c_gr a1 post) : yMi l yX2_isFirst (ws_ yX2_isFirst cX2_isFirst 4 (some .boolean)) 2 86 0 0 D s0 [yr (some (ad 0)), yi a1] (mM ad c_pg c_bm c_tx c_ty c_ft c_fa c_sp c_nu c_un c_sf c_st c_ll c_ln c_ip c_gr c_hs) (fun r M1 => M1 = mM ad c_pg c_bm c_tx c_ty c_ft c_fa c_sp c_nu c_un c_sf c_st c_ll c_ln c_ip c_gr c_hs ∧ post r) := by
  refine y_meti hB (by decide) rfl (Nat.le_of_ble_eq_true rfl) ?_
  intro p e s m below meth c A hr hnm C
  rw [wpX2_isFirst] at h
  refine y_iconst C 1 dX2_isFirst_0 lit1 ?_
  refine y_istore_n C 2 rfl (by decide) dX2_isFirst_1 ?_
  refine y_iconst C 0 dX2_isFirst_2 lit0 ?_
  refine y_istore_n C 3 rfl (by decide) dX2_isFirst_3 ?_
  obtain ⟨nf9, h⟩ := h
  refine y_to C _ ?_ (okX2_isFirst_b4 C hB hd hr  nf9 _ _ _ _ h)
  exact (And.intro rfl (And.intro rfl (And.intro rfl (And.intro rfl trivial))))
theorem kdX2_isFirst : yX2_isFirst.cls = RX2 ∧ yX2_isFirst.cls ≠ "java/lang/invoke/MethodHandle" ∧ yX2_isFirst.cls ≠ "java/lang/invoke/VarHandle" ∧ (parseMethodDescriptor yX2_isFirst.desc).map (fun d => d.parameters.length) = some 1 := by decide +kernel
section sX2_groupOfFirst
variable {p : Program} {l : Launch} {e : Env} {s : State} {m : MethodId} {args : Array Value} {below : List Frame} {meth : Method} {c : Code} {D : va_G} {s0 : State} {a0 : Array Value} {A : Nat → Prop} {ad : Nat → Nat} {c_pg : Nat → Int32} {c_bm : Int32} {c_tx : Nat → Int32} {c_ty : Int32} {c_ft : Int32} {c_fa : Int32} {c_sp : Int32} {c_nu : Int32} {c_un : Nat → Int32} {c_sf : Nat → Int32} {c_st : Nat → Int32} {c_ll : Nat → Int32} {c_ln : Nat → Int32} {c_ip : Nat → Int32} {c_gr : Nat → Int32} {c_hs : Int64}
def wpX2_groupOfFirst_b23 (post : Int32 → Prop) (k4 : (Nat → Int32) → Int32 → Int32 → Int32 → Prop) (c_gr : Nat → Int32) (v1 : Int32) (v3 : Int32) (u0 : Int32) (u1 : Int32) : Prop := ∀ x2 : Int32, x2 = (u0 + u1) → ∀ x3 : Int32, x3 = v3 + 1 → k4 c_gr v1 x2 x3
theorem okX2_groupOfFirst_b23 (C : yC p { frames := 3, cells := 0, slots := 0, locals := 109 } s m args meth c cX2_groupOfFirst 4 RX2 D s0 a0 A) (hB : yB D s0 a0) (hd : yAd ad) (hr : meth.sig.returnType = (some .int)) {post : Int32 → Prop} {k4 : (Nat → Int32) → Int32 → Int32 → Int32 → Prop} (hk4 : ∀ (c_gr : Nat → Int32) (v1 : Int32) (v2 : Int32) (v3 : Int32), k4 c_gr v1 v2 v3 → Y p l e { frames := 3, cells := 0, slots := 0, locals := 109 } s m args below meth c (MQ below (yQi D s0 A (fun r M1 => M1 = mM ad c_pg c_bm c_tx c_ty c_ft c_fa c_sp c_nu c_un c_sf c_st c_ll c_ln c_ip c_gr c_hs ∧ post r)) args s 0 0 A) D s0 A 4 (mM ad c_pg c_bm c_tx c_ty c_ft c_fa c_sp c_nu c_un c_sf c_st c_ll c_ln c_ip c_gr c_hs) 0 0 [some (yr (some (ad 0))), some (yi v1), some (yi v2), some (yi v3)] 4 []) : ∀ (c_gr : Nat → Int32) (v1 : Int32) (v3 : Int32) (u0 : Int32) (u1 : Int32), wpX2_groupOfFirst_b23 post k4 c_gr v1 v3 u0 u1 → Y p l e { frames := 3, cells := 0, slots := 0, locals := 109 } s m args below meth c (MQ below (yQi D s0 A (fun r M1 => M1 = mM ad c_pg c_bm c_tx c_ty c_ft c_fa c_sp c_nu c_un c_sf c_st c_ll c_ln c_ip c_gr c_hs ∧ post r)) args s 0 0 A) D s0 A 4 (mM ad c_pg c_bm c_tx c_ty c_ft c_fa c_sp c_nu c_un c_sf c_st c_ll c_ln c_ip c_gr c_hs) 0 0 [some (yr (some (ad 0))), some (yi v1), none, some (yi v3)] 23 [yi u1, yi u0] := by
  intro c_gr v1 v3 u0 u1 h
  rw [wpX2_groupOfFirst_b23] at h
  refine y_iadd C dX2_groupOfFirst_23 ?_
  replace h := h _ rfl
  refine y_istore_n C 2 rfl (by decide) dX2_groupOfFirst_24 ?_
  replace h := h _ rfl
  refine y_iinc C 3 _ rfl (y_inc1 _) (by decide) dX2_groupOfFirst_25 ?_
  refine y_goto C 4 dX2_groupOfFirst_28 (by decide) ?_
  refine y_to C _ ?_ (hk4 _ _ _ _ h)
  exact (And.intro rfl (And.intro rfl (And.intro rfl (And.intro rfl trivial))))
def wpX2_groupOfFirst_b4 (post : Int32 → Prop) : Nat → (Nat → Int32) → Int32 → Int32 → Int32 → Prop
  | 0, _, _, _, _ => False
  | nn + 1, c_gr, v1, v2, v3 => ((v1 ≤ v3 → post v2) ∧ (¬ v1 ≤ v3 → wpX2_isFirst c_gr v3 (fun r1 => ((r1 = 0 → wpX2_groupOfFirst_b23 post (fun c_gr v1 v2 v3 => wpX2_groupOfFirst_b4 post nn c_gr v1 v2 v3) c_gr v1 v3 v2 0) ∧ (¬ r1 = 0 → wpX2_groupOfFirst_b23 post (fun c_gr v1 v2 v3 => wpX2_groupOfFirst_b4 post nn c_gr v1 v2 v3) c_gr v1 v3 v2 1)))))
theorem okX2_groupOfFirst_b4 (C : yC p { frames := 3, cells := 0, slots := 0, locals := 109 } s m args meth c cX2_groupOfFirst 4 RX2 D s0 a0 A) (hB : yB D s0 a0) (hd : yAd ad) (hr : meth.sig.returnType = (some .int)) {post : Int32 → Prop}  : ∀ (nn : Nat) (c_gr : Nat → Int32) (v1 : Int32) (v2 : Int32) (v3 : Int32), wpX2_groupOfFirst_b4 post nn c_gr v1 v2 v3 → Y p l e { frames := 3, cells := 0, slots := 0, locals := 109 } s m args below meth c (MQ below (yQi D s0 A (fun r M1 => M1 = mM ad c_pg c_bm c_tx c_ty c_ft c_fa c_sp c_nu c_un c_sf c_st c_ll c_ln c_ip c_gr c_hs ∧ post r)) args s 0 0 A) D s0 A 4 (mM ad c_pg c_bm c_tx c_ty c_ft c_fa c_sp c_nu c_un c_sf c_st c_ll c_ln c_ip c_gr c_hs) 0 0 [some (yr (some (ad 0))), some (yi v1), some (yi v2), some (yi v3)] 4 [] := by
  intro nn
  induction nn with
  | zero => intro c_gr v1 v2 v3 h; exact absurd h (by rw [wpX2_groupOfFirst_b4]; exact id)
  | succ nn ih =>
    intro c_gr v1 v2 v3 h
    rw [wpX2_groupOfFirst_b4] at h
    refine y_iload_n C 3 rfl rfl dX2_groupOfFirst_4 ?_
    refine y_iload_n C 1 rfl rfl dX2_groupOfFirst_5 ?_
    refine y_icmp_ge C 31 dX2_groupOfFirst_6 (by decide) (fun c9 => ?_) (fun c9 => ?_)
    · replace h := h.1 c9
      refine y_iload_n C 2 rfl rfl dX2_groupOfFirst_31 ?_
      exact y_ireti C hr rfl rfl ⟨rfl, h⟩ dX2_groupOfFirst_32
    · replace h := h.2 c9
      refine y_iload_n C 2 rfl rfl dX2_groupOfFirst_9 ?_
      refine y_aload_n C 0 rfl rfl dX2_groupOfFirst_10 ?_
      refine y_iload_n C 3 rfl rfl dX2_groupOfFirst_11 ?_
      refine y_callVi0 C (metX2_isFirst hd hB h) (cwV 1 C.hts (lw_V q1411 q1413 qs54 q91 q1414) rfl rfl rfl kdX2_isFirst ⟨Nat.le_of_ble_eq_true rfl, Nat.le_of_ble_eq_true rfl⟩) mM_0 rfl rfl rfl (Nat.le_of_ble_eq_true rfl) dX2_groupOfFirst_12 (fun r1 M1 hp => ?_)
      clear h
      obtain ⟨rfl, h⟩ := hp
      refine y_if_eq C 22 dX2_groupOfFirst_15 (by decide) (fun c9 => ?_) (fun c9 => ?_)
      · replace h := h.1 c9
        refine y_iconst C 0 dX2_groupOfFirst_22 lit0 ?_
        refine y_to C _ ?_ (okX2_groupOfFirst_b23 C hB hd hr ih _ _ _ _ _ h)
        exact (And.intro rfl (And.intro rfl (And.intro rfl trivial)))
      · replace h := h.2 c9
        refine y_iconst C 1 dX2_groupOfFirst_18 lit1 ?_
        refine y_goto C 23 dX2_groupOfFirst_19 (by decide) ?_
        refine y_to C _ ?_ (okX2_groupOfFirst_b23 C hB hd hr ih _ _ _ _ _ h)
        exact (And.intro rfl (And.intro rfl (And.intro rfl trivial)))
end sX2_groupOfFirst
def wpX2_groupOfFirst (c_gr : Nat → Int32) (a1 : Int32) (post : Int32 → Prop) : Prop := ∃ nf9 : Nat, wpX2_groupOfFirst_b4 post nf9 c_gr a1 0 0
theorem metX2_groupOfFirst {l : Launch} {D : va_G} {s0 : State} {a0 : Array Value} {ad : Nat → Nat} (hd : yAd ad) (hB : yB D s0 a0) {c_pg : Nat → Int32} {c_bm : Int32} {c_tx : Nat → Int32} {c_ty : Int32} {c_ft : Int32} {c_fa : Int32} {c_sp : Int32} {c_nu : Int32} {c_un : Nat → Int32} {c_sf : Nat → Int32} {c_st : Nat → Int32} {c_ll : Nat → Int32} {c_ln : Nat → Int32} {c_ip : Nat → Int32} {c_gr : Nat → Int32} {c_hs : Int64} {a1 : Int32} {post : Int32 → Prop} (h : wpX2_groupOfFirst c_gr a1 post) : yMi l yX2_groupOfFirst (ws_ yX2_groupOfFirst cX2_groupOfFirst 4 (some .int)) 3 109 0 0 D s0 [yr (some (ad 0)), yi a1] (mM ad c_pg c_bm c_tx c_ty c_ft c_fa c_sp c_nu c_un c_sf c_st c_ll c_ln c_ip c_gr c_hs) (fun r M1 => M1 = mM ad c_pg c_bm c_tx c_ty c_ft c_fa c_sp c_nu c_un c_sf c_st c_ll c_ln c_ip c_gr c_hs ∧ post r) := by
  refine y_meti hB (by decide) rfl (Nat.le_of_ble_eq_true rfl) ?_
  intro p e s m below meth c A hr hnm C
  rw [wpX2_groupOfFirst] at h
  refine y_iconst C 0 dX2_groupOfFirst_0 lit0 ?_
  refine y_istore_n C 2 rfl (by decide) dX2_groupOfFirst_1 ?_
  refine y_iconst C 0 dX2_groupOfFirst_2 lit0 ?_
  refine y_istore_n C 3 rfl (by decide) dX2_groupOfFirst_3 ?_
  obtain ⟨nf9, h⟩ := h
  refine y_to C _ ?_ (okX2_groupOfFirst_b4 C hB hd hr  nf9 _ _ _ _ h)
  exact (And.intro rfl (And.intro rfl (And.intro rfl (And.intro rfl trivial))))
theorem kdX2_groupOfFirst : yX2_groupOfFirst.cls = RX2 ∧ yX2_groupOfFirst.cls ≠ "java/lang/invoke/MethodHandle" ∧ yX2_groupOfFirst.cls ≠ "java/lang/invoke/VarHandle" ∧ (parseMethodDescriptor yX2_groupOfFirst.desc).map (fun d => d.parameters.length) = some 1 := by decide +kernel
section sX2_group
variable {p : Program} {l : Launch} {e : Env} {s : State} {m : MethodId} {args : Array Value} {below : List Frame} {meth : Method} {c : Code} {D : va_G} {s0 : State} {a0 : Array Value} {A : Nat → Prop} {ad : Nat → Nat} {c_pg : Nat → Int32} {c_bm : Int32} {c_tx : Nat → Int32} {c_ty : Int32} {c_ft : Int32} {c_fa : Int32} {c_sp : Int32} {c_nu : Int32} {c_un : Nat → Int32} {c_sf : Nat → Int32} {c_st : Nat → Int32} {c_ll : Nat → Int32} {c_ln : Nat → Int32} {c_ip : Nat → Int32} {c_gr : Nat → Int32} {c_hs : Int64}
def wpX2_group_b51 (post : Int32 → Prop) (k32 : (Nat → Int32) → Int32 → Int32 → Int32 → Prop) (c_gr : Nat → Int32) (v1 : Int32) (v3 : Int32) (u0 : Int32) (u1 : Int32) : Prop := ∀ x2 : Int32, x2 = (u0 + u1) → ∀ x3 : Int32, x3 = v3 + 1 → k32 c_gr v1 x2 x3
theorem okX2_group_b51 (C : yC p { frames := 4, cells := 0, slots := 0, locals := 132 } s m args meth c cX2_group 4 RX2 D s0 a0 A) (hB : yB D s0 a0) (hd : yAd ad) (hr : meth.sig.returnType = (some .int)) {post : Int32 → Prop} {k32 : (Nat → Int32) → Int32 → Int32 → Int32 → Prop} (hk32 : ∀ (c_gr : Nat → Int32) (v1 : Int32) (v2 : Int32) (v3 : Int32), k32 c_gr v1 v2 v3 → Y p l e { frames := 4, cells := 0, slots := 0, locals := 132 } s m args below meth c (MQ below (yQi D s0 A (fun r M1 => M1 = mM ad c_pg c_bm c_tx c_ty c_ft c_fa c_sp c_nu c_un c_sf c_st c_ll c_ln c_ip c_gr c_hs ∧ post r)) args s 0 0 A) D s0 A 4 (mM ad c_pg c_bm c_tx c_ty c_ft c_fa c_sp c_nu c_un c_sf c_st c_ll c_ln c_ip c_gr c_hs) 0 0 [some (yr (some (ad 0))), some (yi v1), some (yi v2), some (yi v3)] 32 []) : ∀ (c_gr : Nat → Int32) (v1 : Int32) (v3 : Int32) (u0 : Int32) (u1 : Int32), wpX2_group_b51 post k32 c_gr v1 v3 u0 u1 → Y p l e { frames := 4, cells := 0, slots := 0, locals := 132 } s m args below meth c (MQ below (yQi D s0 A (fun r M1 => M1 = mM ad c_pg c_bm c_tx c_ty c_ft c_fa c_sp c_nu c_un c_sf c_st c_ll c_ln c_ip c_gr c_hs ∧ post r)) args s 0 0 A) D s0 A 4 (mM ad c_pg c_bm c_tx c_ty c_ft c_fa c_sp c_nu c_un c_sf c_st c_ll c_ln c_ip c_gr c_hs) 0 0 [some (yr (some (ad 0))), some (yi v1), none, some (yi v3)] 51 [yi u1, yi u0] := by
  intro c_gr v1 v3 u0 u1 h
  rw [wpX2_group_b51] at h
  refine y_iadd C dX2_group_51 ?_
  replace h := h _ rfl
  refine y_istore_n C 2 rfl (by decide) dX2_group_52 ?_
  replace h := h _ rfl
  refine y_iinc C 3 _ rfl (y_inc1 _) (by decide) dX2_group_53 ?_
  refine y_goto C 32 dX2_group_56 (by decide) ?_
  refine y_to C _ ?_ (hk32 _ _ _ _ h)
  exact (And.intro rfl (And.intro rfl (And.intro rfl (And.intro rfl trivial))))
def wpX2_group_b32 (post : Int32 → Prop) : Nat → (Nat → Int32) → Int32 → Int32 → Int32 → Prop
  | 0, _, _, _, _ => False
  | nn + 1, c_gr, v1, v2, v3 => ((v1 ≤ v3 → post v2) ∧ (¬ v1 ≤ v3 → wpX2_isFirst c_gr v3 (fun r1 => ((r1 = 0 → wpX2_group_b51 post (fun c_gr v1 v2 v3 => wpX2_group_b32 post nn c_gr v1 v2 v3) c_gr v1 v3 v2 0) ∧ (¬ r1 = 0 → wpX2_group_b51 post (fun c_gr v1 v2 v3 => wpX2_group_b32 post nn c_gr v1 v2 v3) c_gr v1 v3 v2 1)))))
theorem okX2_group_b32 (C : yC p { frames := 4, cells := 0, slots := 0, locals := 132 } s m args meth c cX2_group 4 RX2 D s0 a0 A) (hB : yB D s0 a0) (hd : yAd ad) (hr : meth.sig.returnType = (some .int)) {post : Int32 → Prop}  : ∀ (nn : Nat) (c_gr : Nat → Int32) (v1 : Int32) (v2 : Int32) (v3 : Int32), wpX2_group_b32 post nn c_gr v1 v2 v3 → Y p l e { frames := 4, cells := 0, slots := 0, locals := 132 } s m args below meth c (MQ below (yQi D s0 A (fun r M1 => M1 = mM ad c_pg c_bm c_tx c_ty c_ft c_fa c_sp c_nu c_un c_sf c_st c_ll c_ln c_ip c_gr c_hs ∧ post r)) args s 0 0 A) D s0 A 4 (mM ad c_pg c_bm c_tx c_ty c_ft c_fa c_sp c_nu c_un c_sf c_st c_ll c_ln c_ip c_gr c_hs) 0 0 [some (yr (some (ad 0))), some (yi v1), some (yi v2), some (yi v3)] 32 [] := by
  intro nn
  induction nn with
  | zero => intro c_gr v1 v2 v3 h; exact absurd h (by rw [wpX2_group_b32]; exact id)
  | succ nn ih =>
    intro c_gr v1 v2 v3 h
    rw [wpX2_group_b32] at h
    refine y_iload_n C 3 rfl rfl dX2_group_32 ?_
    refine y_iload_n C 1 rfl rfl dX2_group_33 ?_
    refine y_icmp_ge C 59 dX2_group_34 (by decide) (fun c9 => ?_) (fun c9 => ?_)
    · replace h := h.1 c9
      refine y_iload_n C 2 rfl rfl dX2_group_59 ?_
      exact y_ireti C hr rfl rfl ⟨rfl, h⟩ dX2_group_60
    · replace h := h.2 c9
      refine y_iload_n C 2 rfl rfl dX2_group_37 ?_
      refine y_aload_n C 0 rfl rfl dX2_group_38 ?_
      refine y_iload_n C 3 rfl rfl dX2_group_39 ?_
      refine y_callVi0 C (metX2_isFirst hd hB h) (cwV 1 C.hts (lw_V q1411 q1413 qs54 q91 q1414) rfl rfl rfl kdX2_isFirst ⟨Nat.le_of_ble_eq_true rfl, Nat.le_of_ble_eq_true rfl⟩) mM_0 rfl rfl rfl (Nat.le_of_ble_eq_true rfl) dX2_group_40 (fun r1 M1 hp => ?_)
      clear h
      obtain ⟨rfl, h⟩ := hp
      refine y_if_eq C 50 dX2_group_43 (by decide) (fun c9 => ?_) (fun c9 => ?_)
      · replace h := h.1 c9
        refine y_iconst C 0 dX2_group_50 lit0 ?_
        refine y_to C _ ?_ (okX2_group_b51 C hB hd hr ih _ _ _ _ _ h)
        exact (And.intro rfl (And.intro rfl (And.intro rfl trivial)))
      · replace h := h.2 c9
        refine y_iconst C 1 dX2_group_46 lit1 ?_
        refine y_goto C 51 dX2_group_47 (by decide) ?_
        refine y_to C _ ?_ (okX2_group_b51 C hB hd hr ih _ _ _ _ _ h)
        exact (And.intro rfl (And.intro rfl (And.intro rfl trivial)))
def wpX2_group_b4 (post : Int32 → Prop) : Nat → (Nat → Int32) → Int32 → Int32 → Int32 → Prop
  | 0, _, _, _, _ => False
  | nn + 1, c_gr, v1, v2, v3 => ((v1 ≤ v3 → ∃ nf9 : Nat, wpX2_group_b32 post nf9 c_gr v1 v2 0) ∧ (¬ v1 ≤ v3 → wpX2_areBound c_gr v3 v1 (fun r4 => ((r4 = 0 → ∀ x5 : Int32, x5 = v3 + 1 → wpX2_group_b4 post nn c_gr v1 v2 x5) ∧ (¬ r4 = 0 → wpX2_groupOfFirst c_gr v3 (fun r6 => post r6))))))
theorem okX2_group_b4 (C : yC p { frames := 4, cells := 0, slots := 0, locals := 132 } s m args meth c cX2_group 4 RX2 D s0 a0 A) (hB : yB D s0 a0) (hd : yAd ad) (hr : meth.sig.returnType = (some .int)) {post : Int32 → Prop}  : ∀ (nn : Nat) (c_gr : Nat → Int32) (v1 : Int32) (v2 : Int32) (v3 : Int32), wpX2_group_b4 post nn c_gr v1 v2 v3 → Y p l e { frames := 4, cells := 0, slots := 0, locals := 132 } s m args below meth c (MQ below (yQi D s0 A (fun r M1 => M1 = mM ad c_pg c_bm c_tx c_ty c_ft c_fa c_sp c_nu c_un c_sf c_st c_ll c_ln c_ip c_gr c_hs ∧ post r)) args s 0 0 A) D s0 A 4 (mM ad c_pg c_bm c_tx c_ty c_ft c_fa c_sp c_nu c_un c_sf c_st c_ll c_ln c_ip c_gr c_hs) 0 0 [some (yr (some (ad 0))), some (yi v1), some (yi v2), some (yi v3)] 4 [] := by
  intro nn
  induction nn with
  | zero => intro c_gr v1 v2 v3 h; exact absurd h (by rw [wpX2_group_b4]; exact id)
  | succ nn ih =>
    intro c_gr v1 v2 v3 h
    rw [wpX2_group_b4] at h
    refine y_iload_n C 3 rfl rfl dX2_group_4 ?_
    refine y_iload_n C 1 rfl rfl dX2_group_5 ?_
    refine y_icmp_ge C 30 dX2_group_6 (by decide) (fun c9 => ?_) (fun c9 => ?_)
    · replace h := h.1 c9
      refine y_iconst C 0 dX2_group_30 lit0 ?_
      refine y_istore_n C 3 rfl (by decide) dX2_group_31 ?_
      obtain ⟨nf9, h⟩ := h
      refine y_to C _ ?_ (okX2_group_b32 C hB hd hr  nf9 _ _ _ _ h)
      exact (And.intro rfl (And.intro rfl (And.intro rfl (And.intro rfl trivial))))
    · replace h := h.2 c9
      refine y_aload_n C 0 rfl rfl dX2_group_9 ?_
      refine y_iload_n C 3 rfl rfl dX2_group_10 ?_
      refine y_iload_n C 1 rfl rfl dX2_group_11 ?_
      refine y_callVi0 C (metX2_areBound hd hB h) (cwV 2 C.hts (lw_V q1403 q1405 qs52 q91 q1406) rfl rfl rfl kdX2_areBound ⟨Nat.le_of_ble_eq_true rfl, Nat.le_of_ble_eq_true rfl⟩) mM_0 rfl rfl rfl (Nat.le_of_ble_eq_true rfl) dX2_group_12 (fun r4 M1 hp => ?_)
      clear h
      obtain ⟨rfl, h⟩ := hp
      refine y_if_eq C 24 dX2_group_15 (by decide) (fun c9 => ?_) (fun c9 => ?_)
      · replace h := h.1 c9
        replace h := h _ rfl
        refine y_iinc C 3 _ rfl (y_inc1 _) (by decide) dX2_group_24 ?_
        refine y_goto C 4 dX2_group_27 (by decide) ?_
        refine y_to C _ ?_ (ih _ _ _ _ h)
        exact (And.intro rfl (And.intro rfl (And.intro rfl (And.intro rfl trivial))))
      · replace h := h.2 c9
        refine y_aload_n C 0 rfl rfl dX2_group_18 ?_
        refine y_iload_n C 3 rfl rfl dX2_group_19 ?_
        refine y_callVi0 C (metX2_groupOfFirst hd hB h) (cwV 1 C.hts (lw_V q1407 q1409 qs53 q91 q1410) rfl rfl rfl kdX2_groupOfFirst ⟨Nat.le_of_ble_eq_true rfl, Nat.le_of_ble_eq_true rfl⟩) mM_0 rfl rfl rfl (Nat.le_of_ble_eq_true rfl) dX2_group_20 (fun r6 M1 hp => ?_)
        clear h
        obtain ⟨rfl, h⟩ := hp
        exact y_ireti C hr rfl rfl ⟨rfl, h⟩ dX2_group_23
end sX2_group
def wpX2_group (c_gr : Nat → Int32) (a1 : Int32) (post : Int32 → Prop) : Prop := ∃ nf9 : Nat, wpX2_group_b4 post nf9 c_gr a1 0 0
theorem metX2_group {l : Launch} {D : va_G} {s0 : State} {a0 : Array Value} {ad : Nat → Nat} (hd : yAd ad) (hB : yB D s0 a0) {c_pg : Nat → Int32} {c_bm : Int32} {c_tx : Nat → Int32} {c_ty : Int32} {c_ft : Int32} {c_fa : Int32} {c_sp : Int32} {c_nu : Int32} {c_un : Nat → Int32} {c_sf : Nat → Int32} {c_st : Nat → Int32} {c_ll : Nat → Int32} {c_ln : Nat → Int32} {c_ip : Nat → Int32} {c_gr : Nat → Int32} {c_hs : Int64} {a1 : Int32} {post : Int32 → Prop} (h : wpX2_group c_gr a1 post) : yMi l yX2_group (ws_ yX2_group cX2_group 4 (some .int)) 4 132 0 0 D s0 [yr (some (ad 0)), yi a1] (mM ad c_pg c_bm c_tx c_ty c_ft c_fa c_sp c_nu c_un c_sf c_st c_ll c_ln c_ip c_gr c_hs) (fun r M1 => M1 = mM ad c_pg c_bm c_tx c_ty c_ft c_fa c_sp c_nu c_un c_sf c_st c_ll c_ln c_ip c_gr c_hs ∧ post r) := by
  refine y_meti hB (by decide) rfl (Nat.le_of_ble_eq_true rfl) ?_
  intro p e s m below meth c A hr hnm C
  rw [wpX2_group] at h
  refine y_iconst C 0 dX2_group_0 lit0 ?_
  refine y_istore_n C 2 rfl (by decide) dX2_group_1 ?_
  refine y_iconst C 0 dX2_group_2 lit0 ?_
  refine y_istore_n C 3 rfl (by decide) dX2_group_3 ?_
  obtain ⟨nf9, h⟩ := h
  refine y_to C _ ?_ (okX2_group_b4 C hB hd hr  nf9 _ _ _ _ h)
  exact (And.intro rfl (And.intro rfl (And.intro rfl (And.intro rfl trivial))))
theorem kdX2_group : yX2_group.cls = RX2 ∧ yX2_group.cls ≠ "java/lang/invoke/MethodHandle" ∧ yX2_group.cls ≠ "java/lang/invoke/VarHandle" ∧ (parseMethodDescriptor yX2_group.desc).map (fun d => d.parameters.length) = some 1 := by decide +kernel
section sX2_unitOf
variable {p : Program} {l : Launch} {e : Env} {s : State} {m : MethodId} {args : Array Value} {below : List Frame} {meth : Method} {c : Code} {D : va_G} {s0 : State} {a0 : Array Value} {A : Nat → Prop} {ad : Nat → Nat} {c_pg : Nat → Int32} {c_bm : Int32} {c_tx : Nat → Int32} {c_ty : Int32} {c_ft : Int32} {c_fa : Int32} {c_sp : Int32} {c_nu : Int32} {c_un : Nat → Int32} {c_sf : Nat → Int32} {c_st : Nat → Int32} {c_ll : Nat → Int32} {c_ln : Nat → Int32} {c_ip : Nat → Int32} {c_gr : Nat → Int32} {c_hs : Int64}
def wpX2_unitOf_b33 (post : Int32 → Prop) (k2 : (Nat → Int32) → Int32 → Int32 → Prop) (c_pg : Nat → Int32) (v1 : Int32) (v2 : Int32) : Prop := ∀ x2 : Int32, x2 = v2 + 1 → k2 c_pg v1 x2
theorem okX2_unitOf_b33 (C : yC p { frames := 2, cells := 0, slots := 0, locals := 86 } s m args meth c cX2_unitOf 3 RX2 D s0 a0 A) (hB : yB D s0 a0) (hd : yAd ad) (hr : meth.sig.returnType = (some .int)) {post : Int32 → Prop} {k2 : (Nat → Int32) → Int32 → Int32 → Prop} (hk2 : ∀ (c_pg : Nat → Int32) (v1 : Int32) (v2 : Int32), k2 c_pg v1 v2 → Y p l e { frames := 2, cells := 0, slots := 0, locals := 86 } s m args below meth c (MQ below (yQi D s0 A (fun r M1 => M1 = mM ad c_pg c_bm c_tx c_ty c_ft c_fa c_sp c_nu c_un c_sf c_st c_ll c_ln c_ip c_gr c_hs ∧ post r)) args s 0 0 A) D s0 A 3 (mM ad c_pg c_bm c_tx c_ty c_ft c_fa c_sp c_nu c_un c_sf c_st c_ll c_ln c_ip c_gr c_hs) 0 0 [some (yr (some (ad 0))), some (yi v1), some (yi v2)] 2 []) : ∀ (c_pg : Nat → Int32) (v1 : Int32) (v2 : Int32), wpX2_unitOf_b33 post k2 c_pg v1 v2 → Y p l e { frames := 2, cells := 0, slots := 0, locals := 86 } s m args below meth c (MQ below (yQi D s0 A (fun r M1 => M1 = mM ad c_pg c_bm c_tx c_ty c_ft c_fa c_sp c_nu c_un c_sf c_st c_ll c_ln c_ip c_gr c_hs ∧ post r)) args s 0 0 A) D s0 A 3 (mM ad c_pg c_bm c_tx c_ty c_ft c_fa c_sp c_nu c_un c_sf c_st c_ll c_ln c_ip c_gr c_hs) 0 0 [some (yr (some (ad 0))), some (yi v1), some (yi v2)] 33 [] := by
  intro c_pg v1 v2 h
  rw [wpX2_unitOf_b33] at h
  replace h := h _ rfl
  refine y_iinc C 2 _ rfl (y_inc1 _) (by decide) dX2_unitOf_33 ?_
  refine y_goto C 2 dX2_unitOf_36 (by decide) ?_
  refine y_to C _ ?_ (hk2 _ _ _ h)
  exact (And.intro rfl (And.intro rfl (And.intro rfl trivial)))
def wpX2_unitOf_b2 (post : Int32 → Prop) : Nat → (Nat → Int32) → Int32 → Int32 → Prop
  | 0, _, _, _ => False
  | nn + 1, c_pg, v1, v2 => ((v1 ≤ v2 → post v1) ∧ (¬ v1 ≤ v2 → wpX2_of c_pg v1 4 (fun r1 => ((r1 ≤ 0 → wpX2_unitOf_b33 post (fun c_pg v1 v2 => wpX2_unitOf_b2 post nn c_pg v1 v2) c_pg v1 v2) ∧ (¬ r1 ≤ 0 → wpX2_of c_pg v2 4 (fun r3 => wpX2_of c_pg v1 4 (fun r4 => ((¬ r3 = r4 → wpX2_unitOf_b33 post (fun c_pg v1 v2 => wpX2_unitOf_b2 post nn c_pg v1 v2) c_pg v1 v2) ∧ (r3 = r4 → post v2)))))))))
theorem okX2_unitOf_b2 (C : yC p { frames := 2, cells := 0, slots := 0, locals := 86 } s m args meth c cX2_unitOf 3 RX2 D s0 a0 A) (hB : yB D s0 a0) (hd : yAd ad) (hr : meth.sig.returnType = (some .int)) {post : Int32 → Prop}  : ∀ (nn : Nat) (c_pg : Nat → Int32) (v1 : Int32) (v2 : Int32), wpX2_unitOf_b2 post nn c_pg v1 v2 → Y p l e { frames := 2, cells := 0, slots := 0, locals := 86 } s m args below meth c (MQ below (yQi D s0 A (fun r M1 => M1 = mM ad c_pg c_bm c_tx c_ty c_ft c_fa c_sp c_nu c_un c_sf c_st c_ll c_ln c_ip c_gr c_hs ∧ post r)) args s 0 0 A) D s0 A 3 (mM ad c_pg c_bm c_tx c_ty c_ft c_fa c_sp c_nu c_un c_sf c_st c_ll c_ln c_ip c_gr c_hs) 0 0 [some (yr (some (ad 0))), some (yi v1), some (yi v2)] 2 [] := by
  intro nn
  induction nn with
  | zero => intro c_pg v1 v2 h; exact absurd h (by rw [wpX2_unitOf_b2]; exact id)
  | succ nn ih =>
    intro c_pg v1 v2 h
    rw [wpX2_unitOf_b2] at h
    refine y_iload_n C 2 rfl rfl dX2_unitOf_2 ?_
    refine y_iload_n C 1 rfl rfl dX2_unitOf_3 ?_
    refine y_icmp_ge C 39 dX2_unitOf_4 (by decide) (fun c9 => ?_) (fun c9 => ?_)
    · replace h := h.1 c9
      refine y_iload_n C 1 rfl rfl dX2_unitOf_39 ?_
      exact y_ireti C hr rfl rfl ⟨rfl, h⟩ dX2_unitOf_40
    · replace h := h.2 c9
      refine y_aload_n C 0 rfl rfl dX2_unitOf_7 ?_
      refine y_iload_n C 1 rfl rfl dX2_unitOf_8 ?_
      refine y_iconst C 4 dX2_unitOf_9 lit4 ?_
      refine y_callVi0 C (metX2_of hd hB h) (cwV 2 C.hts (lw_V q1250 q1252 qs28 q91 q1253) rfl rfl rfl kdX2_of ⟨Nat.le_of_ble_eq_true rfl, Nat.le_of_ble_eq_true rfl⟩) mM_0 rfl rfl rfl (Nat.le_of_ble_eq_true rfl) dX2_unitOf_10 (fun r1 M1 hp => ?_)
      clear h
      obtain ⟨rfl, h⟩ := hp
      refine y_if_le C 33 dX2_unitOf_13 (by decide) (fun c9 => ?_) (fun c9 => ?_)
      · replace h := h.1 c9
        refine y_to C _ ?_ (okX2_unitOf_b33 C hB hd hr ih _ _ _ h)
        exact (And.intro rfl (And.intro rfl (And.intro rfl trivial)))
      · replace h := h.2 c9
        refine y_aload_n C 0 rfl rfl dX2_unitOf_16 ?_
        refine y_iload_n C 2 rfl rfl dX2_unitOf_17 ?_
        refine y_iconst C 4 dX2_unitOf_18 lit4 ?_
        refine y_callVi0 C (metX2_of hd hB h) (cwV 2 C.hts (lw_V q1250 q1252 qs28 q91 q1253) rfl rfl rfl kdX2_of ⟨Nat.le_of_ble_eq_true rfl, Nat.le_of_ble_eq_true rfl⟩) mM_0 rfl rfl rfl (Nat.le_of_ble_eq_true rfl) dX2_unitOf_19 (fun r3 M1 hp => ?_)
        clear h
        obtain ⟨rfl, h⟩ := hp
        refine y_aload_n C 0 rfl rfl dX2_unitOf_22 ?_
        refine y_iload_n C 1 rfl rfl dX2_unitOf_23 ?_
        refine y_iconst C 4 dX2_unitOf_24 lit4 ?_
        refine y_callVi0 C (metX2_of hd hB h) (cwV 2 C.hts (lw_V q1250 q1252 qs28 q91 q1253) rfl rfl rfl kdX2_of ⟨Nat.le_of_ble_eq_true rfl, Nat.le_of_ble_eq_true rfl⟩) mM_0 rfl rfl rfl (Nat.le_of_ble_eq_true rfl) dX2_unitOf_25 (fun r4 M1 hp => ?_)
        clear h
        obtain ⟨rfl, h⟩ := hp
        refine y_icmp_ne C 33 dX2_unitOf_28 (by decide) (fun c9 => ?_) (fun c9 => ?_)
        · replace h := h.1 c9
          refine y_to C _ ?_ (okX2_unitOf_b33 C hB hd hr ih _ _ _ h)
          exact (And.intro rfl (And.intro rfl (And.intro rfl trivial)))
        · replace h := h.2 c9
          refine y_iload_n C 2 rfl rfl dX2_unitOf_31 ?_
          exact y_ireti C hr rfl rfl ⟨rfl, h⟩ dX2_unitOf_32
end sX2_unitOf
def wpX2_unitOf (c_pg : Nat → Int32) (a1 : Int32) (post : Int32 → Prop) : Prop := ∃ nf9 : Nat, wpX2_unitOf_b2 post nf9 c_pg a1 0
theorem metX2_unitOf {l : Launch} {D : va_G} {s0 : State} {a0 : Array Value} {ad : Nat → Nat} (hd : yAd ad) (hB : yB D s0 a0) {c_pg : Nat → Int32} {c_bm : Int32} {c_tx : Nat → Int32} {c_ty : Int32} {c_ft : Int32} {c_fa : Int32} {c_sp : Int32} {c_nu : Int32} {c_un : Nat → Int32} {c_sf : Nat → Int32} {c_st : Nat → Int32} {c_ll : Nat → Int32} {c_ln : Nat → Int32} {c_ip : Nat → Int32} {c_gr : Nat → Int32} {c_hs : Int64} {a1 : Int32} {post : Int32 → Prop} (h : wpX2_unitOf c_pg a1 post) : yMi l yX2_unitOf (ws_ yX2_unitOf cX2_unitOf 3 (some .int)) 2 86 0 0 D s0 [yr (some (ad 0)), yi a1] (mM ad c_pg c_bm c_tx c_ty c_ft c_fa c_sp c_nu c_un c_sf c_st c_ll c_ln c_ip c_gr c_hs) (fun r M1 => M1 = mM ad c_pg c_bm c_tx c_ty c_ft c_fa c_sp c_nu c_un c_sf c_st c_ll c_ln c_ip c_gr c_hs ∧ post r) := by
  refine y_meti hB (by decide) rfl (Nat.le_of_ble_eq_true rfl) ?_
  intro p e s m below meth c A hr hnm C
  rw [wpX2_unitOf] at h
  refine y_iconst C 0 dX2_unitOf_0 lit0 ?_
  refine y_istore_n C 2 rfl (by decide) dX2_unitOf_1 ?_
  obtain ⟨nf9, h⟩ := h
  refine y_to C _ ?_ (okX2_unitOf_b2 C hB hd hr  nf9 _ _ _ h)
  exact (And.intro rfl (And.intro rfl (And.intro rfl trivial)))
theorem kdX2_unitOf : yX2_unitOf.cls = RX2 ∧ yX2_unitOf.cls ≠ "java/lang/invoke/MethodHandle" ∧ yX2_unitOf.cls ≠ "java/lang/invoke/VarHandle" ∧ (parseMethodDescriptor yX2_unitOf.desc).map (fun d => d.parameters.length) = some 1 := by decide +kernel
section sX2_laysUnits
variable {p : Program} {l : Launch} {e : Env} {s : State} {m : MethodId} {args : Array Value} {below : List Frame} {meth : Method} {c : Code} {D : va_G} {s0 : State} {a0 : Array Value} {A : Nat → Prop} {ad : Nat → Nat} {c_pg : Nat → Int32} {c_bm : Int32} {c_tx : Nat → Int32} {c_ty : Int32} {c_ft : Int32} {c_fa : Int32} {c_sp : Int32} {c_nu : Int32} {c_un : Nat → Int32} {c_sf : Nat → Int32} {c_st : Nat → Int32} {c_ll : Nat → Int32} {c_ln : Nat → Int32} {c_ip : Nat → Int32} {c_gr : Nat → Int32} {c_hs : Int64}
def wpX2_laysUnits_b151 (post : (Nat → Int32) → (Nat → Int32) → (Nat → Int32) → (Nat → Int32) → (Nat → Int32) → Prop) (k2 : (Nat → Int32) → (Nat → Int32) → (Nat → Int32) → (Nat → Int32) → (Nat → Int32) → (Nat → Int32) → Int32 → Prop) (c_pg : Nat → Int32) (c_un : Nat → Int32) (c_sf : Nat → Int32) (c_st : Nat → Int32) (c_ll : Nat → Int32) (c_ip : Nat → Int32) (v1 : Int32) (u1 : Int32) (u2 : Int32) : Prop := vp_in u1 16 ∧ ∀ f9 : Nat → Int32, f9 = upd c_ll (Int32.toNatClampNeg u1) u2 → ∀ x10 : Int32, x10 = v1 + 1 → k2 c_pg c_un c_sf c_st f9 c_ip x10
theorem okX2_laysUnits_b151 (C : yC p { frames := 3, cells := 0, slots := 0, locals := 108 } s m args meth c cX2_laysUnits 3 RX2 D s0 a0 A) (hB : yB D s0 a0) (hd : yAd ad) (hr : meth.sig.returnType = none) {post : (Nat → Int32) → (Nat → Int32) → (Nat → Int32) → (Nat → Int32) → (Nat → Int32) → Prop} {k2 : (Nat → Int32) → (Nat → Int32) → (Nat → Int32) → (Nat → Int32) → (Nat → Int32) → (Nat → Int32) → Int32 → Prop} (hk2 : ∀ (c_pg : Nat → Int32) (c_un : Nat → Int32) (c_sf : Nat → Int32) (c_st : Nat → Int32) (c_ll : Nat → Int32) (c_ip : Nat → Int32) (v1 : Int32), k2 c_pg c_un c_sf c_st c_ll c_ip v1 → Y p l e { frames := 3, cells := 0, slots := 0, locals := 108 } s m args below meth c (MQ below (yQv D s0 A (fun M1 => ∃ (w_un : Nat → Int32) (w_sf : Nat → Int32) (w_st : Nat → Int32) (w_ll : Nat → Int32) (w_ip : Nat → Int32), M1 = mM ad c_pg c_bm c_tx c_ty c_ft c_fa c_sp c_nu w_un w_sf w_st w_ll c_ln w_ip c_gr c_hs ∧ post w_un w_sf w_st w_ll w_ip)) args s 0 0 A) D s0 A 3 (mM ad c_pg c_bm c_tx c_ty c_ft c_fa c_sp c_nu c_un c_sf c_st c_ll c_ln c_ip c_gr c_hs) 0 0 [some (yr (some (ad 0))), some (yi v1), none] 2 []) : ∀ (c_pg : Nat → Int32) (c_un : Nat → Int32) (c_sf : Nat → Int32) (c_st : Nat → Int32) (c_ll : Nat → Int32) (c_ip : Nat → Int32) (v1 : Int32) (u1 : Int32) (u2 : Int32), wpX2_laysUnits_b151 post k2 c_pg c_un c_sf c_st c_ll c_ip v1 u1 u2 → Y p l e { frames := 3, cells := 0, slots := 0, locals := 108 } s m args below meth c (MQ below (yQv D s0 A (fun M1 => ∃ (w_un : Nat → Int32) (w_sf : Nat → Int32) (w_st : Nat → Int32) (w_ll : Nat → Int32) (w_ip : Nat → Int32), M1 = mM ad c_pg c_bm c_tx c_ty c_ft c_fa c_sp c_nu w_un w_sf w_st w_ll c_ln w_ip c_gr c_hs ∧ post w_un w_sf w_st w_ll w_ip)) args s 0 0 A) D s0 A 3 (mM ad c_pg c_bm c_tx c_ty c_ft c_fa c_sp c_nu c_un c_sf c_st c_ll c_ln c_ip c_gr c_hs) 0 0 [some (yr (some (ad 0))), some (yi v1), none] 151 [yi u2, yi u1, yr (some (ad 6))] := by
  intro c_pg c_un c_sf c_st c_ll c_ip v1 u1 u2 h
  rw [wpX2_laysUnits_b151] at h
  obtain ⟨i9, h⟩ := h
  replace h := h _ rfl
  refine y_iast C (mM_6 hd) i9 (mU_ll hd _) dX2_laysUnits_151 ?_
  replace h := h _ rfl
  refine y_iinc C 1 _ rfl (y_inc1 _) (by decide) dX2_laysUnits_152 ?_
  refine y_goto C 2 dX2_laysUnits_155 (by decide) ?_
  refine y_to C _ ?_ (hk2 _ _ _ _ _ _ _ h)
  exact (And.intro rfl (And.intro rfl trivial))
def wpX2_laysUnits_b136 (post : (Nat → Int32) → (Nat → Int32) → (Nat → Int32) → (Nat → Int32) → (Nat → Int32) → Prop) (k2 : (Nat → Int32) → (Nat → Int32) → (Nat → Int32) → (Nat → Int32) → (Nat → Int32) → (Nat → Int32) → Int32 → Prop) (c_pg : Nat → Int32) (c_un : Nat → Int32) (c_sf : Nat → Int32) (c_st : Nat → Int32) (c_ll : Nat → Int32) (c_ip : Nat → Int32) (v1 : Int32) (u1 : Int32) : Prop := wpX2_of c_pg v1 5 (fun r8 => wpX2_laysUnits_b151 post k2 c_pg c_un c_sf c_st c_ll c_ip v1 u1 r8)
theorem okX2_laysUnits_b136 (C : yC p { frames := 3, cells := 0, slots := 0, locals := 108 } s m args meth c cX2_laysUnits 3 RX2 D s0 a0 A) (hB : yB D s0 a0) (hd : yAd ad) (hr : meth.sig.returnType = none) {post : (Nat → Int32) → (Nat → Int32) → (Nat → Int32) → (Nat → Int32) → (Nat → Int32) → Prop} {k2 : (Nat → Int32) → (Nat → Int32) → (Nat → Int32) → (Nat → Int32) → (Nat → Int32) → (Nat → Int32) → Int32 → Prop} (hk2 : ∀ (c_pg : Nat → Int32) (c_un : Nat → Int32) (c_sf : Nat → Int32) (c_st : Nat → Int32) (c_ll : Nat → Int32) (c_ip : Nat → Int32) (v1 : Int32), k2 c_pg c_un c_sf c_st c_ll c_ip v1 → Y p l e { frames := 3, cells := 0, slots := 0, locals := 108 } s m args below meth c (MQ below (yQv D s0 A (fun M1 => ∃ (w_un : Nat → Int32) (w_sf : Nat → Int32) (w_st : Nat → Int32) (w_ll : Nat → Int32) (w_ip : Nat → Int32), M1 = mM ad c_pg c_bm c_tx c_ty c_ft c_fa c_sp c_nu w_un w_sf w_st w_ll c_ln w_ip c_gr c_hs ∧ post w_un w_sf w_st w_ll w_ip)) args s 0 0 A) D s0 A 3 (mM ad c_pg c_bm c_tx c_ty c_ft c_fa c_sp c_nu c_un c_sf c_st c_ll c_ln c_ip c_gr c_hs) 0 0 [some (yr (some (ad 0))), some (yi v1), none] 2 []) : ∀ (c_pg : Nat → Int32) (c_un : Nat → Int32) (c_sf : Nat → Int32) (c_st : Nat → Int32) (c_ll : Nat → Int32) (c_ip : Nat → Int32) (v1 : Int32) (u1 : Int32), wpX2_laysUnits_b136 post k2 c_pg c_un c_sf c_st c_ll c_ip v1 u1 → Y p l e { frames := 3, cells := 0, slots := 0, locals := 108 } s m args below meth c (MQ below (yQv D s0 A (fun M1 => ∃ (w_un : Nat → Int32) (w_sf : Nat → Int32) (w_st : Nat → Int32) (w_ll : Nat → Int32) (w_ip : Nat → Int32), M1 = mM ad c_pg c_bm c_tx c_ty c_ft c_fa c_sp c_nu w_un w_sf w_st w_ll c_ln w_ip c_gr c_hs ∧ post w_un w_sf w_st w_ll w_ip)) args s 0 0 A) D s0 A 3 (mM ad c_pg c_bm c_tx c_ty c_ft c_fa c_sp c_nu c_un c_sf c_st c_ll c_ln c_ip c_gr c_hs) 0 0 [some (yr (some (ad 0))), some (yi v1), none] 136 [yi u1, yr (some (ad 6))] := by
  intro c_pg c_un c_sf c_st c_ll c_ip v1 u1 h
  rw [wpX2_laysUnits_b136] at h
  refine y_aload_n C 0 rfl rfl dX2_laysUnits_136 ?_
  refine y_iload_n C 1 rfl rfl dX2_laysUnits_137 ?_
  refine y_iconst C 5 dX2_laysUnits_138 lit5 ?_
  refine y_callVi0 C (metX2_of hd hB h) (cwV 2 C.hts (lw_V q1250 q1252 qs28 q91 q1253) rfl rfl rfl kdX2_of ⟨Nat.le_of_ble_eq_true rfl, Nat.le_of_ble_eq_true rfl⟩) mM_0 rfl rfl rfl (Nat.le_of_ble_eq_true rfl) dX2_laysUnits_139 (fun r8 M1 hp => ?_)
  clear h
  obtain ⟨rfl, h⟩ := hp
  refine y_goto C 151 dX2_laysUnits_142 (by decide) ?_
  refine y_to C _ ?_ (okX2_laysUnits_b151 C hB hd hr hk2 _ _ _ _ _ _ _ _ _ h)
  exact (And.intro rfl (And.intro rfl trivial))
def wpX2_laysUnits_b110 (post : (Nat → Int32) → (Nat → Int32) → (Nat → Int32) → (Nat → Int32) → (Nat → Int32) → Prop) (k2 : (Nat → Int32) → (Nat → Int32) → (Nat → Int32) → (Nat → Int32) → (Nat → Int32) → (Nat → Int32) → Int32 → Prop) (c_pg : Nat → Int32) (c_un : Nat → Int32) (c_sf : Nat → Int32) (c_st : Nat → Int32) (c_ll : Nat → Int32) (c_ip : Nat → Int32) (v1 : Int32) (v2 : Int32) (u1 : Int32) (u2 : Int32) : Prop := vp_in u1 16 ∧ ∀ f7 : Nat → Int32, f7 = upd c_st (Int32.toNatClampNeg u1) u2 → ((v2 = v1 → wpX2_laysUnits_b136 post k2 c_pg c_un c_sf f7 c_ll c_ip v1 v2) ∧ (¬ v2 = v1 → wpX2_of c_pg v1 5 (fun r11 => vp_in v2 16 ∧ ((r11 ≤ (c_ll (Int32.toNatClampNeg v2)) → vp_in v2 16 ∧ wpX2_laysUnits_b151 post k2 c_pg c_un c_sf f7 c_ll c_ip v1 v2 (c_ll (Int32.toNatClampNeg v2))) ∧ (¬ r11 ≤ (c_ll (Int32.toNatClampNeg v2)) → wpX2_laysUnits_b136 post k2 c_pg c_un c_sf f7 c_ll c_ip v1 v2)))))
theorem okX2_laysUnits_b110 (C : yC p { frames := 3, cells := 0, slots := 0, locals := 108 } s m args meth c cX2_laysUnits 3 RX2 D s0 a0 A) (hB : yB D s0 a0) (hd : yAd ad) (hr : meth.sig.returnType = none) {post : (Nat → Int32) → (Nat → Int32) → (Nat → Int32) → (Nat → Int32) → (Nat → Int32) → Prop} {k2 : (Nat → Int32) → (Nat → Int32) → (Nat → Int32) → (Nat → Int32) → (Nat → Int32) → (Nat → Int32) → Int32 → Prop} (hk2 : ∀ (c_pg : Nat → Int32) (c_un : Nat → Int32) (c_sf : Nat → Int32) (c_st : Nat → Int32) (c_ll : Nat → Int32) (c_ip : Nat → Int32) (v1 : Int32), k2 c_pg c_un c_sf c_st c_ll c_ip v1 → Y p l e { frames := 3, cells := 0, slots := 0, locals := 108 } s m args below meth c (MQ below (yQv D s0 A (fun M1 => ∃ (w_un : Nat → Int32) (w_sf : Nat → Int32) (w_st : Nat → Int32) (w_ll : Nat → Int32) (w_ip : Nat → Int32), M1 = mM ad c_pg c_bm c_tx c_ty c_ft c_fa c_sp c_nu w_un w_sf w_st w_ll c_ln w_ip c_gr c_hs ∧ post w_un w_sf w_st w_ll w_ip)) args s 0 0 A) D s0 A 3 (mM ad c_pg c_bm c_tx c_ty c_ft c_fa c_sp c_nu c_un c_sf c_st c_ll c_ln c_ip c_gr c_hs) 0 0 [some (yr (some (ad 0))), some (yi v1), none] 2 []) : ∀ (c_pg : Nat → Int32) (c_un : Nat → Int32) (c_sf : Nat → Int32) (c_st : Nat → Int32) (c_ll : Nat → Int32) (c_ip : Nat → Int32) (v1 : Int32) (v2 : Int32) (u1 : Int32) (u2 : Int32), wpX2_laysUnits_b110 post k2 c_pg c_un c_sf c_st c_ll c_ip v1 v2 u1 u2 → Y p l e { frames := 3, cells := 0, slots := 0, locals := 108 } s m args below meth c (MQ below (yQv D s0 A (fun M1 => ∃ (w_un : Nat → Int32) (w_sf : Nat → Int32) (w_st : Nat → Int32) (w_ll : Nat → Int32) (w_ip : Nat → Int32), M1 = mM ad c_pg c_bm c_tx c_ty c_ft c_fa c_sp c_nu w_un w_sf w_st w_ll c_ln w_ip c_gr c_hs ∧ post w_un w_sf w_st w_ll w_ip)) args s 0 0 A) D s0 A 3 (mM ad c_pg c_bm c_tx c_ty c_ft c_fa c_sp c_nu c_un c_sf c_st c_ll c_ln c_ip c_gr c_hs) 0 0 [some (yr (some (ad 0))), some (yi v1), some (yi v2)] 110 [yi u2, yi u1, yr (some (ad 5))] := by
  intro c_pg c_un c_sf c_st c_ll c_ip v1 v2 u1 u2 h
  rw [wpX2_laysUnits_b110] at h
  obtain ⟨i9, h⟩ := h
  replace h := h _ rfl
  refine y_iast C (mM_5 hd) i9 (mU_st hd _) dX2_laysUnits_110 ?_
  refine y_aload_n C 0 rfl rfl dX2_laysUnits_111 ?_
  refine y_get (ci := 2) (k := 11) C in_X2 rfl (by decide) q1180 (fun _ h => h) mM_0 rfl dX2_laysUnits_112 ?_
  refine y_iload_n C 2 rfl rfl dX2_laysUnits_115 ?_
  refine y_iload_n C 2 rfl rfl dX2_laysUnits_116 ?_
  refine y_iload_n C 1 rfl rfl dX2_laysUnits_117 ?_
  refine y_icmp_eq C 136 dX2_laysUnits_118 (by decide) (fun c9 => ?_) (fun c9 => ?_)
  · replace h := h.1 c9
    refine y_to C _ ?_ (okX2_laysUnits_b136 C hB hd hr hk2 _ _ _ _ _ _ _ _ h)
    exact (And.intro rfl (And.intro rfl trivial))
  · replace h := h.2 c9
    refine y_aload_n C 0 rfl rfl dX2_laysUnits_121 ?_
    refine y_iload_n C 1 rfl rfl dX2_laysUnits_122 ?_
    refine y_iconst C 5 dX2_laysUnits_123 lit5 ?_
    refine y_callVi0 C (metX2_of hd hB h) (cwV 2 C.hts (lw_V q1250 q1252 qs28 q91 q1253) rfl rfl rfl kdX2_of ⟨Nat.le_of_ble_eq_true rfl, Nat.le_of_ble_eq_true rfl⟩) mM_0 rfl rfl rfl (Nat.le_of_ble_eq_true rfl) dX2_laysUnits_124 (fun r11 M1 hp => ?_)
    clear h
    obtain ⟨rfl, h⟩ := hp
    refine y_aload_n C 0 rfl rfl dX2_laysUnits_127 ?_
    refine y_get (ci := 2) (k := 11) C in_X2 rfl (by decide) q1180 (fun _ h => h) mM_0 rfl dX2_laysUnits_128 ?_
    refine y_iload_n C 2 rfl rfl dX2_laysUnits_131 ?_
    obtain ⟨i9, h⟩ := h
    refine y_iald C (mM_6 hd) i9 dX2_laysUnits_132 ?_
    refine y_icmp_le C 145 dX2_laysUnits_133 (by decide) (fun c9 => ?_) (fun c9 => ?_)
    · replace h := h.1 c9
      refine y_aload_n C 0 rfl rfl dX2_laysUnits_145 ?_
      refine y_get (ci := 2) (k := 11) C in_X2 rfl (by decide) q1180 (fun _ h => h) mM_0 rfl dX2_laysUnits_146 ?_
      refine y_iload_n C 2 rfl rfl dX2_laysUnits_149 ?_
      obtain ⟨i9, h⟩ := h
      refine y_iald C (mM_6 hd) i9 dX2_laysUnits_150 ?_
      refine y_to C _ ?_ (okX2_laysUnits_b151 C hB hd hr hk2 _ _ _ _ _ _ _ _ _ h)
      exact (And.intro rfl (And.intro rfl trivial))
    · replace h := h.2 c9
      refine y_to C _ ?_ (okX2_laysUnits_b136 C hB hd hr hk2 _ _ _ _ _ _ _ _ h)
      exact (And.intro rfl (And.intro rfl trivial))
def wpX2_laysUnits_b96 (post : (Nat → Int32) → (Nat → Int32) → (Nat → Int32) → (Nat → Int32) → (Nat → Int32) → Prop) (k2 : (Nat → Int32) → (Nat → Int32) → (Nat → Int32) → (Nat → Int32) → (Nat → Int32) → (Nat → Int32) → Int32 → Prop) (c_pg : Nat → Int32) (c_un : Nat → Int32) (c_sf : Nat → Int32) (c_st : Nat → Int32) (c_ll : Nat → Int32) (c_ip : Nat → Int32) (v1 : Int32) (v2 : Int32) (u1 : Int32) : Prop := wpX2_to c_pg v1 (fun r6 => wpX2_laysUnits_b110 post k2 c_pg c_un c_sf c_st c_ll c_ip v1 v2 u1 r6)
theorem okX2_laysUnits_b96 (C : yC p { frames := 3, cells := 0, slots := 0, locals := 108 } s m args meth c cX2_laysUnits 3 RX2 D s0 a0 A) (hB : yB D s0 a0) (hd : yAd ad) (hr : meth.sig.returnType = none) {post : (Nat → Int32) → (Nat → Int32) → (Nat → Int32) → (Nat → Int32) → (Nat → Int32) → Prop} {k2 : (Nat → Int32) → (Nat → Int32) → (Nat → Int32) → (Nat → Int32) → (Nat → Int32) → (Nat → Int32) → Int32 → Prop} (hk2 : ∀ (c_pg : Nat → Int32) (c_un : Nat → Int32) (c_sf : Nat → Int32) (c_st : Nat → Int32) (c_ll : Nat → Int32) (c_ip : Nat → Int32) (v1 : Int32), k2 c_pg c_un c_sf c_st c_ll c_ip v1 → Y p l e { frames := 3, cells := 0, slots := 0, locals := 108 } s m args below meth c (MQ below (yQv D s0 A (fun M1 => ∃ (w_un : Nat → Int32) (w_sf : Nat → Int32) (w_st : Nat → Int32) (w_ll : Nat → Int32) (w_ip : Nat → Int32), M1 = mM ad c_pg c_bm c_tx c_ty c_ft c_fa c_sp c_nu w_un w_sf w_st w_ll c_ln w_ip c_gr c_hs ∧ post w_un w_sf w_st w_ll w_ip)) args s 0 0 A) D s0 A 3 (mM ad c_pg c_bm c_tx c_ty c_ft c_fa c_sp c_nu c_un c_sf c_st c_ll c_ln c_ip c_gr c_hs) 0 0 [some (yr (some (ad 0))), some (yi v1), none] 2 []) : ∀ (c_pg : Nat → Int32) (c_un : Nat → Int32) (c_sf : Nat → Int32) (c_st : Nat → Int32) (c_ll : Nat → Int32) (c_ip : Nat → Int32) (v1 : Int32) (v2 : Int32) (u1 : Int32), wpX2_laysUnits_b96 post k2 c_pg c_un c_sf c_st c_ll c_ip v1 v2 u1 → Y p l e { frames := 3, cells := 0, slots := 0, locals := 108 } s m args below meth c (MQ below (yQv D s0 A (fun M1 => ∃ (w_un : Nat → Int32) (w_sf : Nat → Int32) (w_st : Nat → Int32) (w_ll : Nat → Int32) (w_ip : Nat → Int32), M1 = mM ad c_pg c_bm c_tx c_ty c_ft c_fa c_sp c_nu w_un w_sf w_st w_ll c_ln w_ip c_gr c_hs ∧ post w_un w_sf w_st w_ll w_ip)) args s 0 0 A) D s0 A 3 (mM ad c_pg c_bm c_tx c_ty c_ft c_fa c_sp c_nu c_un c_sf c_st c_ll c_ln c_ip c_gr c_hs) 0 0 [some (yr (some (ad 0))), some (yi v1), some (yi v2)] 96 [yi u1, yr (some (ad 5))] := by
  intro c_pg c_un c_sf c_st c_ll c_ip v1 v2 u1 h
  rw [wpX2_laysUnits_b96] at h
  refine y_aload_n C 0 rfl rfl dX2_laysUnits_96 ?_
  refine y_iload_n C 1 rfl rfl dX2_laysUnits_97 ?_
  refine y_callVi0 C (metX2_to hd hB h) (cwV 1 C.hts (lw_V q1387 q1389 qs48 q91 q1390) rfl rfl rfl kdX2_to ⟨Nat.le_of_ble_eq_true rfl, Nat.le_of_ble_eq_true rfl⟩) mM_0 rfl rfl rfl (Nat.le_of_ble_eq_true rfl) dX2_laysUnits_98 (fun r6 M1 hp => ?_)
  clear h
  obtain ⟨rfl, h⟩ := hp
  refine y_goto C 110 dX2_laysUnits_101 (by decide) ?_
  refine y_to C _ ?_ (okX2_laysUnits_b110 C hB hd hr hk2 _ _ _ _ _ _ _ _ _ _ h)
  exact (And.intro rfl (And.intro rfl (And.intro rfl trivial)))
def wpX2_laysUnits_b71 (post : (Nat → Int32) → (Nat → Int32) → (Nat → Int32) → (Nat → Int32) → (Nat → Int32) → Prop) (k2 : (Nat → Int32) → (Nat → Int32) → (Nat → Int32) → (Nat → Int32) → (Nat → Int32) → (Nat → Int32) → Int32 → Prop) (c_pg : Nat → Int32) (c_un : Nat → Int32) (c_sf : Nat → Int32) (c_st : Nat → Int32) (c_ll : Nat → Int32) (c_ip : Nat → Int32) (v1 : Int32) (v2 : Int32) (u1 : Int32) (u2 : Int32) : Prop := vp_in u1 16 ∧ ∀ f5 : Nat → Int32, f5 = upd c_sf (Int32.toNatClampNeg u1) u2 → ((v2 = v1 → wpX2_laysUnits_b96 post k2 c_pg c_un f5 c_st c_ll c_ip v1 v2 v2) ∧ (¬ v2 = v1 → wpX2_to c_pg v1 (fun r12 => vp_in v2 16 ∧ ((r12 ≤ (c_st (Int32.toNatClampNeg v2)) → vp_in v2 16 ∧ wpX2_laysUnits_b110 post k2 c_pg c_un f5 c_st c_ll c_ip v1 v2 v2 (c_st (Int32.toNatClampNeg v2))) ∧ (¬ r12 ≤ (c_st (Int32.toNatClampNeg v2)) → wpX2_laysUnits_b96 post k2 c_pg c_un f5 c_st c_ll c_ip v1 v2 v2)))))
theorem okX2_laysUnits_b71 (C : yC p { frames := 3, cells := 0, slots := 0, locals := 108 } s m args meth c cX2_laysUnits 3 RX2 D s0 a0 A) (hB : yB D s0 a0) (hd : yAd ad) (hr : meth.sig.returnType = none) {post : (Nat → Int32) → (Nat → Int32) → (Nat → Int32) → (Nat → Int32) → (Nat → Int32) → Prop} {k2 : (Nat → Int32) → (Nat → Int32) → (Nat → Int32) → (Nat → Int32) → (Nat → Int32) → (Nat → Int32) → Int32 → Prop} (hk2 : ∀ (c_pg : Nat → Int32) (c_un : Nat → Int32) (c_sf : Nat → Int32) (c_st : Nat → Int32) (c_ll : Nat → Int32) (c_ip : Nat → Int32) (v1 : Int32), k2 c_pg c_un c_sf c_st c_ll c_ip v1 → Y p l e { frames := 3, cells := 0, slots := 0, locals := 108 } s m args below meth c (MQ below (yQv D s0 A (fun M1 => ∃ (w_un : Nat → Int32) (w_sf : Nat → Int32) (w_st : Nat → Int32) (w_ll : Nat → Int32) (w_ip : Nat → Int32), M1 = mM ad c_pg c_bm c_tx c_ty c_ft c_fa c_sp c_nu w_un w_sf w_st w_ll c_ln w_ip c_gr c_hs ∧ post w_un w_sf w_st w_ll w_ip)) args s 0 0 A) D s0 A 3 (mM ad c_pg c_bm c_tx c_ty c_ft c_fa c_sp c_nu c_un c_sf c_st c_ll c_ln c_ip c_gr c_hs) 0 0 [some (yr (some (ad 0))), some (yi v1), none] 2 []) : ∀ (c_pg : Nat → Int32) (c_un : Nat → Int32) (c_sf : Nat → Int32) (c_st : Nat → Int32) (c_ll : Nat → Int32) (c_ip : Nat → Int32) (v1 : Int32) (v2 : Int32) (u1 : Int32) (u2 : Int32), wpX2_laysUnits_b71 post k2 c_pg c_un c_sf c_st c_ll c_ip v1 v2 u1 u2 → Y p l e { frames := 3, cells := 0, slots := 0, locals := 108 } s m args below meth c (MQ below (yQv D s0 A (fun M1 => ∃ (w_un : Nat → Int32) (w_sf : Nat → Int32) (w_st : Nat → Int32) (w_ll : Nat → Int32) (w_ip : Nat → Int32), M1 = mM ad c_pg c_bm c_tx c_ty c_ft c_fa c_sp c_nu w_un w_sf w_st w_ll c_ln w_ip c_gr c_hs ∧ post w_un w_sf w_st w_ll w_ip)) args s 0 0 A) D s0 A 3 (mM ad c_pg c_bm c_tx c_ty c_ft c_fa c_sp c_nu c_un c_sf c_st c_ll c_ln c_ip c_gr c_hs) 0 0 [some (yr (some (ad 0))), some (yi v1), some (yi v2)] 71 [yi u2, yi u1, yr (some (ad 4))] := by
  intro c_pg c_un c_sf c_st c_ll c_ip v1 v2 u1 u2 h
  rw [wpX2_laysUnits_b71] at h
  obtain ⟨i9, h⟩ := h
  replace h := h _ rfl
  refine y_iast C (mM_4 hd) i9 (mU_sf hd _) dX2_laysUnits_71 ?_
  refine y_aload_n C 0 rfl rfl dX2_laysUnits_72 ?_
  refine y_get (ci := 2) (k := 10) C in_X2 rfl (by decide) q1179 (fun _ h => h) mM_0 rfl dX2_laysUnits_73 ?_
  refine y_iload_n C 2 rfl rfl dX2_laysUnits_76 ?_
  refine y_iload_n C 2 rfl rfl dX2_laysUnits_77 ?_
  refine y_iload_n C 1 rfl rfl dX2_laysUnits_78 ?_
  refine y_icmp_eq C 96 dX2_laysUnits_79 (by decide) (fun c9 => ?_) (fun c9 => ?_)
  · replace h := h.1 c9
    refine y_to C _ ?_ (okX2_laysUnits_b96 C hB hd hr hk2 _ _ _ _ _ _ _ _ _ h)
    exact (And.intro rfl (And.intro rfl (And.intro rfl trivial)))
  · replace h := h.2 c9
    refine y_aload_n C 0 rfl rfl dX2_laysUnits_82 ?_
    refine y_iload_n C 1 rfl rfl dX2_laysUnits_83 ?_
    refine y_callVi0 C (metX2_to hd hB h) (cwV 1 C.hts (lw_V q1387 q1389 qs48 q91 q1390) rfl rfl rfl kdX2_to ⟨Nat.le_of_ble_eq_true rfl, Nat.le_of_ble_eq_true rfl⟩) mM_0 rfl rfl rfl (Nat.le_of_ble_eq_true rfl) dX2_laysUnits_84 (fun r12 M1 hp => ?_)
    clear h
    obtain ⟨rfl, h⟩ := hp
    refine y_aload_n C 0 rfl rfl dX2_laysUnits_87 ?_
    refine y_get (ci := 2) (k := 10) C in_X2 rfl (by decide) q1179 (fun _ h => h) mM_0 rfl dX2_laysUnits_88 ?_
    refine y_iload_n C 2 rfl rfl dX2_laysUnits_91 ?_
    obtain ⟨i9, h⟩ := h
    refine y_iald C (mM_5 hd) i9 dX2_laysUnits_92 ?_
    refine y_icmp_le C 104 dX2_laysUnits_93 (by decide) (fun c9 => ?_) (fun c9 => ?_)
    · replace h := h.1 c9
      refine y_aload_n C 0 rfl rfl dX2_laysUnits_104 ?_
      refine y_get (ci := 2) (k := 10) C in_X2 rfl (by decide) q1179 (fun _ h => h) mM_0 rfl dX2_laysUnits_105 ?_
      refine y_iload_n C 2 rfl rfl dX2_laysUnits_108 ?_
      obtain ⟨i9, h⟩ := h
      refine y_iald C (mM_5 hd) i9 dX2_laysUnits_109 ?_
      refine y_to C _ ?_ (okX2_laysUnits_b110 C hB hd hr hk2 _ _ _ _ _ _ _ _ _ _ h)
      exact (And.intro rfl (And.intro rfl (And.intro rfl trivial)))
    · replace h := h.2 c9
      refine y_to C _ ?_ (okX2_laysUnits_b96 C hB hd hr hk2 _ _ _ _ _ _ _ _ _ h)
      exact (And.intro rfl (And.intro rfl (And.intro rfl trivial)))
def wpX2_laysUnits_b57 (post : (Nat → Int32) → (Nat → Int32) → (Nat → Int32) → (Nat → Int32) → (Nat → Int32) → Prop) (k2 : (Nat → Int32) → (Nat → Int32) → (Nat → Int32) → (Nat → Int32) → (Nat → Int32) → (Nat → Int32) → Int32 → Prop) (c_pg : Nat → Int32) (c_un : Nat → Int32) (c_sf : Nat → Int32) (c_st : Nat → Int32) (c_ll : Nat → Int32) (c_ip : Nat → Int32) (v1 : Int32) (v2 : Int32) (u1 : Int32) : Prop := wpX2_from c_pg v1 (fun r4 => wpX2_laysUnits_b71 post k2 c_pg c_un c_sf c_st c_ll c_ip v1 v2 u1 r4)
theorem okX2_laysUnits_b57 (C : yC p { frames := 3, cells := 0, slots := 0, locals := 108 } s m args meth c cX2_laysUnits 3 RX2 D s0 a0 A) (hB : yB D s0 a0) (hd : yAd ad) (hr : meth.sig.returnType = none) {post : (Nat → Int32) → (Nat → Int32) → (Nat → Int32) → (Nat → Int32) → (Nat → Int32) → Prop} {k2 : (Nat → Int32) → (Nat → Int32) → (Nat → Int32) → (Nat → Int32) → (Nat → Int32) → (Nat → Int32) → Int32 → Prop} (hk2 : ∀ (c_pg : Nat → Int32) (c_un : Nat → Int32) (c_sf : Nat → Int32) (c_st : Nat → Int32) (c_ll : Nat → Int32) (c_ip : Nat → Int32) (v1 : Int32), k2 c_pg c_un c_sf c_st c_ll c_ip v1 → Y p l e { frames := 3, cells := 0, slots := 0, locals := 108 } s m args below meth c (MQ below (yQv D s0 A (fun M1 => ∃ (w_un : Nat → Int32) (w_sf : Nat → Int32) (w_st : Nat → Int32) (w_ll : Nat → Int32) (w_ip : Nat → Int32), M1 = mM ad c_pg c_bm c_tx c_ty c_ft c_fa c_sp c_nu w_un w_sf w_st w_ll c_ln w_ip c_gr c_hs ∧ post w_un w_sf w_st w_ll w_ip)) args s 0 0 A) D s0 A 3 (mM ad c_pg c_bm c_tx c_ty c_ft c_fa c_sp c_nu c_un c_sf c_st c_ll c_ln c_ip c_gr c_hs) 0 0 [some (yr (some (ad 0))), some (yi v1), none] 2 []) : ∀ (c_pg : Nat → Int32) (c_un : Nat → Int32) (c_sf : Nat → Int32) (c_st : Nat → Int32) (c_ll : Nat → Int32) (c_ip : Nat → Int32) (v1 : Int32) (v2 : Int32) (u1 : Int32), wpX2_laysUnits_b57 post k2 c_pg c_un c_sf c_st c_ll c_ip v1 v2 u1 → Y p l e { frames := 3, cells := 0, slots := 0, locals := 108 } s m args below meth c (MQ below (yQv D s0 A (fun M1 => ∃ (w_un : Nat → Int32) (w_sf : Nat → Int32) (w_st : Nat → Int32) (w_ll : Nat → Int32) (w_ip : Nat → Int32), M1 = mM ad c_pg c_bm c_tx c_ty c_ft c_fa c_sp c_nu w_un w_sf w_st w_ll c_ln w_ip c_gr c_hs ∧ post w_un w_sf w_st w_ll w_ip)) args s 0 0 A) D s0 A 3 (mM ad c_pg c_bm c_tx c_ty c_ft c_fa c_sp c_nu c_un c_sf c_st c_ll c_ln c_ip c_gr c_hs) 0 0 [some (yr (some (ad 0))), some (yi v1), some (yi v2)] 57 [yi u1, yr (some (ad 4))] := by
  intro c_pg c_un c_sf c_st c_ll c_ip v1 v2 u1 h
  rw [wpX2_laysUnits_b57] at h
  refine y_aload_n C 0 rfl rfl dX2_laysUnits_57 ?_
  refine y_iload_n C 1 rfl rfl dX2_laysUnits_58 ?_
  refine y_callVi0 C (metX2_from hd hB h) (cwV 1 C.hts (lw_V q1391 q1393 qs49 q91 q1394) rfl rfl rfl kdX2_from ⟨Nat.le_of_ble_eq_true rfl, Nat.le_of_ble_eq_true rfl⟩) mM_0 rfl rfl rfl (Nat.le_of_ble_eq_true rfl) dX2_laysUnits_59 (fun r4 M1 hp => ?_)
  clear h
  obtain ⟨rfl, h⟩ := hp
  refine y_goto C 71 dX2_laysUnits_62 (by decide) ?_
  refine y_to C _ ?_ (okX2_laysUnits_b71 C hB hd hr hk2 _ _ _ _ _ _ _ _ _ _ h)
  exact (And.intro rfl (And.intro rfl (And.intro rfl trivial)))
def wpX2_laysUnits_b2 (post : (Nat → Int32) → (Nat → Int32) → (Nat → Int32) → (Nat → Int32) → (Nat → Int32) → Prop) : Nat → (Nat → Int32) → (Nat → Int32) → (Nat → Int32) → (Nat → Int32) → (Nat → Int32) → (Nat → Int32) → Int32 → Prop
  | 0, _, _, _, _, _, _, _ => False
  | nn + 1, c_pg, c_un, c_sf, c_st, c_ll, c_ip, v1 => vp_in 13 1120 ∧ (((c_pg (Int32.toNatClampNeg 13)) ≤ v1 → post c_un c_sf c_st c_ll c_ip) ∧ (¬ (c_pg (Int32.toNatClampNeg 13)) ≤ v1 → wpX2_unitOf c_pg v1 (fun r1 => vp_in v1 16 ∧ ∀ f2 : Nat → Int32, f2 = upd c_un (Int32.toNatClampNeg v1) r1 → vp_in v1 16 ∧ ∀ f3 : Nat → Int32, f3 = upd c_ip (Int32.toNatClampNeg v1) (vp_nar .boolean 0) → ((r1 = v1 → wpX2_laysUnits_b57 post (fun c_pg c_un c_sf c_st c_ll c_ip v1 => wpX2_laysUnits_b2 post nn c_pg c_un c_sf c_st c_ll c_ip v1) c_pg f2 c_sf c_st c_ll f3 v1 r1 r1) ∧ (¬ r1 = v1 → wpX2_from c_pg v1 (fun r13 => vp_in r1 16 ∧ (((c_sf (Int32.toNatClampNeg r1)) ≤ r13 → vp_in r1 16 ∧ wpX2_laysUnits_b71 post (fun c_pg c_un c_sf c_st c_ll c_ip v1 => wpX2_laysUnits_b2 post nn c_pg c_un c_sf c_st c_ll c_ip v1) c_pg f2 c_sf c_st c_ll f3 v1 r1 r1 (c_sf (Int32.toNatClampNeg r1))) ∧ (¬ (c_sf (Int32.toNatClampNeg r1)) ≤ r13 → wpX2_laysUnits_b57 post (fun c_pg c_un c_sf c_st c_ll c_ip v1 => wpX2_laysUnits_b2 post nn c_pg c_un c_sf c_st c_ll c_ip v1) c_pg f2 c_sf c_st c_ll f3 v1 r1 r1))))))))
theorem okX2_laysUnits_b2 (C : yC p { frames := 3, cells := 0, slots := 0, locals := 108 } s m args meth c cX2_laysUnits 3 RX2 D s0 a0 A) (hB : yB D s0 a0) (hd : yAd ad) (hr : meth.sig.returnType = none) {post : (Nat → Int32) → (Nat → Int32) → (Nat → Int32) → (Nat → Int32) → (Nat → Int32) → Prop}  : ∀ (nn : Nat) (c_pg : Nat → Int32) (c_un : Nat → Int32) (c_sf : Nat → Int32) (c_st : Nat → Int32) (c_ll : Nat → Int32) (c_ip : Nat → Int32) (v1 : Int32), wpX2_laysUnits_b2 post nn c_pg c_un c_sf c_st c_ll c_ip v1 → Y p l e { frames := 3, cells := 0, slots := 0, locals := 108 } s m args below meth c (MQ below (yQv D s0 A (fun M1 => ∃ (w_un : Nat → Int32) (w_sf : Nat → Int32) (w_st : Nat → Int32) (w_ll : Nat → Int32) (w_ip : Nat → Int32), M1 = mM ad c_pg c_bm c_tx c_ty c_ft c_fa c_sp c_nu w_un w_sf w_st w_ll c_ln w_ip c_gr c_hs ∧ post w_un w_sf w_st w_ll w_ip)) args s 0 0 A) D s0 A 3 (mM ad c_pg c_bm c_tx c_ty c_ft c_fa c_sp c_nu c_un c_sf c_st c_ll c_ln c_ip c_gr c_hs) 0 0 [some (yr (some (ad 0))), some (yi v1), none] 2 [] := by
  intro nn
  induction nn with
  | zero => intro c_pg c_un c_sf c_st c_ll c_ip v1 h; exact absurd h (by rw [wpX2_laysUnits_b2]; exact id)
  | succ nn ih =>
    intro c_pg c_un c_sf c_st c_ll c_ip v1 h
    rw [wpX2_laysUnits_b2] at h
    refine y_iload_n C 1 rfl rfl dX2_laysUnits_2 ?_
    refine y_aload_n C 0 rfl rfl dX2_laysUnits_3 ?_
    refine y_get (ci := 2) (k := 0) C in_X2 rfl (by decide) q1169 (fun _ h => h) mM_0 rfl dX2_laysUnits_4 ?_
    refine y_bipush C 13 dX2_laysUnits_7 y_b13 ?_
    obtain ⟨i9, h⟩ := h
    refine y_iald C (mM_1 hd) i9 dX2_laysUnits_9 ?_
    refine y_icmp_ge C 158 dX2_laysUnits_10 (by decide) (fun c9 => ?_) (fun c9 => ?_)
    · replace h := h.1 c9
      exact y_vret C hr rfl rfl ⟨_, _, _, _, _, rfl, h⟩ dX2_laysUnits_158
    · replace h := h.2 c9
      refine y_aload_n C 0 rfl rfl dX2_laysUnits_13 ?_
      refine y_iload_n C 1 rfl rfl dX2_laysUnits_14 ?_
      refine y_callVi0 C (metX2_unitOf hd hB h) (cwV 1 C.hts (lw_V q1423 q1425 qs57 q91 q1426) rfl rfl rfl kdX2_unitOf ⟨Nat.le_of_ble_eq_true rfl, Nat.le_of_ble_eq_true rfl⟩) mM_0 rfl rfl rfl (Nat.le_of_ble_eq_true rfl) dX2_laysUnits_15 (fun r1 M1 hp => ?_)
      clear h
      obtain ⟨rfl, h⟩ := hp
      refine y_istore_n C 2 rfl (by decide) dX2_laysUnits_18 ?_
      refine y_aload_n C 0 rfl rfl dX2_laysUnits_19 ?_
      refine y_get (ci := 2) (k := 8) C in_X2 rfl (by decide) q1177 (fun _ h => h) mM_0 rfl dX2_laysUnits_20 ?_
      refine y_iload_n C 1 rfl rfl dX2_laysUnits_23 ?_
      refine y_iload_n C 2 rfl rfl dX2_laysUnits_24 ?_
      obtain ⟨i9, h⟩ := h
      replace h := h _ rfl
      refine y_iast C (mM_3 hd) i9 (mU_un hd _) dX2_laysUnits_25 ?_
      refine y_aload_n C 0 rfl rfl dX2_laysUnits_26 ?_
      refine y_get (ci := 2) (k := 13) C in_X2 rfl (by decide) q1182 (fun _ h => h) mM_0 rfl dX2_laysUnits_27 ?_
      refine y_iload_n C 1 rfl rfl dX2_laysUnits_30 ?_
      refine y_iconst C 0 dX2_laysUnits_31 lit0 ?_
      obtain ⟨i9, h⟩ := h
      replace h := h _ rfl
      refine y_zast C (mM_8 hd) i9 (mU_ip hd _) dX2_laysUnits_32 ?_
      refine y_aload_n C 0 rfl rfl dX2_laysUnits_33 ?_
      refine y_get (ci := 2) (k := 9) C in_X2 rfl (by decide) q1178 (fun _ h => h) mM_0 rfl dX2_laysUnits_34 ?_
      refine y_iload_n C 2 rfl rfl dX2_laysUnits_37 ?_
      refine y_iload_n C 2 rfl rfl dX2_laysUnits_38 ?_
      refine y_iload_n C 1 rfl rfl dX2_laysUnits_39 ?_
      refine y_icmp_eq C 57 dX2_laysUnits_40 (by decide) (fun c9 => ?_) (fun c9 => ?_)
      · replace h := h.1 c9
        refine y_to C _ ?_ (okX2_laysUnits_b57 C hB hd hr ih _ _ _ _ _ _ _ _ _ h)
        exact (And.intro rfl (And.intro rfl (And.intro rfl trivial)))
      · replace h := h.2 c9
        refine y_aload_n C 0 rfl rfl dX2_laysUnits_43 ?_
        refine y_iload_n C 1 rfl rfl dX2_laysUnits_44 ?_
        refine y_callVi0 C (metX2_from hd hB h) (cwV 1 C.hts (lw_V q1391 q1393 qs49 q91 q1394) rfl rfl rfl kdX2_from ⟨Nat.le_of_ble_eq_true rfl, Nat.le_of_ble_eq_true rfl⟩) mM_0 rfl rfl rfl (Nat.le_of_ble_eq_true rfl) dX2_laysUnits_45 (fun r13 M1 hp => ?_)
        clear h
        obtain ⟨rfl, h⟩ := hp
        refine y_aload_n C 0 rfl rfl dX2_laysUnits_48 ?_
        refine y_get (ci := 2) (k := 9) C in_X2 rfl (by decide) q1178 (fun _ h => h) mM_0 rfl dX2_laysUnits_49 ?_
        refine y_iload_n C 2 rfl rfl dX2_laysUnits_52 ?_
        obtain ⟨i9, h⟩ := h
        refine y_iald C (mM_4 hd) i9 dX2_laysUnits_53 ?_
        refine y_icmp_ge C 65 dX2_laysUnits_54 (by decide) (fun c9 => ?_) (fun c9 => ?_)
        · replace h := h.1 c9
          refine y_aload_n C 0 rfl rfl dX2_laysUnits_65 ?_
          refine y_get (ci := 2) (k := 9) C in_X2 rfl (by decide) q1178 (fun _ h => h) mM_0 rfl dX2_laysUnits_66 ?_
          refine y_iload_n C 2 rfl rfl dX2_laysUnits_69 ?_
          obtain ⟨i9, h⟩ := h
          refine y_iald C (mM_4 hd) i9 dX2_laysUnits_70 ?_
          refine y_to C _ ?_ (okX2_laysUnits_b71 C hB hd hr ih _ _ _ _ _ _ _ _ _ _ h)
          exact (And.intro rfl (And.intro rfl (And.intro rfl trivial)))
        · replace h := h.2 c9
          refine y_to C _ ?_ (okX2_laysUnits_b57 C hB hd hr ih _ _ _ _ _ _ _ _ _ h)
          exact (And.intro rfl (And.intro rfl (And.intro rfl trivial)))
end sX2_laysUnits
def wpX2_laysUnits (c_pg : Nat → Int32) (c_un : Nat → Int32) (c_sf : Nat → Int32) (c_st : Nat → Int32) (c_ll : Nat → Int32) (c_ip : Nat → Int32)  (post : (Nat → Int32) → (Nat → Int32) → (Nat → Int32) → (Nat → Int32) → (Nat → Int32) → Prop) : Prop := ∃ nf9 : Nat, wpX2_laysUnits_b2 post nf9 c_pg c_un c_sf c_st c_ll c_ip 0
theorem metX2_laysUnits {l : Launch} {D : va_G} {s0 : State} {a0 : Array Value} {ad : Nat → Nat} (hd : yAd ad) (hB : yB D s0 a0) {c_pg : Nat → Int32} {c_bm : Int32} {c_tx : Nat → Int32} {c_ty : Int32} {c_ft : Int32} {c_fa : Int32} {c_sp : Int32} {c_nu : Int32} {c_un : Nat → Int32} {c_sf : Nat → Int32} {c_st : Nat → Int32} {c_ll : Nat → Int32} {c_ln : Nat → Int32} {c_ip : Nat → Int32} {c_gr : Nat → Int32} {c_hs : Int64}  {post : (Nat → Int32) → (Nat → Int32) → (Nat → Int32) → (Nat → Int32) → (Nat → Int32) → Prop} (h : wpX2_laysUnits c_pg c_un c_sf c_st c_ll c_ip  post) : yMv l yX2_laysUnits (ws_ yX2_laysUnits cX2_laysUnits 3 none) 3 108 0 0 D s0 [yr (some (ad 0))] (mM ad c_pg c_bm c_tx c_ty c_ft c_fa c_sp c_nu c_un c_sf c_st c_ll c_ln c_ip c_gr c_hs) (fun M1 => ∃ (w_un : Nat → Int32) (w_sf : Nat → Int32) (w_st : Nat → Int32) (w_ll : Nat → Int32) (w_ip : Nat → Int32), M1 = mM ad c_pg c_bm c_tx c_ty c_ft c_fa c_sp c_nu w_un w_sf w_st w_ll c_ln w_ip c_gr c_hs ∧ post w_un w_sf w_st w_ll w_ip) := by
  refine y_metv hB (by decide) rfl (Nat.le_of_ble_eq_true rfl) ?_
  intro p e s m below meth c A hr hnm C
  rw [wpX2_laysUnits] at h
  refine y_iconst C 0 dX2_laysUnits_0 lit0 ?_
  refine y_istore_n C 1 rfl (by decide) dX2_laysUnits_1 ?_
  obtain ⟨nf9, h⟩ := h
  refine y_to C _ ?_ (okX2_laysUnits_b2 C hB hd hr  nf9 _ _ _ _ _ _ _ h)
  exact (And.intro rfl (And.intro rfl trivial))
theorem kdX2_laysUnits : yX2_laysUnits.cls = RX2 ∧ yX2_laysUnits.cls ≠ "java/lang/invoke/MethodHandle" ∧ yX2_laysUnits.cls ≠ "java/lang/invoke/VarHandle" ∧ (parseMethodDescriptor yX2_laysUnits.desc).map (fun d => d.parameters.length) = some 0 := by decide +kernel

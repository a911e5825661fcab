set_option maxRecDepth 100000
def wpX2_adds (c_pg : Nat → Int32) (c_gr : Nat → Int32) (a1 : Int32) (a2 : Int32) (a3 : Int32) (post : Int32 → (Nat → Int32) → Prop) : Prop := wpX2_laysDistances c_pg c_gr 0 (-999) (fun w_gr1 => wpX2_range w_gr1 a2 a3 (fun r2 => wpX2_laysDistances c_pg w_gr1 0 a1 (fun w_gr3 => wpX2_range w_gr3 a2 a3 (fun r4 => post (r2 - r4) w_gr3))))
theorem metX2_adds {l : Launch} {D : va_G} {s0 : State} {a0 : Array Value} {ad : Nat → Nat} (hd : yAd ad) (hB : yB D s0 a0) {c_pg : Nat → Int32} {c_bm : Int32} {c_tx : Nat → Int32} {c_ty : Int32} {c_ft : Int32} {c_fa : Int32} {c_sp : Int32} {c_nu : Int32} {c_un : Nat → Int32} {c_sf : Nat → Int32} {c_st : Nat → Int32} {c_ll : Nat → Int32} {c_ln : Nat → Int32} {c_ip : Nat → Int32} {c_gr : Nat → Int32} {c_hs : Int64} {a1 : Int32} {a2 : Int32} {a3 : Int32} {post : Int32 → (Nat → Int32) → Prop} (h : wpX2_adds c_pg c_gr a1 a2 a3 post) : yMi l yX2_adds (ws_ yX2_adds cX2_adds 5 (some .int)) 5 154 0 0 D s0 [yr (some (ad 0)), yi a1, yi a2, yi a3] (mM ad c_pg c_bm c_tx c_ty c_ft c_fa c_sp c_nu c_un c_sf c_st c_ll c_ln c_ip c_gr c_hs) (fun r M1 => ∃ (w_gr : Nat → Int32), M1 = mM ad c_pg c_bm c_tx c_ty c_ft c_fa c_sp c_nu c_un c_sf c_st c_ll c_ln c_ip w_gr c_hs ∧ post r w_gr) := by
  refine y_meti hB (by decide) rfl (Nat.le_of_ble_eq_true rfl) ?_
  intro p e s m below meth c A hr hnm C
  rw [wpX2_adds] at h
  refine y_aload_n C 0 rfl rfl dX2_adds_0 ?_
  refine y_iconst C 0 dX2_adds_1 lit0 ?_
  refine y_sipush C (-999) dX2_adds_2 y_sm999 ?_
  refine y_callVv0 C (metX2_laysDistances hd hB h) (cwV 2 C.hts (lw_V q1378 q1380 qs46 q91 q1381) rfl rfl rfl kdX2_laysDistances ⟨Nat.le_of_ble_eq_true rfl, Nat.le_of_ble_eq_true rfl⟩) mM_0 rfl rfl rfl (Nat.le_of_ble_eq_true rfl) dX2_adds_5 (fun M1 hp => ?_)
  clear h
  obtain ⟨w_gr1, rfl, h⟩ := hp
  refine y_aload_n C 0 rfl rfl dX2_adds_8 ?_
  refine y_iload_n C 2 rfl rfl dX2_adds_9 ?_
  refine y_iload_n C 3 rfl rfl dX2_adds_10 ?_
  refine y_callVi0 C (metX2_range hd hB h) (cwV 2 C.hts (lw_V q1510 q1512 qs74 q91 q1513) rfl rfl rfl kdX2_range ⟨Nat.le_of_ble_eq_true rfl, Nat.le_of_ble_eq_true rfl⟩) mM_0 rfl rfl rfl (Nat.le_of_ble_eq_true rfl) dX2_adds_11 (fun r2 M1 hp => ?_)
  clear h
  obtain ⟨rfl, h⟩ := hp
  refine y_istore C 4 (by decide) dX2_adds_14 ?_
  refine y_aload_n C 0 rfl rfl dX2_adds_16 ?_
  refine y_iconst C 0 dX2_adds_17 lit0 ?_
  refine y_iload_n C 1 rfl rfl dX2_adds_18 ?_
  refine y_callVv0 C (metX2_laysDistances hd hB h) (cwV 2 C.hts (lw_V q1378 q1380 qs46 q91 q1381) rfl rfl rfl kdX2_laysDistances ⟨Nat.le_of_ble_eq_true rfl, Nat.le_of_ble_eq_true rfl⟩) mM_0 rfl rfl rfl (Nat.le_of_ble_eq_true rfl) dX2_adds_19 (fun M1 hp => ?_)
  clear h
  obtain ⟨w_gr3, rfl, h⟩ := hp
  refine y_iload C 4 rfl dX2_adds_22 ?_
  refine y_aload_n C 0 rfl rfl dX2_adds_24 ?_
  refine y_iload_n C 2 rfl rfl dX2_adds_25 ?_
  refine y_iload_n C 3 rfl rfl dX2_adds_26 ?_
  refine y_callVi0 C (metX2_range hd hB h) (cwV 2 C.hts (lw_V q1510 q1512 qs74 q91 q1513) rfl rfl rfl kdX2_range ⟨Nat.le_of_ble_eq_true rfl, Nat.le_of_ble_eq_true rfl⟩) mM_0 rfl rfl rfl (Nat.le_of_ble_eq_true rfl) dX2_adds_27 (fun r4 M1 hp => ?_)
  clear h
  obtain ⟨rfl, h⟩ := hp
  refine y_isub C dX2_adds_30 ?_
  exact y_ireti C hr rfl rfl ⟨_, rfl, h⟩ dX2_adds_31
theorem kdX2_adds : yX2_adds.cls = RX2 ∧ yX2_adds.cls ≠ "java/lang/invoke/MethodHandle" ∧ yX2_adds.cls ≠ "java/lang/invoke/VarHandle" ∧ (parseMethodDescriptor yX2_adds.desc).map (fun d => d.parameters.length) = some 3 := by decide +kernel
def wpX2_ifExact (c_pg : Nat → Int32) (c_gr : Nat → Int32) (a1 : Int32) (a2 : Int32) (a3 : Int32) (post : Int32 → (Nat → Int32) → Prop) : Prop := wpX2_isDimension c_pg a1 (fun r1 => ((r1 = 0 → post (-1) c_gr) ∧ (¬ r1 = 0 → wpX2_arePoints c_pg a2 a3 (fun r2 => ((¬ r2 = 0 → wpX2_laysDistances c_pg c_gr 0 (-999) (fun w_gr3 => wpX2_areBound w_gr3 a2 a3 (fun r4 => ((r4 = 0 → post (-999) w_gr3) ∧ (¬ r4 = 0 → wpX2_adds c_pg w_gr3 a1 a2 a3 (fun r6 w_gr5 => post r6 w_gr5)))))) ∧ (r2 = 0 → post (-1) c_gr))))))
theorem metX2_ifExact {l : Launch} {D : va_G} {s0 : State} {a0 : Array Value} {ad : Nat → Nat} (hd : yAd ad) (hB : yB D s0 a0) {c_pg : Nat → Int32} {c_bm : Int32} {c_tx : Nat → Int32} {c_ty : Int32} {c_ft : Int32} {c_fa : Int32} {c_sp : Int32} {c_nu : Int32} {c_un : Nat → Int32} {c_sf : Nat → Int32} {c_st : Nat → Int32} {c_ll : Nat → Int32} {c_ln : Nat → Int32} {c_ip : Nat → Int32} {c_gr : Nat → Int32} {c_hs : Int64} {a1 : Int32} {a2 : Int32} {a3 : Int32} {post : Int32 → (Nat → Int32) → Prop} (h : wpX2_ifExact c_pg c_gr a1 a2 a3 post) : yMi l yX2_ifExact (ws_ yX2_ifExact cX2_ifExact 4 (some .int)) 6 178 0 0 D s0 [yr (some (ad 0)), yi a1, yi a2, yi a3] (mM ad c_pg c_bm c_tx c_ty c_ft c_fa c_sp c_nu c_un c_sf c_st c_ll c_ln c_ip c_gr c_hs) (fun r M1 => ∃ (w_gr : Nat → Int32), M1 = mM ad c_pg c_bm c_tx c_ty c_ft c_fa c_sp c_nu c_un c_sf c_st c_ll c_ln c_ip w_gr c_hs ∧ post r w_gr) := by
  refine y_meti hB (by decide) rfl (Nat.le_of_ble_eq_true rfl) ?_
  intro p e s m below meth c A hr hnm C
  rw [wpX2_ifExact] at h
  refine y_aload_n C 0 rfl rfl dX2_ifExact_0 ?_
  refine y_iload_n C 1 rfl rfl dX2_ifExact_1 ?_
  refine y_callVi0 C (metX2_isDimension hd hB h) (cwV 1 C.hts (lw_V q1290 q1292 qs34 q91 q1293) rfl rfl rfl kdX2_isDimension ⟨Nat.le_of_ble_eq_true rfl, Nat.le_of_ble_eq_true rfl⟩) mM_0 rfl rfl rfl (Nat.le_of_ble_eq_true rfl) dX2_ifExact_2 (fun r1 M1 hp => ?_)
  clear h
  obtain ⟨rfl, h⟩ := hp
  refine y_if_eq C 17 dX2_ifExact_5 (by decide) (fun c9 => ?_) (fun c9 => ?_)
  · replace h := h.1 c9
    refine y_iconst C (-1) dX2_ifExact_17 litm1 ?_
    exact y_ireti C hr rfl rfl ⟨_, rfl, h⟩ dX2_ifExact_18
  · replace h := h.2 c9
    refine y_aload_n C 0 rfl rfl dX2_ifExact_8 ?_
    refine y_iload_n C 2 rfl rfl dX2_ifExact_9 ?_
    refine y_iload_n C 3 rfl rfl dX2_ifExact_10 ?_
    refine y_callVi0 C (metX2_arePoints hd hB h) (cwV 2 C.hts (lw_V q1498 q1500 qs72 q91 q1501) rfl rfl rfl kdX2_arePoints ⟨Nat.le_of_ble_eq_true rfl, Nat.le_of_ble_eq_true rfl⟩) mM_0 rfl rfl rfl (Nat.le_of_ble_eq_true rfl) dX2_ifExact_11 (fun r2 M1 hp => ?_)
    clear h
    obtain ⟨rfl, h⟩ := hp
    refine y_if_ne C 19 dX2_ifExact_14 (by decide) (fun c9 => ?_) (fun c9 => ?_)
    · replace h := h.1 c9
      refine y_aload_n C 0 rfl rfl dX2_ifExact_19 ?_
      refine y_iconst C 0 dX2_ifExact_20 lit0 ?_
      refine y_sipush C (-999) dX2_ifExact_21 y_sm999 ?_
      refine y_callVv0 C (metX2_laysDistances hd hB h) (cwV 2 C.hts (lw_V q1378 q1380 qs46 q91 q1381) rfl rfl rfl kdX2_laysDistances ⟨Nat.le_of_ble_eq_true rfl, Nat.le_of_ble_eq_true rfl⟩) mM_0 rfl rfl rfl (Nat.le_of_ble_eq_true rfl) dX2_ifExact_24 (fun M1 hp => ?_)
      clear h
      obtain ⟨w_gr3, rfl, h⟩ := hp
      refine y_aload_n C 0 rfl rfl dX2_ifExact_27 ?_
      refine y_iload_n C 2 rfl rfl dX2_ifExact_28 ?_
      refine y_iload_n C 3 rfl rfl dX2_ifExact_29 ?_
      refine y_callVi0 C (metX2_areBound hd hB h) (cwV 2 C.hts (lw_V q1403 q1405 qs52 q91 q1406) rfl rfl rfl kdX2_areBound ⟨Nat.le_of_ble_eq_true rfl, Nat.le_of_ble_eq_true rfl⟩) mM_0 rfl rfl rfl (Nat.le_of_ble_eq_true rfl) dX2_ifExact_30 (fun r4 M1 hp => ?_)
      clear h
      obtain ⟨rfl, h⟩ := hp
      refine y_if_eq C 46 dX2_ifExact_33 (by decide) (fun c9 => ?_) (fun c9 => ?_)
      · replace h := h.1 c9
        refine y_sipush C (-999) dX2_ifExact_46 y_sm999 ?_
        exact y_ireti C hr rfl rfl ⟨_, rfl, h⟩ dX2_ifExact_49
      · replace h := h.2 c9
        refine y_aload_n C 0 rfl rfl dX2_ifExact_36 ?_
        refine y_iload_n C 1 rfl rfl dX2_ifExact_37 ?_
        refine y_iload_n C 2 rfl rfl dX2_ifExact_38 ?_
        refine y_iload_n C 3 rfl rfl dX2_ifExact_39 ?_
        refine y_callVi0 C (metX2_adds hd hB h) (cwV 3 C.hts (lw_V q1506 q1508 qs73 q91 q1509) rfl rfl rfl kdX2_adds ⟨Nat.le_of_ble_eq_true rfl, Nat.le_of_ble_eq_true rfl⟩) mM_0 rfl rfl rfl (Nat.le_of_ble_eq_true rfl) dX2_ifExact_40 (fun r6 M1 hp => ?_)
        clear h
        obtain ⟨w_gr5, rfl, h⟩ := hp
        refine y_goto C 49 dX2_ifExact_43 (by decide) ?_
        exact y_ireti C hr rfl rfl ⟨_, rfl, h⟩ dX2_ifExact_49
    · replace h := h.2 c9
      refine y_iconst C (-1) dX2_ifExact_17 litm1 ?_
      exact y_ireti C hr rfl rfl ⟨_, rfl, h⟩ dX2_ifExact_18
theorem kdX2_ifExact : yX2_ifExact.cls = RX2 ∧ yX2_ifExact.cls ≠ "java/lang/invoke/MethodHandle" ∧ yX2_ifExact.cls ≠ "java/lang/invoke/VarHandle" ∧ (parseMethodDescriptor yX2_ifExact.desc).map (fun d => d.parameters.length) = some 3 := by decide +kernel
section sX2_critical
variable {p : Program} {l : Launch} {e : Env} {s : State} {m : MethodId} {args : Array Value} {below : List Frame} {meth : Method} {c : Code} {D : va_G} {s0 : State} {a0 : Array Value} {A : Nat → Prop} {ad : Nat → Nat} {c_pg : Nat → Int32} {c_bm : Int32} {c_tx : Nat → Int32} {c_ty : Int32} {c_ft : Int32} {c_fa : Int32} {c_sp : Int32} {c_nu : Int32} {c_un : Nat → Int32} {c_sf : Nat → Int32} {c_st : Nat → Int32} {c_ll : Nat → Int32} {c_ln : Nat → Int32} {c_ip : Nat → Int32} {c_gr : Nat → Int32} {c_hs : Int64}
def wpX2_critical_b109 (post : Int32 → (Nat → Int32) → Prop) (k42 : (Nat → Int32) → (Nat → Int32) → Int32 → Int32 → Int32 → Int32 → Int32 → Prop) (c_pg : Nat → Int32) (c_gr : Nat → Int32) (v1 : Int32) (v2 : Int32) (v3 : Int32) (v5 : Int32) (u0 : Int32) : Prop := ∀ x6 : Int32, x6 = v5 + 1 → k42 c_pg c_gr v1 v2 v3 u0 x6
theorem okX2_critical_b109 (C : yC p { frames := 6, cells := 0, slots := 0, locals := 178 } s m args meth c cX2_critical 8 RX2 D s0 a0 A) (hB : yB D s0 a0) (hd : yAd ad) (hr : meth.sig.returnType = (some .int)) {post : Int32 → (Nat → Int32) → Prop} {k42 : (Nat → Int32) → (Nat → Int32) → Int32 → Int32 → Int32 → Int32 → Int32 → Prop} (hk42 : ∀ (c_pg : Nat → Int32) (c_gr : Nat → Int32) (v1 : Int32) (v2 : Int32) (v3 : Int32) (v4 : Int32) (v5 : Int32), k42 c_pg c_gr v1 v2 v3 v4 v5 → Y p l e { frames := 6, cells := 0, slots := 0, locals := 178 } s m args below meth c (MQ below (yQi D s0 A (fun r M1 => ∃ (w_gr : Nat → Int32), M1 = mM ad c_pg c_bm c_tx c_ty c_ft c_fa c_sp c_nu c_un c_sf c_st c_ll c_ln c_ip w_gr c_hs ∧ post r w_gr)) args s 0 0 A) D s0 A 8 (mM ad c_pg c_bm c_tx c_ty c_ft c_fa c_sp c_nu c_un c_sf c_st c_ll c_ln c_ip c_gr c_hs) 0 0 [some (yr (some (ad 0))), some (yi v1), some (yi v2), some (yi v3), some (yi v4), some (yi v5), none, none] 42 []) : ∀ (c_pg : Nat → Int32) (c_gr : Nat → Int32) (v1 : Int32) (v2 : Int32) (v3 : Int32) (v5 : Int32) (u0 : Int32), wpX2_critical_b109 post k42 c_pg c_gr v1 v2 v3 v5 u0 → Y p l e { frames := 6, cells := 0, slots := 0, locals := 178 } s m args below meth c (MQ below (yQi D s0 A (fun r M1 => ∃ (w_gr : Nat → Int32), M1 = mM ad c_pg c_bm c_tx c_ty c_ft c_fa c_sp c_nu c_un c_sf c_st c_ll c_ln c_ip w_gr c_hs ∧ post r w_gr)) args s 0 0 A) D s0 A 8 (mM ad c_pg c_bm c_tx c_ty c_ft c_fa c_sp c_nu c_un c_sf c_st c_ll c_ln c_ip c_gr c_hs) 0 0 [some (yr (some (ad 0))), some (yi v1), some (yi v2), some (yi v3), none, some (yi v5), none, none] 109 [yi u0] := by
  intro c_pg c_gr v1 v2 v3 v5 u0 h
  rw [wpX2_critical_b109] at h
  refine y_istore C 4 (by decide) dX2_critical_109 ?_
  replace h := h _ rfl
  refine y_iinc C 5 _ rfl (y_inc1 _) (by decide) dX2_critical_111 ?_
  refine y_goto C 42 dX2_critical_114 (by decide) ?_
  refine y_to C _ ?_ (hk42 _ _ _ _ _ _ _ h)
  exact (And.intro rfl (And.intro rfl (And.intro rfl (And.intro rfl (And.intro rfl (And.intro rfl trivial))))))
def wpX2_critical_b96 (post : Int32 → (Nat → Int32) → Prop) (k42 : (Nat → Int32) → (Nat → Int32) → Int32 → Int32 → Int32 → Int32 → Int32 → Prop) (c_pg : Nat → Int32) (c_gr : Nat → Int32) (v1 : Int32) (v2 : Int32) (v4 : Int32) (v5 : Int32) (v6 : Int32) (v7 : Int32) (u0 : Int32) : Prop := ((v7 = 0 → wpX2_critical_b109 post k42 c_pg c_gr v1 v2 u0 v5 v4) ∧ (¬ v7 = 0 → wpX2_critical_b109 post k42 c_pg c_gr v1 v2 u0 v5 v6))
theorem okX2_critical_b96 (C : yC p { frames := 6, cells := 0, slots := 0, locals := 178 } s m args meth c cX2_critical 8 RX2 D s0 a0 A) (hB : yB D s0 a0) (hd : yAd ad) (hr : meth.sig.returnType = (some .int)) {post : Int32 → (Nat → Int32) → Prop} {k42 : (Nat → Int32) → (Nat → Int32) → Int32 → Int32 → Int32 → Int32 → Int32 → Prop} (hk42 : ∀ (c_pg : Nat → Int32) (c_gr : Nat → Int32) (v1 : Int32) (v2 : Int32) (v3 : Int32) (v4 : Int32) (v5 : Int32), k42 c_pg c_gr v1 v2 v3 v4 v5 → Y p l e { frames := 6, cells := 0, slots := 0, locals := 178 } s m args below meth c (MQ below (yQi D s0 A (fun r M1 => ∃ (w_gr : Nat → Int32), M1 = mM ad c_pg c_bm c_tx c_ty c_ft c_fa c_sp c_nu c_un c_sf c_st c_ll c_ln c_ip w_gr c_hs ∧ post r w_gr)) args s 0 0 A) D s0 A 8 (mM ad c_pg c_bm c_tx c_ty c_ft c_fa c_sp c_nu c_un c_sf c_st c_ll c_ln c_ip c_gr c_hs) 0 0 [some (yr (some (ad 0))), some (yi v1), some (yi v2), some (yi v3), some (yi v4), some (yi v5), none, none] 42 []) : ∀ (c_pg : Nat → Int32) (c_gr : Nat → Int32) (v1 : Int32) (v2 : Int32) (v4 : Int32) (v5 : Int32) (v6 : Int32) (v7 : Int32) (u0 : Int32), wpX2_critical_b96 post k42 c_pg c_gr v1 v2 v4 v5 v6 v7 u0 → Y p l e { frames := 6, cells := 0, slots := 0, locals := 178 } s m args below meth c (MQ below (yQi D s0 A (fun r M1 => ∃ (w_gr : Nat → Int32), M1 = mM ad c_pg c_bm c_tx c_ty c_ft c_fa c_sp c_nu c_un c_sf c_st c_ll c_ln c_ip w_gr c_hs ∧ post r w_gr)) args s 0 0 A) D s0 A 8 (mM ad c_pg c_bm c_tx c_ty c_ft c_fa c_sp c_nu c_un c_sf c_st c_ll c_ln c_ip c_gr c_hs) 0 0 [some (yr (some (ad 0))), some (yi v1), some (yi v2), none, some (yi v4), some (yi v5), some (yi v6), some (yi v7)] 96 [yi u0] := by
  intro c_pg c_gr v1 v2 v4 v5 v6 v7 u0 h
  rw [wpX2_critical_b96] at h
  refine y_istore_n C 3 rfl (by decide) dX2_critical_96 ?_
  refine y_iload C 7 rfl dX2_critical_97 ?_
  refine y_if_eq C 107 dX2_critical_99 (by decide) (fun c9 => ?_) (fun c9 => ?_)
  · replace h := h.1 c9
    refine y_iload C 4 rfl dX2_critical_107 ?_
    refine y_to C _ ?_ (okX2_critical_b109 C hB hd hr hk42 _ _ _ _ _ _ _ h)
    exact (And.intro rfl (And.intro rfl (And.intro rfl (And.intro rfl (And.intro rfl trivial)))))
  · replace h := h.2 c9
    refine y_iload C 6 rfl dX2_critical_102 ?_
    refine y_goto C 109 dX2_critical_104 (by decide) ?_
    refine y_to C _ ?_ (okX2_critical_b109 C hB hd hr hk42 _ _ _ _ _ _ _ h)
    exact (And.intro rfl (And.intro rfl (And.intro rfl (And.intro rfl (And.intro rfl trivial)))))
def wpX2_critical_b83 (post : Int32 → (Nat → Int32) → Prop) (k42 : (Nat → Int32) → (Nat → Int32) → Int32 → Int32 → Int32 → Int32 → Int32 → Prop) (c_pg : Nat → Int32) (c_gr : Nat → Int32) (v1 : Int32) (v2 : Int32) (v3 : Int32) (v4 : Int32) (v5 : Int32) (v6 : Int32) (u0 : Int32) : Prop := ((u0 = 0 → wpX2_critical_b96 post k42 c_pg c_gr v1 v2 v4 v5 v6 u0 v3) ∧ (¬ u0 = 0 → wpX2_critical_b96 post k42 c_pg c_gr v1 v2 v4 v5 v6 u0 v5))
theorem okX2_critical_b83 (C : yC p { frames := 6, cells := 0, slots := 0, locals := 178 } s m args meth c cX2_critical 8 RX2 D s0 a0 A) (hB : yB D s0 a0) (hd : yAd ad) (hr : meth.sig.returnType = (some .int)) {post : Int32 → (Nat → Int32) → Prop} {k42 : (Nat → Int32) → (Nat → Int32) → Int32 → Int32 → Int32 → Int32 → Int32 → Prop} (hk42 : ∀ (c_pg : Nat → Int32) (c_gr : Nat → Int32) (v1 : Int32) (v2 : Int32) (v3 : Int32) (v4 : Int32) (v5 : Int32), k42 c_pg c_gr v1 v2 v3 v4 v5 → Y p l e { frames := 6, cells := 0, slots := 0, locals := 178 } s m args below meth c (MQ below (yQi D s0 A (fun r M1 => ∃ (w_gr : Nat → Int32), M1 = mM ad c_pg c_bm c_tx c_ty c_ft c_fa c_sp c_nu c_un c_sf c_st c_ll c_ln c_ip w_gr c_hs ∧ post r w_gr)) args s 0 0 A) D s0 A 8 (mM ad c_pg c_bm c_tx c_ty c_ft c_fa c_sp c_nu c_un c_sf c_st c_ll c_ln c_ip c_gr c_hs) 0 0 [some (yr (some (ad 0))), some (yi v1), some (yi v2), some (yi v3), some (yi v4), some (yi v5), none, none] 42 []) : ∀ (c_pg : Nat → Int32) (c_gr : Nat → Int32) (v1 : Int32) (v2 : Int32) (v3 : Int32) (v4 : Int32) (v5 : Int32) (v6 : Int32) (u0 : Int32), wpX2_critical_b83 post k42 c_pg c_gr v1 v2 v3 v4 v5 v6 u0 → Y p l e { frames := 6, cells := 0, slots := 0, locals := 178 } s m args below meth c (MQ below (yQi D s0 A (fun r M1 => ∃ (w_gr : Nat → Int32), M1 = mM ad c_pg c_bm c_tx c_ty c_ft c_fa c_sp c_nu c_un c_sf c_st c_ll c_ln c_ip w_gr c_hs ∧ post r w_gr)) args s 0 0 A) D s0 A 8 (mM ad c_pg c_bm c_tx c_ty c_ft c_fa c_sp c_nu c_un c_sf c_st c_ll c_ln c_ip c_gr c_hs) 0 0 [some (yr (some (ad 0))), some (yi v1), some (yi v2), some (yi v3), some (yi v4), some (yi v5), some (yi v6), none] 83 [yi u0] := by
  intro c_pg c_gr v1 v2 v3 v4 v5 v6 u0 h
  rw [wpX2_critical_b83] at h
  refine y_istore C 7 (by decide) dX2_critical_83 ?_
  refine y_iload C 7 rfl dX2_critical_85 ?_
  refine y_if_eq C 95 dX2_critical_87 (by decide) (fun c9 => ?_) (fun c9 => ?_)
  · replace h := h.1 c9
    refine y_iload_n C 3 rfl rfl dX2_critical_95 ?_
    refine y_to C _ ?_ (okX2_critical_b96 C hB hd hr hk42 _ _ _ _ _ _ _ _ _ h)
    exact (And.intro rfl (And.intro rfl (And.intro rfl (And.intro rfl (And.intro rfl (And.intro rfl (And.intro rfl trivial)))))))
  · replace h := h.2 c9
    refine y_iload C 5 rfl dX2_critical_90 ?_
    refine y_goto C 96 dX2_critical_92 (by decide) ?_
    refine y_to C _ ?_ (okX2_critical_b96 C hB hd hr hk42 _ _ _ _ _ _ _ _ _ h)
    exact (And.intro rfl (And.intro rfl (And.intro rfl (And.intro rfl (And.intro rfl (And.intro rfl (And.intro rfl trivial)))))))
def wpX2_critical_b78 (post : Int32 → (Nat → Int32) → Prop) (k42 : (Nat → Int32) → (Nat → Int32) → Int32 → Int32 → Int32 → Int32 → Int32 → Prop) (c_pg : Nat → Int32) (c_gr : Nat → Int32) (v1 : Int32) (v2 : Int32) (v3 : Int32) (v4 : Int32) (v5 : Int32) (v6 : Int32) : Prop := wpX2_critical_b83 post k42 c_pg c_gr v1 v2 v3 v4 v5 v6 1
theorem okX2_critical_b78 (C : yC p { frames := 6, cells := 0, slots := 0, locals := 178 } s m args meth c cX2_critical 8 RX2 D s0 a0 A) (hB : yB D s0 a0) (hd : yAd ad) (hr : meth.sig.returnType = (some .int)) {post : Int32 → (Nat → Int32) → Prop} {k42 : (Nat → Int32) → (Nat → Int32) → Int32 → Int32 → Int32 → Int32 → Int32 → Prop} (hk42 : ∀ (c_pg : Nat → Int32) (c_gr : Nat → Int32) (v1 : Int32) (v2 : Int32) (v3 : Int32) (v4 : Int32) (v5 : Int32), k42 c_pg c_gr v1 v2 v3 v4 v5 → Y p l e { frames := 6, cells := 0, slots := 0, locals := 178 } s m args below meth c (MQ below (yQi D s0 A (fun r M1 => ∃ (w_gr : Nat → Int32), M1 = mM ad c_pg c_bm c_tx c_ty c_ft c_fa c_sp c_nu c_un c_sf c_st c_ll c_ln c_ip w_gr c_hs ∧ post r w_gr)) args s 0 0 A) D s0 A 8 (mM ad c_pg c_bm c_tx c_ty c_ft c_fa c_sp c_nu c_un c_sf c_st c_ll c_ln c_ip c_gr c_hs) 0 0 [some (yr (some (ad 0))), some (yi v1), some (yi v2), some (yi v3), some (yi v4), some (yi v5), none, none] 42 []) : ∀ (c_pg : Nat → Int32) (c_gr : Nat → Int32) (v1 : Int32) (v2 : Int32) (v3 : Int32) (v4 : Int32) (v5 : Int32) (v6 : Int32), wpX2_critical_b78 post k42 c_pg c_gr v1 v2 v3 v4 v5 v6 → Y p l e { frames := 6, cells := 0, slots := 0, locals := 178 } s m args below meth c (MQ below (yQi D s0 A (fun r M1 => ∃ (w_gr : Nat → Int32), M1 = mM ad c_pg c_bm c_tx c_ty c_ft c_fa c_sp c_nu c_un c_sf c_st c_ll c_ln c_ip w_gr c_hs ∧ post r w_gr)) args s 0 0 A) D s0 A 8 (mM ad c_pg c_bm c_tx c_ty c_ft c_fa c_sp c_nu c_un c_sf c_st c_ll c_ln c_ip c_gr c_hs) 0 0 [some (yr (some (ad 0))), some (yi v1), some (yi v2), some (yi v3), some (yi v4), some (yi v5), some (yi v6), none] 78 [] := by
  intro c_pg c_gr v1 v2 v3 v4 v5 v6 h
  rw [wpX2_critical_b78] at h
  refine y_iconst C 1 dX2_critical_78 lit1 ?_
  refine y_goto C 83 dX2_critical_79 (by decide) ?_
  refine y_to C _ ?_ (okX2_critical_b83 C hB hd hr hk42 _ _ _ _ _ _ _ _ _ h)
  exact (And.intro rfl (And.intro rfl (And.intro rfl (And.intro rfl (And.intro rfl (And.intro rfl (And.intro rfl trivial)))))))
def wpX2_critical_b42 (post : Int32 → (Nat → Int32) → Prop) : Nat → (Nat → Int32) → (Nat → Int32) → Int32 → Int32 → Int32 → Int32 → Int32 → Prop
  | 0, _, _, _, _, _, _, _ => False
  | nn + 1, c_pg, c_gr, v1, v2, v3, v4, v5 => vp_in 13 1120 ∧ (((c_pg (Int32.toNatClampNeg 13)) ≤ v5 → post v3 c_gr) ∧ (¬ (c_pg (Int32.toNatClampNeg 13)) ≤ v5 → wpX2_adds c_pg c_gr v5 v1 v2 (fun r5 w_gr4 => ((v3 = (-999) → wpX2_critical_b78 post (fun c_pg c_gr v1 v2 v3 v4 v5 => wpX2_critical_b42 post nn c_pg c_gr v1 v2 v3 v4 v5) c_pg w_gr4 v1 v2 v3 v4 v5 r5) ∧ (¬ v3 = (-999) → ((r5 ≤ v4 → wpX2_critical_b83 post (fun c_pg c_gr v1 v2 v3 v4 v5 => wpX2_critical_b42 post nn c_pg c_gr v1 v2 v3 v4 v5) c_pg w_gr4 v1 v2 v3 v4 v5 r5 0) ∧ (¬ r5 ≤ v4 → wpX2_critical_b78 post (fun c_pg c_gr v1 v2 v3 v4 v5 => wpX2_critical_b42 post nn c_pg c_gr v1 v2 v3 v4 v5) c_pg w_gr4 v1 v2 v3 v4 v5 r5)))))))
theorem okX2_critical_b42 (C : yC p { frames := 6, cells := 0, slots := 0, locals := 178 } s m args meth c cX2_critical 8 RX2 D s0 a0 A) (hB : yB D s0 a0) (hd : yAd ad) (hr : meth.sig.returnType = (some .int)) {post : Int32 → (Nat → Int32) → Prop}  : ∀ (nn : Nat) (c_pg : Nat → Int32) (c_gr : Nat → Int32) (v1 : Int32) (v2 : Int32) (v3 : Int32) (v4 : Int32) (v5 : Int32), wpX2_critical_b42 post nn c_pg c_gr v1 v2 v3 v4 v5 → Y p l e { frames := 6, cells := 0, slots := 0, locals := 178 } s m args below meth c (MQ below (yQi D s0 A (fun r M1 => ∃ (w_gr : Nat → Int32), M1 = mM ad c_pg c_bm c_tx c_ty c_ft c_fa c_sp c_nu c_un c_sf c_st c_ll c_ln c_ip w_gr c_hs ∧ post r w_gr)) args s 0 0 A) D s0 A 8 (mM ad c_pg c_bm c_tx c_ty c_ft c_fa c_sp c_nu c_un c_sf c_st c_ll c_ln c_ip c_gr c_hs) 0 0 [some (yr (some (ad 0))), some (yi v1), some (yi v2), some (yi v3), some (yi v4), some (yi v5), none, none] 42 [] := by
  intro nn
  induction nn with
  | zero => intro c_pg c_gr v1 v2 v3 v4 v5 h; exact absurd h (by rw [wpX2_critical_b42]; exact id)
  | succ nn ih =>
    intro c_pg c_gr v1 v2 v3 v4 v5 h
    rw [wpX2_critical_b42] at h
    refine y_iload C 5 rfl dX2_critical_42 ?_
    refine y_aload_n C 0 rfl rfl dX2_critical_44 ?_
    refine y_get (ci := 2) (k := 0) C in_X2 rfl (by decide) q1169 (fun _ h => h) mM_0 rfl dX2_critical_45 ?_
    refine y_bipush C 13 dX2_critical_48 y_b13 ?_
    obtain ⟨i9, h⟩ := h
    refine y_iald C (mM_1 hd) i9 dX2_critical_50 ?_
    refine y_icmp_ge C 117 dX2_critical_51 (by decide) (fun c9 => ?_) (fun c9 => ?_)
    · replace h := h.1 c9
      refine y_iload_n C 3 rfl rfl dX2_critical_117 ?_
      exact y_ireti C hr rfl rfl ⟨_, rfl, h⟩ dX2_critical_118
    · replace h := h.2 c9
      refine y_aload_n C 0 rfl rfl dX2_critical_54 ?_
      refine y_iload C 5 rfl dX2_critical_55 ?_
      refine y_iload_n C 1 rfl rfl dX2_critical_57 ?_
      refine y_iload_n C 2 rfl rfl dX2_critical_58 ?_
      refine y_callVi0 C (metX2_adds hd hB h) (cwV 3 C.hts (lw_V q1506 q1508 qs73 q91 q1509) rfl rfl rfl kdX2_adds ⟨Nat.le_of_ble_eq_true rfl, Nat.le_of_ble_eq_true rfl⟩) mM_0 rfl rfl rfl (Nat.le_of_ble_eq_true rfl) dX2_critical_59 (fun r5 M1 hp => ?_)
      clear h
      obtain ⟨w_gr4, rfl, h⟩ := hp
      refine y_istore C 6 (by decide) dX2_critical_62 ?_
      refine y_iload_n C 3 rfl rfl dX2_critical_64 ?_
      refine y_sipush C (-999) dX2_critical_65 y_sm999 ?_
      refine y_icmp_eq C 78 dX2_critical_68 (by decide) (fun c9 => ?_) (fun c9 => ?_)
      · replace h := h.1 c9
        refine y_to C _ ?_ (okX2_critical_b78 C hB hd hr ih _ _ _ _ _ _ _ _ h)
        exact (And.intro rfl (And.intro rfl (And.intro rfl (And.intro rfl (And.intro rfl (And.intro rfl (And.intro rfl trivial)))))))
      · replace h := h.2 c9
        refine y_iload C 6 rfl dX2_critical_71 ?_
        refine y_iload C 4 rfl dX2_critical_73 ?_
        refine y_icmp_le C 82 dX2_critical_75 (by decide) (fun c9 => ?_) (fun c9 => ?_)
        · replace h := h.1 c9
          refine y_iconst C 0 dX2_critical_82 lit0 ?_
          refine y_to C _ ?_ (okX2_critical_b83 C hB hd hr ih _ _ _ _ _ _ _ _ _ h)
          exact (And.intro rfl (And.intro rfl (And.intro rfl (And.intro rfl (And.intro rfl (And.intro rfl (And.intro rfl trivial)))))))
        · replace h := h.2 c9
          refine y_to C _ ?_ (okX2_critical_b78 C hB hd hr ih _ _ _ _ _ _ _ _ h)
          exact (And.intro rfl (And.intro rfl (And.intro rfl (And.intro rfl (And.intro rfl (And.intro rfl (And.intro rfl trivial)))))))
end sX2_critical
def wpX2_critical (c_pg : Nat → Int32) (c_gr : Nat → Int32) (a1 : Int32) (a2 : Int32) (post : Int32 → (Nat → Int32) → Prop) : Prop := wpX2_arePoints c_pg a1 a2 (fun r1 => ((¬ r1 = 0 → wpX2_laysDistances c_pg c_gr 0 (-999) (fun w_gr2 => wpX2_areBound w_gr2 a1 a2 (fun r3 => ((¬ r3 = 0 → ∃ nf9 : Nat, wpX2_critical_b42 post nf9 c_pg w_gr2 a1 a2 (-999) 0 0) ∧ (r3 = 0 → post (-999) w_gr2))))) ∧ (r1 = 0 → post (-1) c_gr)))
theorem metX2_critical {l : Launch} {D : va_G} {s0 : State} {a0 : Array Value} {ad : Nat → Nat} (hd : yAd ad) (hB : yB D s0 a0) {c_pg : Nat → Int32} {c_bm : Int32} {c_tx : Nat → Int32} {c_ty : Int32} {c_ft : Int32} {c_fa : Int32} {c_sp : Int32} {c_nu : Int32} {c_un : Nat → Int32} {c_sf : Nat → Int32} {c_st : Nat → Int32} {c_ll : Nat → Int32} {c_ln : Nat → Int32} {c_ip : Nat → Int32} {c_gr : Nat → Int32} {c_hs : Int64} {a1 : Int32} {a2 : Int32} {post : Int32 → (Nat → Int32) → Prop} (h : wpX2_critical c_pg c_gr a1 a2 post) : yMi l yX2_critical (ws_ yX2_critical cX2_critical 8 (some .int)) 6 178 0 0 D s0 [yr (some (ad 0)), yi a1, yi a2] (mM ad c_pg c_bm c_tx c_ty c_ft c_fa c_sp c_nu c_un c_sf c_st c_ll c_ln c_ip c_gr c_hs) (fun r M1 => ∃ (w_gr : Nat → Int32), M1 = mM ad c_pg c_bm c_tx c_ty c_ft c_fa c_sp c_nu c_un c_sf c_st c_ll c_ln c_ip w_gr c_hs ∧ post r w_gr) := by
  refine y_meti hB (by decide) rfl (Nat.le_of_ble_eq_true rfl) ?_
  intro p e s m below meth c A hr hnm C
  rw [wpX2_critical] at h
  refine y_aload_n C 0 rfl rfl dX2_critical_0 ?_
  refine y_iload_n C 1 rfl rfl dX2_critical_1 ?_
  refine y_iload_n C 2 rfl rfl dX2_critical_2 ?_
  refine y_callVi0 C (metX2_arePoints hd hB h) (cwV 2 C.hts (lw_V q1498 q1500 qs72 q91 q1501) rfl rfl rfl kdX2_arePoints ⟨Nat.le_of_ble_eq_true rfl, Nat.le_of_ble_eq_true rfl⟩) mM_0 rfl rfl rfl (Nat.le_of_ble_eq_true rfl) dX2_critical_3 (fun r1 M1 hp => ?_)
  clear h
  obtain ⟨rfl, h⟩ := hp
  refine y_if_ne C 11 dX2_critical_6 (by decide) (fun c9 => ?_) (fun c9 => ?_)
  · replace h := h.1 c9
    refine y_aload_n C 0 rfl rfl dX2_critical_11 ?_
    refine y_iconst C 0 dX2_critical_12 lit0 ?_
    refine y_sipush C (-999) dX2_critical_13 y_sm999 ?_
    refine y_callVv0 C (metX2_laysDistances hd hB h) (cwV 2 C.hts (lw_V q1378 q1380 qs46 q91 q1381) rfl rfl rfl kdX2_laysDistances ⟨Nat.le_of_ble_eq_true rfl, Nat.le_of_ble_eq_true rfl⟩) mM_0 rfl rfl rfl (Nat.le_of_ble_eq_true rfl) dX2_critical_16 (fun M1 hp => ?_)
    clear h
    obtain ⟨w_gr2, rfl, h⟩ := hp
    refine y_aload_n C 0 rfl rfl dX2_critical_19 ?_
    refine y_iload_n C 1 rfl rfl dX2_critical_20 ?_
    refine y_iload_n C 2 rfl rfl dX2_critical_21 ?_
    refine y_callVi0 C (metX2_areBound hd hB h) (cwV 2 C.hts (lw_V q1403 q1405 qs52 q91 q1406) rfl rfl rfl kdX2_areBound ⟨Nat.le_of_ble_eq_true rfl, Nat.le_of_ble_eq_true rfl⟩) mM_0 rfl rfl rfl (Nat.le_of_ble_eq_true rfl) dX2_critical_22 (fun r3 M1 hp => ?_)
    clear h
    obtain ⟨rfl, h⟩ := hp
    refine y_if_ne C 32 dX2_critical_25 (by decide) (fun c9 => ?_) (fun c9 => ?_)
    · replace h := h.1 c9
      refine y_sipush C (-999) dX2_critical_32 y_sm999 ?_
      refine y_istore_n C 3 rfl (by decide) dX2_critical_35 ?_
      refine y_iconst C 0 dX2_critical_36 lit0 ?_
      refine y_istore C 4 (by decide) dX2_critical_37 ?_
      refine y_iconst C 0 dX2_critical_39 lit0 ?_
      refine y_istore C 5 (by decide) dX2_critical_40 ?_
      obtain ⟨nf9, h⟩ := h
      refine y_to C _ ?_ (okX2_critical_b42 C hB hd hr  nf9 _ _ _ _ _ _ _ h)
      exact (And.intro rfl (And.intro rfl (And.intro rfl (And.intro rfl (And.intro rfl (And.intro rfl trivial))))))
    · replace h := h.2 c9
      refine y_sipush C (-999) dX2_critical_28 y_sm999 ?_
      exact y_ireti C hr rfl rfl ⟨_, rfl, h⟩ dX2_critical_31
  · replace h := h.2 c9
    refine y_iconst C (-1) dX2_critical_9 litm1 ?_
    exact y_ireti C hr rfl rfl ⟨_, rfl, h⟩ dX2_critical_10
theorem kdX2_critical : yX2_critical.cls = RX2 ∧ yX2_critical.cls ≠ "java/lang/invoke/MethodHandle" ∧ yX2_critical.cls ≠ "java/lang/invoke/VarHandle" ∧ (parseMethodDescriptor yX2_critical.desc).map (fun d => d.parameters.length) = some 2 := by decide +kernel
section sX2_needed
variable {p : Program} {l : Launch} {e : Env} {s : State} {m : MethodId} {args : Array Value} {below : List Frame} {meth : Method} {c : Code} {D : va_G} {s0 : State} {a0 : Array Value} {A : Nat → Prop} {ad : Nat → Nat} {c_pg : Nat → Int32} {c_bm : Int32} {c_tx : Nat → Int32} {c_ty : Int32} {c_ft : Int32} {c_fa : Int32} {c_sp : Int32} {c_nu : Int32} {c_un : Nat → Int32} {c_sf : Nat → Int32} {c_st : Nat → Int32} {c_ll : Nat → Int32} {c_ln : Nat → Int32} {c_ip : Nat → Int32} {c_gr : Nat → Int32} {c_hs : Int64}
def wpX2_needed_b96 (post : Int32 → (Nat → Int32) → Prop) (k12 : (Nat → Int32) → (Nat → Int32) → Int32 → Int32 → Int32 → Prop) (c_pg : Nat → Int32) (c_gr : Nat → Int32) (v1 : Int32) (v2 : Int32) (v3 : Int32) : Prop := k12 c_pg c_gr v1 v2 v3
theorem okX2_needed_b96 (C : yC p { frames := 6, cells := 0, slots := 0, locals := 178 } s m args meth c cX2_needed 5 RX2 D s0 a0 A) (hB : yB D s0 a0) (hd : yAd ad) (hr : meth.sig.returnType = (some .int)) {post : Int32 → (Nat → Int32) → Prop} {k12 : (Nat → Int32) → (Nat → Int32) → Int32 → Int32 → Int32 → Prop} (hk12 : ∀ (c_pg : Nat → Int32) (c_gr : Nat → Int32) (v1 : Int32) (v2 : Int32) (v3 : Int32), k12 c_pg c_gr v1 v2 v3 → Y p l e { frames := 6, cells := 0, slots := 0, locals := 178 } s m args below meth c (MQ below (yQi D s0 A (fun r M1 => ∃ (w_gr : Nat → Int32), M1 = mM ad c_pg c_bm c_tx c_ty c_ft c_fa c_sp c_nu c_un c_sf c_st c_ll c_ln c_ip w_gr c_hs ∧ post r w_gr)) args s 0 0 A) D s0 A 5 (mM ad c_pg c_bm c_tx c_ty c_ft c_fa c_sp c_nu c_un c_sf c_st c_ll c_ln c_ip c_gr c_hs) 0 0 [some (yr (some (ad 0))), some (yi v1), some (yi v2), some (yi v3), none] 12 []) : ∀ (c_pg : Nat → Int32) (c_gr : Nat → Int32) (v1 : Int32) (v2 : Int32) (v3 : Int32), wpX2_needed_b96 post k12 c_pg c_gr v1 v2 v3 → Y p l e { frames := 6, cells := 0, slots := 0, locals := 178 } s m args below meth c (MQ below (yQi D s0 A (fun r M1 => ∃ (w_gr : Nat → Int32), M1 = mM ad c_pg c_bm c_tx c_ty c_ft c_fa c_sp c_nu c_un c_sf c_st c_ll c_ln c_ip w_gr c_hs ∧ post r w_gr)) args s 0 0 A) D s0 A 5 (mM ad c_pg c_bm c_tx c_ty c_ft c_fa c_sp c_nu c_un c_sf c_st c_ll c_ln c_ip c_gr c_hs) 0 0 [some (yr (some (ad 0))), some (yi v1), some (yi v2), some (yi v3), none] 96 [] := by
  intro c_pg c_gr v1 v2 v3 h
  rw [wpX2_needed_b96] at h
  refine y_goto C 12 dX2_needed_96 (by decide) ?_
  refine y_to C _ ?_ (hk12 _ _ _ _ _ h)
  exact (And.intro rfl (And.intro rfl (And.intro rfl (And.intro rfl trivial))))
def wpX2_needed_b88 (post : Int32 → (Nat → Int32) → Prop) (k12 : (Nat → Int32) → (Nat → Int32) → Int32 → Int32 → Int32 → Prop) (k29 : (Nat → Int32) → (Nat → Int32) → Int32 → Int32 → Int32 → Int32 → Prop) (c_pg : Nat → Int32) (c_gr : Nat → Int32) (v1 : Int32) (v3 : Int32) (v4 : Int32) (u0 : Int32) (u1 : Int32) : Prop := ∀ x4 : Int32, x4 = (u0 - u1) → ∀ x5 : Int32, x5 = v4 + (-1) → k29 c_pg c_gr v1 x4 v3 x5
theorem okX2_needed_b88 (C : yC p { frames := 6, cells := 0, slots := 0, locals := 178 } s m args meth c cX2_needed 5 RX2 D s0 a0 A) (hB : yB D s0 a0) (hd : yAd ad) (hr : meth.sig.returnType = (some .int)) {post : Int32 → (Nat → Int32) → Prop} {k12 : (Nat → Int32) → (Nat → Int32) → Int32 → Int32 → Int32 → Prop} {k29 : (Nat → Int32) → (Nat → Int32) → Int32 → Int32 → Int32 → Int32 → Prop} (hk12 : ∀ (c_pg : Nat → Int32) (c_gr : Nat → Int32) (v1 : Int32) (v2 : Int32) (v3 : Int32), k12 c_pg c_gr v1 v2 v3 → Y p l e { frames := 6, cells := 0, slots := 0, locals := 178 } s m args below meth c (MQ below (yQi D s0 A (fun r M1 => ∃ (w_gr : Nat → Int32), M1 = mM ad c_pg c_bm c_tx c_ty c_ft c_fa c_sp c_nu c_un c_sf c_st c_ll c_ln c_ip w_gr c_hs ∧ post r w_gr)) args s 0 0 A) D s0 A 5 (mM ad c_pg c_bm c_tx c_ty c_ft c_fa c_sp c_nu c_un c_sf c_st c_ll c_ln c_ip c_gr c_hs) 0 0 [some (yr (some (ad 0))), some (yi v1), some (yi v2), some (yi v3), none] 12 []) (hk29 : ∀ (c_pg : Nat → Int32) (c_gr : Nat → Int32) (v1 : Int32) (v2 : Int32) (v3 : Int32) (v4 : Int32), k29 c_pg c_gr v1 v2 v3 v4 → Y p l e { frames := 6, cells := 0, slots := 0, locals := 178 } s m args below meth c (MQ below (yQi D s0 A (fun r M1 => ∃ (w_gr : Nat → Int32), M1 = mM ad c_pg c_bm c_tx c_ty c_ft c_fa c_sp c_nu c_un c_sf c_st c_ll c_ln c_ip w_gr c_hs ∧ post r w_gr)) args s 0 0 A) D s0 A 5 (mM ad c_pg c_bm c_tx c_ty c_ft c_fa c_sp c_nu c_un c_sf c_st c_ll c_ln c_ip c_gr c_hs) 0 0 [some (yr (some (ad 0))), some (yi v1), some (yi v2), some (yi v3), some (yi v4)] 29 []) : ∀ (c_pg : Nat → Int32) (c_gr : Nat → Int32) (v1 : Int32) (v3 : Int32) (v4 : Int32) (u0 : Int32) (u1 : Int32), wpX2_needed_b88 post k12 k29 c_pg c_gr v1 v3 v4 u0 u1 → Y p l e { frames := 6, cells := 0, slots := 0, locals := 178 } s m args below meth c (MQ below (yQi D s0 A (fun r M1 => ∃ (w_gr : Nat → Int32), M1 = mM ad c_pg c_bm c_tx c_ty c_ft c_fa c_sp c_nu c_un c_sf c_st c_ll c_ln c_ip w_gr c_hs ∧ post r w_gr)) args s 0 0 A) D s0 A 5 (mM ad c_pg c_bm c_tx c_ty c_ft c_fa c_sp c_nu c_un c_sf c_st c_ll c_ln c_ip c_gr c_hs) 0 0 [some (yr (some (ad 0))), some (yi v1), none, some (yi v3), some (yi v4)] 88 [yi u1, yi u0] := by
  intro c_pg c_gr v1 v3 v4 u0 u1 h
  rw [wpX2_needed_b88] at h
  refine y_isub C dX2_needed_88 ?_
  replace h := h _ rfl
  refine y_istore_n C 2 rfl (by decide) dX2_needed_89 ?_
  replace h := h _ rfl
  refine y_iinc C 4 _ rfl (y_incm1 _) (by decide) dX2_needed_90 ?_
  refine y_goto C 29 dX2_needed_93 (by decide) ?_
  refine y_to C _ ?_ (hk29 _ _ _ _ _ _ h)
  exact (And.intro rfl (And.intro rfl (And.intro rfl (And.intro rfl (And.intro rfl trivial)))))
def wpX2_needed_b76 (post : Int32 → (Nat → Int32) → Prop) (k12 : (Nat → Int32) → (Nat → Int32) → Int32 → Int32 → Int32 → Prop) (k29 : (Nat → Int32) → (Nat → Int32) → Int32 → Int32 → Int32 → Int32 → Prop) (c_pg : Nat → Int32) (c_gr : Nat → Int32) (v2 : Int32) (v3 : Int32) (v4 : Int32) (u0 : Int32) (u1 : Int32) : Prop := ∀ x3 : Int32, x3 = (u0 ||| u1) → ((v3 = 0 → wpX2_needed_b88 post k12 k29 c_pg c_gr x3 v3 v4 v2 0) ∧ (¬ v3 = 0 → wpX2_needed_b88 post k12 k29 c_pg c_gr x3 v3 v4 v2 1))
theorem okX2_needed_b76 (C : yC p { frames := 6, cells := 0, slots := 0, locals := 178 } s m args meth c cX2_needed 5 RX2 D s0 a0 A) (hB : yB D s0 a0) (hd : yAd ad) (hr : meth.sig.returnType = (some .int)) {post : Int32 → (Nat → Int32) → Prop} {k12 : (Nat → Int32) → (Nat → Int32) → Int32 → Int32 → Int32 → Prop} {k29 : (Nat → Int32) → (Nat → Int32) → Int32 → Int32 → Int32 → Int32 → Prop} (hk12 : ∀ (c_pg : Nat → Int32) (c_gr : Nat → Int32) (v1 : Int32) (v2 : Int32) (v3 : Int32), k12 c_pg c_gr v1 v2 v3 → Y p l e { frames := 6, cells := 0, slots := 0, locals := 178 } s m args below meth c (MQ below (yQi D s0 A (fun r M1 => ∃ (w_gr : Nat → Int32), M1 = mM ad c_pg c_bm c_tx c_ty c_ft c_fa c_sp c_nu c_un c_sf c_st c_ll c_ln c_ip w_gr c_hs ∧ post r w_gr)) args s 0 0 A) D s0 A 5 (mM ad c_pg c_bm c_tx c_ty c_ft c_fa c_sp c_nu c_un c_sf c_st c_ll c_ln c_ip c_gr c_hs) 0 0 [some (yr (some (ad 0))), some (yi v1), some (yi v2), some (yi v3), none] 12 []) (hk29 : ∀ (c_pg : Nat → Int32) (c_gr : Nat → Int32) (v1 : Int32) (v2 : Int32) (v3 : Int32) (v4 : Int32), k29 c_pg c_gr v1 v2 v3 v4 → Y p l e { frames := 6, cells := 0, slots := 0, locals := 178 } s m args below meth c (MQ below (yQi D s0 A (fun r M1 => ∃ (w_gr : Nat → Int32), M1 = mM ad c_pg c_bm c_tx c_ty c_ft c_fa c_sp c_nu c_un c_sf c_st c_ll c_ln c_ip w_gr c_hs ∧ post r w_gr)) args s 0 0 A) D s0 A 5 (mM ad c_pg c_bm c_tx c_ty c_ft c_fa c_sp c_nu c_un c_sf c_st c_ll c_ln c_ip c_gr c_hs) 0 0 [some (yr (some (ad 0))), some (yi v1), some (yi v2), some (yi v3), some (yi v4)] 29 []) : ∀ (c_pg : Nat → Int32) (c_gr : Nat → Int32) (v2 : Int32) (v3 : Int32) (v4 : Int32) (u0 : Int32) (u1 : Int32), wpX2_needed_b76 post k12 k29 c_pg c_gr v2 v3 v4 u0 u1 → Y p l e { frames := 6, cells := 0, slots := 0, locals := 178 } s m args below meth c (MQ below (yQi D s0 A (fun r M1 => ∃ (w_gr : Nat → Int32), M1 = mM ad c_pg c_bm c_tx c_ty c_ft c_fa c_sp c_nu c_un c_sf c_st c_ll c_ln c_ip w_gr c_hs ∧ post r w_gr)) args s 0 0 A) D s0 A 5 (mM ad c_pg c_bm c_tx c_ty c_ft c_fa c_sp c_nu c_un c_sf c_st c_ll c_ln c_ip c_gr c_hs) 0 0 [some (yr (some (ad 0))), none, some (yi v2), some (yi v3), some (yi v4)] 76 [yi u1, yi u0] := by
  intro c_pg c_gr v2 v3 v4 u0 u1 h
  rw [wpX2_needed_b76] at h
  refine y_ior C dX2_needed_76 ?_
  replace h := h _ rfl
  refine y_istore_n C 1 rfl (by decide) dX2_needed_77 ?_
  refine y_iload_n C 2 rfl rfl dX2_needed_78 ?_
  refine y_iload_n C 3 rfl rfl dX2_needed_79 ?_
  refine y_if_eq C 87 dX2_needed_80 (by decide) (fun c9 => ?_) (fun c9 => ?_)
  · replace h := h.1 c9
    refine y_iconst C 0 dX2_needed_87 lit0 ?_
    refine y_to C _ ?_ (okX2_needed_b88 C hB hd hr hk12 hk29 _ _ _ _ _ _ _ h)
    exact (And.intro rfl (And.intro rfl (And.intro rfl (And.intro rfl trivial))))
  · replace h := h.2 c9
    refine y_iconst C 1 dX2_needed_83 lit1 ?_
    refine y_goto C 88 dX2_needed_84 (by decide) ?_
    refine y_to C _ ?_ (okX2_needed_b88 C hB hd hr hk12 hk29 _ _ _ _ _ _ _ h)
    exact (And.intro rfl (And.intro rfl (And.intro rfl (And.intro rfl trivial))))
def wpX2_needed_b62 (post : Int32 → (Nat → Int32) → Prop) (k12 : (Nat → Int32) → (Nat → Int32) → Int32 → Int32 → Int32 → Prop) (k29 : (Nat → Int32) → (Nat → Int32) → Int32 → Int32 → Int32 → Int32 → Prop) (c_pg : Nat → Int32) (c_gr : Nat → Int32) (v1 : Int32) (v2 : Int32) (v4 : Int32) (u0 : Int32) : Prop := ((u0 = 0 → wpX2_needed_b76 post k12 k29 c_pg c_gr v2 u0 v4 v1 0) ∧ (¬ u0 = 0 → wpX2_needed_b76 post k12 k29 c_pg c_gr v2 u0 v4 v1 (1 <<< (v4 &&& 31))))
theorem okX2_needed_b62 (C : yC p { frames := 6, cells := 0, slots := 0, locals := 178 } s m args meth c cX2_needed 5 RX2 D s0 a0 A) (hB : yB D s0 a0) (hd : yAd ad) (hr : meth.sig.returnType = (some .int)) {post : Int32 → (Nat → Int32) → Prop} {k12 : (Nat → Int32) → (Nat → Int32) → Int32 → Int32 → Int32 → Prop} {k29 : (Nat → Int32) → (Nat → Int32) → Int32 → Int32 → Int32 → Int32 → Prop} (hk12 : ∀ (c_pg : Nat → Int32) (c_gr : Nat → Int32) (v1 : Int32) (v2 : Int32) (v3 : Int32), k12 c_pg c_gr v1 v2 v3 → Y p l e { frames := 6, cells := 0, slots := 0, locals := 178 } s m args below meth c (MQ below (yQi D s0 A (fun r M1 => ∃ (w_gr : Nat → Int32), M1 = mM ad c_pg c_bm c_tx c_ty c_ft c_fa c_sp c_nu c_un c_sf c_st c_ll c_ln c_ip w_gr c_hs ∧ post r w_gr)) args s 0 0 A) D s0 A 5 (mM ad c_pg c_bm c_tx c_ty c_ft c_fa c_sp c_nu c_un c_sf c_st c_ll c_ln c_ip c_gr c_hs) 0 0 [some (yr (some (ad 0))), some (yi v1), some (yi v2), some (yi v3), none] 12 []) (hk29 : ∀ (c_pg : Nat → Int32) (c_gr : Nat → Int32) (v1 : Int32) (v2 : Int32) (v3 : Int32) (v4 : Int32), k29 c_pg c_gr v1 v2 v3 v4 → Y p l e { frames := 6, cells := 0, slots := 0, locals := 178 } s m args below meth c (MQ below (yQi D s0 A (fun r M1 => ∃ (w_gr : Nat → Int32), M1 = mM ad c_pg c_bm c_tx c_ty c_ft c_fa c_sp c_nu c_un c_sf c_st c_ll c_ln c_ip w_gr c_hs ∧ post r w_gr)) args s 0 0 A) D s0 A 5 (mM ad c_pg c_bm c_tx c_ty c_ft c_fa c_sp c_nu c_un c_sf c_st c_ll c_ln c_ip c_gr c_hs) 0 0 [some (yr (some (ad 0))), some (yi v1), some (yi v2), some (yi v3), some (yi v4)] 29 []) : ∀ (c_pg : Nat → Int32) (c_gr : Nat → Int32) (v1 : Int32) (v2 : Int32) (v4 : Int32) (u0 : Int32), wpX2_needed_b62 post k12 k29 c_pg c_gr v1 v2 v4 u0 → Y p l e { frames := 6, cells := 0, slots := 0, locals := 178 } s m args below meth c (MQ below (yQi D s0 A (fun r M1 => ∃ (w_gr : Nat → Int32), M1 = mM ad c_pg c_bm c_tx c_ty c_ft c_fa c_sp c_nu c_un c_sf c_st c_ll c_ln c_ip w_gr c_hs ∧ post r w_gr)) args s 0 0 A) D s0 A 5 (mM ad c_pg c_bm c_tx c_ty c_ft c_fa c_sp c_nu c_un c_sf c_st c_ll c_ln c_ip c_gr c_hs) 0 0 [some (yr (some (ad 0))), some (yi v1), some (yi v2), none, some (yi v4)] 62 [yi u0] := by
  intro c_pg c_gr v1 v2 v4 u0 h
  rw [wpX2_needed_b62] at h
  refine y_istore_n C 3 rfl (by decide) dX2_needed_62 ?_
  refine y_iload_n C 1 rfl rfl dX2_needed_63 ?_
  refine y_iload_n C 3 rfl rfl dX2_needed_64 ?_
  refine y_if_eq C 75 dX2_needed_65 (by decide) (fun c9 => ?_) (fun c9 => ?_)
  · replace h := h.1 c9
    refine y_iconst C 0 dX2_needed_75 lit0 ?_
    refine y_to C _ ?_ (okX2_needed_b76 C hB hd hr hk12 hk29 _ _ _ _ _ _ _ h)
    exact (And.intro rfl (And.intro rfl (And.intro rfl (And.intro rfl trivial))))
  · replace h := h.2 c9
    refine y_iconst C 1 dX2_needed_68 lit1 ?_
    refine y_iload C 4 rfl dX2_needed_69 ?_
    refine y_ishl C dX2_needed_71 ?_
    refine y_goto C 76 dX2_needed_72 (by decide) ?_
    refine y_to C _ ?_ (okX2_needed_b76 C hB hd hr hk12 hk29 _ _ _ _ _ _ _ h)
    exact (And.intro rfl (And.intro rfl (And.intro rfl (And.intro rfl trivial))))
def wpX2_needed_b61 (post : Int32 → (Nat → Int32) → Prop) (k12 : (Nat → Int32) → (Nat → Int32) → Int32 → Int32 → Int32 → Prop) (k29 : (Nat → Int32) → (Nat → Int32) → Int32 → Int32 → Int32 → Int32 → Prop) (c_pg : Nat → Int32) (c_gr : Nat → Int32) (v1 : Int32) (v2 : Int32) (v4 : Int32) : Prop := wpX2_needed_b62 post k12 k29 c_pg c_gr v1 v2 v4 0
theorem okX2_needed_b61 (C : yC p { frames := 6, cells := 0, slots := 0, locals := 178 } s m args meth c cX2_needed 5 RX2 D s0 a0 A) (hB : yB D s0 a0) (hd : yAd ad) (hr : meth.sig.returnType = (some .int)) {post : Int32 → (Nat → Int32) → Prop} {k12 : (Nat → Int32) → (Nat → Int32) → Int32 → Int32 → Int32 → Prop} {k29 : (Nat → Int32) → (Nat → Int32) → Int32 → Int32 → Int32 → Int32 → Prop} (hk12 : ∀ (c_pg : Nat → Int32) (c_gr : Nat → Int32) (v1 : Int32) (v2 : Int32) (v3 : Int32), k12 c_pg c_gr v1 v2 v3 → Y p l e { frames := 6, cells := 0, slots := 0, locals := 178 } s m args below meth c (MQ below (yQi D s0 A (fun r M1 => ∃ (w_gr : Nat → Int32), M1 = mM ad c_pg c_bm c_tx c_ty c_ft c_fa c_sp c_nu c_un c_sf c_st c_ll c_ln c_ip w_gr c_hs ∧ post r w_gr)) args s 0 0 A) D s0 A 5 (mM ad c_pg c_bm c_tx c_ty c_ft c_fa c_sp c_nu c_un c_sf c_st c_ll c_ln c_ip c_gr c_hs) 0 0 [some (yr (some (ad 0))), some (yi v1), some (yi v2), some (yi v3), none] 12 []) (hk29 : ∀ (c_pg : Nat → Int32) (c_gr : Nat → Int32) (v1 : Int32) (v2 : Int32) (v3 : Int32) (v4 : Int32), k29 c_pg c_gr v1 v2 v3 v4 → Y p l e { frames := 6, cells := 0, slots := 0, locals := 178 } s m args below meth c (MQ below (yQi D s0 A (fun r M1 => ∃ (w_gr : Nat → Int32), M1 = mM ad c_pg c_bm c_tx c_ty c_ft c_fa c_sp c_nu c_un c_sf c_st c_ll c_ln c_ip w_gr c_hs ∧ post r w_gr)) args s 0 0 A) D s0 A 5 (mM ad c_pg c_bm c_tx c_ty c_ft c_fa c_sp c_nu c_un c_sf c_st c_ll c_ln c_ip c_gr c_hs) 0 0 [some (yr (some (ad 0))), some (yi v1), some (yi v2), some (yi v3), some (yi v4)] 29 []) : ∀ (c_pg : Nat → Int32) (c_gr : Nat → Int32) (v1 : Int32) (v2 : Int32) (v4 : Int32), wpX2_needed_b61 post k12 k29 c_pg c_gr v1 v2 v4 → Y p l e { frames := 6, cells := 0, slots := 0, locals := 178 } s m args below meth c (MQ below (yQi D s0 A (fun r M1 => ∃ (w_gr : Nat → Int32), M1 = mM ad c_pg c_bm c_tx c_ty c_ft c_fa c_sp c_nu c_un c_sf c_st c_ll c_ln c_ip w_gr c_hs ∧ post r w_gr)) args s 0 0 A) D s0 A 5 (mM ad c_pg c_bm c_tx c_ty c_ft c_fa c_sp c_nu c_un c_sf c_st c_ll c_ln c_ip c_gr c_hs) 0 0 [some (yr (some (ad 0))), some (yi v1), some (yi v2), none, some (yi v4)] 61 [] := by
  intro c_pg c_gr v1 v2 v4 h
  rw [wpX2_needed_b61] at h
  refine y_iconst C 0 dX2_needed_61 lit0 ?_
  refine y_to C _ ?_ (okX2_needed_b62 C hB hd hr hk12 hk29 _ _ _ _ _ _ h)
  exact (And.intro rfl (And.intro rfl (And.intro rfl (And.intro rfl trivial))))
def wpX2_needed_b29 (post : Int32 → (Nat → Int32) → Prop) (k12 : (Nat → Int32) → (Nat → Int32) → Int32 → Int32 → Int32 → Prop) : Nat → (Nat → Int32) → (Nat → Int32) → Int32 → Int32 → Int32 → Int32 → Prop
  | 0, _, _, _, _, _, _ => False
  | nn + 1, c_pg, c_gr, v1, v2, v3, v4 => ((v4 < 0 → wpX2_needed_b96 post k12 c_pg c_gr v1 v2 v3) ∧ (¬ v4 < 0 → ((¬ v3 = 0 → wpX2_needed_b96 post k12 c_pg c_gr v1 v2 v3) ∧ (v3 = 0 → ((¬ ((v1 >>> (v4 &&& 31)) &&& 1) = 0 → wpX2_needed_b61 post k12 (fun c_pg c_gr v1 v2 v3 v4 => wpX2_needed_b29 post k12 nn c_pg c_gr v1 v2 v3 v4) c_pg c_gr v1 v2 v4) ∧ (((v1 >>> (v4 &&& 31)) &&& 1) = 0 → wpX2_isSuperfluous c_pg c_gr v4 v1 (fun r7 w_gr6 => ((r7 = 0 → wpX2_needed_b61 post k12 (fun c_pg c_gr v1 v2 v3 v4 => wpX2_needed_b29 post k12 nn c_pg c_gr v1 v2 v3 v4) c_pg w_gr6 v1 v2 v4) ∧ (¬ r7 = 0 → wpX2_needed_b62 post k12 (fun c_pg c_gr v1 v2 v3 v4 => wpX2_needed_b29 post k12 nn c_pg c_gr v1 v2 v3 v4) c_pg w_gr6 v1 v2 v4 1)))))))))
theorem okX2_needed_b29 (C : yC p { frames := 6, cells := 0, slots := 0, locals := 178 } s m args meth c cX2_needed 5 RX2 D s0 a0 A) (hB : yB D s0 a0) (hd : yAd ad) (hr : meth.sig.returnType = (some .int)) {post : Int32 → (Nat → Int32) → Prop} {k12 : (Nat → Int32) → (Nat → Int32) → Int32 → Int32 → Int32 → Prop} (hk12 : ∀ (c_pg : Nat → Int32) (c_gr : Nat → Int32) (v1 : Int32) (v2 : Int32) (v3 : Int32), k12 c_pg c_gr v1 v2 v3 → Y p l e { frames := 6, cells := 0, slots := 0, locals := 178 } s m args below meth c (MQ below (yQi D s0 A (fun r M1 => ∃ (w_gr : Nat → Int32), M1 = mM ad c_pg c_bm c_tx c_ty c_ft c_fa c_sp c_nu c_un c_sf c_st c_ll c_ln c_ip w_gr c_hs ∧ post r w_gr)) args s 0 0 A) D s0 A 5 (mM ad c_pg c_bm c_tx c_ty c_ft c_fa c_sp c_nu c_un c_sf c_st c_ll c_ln c_ip c_gr c_hs) 0 0 [some (yr (some (ad 0))), some (yi v1), some (yi v2), some (yi v3), none] 12 []) : ∀ (nn : Nat) (c_pg : Nat → Int32) (c_gr : Nat → Int32) (v1 : Int32) (v2 : Int32) (v3 : Int32) (v4 : Int32), wpX2_needed_b29 post k12 nn c_pg c_gr v1 v2 v3 v4 → Y p l e { frames := 6, cells := 0, slots := 0, locals := 178 } s m args below meth c (MQ below (yQi D s0 A (fun r M1 => ∃ (w_gr : Nat → Int32), M1 = mM ad c_pg c_bm c_tx c_ty c_ft c_fa c_sp c_nu c_un c_sf c_st c_ll c_ln c_ip w_gr c_hs ∧ post r w_gr)) args s 0 0 A) D s0 A 5 (mM ad c_pg c_bm c_tx c_ty c_ft c_fa c_sp c_nu c_un c_sf c_st c_ll c_ln c_ip c_gr c_hs) 0 0 [some (yr (some (ad 0))), some (yi v1), some (yi v2), some (yi v3), some (yi v4)] 29 [] := by
  intro nn
  induction nn with
  | zero => intro c_pg c_gr v1 v2 v3 v4 h; exact absurd h (by rw [wpX2_needed_b29]; exact id)
  | succ nn ih =>
    intro c_pg c_gr v1 v2 v3 v4 h
    rw [wpX2_needed_b29] at h
    refine y_iload C 4 rfl dX2_needed_29 ?_
    refine y_if_lt C 96 dX2_needed_31 (by decide) (fun c9 => ?_) (fun c9 => ?_)
    · replace h := h.1 c9
      refine y_to C _ ?_ (okX2_needed_b96 C hB hd hr hk12 _ _ _ _ _ h)
      exact (And.intro rfl (And.intro rfl (And.intro rfl (And.intro rfl trivial))))
    · replace h := h.2 c9
      refine y_iload_n C 3 rfl rfl dX2_needed_34 ?_
      refine y_if_ne C 96 dX2_needed_35 (by decide) (fun c9 => ?_) (fun c9 => ?_)
      · replace h := h.1 c9
        refine y_to C _ ?_ (okX2_needed_b96 C hB hd hr hk12 _ _ _ _ _ h)
        exact (And.intro rfl (And.intro rfl (And.intro rfl (And.intro rfl trivial))))
      · replace h := h.2 c9
        refine y_iload_n C 1 rfl rfl dX2_needed_38 ?_
        refine y_iload C 4 rfl dX2_needed_39 ?_
        refine y_ishr C dX2_needed_41 ?_
        refine y_iconst C 1 dX2_needed_42 lit1 ?_
        refine y_iand C dX2_needed_43 ?_
        refine y_if_ne C 61 dX2_needed_44 (by decide) (fun c9 => ?_) (fun c9 => ?_)
        · replace h := h.1 c9
          refine y_to C _ ?_ (okX2_needed_b61 C hB hd hr hk12 ih _ _ _ _ _ h)
          exact (And.intro rfl (And.intro rfl (And.intro rfl (And.intro rfl trivial))))
        · replace h := h.2 c9
          refine y_aload_n C 0 rfl rfl dX2_needed_47 ?_
          refine y_iload C 4 rfl dX2_needed_48 ?_
          refine y_iload_n C 1 rfl rfl dX2_needed_50 ?_
          refine y_callVi0 C (metX2_isSuperfluous hd hB h) (cwV 2 C.hts (lw_V q1483 q1485 qs71 q91 q1486) rfl rfl rfl kdX2_isSuperfluous ⟨Nat.le_of_ble_eq_true rfl, Nat.le_of_ble_eq_true rfl⟩) mM_0 rfl rfl rfl (Nat.le_of_ble_eq_true rfl) dX2_needed_51 (fun r7 M1 hp => ?_)
          clear h
          obtain ⟨w_gr6, rfl, h⟩ := hp
          refine y_if_eq C 61 dX2_needed_54 (by decide) (fun c9 => ?_) (fun c9 => ?_)
          · replace h := h.1 c9
            refine y_to C _ ?_ (okX2_needed_b61 C hB hd hr hk12 ih _ _ _ _ _ h)
            exact (And.intro rfl (And.intro rfl (And.intro rfl (And.intro rfl trivial))))
          · replace h := h.2 c9
            refine y_iconst C 1 dX2_needed_57 lit1 ?_
            refine y_goto C 62 dX2_needed_58 (by decide) ?_
            refine y_to C _ ?_ (okX2_needed_b62 C hB hd hr hk12 ih _ _ _ _ _ _ h)
            exact (And.intro rfl (And.intro rfl (And.intro rfl (And.intro rfl trivial))))
def wpX2_needed_b12 (post : Int32 → (Nat → Int32) → Prop) : Nat → (Nat → Int32) → (Nat → Int32) → Int32 → Int32 → Int32 → Prop
  | 0, _, _, _, _, _ => False
  | nn + 1, c_pg, c_gr, v1, v2, v3 => ((v3 = 0 → post v2 c_gr) ∧ (¬ v3 = 0 → vp_in 13 1120 ∧ ∀ x2 : Int32, x2 = ((c_pg (Int32.toNatClampNeg 13)) - 1) → ∃ nf9 : Nat, wpX2_needed_b29 post (fun c_pg c_gr v1 v2 v3 => wpX2_needed_b12 post nn c_pg c_gr v1 v2 v3) nf9 c_pg c_gr v1 v2 0 x2))
theorem okX2_needed_b12 (C : yC p { frames := 6, cells := 0, slots := 0, locals := 178 } s m args meth c cX2_needed 5 RX2 D s0 a0 A) (hB : yB D s0 a0) (hd : yAd ad) (hr : meth.sig.returnType = (some .int)) {post : Int32 → (Nat → Int32) → Prop}  : ∀ (nn : Nat) (c_pg : Nat → Int32) (c_gr : Nat → Int32) (v1 : Int32) (v2 : Int32) (v3 : Int32), wpX2_needed_b12 post nn c_pg c_gr v1 v2 v3 → Y p l e { frames := 6, cells := 0, slots := 0, locals := 178 } s m args below meth c (MQ below (yQi D s0 A (fun r M1 => ∃ (w_gr : Nat → Int32), M1 = mM ad c_pg c_bm c_tx c_ty c_ft c_fa c_sp c_nu c_un c_sf c_st c_ll c_ln c_ip w_gr c_hs ∧ post r w_gr)) args s 0 0 A) D s0 A 5 (mM ad c_pg c_bm c_tx c_ty c_ft c_fa c_sp c_nu c_un c_sf c_st c_ll c_ln c_ip c_gr c_hs) 0 0 [some (yr (some (ad 0))), some (yi v1), some (yi v2), some (yi v3), none] 12 [] := by
  intro nn
  induction nn with
  | zero => intro c_pg c_gr v1 v2 v3 h; exact absurd h (by rw [wpX2_needed_b12]; exact id)
  | succ nn ih =>
    intro c_pg c_gr v1 v2 v3 h
    rw [wpX2_needed_b12] at h
    refine y_iload_n C 3 rfl rfl dX2_needed_12 ?_
    refine y_if_eq C 99 dX2_needed_13 (by decide) (fun c9 => ?_) (fun c9 => ?_)
    · replace h := h.1 c9
      refine y_iload_n C 2 rfl rfl dX2_needed_99 ?_
      exact y_ireti C hr rfl rfl ⟨_, rfl, h⟩ dX2_needed_100
    · replace h := h.2 c9
      refine y_iconst C 0 dX2_needed_16 lit0 ?_
      refine y_istore_n C 3 rfl (by decide) dX2_needed_17 ?_
      refine y_aload_n C 0 rfl rfl dX2_needed_18 ?_
      refine y_get (ci := 2) (k := 0) C in_X2 rfl (by decide) q1169 (fun _ h => h) mM_0 rfl dX2_needed_19 ?_
      refine y_bipush C 13 dX2_needed_22 y_b13 ?_
      obtain ⟨i9, h⟩ := h
      refine y_iald C (mM_1 hd) i9 dX2_needed_24 ?_
      refine y_iconst C 1 dX2_needed_25 lit1 ?_
      refine y_isub C dX2_needed_26 ?_
      replace h := h _ rfl
      refine y_istore C 4 (by decide) dX2_needed_27 ?_
      obtain ⟨nf9, h⟩ := h
      refine y_to C _ ?_ (okX2_needed_b29 C hB hd hr ih nf9 _ _ _ _ _ _ h)
      exact (And.intro rfl (And.intro rfl (And.intro rfl (And.intro rfl (And.intro rfl trivial)))))
end sX2_needed
def wpX2_needed (c_pg : Nat → Int32) (c_gr : Nat → Int32)  (post : Int32 → (Nat → Int32) → Prop) : Prop := vp_in 13 1120 ∧ ∀ x1 : Int32, x1 = (c_pg (Int32.toNatClampNeg 13)) → ∃ nf9 : Nat, wpX2_needed_b12 post nf9 c_pg c_gr 0 x1 1
theorem metX2_needed {l : Launch} {D : va_G} {s0 : State} {a0 : Array Value} {ad : Nat → Nat} (hd : yAd ad) (hB : yB D s0 a0) {c_pg : Nat → Int32} {c_bm : Int32} {c_tx : Nat → Int32} {c_ty : Int32} {c_ft : Int32} {c_fa : Int32} {c_sp : Int32} {c_nu : Int32} {c_un : Nat → Int32} {c_sf : Nat → Int32} {c_st : Nat → Int32} {c_ll : Nat → Int32} {c_ln : Nat → Int32} {c_ip : Nat → Int32} {c_gr : Nat → Int32} {c_hs : Int64}  {post : Int32 → (Nat → Int32) → Prop} (h : wpX2_needed c_pg c_gr  post) : yMi l yX2_needed (ws_ yX2_needed cX2_needed 5 (some .int)) 6 178 0 0 D s0 [yr (some (ad 0))] (mM ad c_pg c_bm c_tx c_ty c_ft c_fa c_sp c_nu c_un c_sf c_st c_ll c_ln c_ip c_gr c_hs) (fun r M1 => ∃ (w_gr : Nat → Int32), M1 = mM ad c_pg c_bm c_tx c_ty c_ft c_fa c_sp c_nu c_un c_sf c_st c_ll c_ln c_ip w_gr c_hs ∧ post r w_gr) := by
  refine y_meti hB (by decide) rfl (Nat.le_of_ble_eq_true rfl) ?_
  intro p e s m below meth c A hr hnm C
  rw [wpX2_needed] at h
  refine y_iconst C 0 dX2_needed_0 lit0 ?_
  refine y_istore_n C 1 rfl (by decide) dX2_needed_1 ?_
  refine y_aload_n C 0 rfl rfl dX2_needed_2 ?_
  refine y_get (ci := 2) (k := 0) C in_X2 rfl (by decide) q1169 (fun _ h => h) mM_0 rfl dX2_needed_3 ?_
  refine y_bipush C 13 dX2_needed_6 y_b13 ?_
  obtain ⟨i9, h⟩ := h
  refine y_iald C (mM_1 hd) i9 dX2_needed_8 ?_
  replace h := h _ rfl
  refine y_istore_n C 2 rfl (by decide) dX2_needed_9 ?_
  refine y_iconst C 1 dX2_needed_10 lit1 ?_
  refine y_istore_n C 3 rfl (by decide) dX2_needed_11 ?_
  obtain ⟨nf9, h⟩ := h
  refine y_to C _ ?_ (okX2_needed_b12 C hB hd hr  nf9 _ _ _ _ _ h)
  exact (And.intro rfl (And.intro rfl (And.intro rfl (And.intro rfl trivial))))
theorem kdX2_needed : yX2_needed.cls = RX2 ∧ yX2_needed.cls ≠ "java/lang/invoke/MethodHandle" ∧ yX2_needed.cls ≠ "java/lang/invoke/VarHandle" ∧ (parseMethodDescriptor yX2_needed.desc).map (fun d => d.parameters.length) = some 0 := by decide +kernel
section sX2_endOf
variable {p : Program} {l : Launch} {e : Env} {s : State} {m : MethodId} {args : Array Value} {below : List Frame} {meth : Method} {c : Code} {D : va_G} {s0 : State} {a0 : Array Value} {A : Nat → Prop} {ad : Nat → Nat} {c_pg : Nat → Int32} {c_bm : Int32} {c_tx : Nat → Int32} {c_ty : Int32} {c_ft : Int32} {c_fa : Int32} {c_sp : Int32} {c_nu : Int32} {c_un : Nat → Int32} {c_sf : Nat → Int32} {c_st : Nat → Int32} {c_ll : Nat → Int32} {c_ln : Nat → Int32} {c_ip : Nat → Int32} {c_gr : Nat → Int32} {c_hs : Int64}
def wpX2_endOf_b79 (post : Int32 → Prop) (k7 : (Nat → Int32) → Int32 → Int32 → Int32 → Int32 → Prop) (c_pg : Nat → Int32) (v1 : Int32) (v2 : Int32) (v4 : Int32) (u0 : Int32) : Prop := ∀ x3 : Int32, x3 = v4 + 1 → k7 c_pg v1 v2 u0 x3
theorem okX2_endOf_b79 (C : yC p { frames := 2, cells := 0, slots := 0, locals := 86 } s m args meth c cX2_endOf 6 RX2 D s0 a0 A) (hB : yB D s0 a0) (hd : yAd ad) (hr : meth.sig.returnType = (some .int)) {post : Int32 → Prop} {k7 : (Nat → Int32) → Int32 → Int32 → Int32 → Int32 → Prop} (hk7 : ∀ (c_pg : Nat → Int32) (v1 : Int32) (v2 : Int32) (v3 : Int32) (v4 : Int32), k7 c_pg v1 v2 v3 v4 → Y p l e { frames := 2, cells := 0, slots := 0, locals := 86 } s m args below meth c (MQ below (yQi D s0 A (fun r M1 => M1 = mM ad c_pg c_bm c_tx c_ty c_ft c_fa c_sp c_nu c_un c_sf c_st c_ll c_ln c_ip c_gr c_hs ∧ post r)) args s 0 0 A) D s0 A 6 (mM ad c_pg c_bm c_tx c_ty c_ft c_fa c_sp c_nu c_un c_sf c_st c_ll c_ln c_ip c_gr c_hs) 0 0 [some (yr (some (ad 0))), some (yi v1), some (yi v2), some (yi v3), some (yi v4), none] 7 []) : ∀ (c_pg : Nat → Int32) (v1 : Int32) (v2 : Int32) (v4 : Int32) (u0 : Int32), wpX2_endOf_b79 post k7 c_pg v1 v2 v4 u0 → Y p l e { frames := 2, cells := 0, slots := 0, locals := 86 } s m args below meth c (MQ below (yQi D s0 A (fun r M1 => M1 = mM ad c_pg c_bm c_tx c_ty c_ft c_fa c_sp c_nu c_un c_sf c_st c_ll c_ln c_ip c_gr c_hs ∧ post r)) args s 0 0 A) D s0 A 6 (mM ad c_pg c_bm c_tx c_ty c_ft c_fa c_sp c_nu c_un c_sf c_st c_ll c_ln c_ip c_gr c_hs) 0 0 [some (yr (some (ad 0))), some (yi v1), some (yi v2), none, some (yi v4), none] 79 [yi u0] := by
  intro c_pg v1 v2 v4 u0 h
  rw [wpX2_endOf_b79] at h
  refine y_istore_n C 3 rfl (by decide) dX2_endOf_79 ?_
  replace h := h _ rfl
  refine y_iinc C 4 _ rfl (y_inc1 _) (by decide) dX2_endOf_80 ?_
  refine y_goto C 7 dX2_endOf_83 (by decide) ?_
  refine y_to C _ ?_ (hk7 _ _ _ _ _ h)
  exact (And.intro rfl (And.intro rfl (And.intro rfl (And.intro rfl (And.intro rfl trivial)))))
def wpX2_endOf_b78 (post : Int32 → Prop) (k7 : (Nat → Int32) → Int32 → Int32 → Int32 → Int32 → Prop) (c_pg : Nat → Int32) (v1 : Int32) (v2 : Int32) (v3 : Int32) (v4 : Int32) : Prop := wpX2_endOf_b79 post k7 c_pg v1 v2 v4 v3
theorem okX2_endOf_b78 (C : yC p { frames := 2, cells := 0, slots := 0, locals := 86 } s m args meth c cX2_endOf 6 RX2 D s0 a0 A) (hB : yB D s0 a0) (hd : yAd ad) (hr : meth.sig.returnType = (some .int)) {post : Int32 → Prop} {k7 : (Nat → Int32) → Int32 → Int32 → Int32 → Int32 → Prop} (hk7 : ∀ (c_pg : Nat → Int32) (v1 : Int32) (v2 : Int32) (v3 : Int32) (v4 : Int32), k7 c_pg v1 v2 v3 v4 → Y p l e { frames := 2, cells := 0, slots := 0, locals := 86 } s m args below meth c (MQ below (yQi D s0 A (fun r M1 => M1 = mM ad c_pg c_bm c_tx c_ty c_ft c_fa c_sp c_nu c_un c_sf c_st c_ll c_ln c_ip c_gr c_hs ∧ post r)) args s 0 0 A) D s0 A 6 (mM ad c_pg c_bm c_tx c_ty c_ft c_fa c_sp c_nu c_un c_sf c_st c_ll c_ln c_ip c_gr c_hs) 0 0 [some (yr (some (ad 0))), some (yi v1), some (yi v2), some (yi v3), some (yi v4), none] 7 []) : ∀ (c_pg : Nat → Int32) (v1 : Int32) (v2 : Int32) (v3 : Int32) (v4 : Int32), wpX2_endOf_b78 post k7 c_pg v1 v2 v3 v4 → Y p l e { frames := 2, cells := 0, slots := 0, locals := 86 } s m args below meth c (MQ below (yQi D s0 A (fun r M1 => M1 = mM ad c_pg c_bm c_tx c_ty c_ft c_fa c_sp c_nu c_un c_sf c_st c_ll c_ln c_ip c_gr c_hs ∧ post r)) args s 0 0 A) D s0 A 6 (mM ad c_pg c_bm c_tx c_ty c_ft c_fa c_sp c_nu c_un c_sf c_st c_ll c_ln c_ip c_gr c_hs) 0 0 [some (yr (some (ad 0))), some (yi v1), some (yi v2), some (yi v3), some (yi v4), none] 78 [] := by
  intro c_pg v1 v2 v3 v4 h
  rw [wpX2_endOf_b78] at h
  refine y_iload_n C 3 rfl rfl dX2_endOf_78 ?_
  refine y_to C _ ?_ (okX2_endOf_b79 C hB hd hr hk7 _ _ _ _ _ h)
  exact (And.intro rfl (And.intro rfl (And.intro rfl (And.intro rfl trivial))))
def wpX2_endOf_b73 (post : Int32 → Prop) (k7 : (Nat → Int32) → Int32 → Int32 → Int32 → Int32 → Prop) (c_pg : Nat → Int32) (v1 : Int32) (v2 : Int32) (v4 : Int32) (v5 : Int32) : Prop := wpX2_endOf_b79 post k7 c_pg v1 v2 v4 v5
theorem okX2_endOf_b73 (C : yC p { frames := 2, cells := 0, slots := 0, locals := 86 } s m args meth c cX2_endOf 6 RX2 D s0 a0 A) (hB : yB D s0 a0) (hd : yAd ad) (hr : meth.sig.returnType = (some .int)) {post : Int32 → Prop} {k7 : (Nat → Int32) → Int32 → Int32 → Int32 → Int32 → Prop} (hk7 : ∀ (c_pg : Nat → Int32) (v1 : Int32) (v2 : Int32) (v3 : Int32) (v4 : Int32), k7 c_pg v1 v2 v3 v4 → Y p l e { frames := 2, cells := 0, slots := 0, locals := 86 } s m args below meth c (MQ below (yQi D s0 A (fun r M1 => M1 = mM ad c_pg c_bm c_tx c_ty c_ft c_fa c_sp c_nu c_un c_sf c_st c_ll c_ln c_ip c_gr c_hs ∧ post r)) args s 0 0 A) D s0 A 6 (mM ad c_pg c_bm c_tx c_ty c_ft c_fa c_sp c_nu c_un c_sf c_st c_ll c_ln c_ip c_gr c_hs) 0 0 [some (yr (some (ad 0))), some (yi v1), some (yi v2), some (yi v3), some (yi v4), none] 7 []) : ∀ (c_pg : Nat → Int32) (v1 : Int32) (v2 : Int32) (v4 : Int32) (v5 : Int32), wpX2_endOf_b73 post k7 c_pg v1 v2 v4 v5 → Y p l e { frames := 2, cells := 0, slots := 0, locals := 86 } s m args below meth c (MQ below (yQi D s0 A (fun r M1 => M1 = mM ad c_pg c_bm c_tx c_ty c_ft c_fa c_sp c_nu c_un c_sf c_st c_ll c_ln c_ip c_gr c_hs ∧ post r)) args s 0 0 A) D s0 A 6 (mM ad c_pg c_bm c_tx c_ty c_ft c_fa c_sp c_nu c_un c_sf c_st c_ll c_ln c_ip c_gr c_hs) 0 0 [some (yr (some (ad 0))), some (yi v1), some (yi v2), none, some (yi v4), some (yi v5)] 73 [] := by
  intro c_pg v1 v2 v4 v5 h
  rw [wpX2_endOf_b73] at h
  refine y_iload C 5 rfl dX2_endOf_73 ?_
  refine y_goto C 79 dX2_endOf_75 (by decide) ?_
  refine y_to C _ ?_ (okX2_endOf_b79 C hB hd hr hk7 _ _ _ _ _ h)
  exact (And.intro rfl (And.intro rfl (And.intro rfl (And.intro rfl trivial))))
def wpX2_endOf_b31 (post : Int32 → Prop) (k7 : (Nat → Int32) → Int32 → Int32 → Int32 → Int32 → Prop) (c_pg : Nat → Int32) (v1 : Int32) (v2 : Int32) (v3 : Int32) (v4 : Int32) (u1 : Int32) (u2 : Int32) : Prop := wpX2_of c_pg u1 u2 (fun r1 => wpX2_of c_pg v4 4 (fun r2 => ((¬ r2 = v1 → wpX2_endOf_b78 post k7 c_pg v1 v2 v3 v4) ∧ (r2 = v1 → ((v3 = (-999) → wpX2_endOf_b73 post k7 c_pg v1 v2 v4 r1) ∧ (¬ v3 = (-999) → ((v2 = 0 → ((v3 ≤ r1 → wpX2_endOf_b78 post k7 c_pg v1 v2 v3 v4) ∧ (¬ v3 ≤ r1 → wpX2_endOf_b73 post k7 c_pg v1 v2 v4 r1))) ∧ (¬ v2 = 0 → ((r1 ≤ v3 → wpX2_endOf_b78 post k7 c_pg v1 v2 v3 v4) ∧ (¬ r1 ≤ v3 → wpX2_endOf_b73 post k7 c_pg v1 v2 v4 r1))))))))))
theorem okX2_endOf_b31 (C : yC p { frames := 2, cells := 0, slots := 0, locals := 86 } s m args meth c cX2_endOf 6 RX2 D s0 a0 A) (hB : yB D s0 a0) (hd : yAd ad) (hr : meth.sig.returnType = (some .int)) {post : Int32 → Prop} {k7 : (Nat → Int32) → Int32 → Int32 → Int32 → Int32 → Prop} (hk7 : ∀ (c_pg : Nat → Int32) (v1 : Int32) (v2 : Int32) (v3 : Int32) (v4 : Int32), k7 c_pg v1 v2 v3 v4 → Y p l e { frames := 2, cells := 0, slots := 0, locals := 86 } s m args below meth c (MQ below (yQi D s0 A (fun r M1 => M1 = mM ad c_pg c_bm c_tx c_ty c_ft c_fa c_sp c_nu c_un c_sf c_st c_ll c_ln c_ip c_gr c_hs ∧ post r)) args s 0 0 A) D s0 A 6 (mM ad c_pg c_bm c_tx c_ty c_ft c_fa c_sp c_nu c_un c_sf c_st c_ll c_ln c_ip c_gr c_hs) 0 0 [some (yr (some (ad 0))), some (yi v1), some (yi v2), some (yi v3), some (yi v4), none] 7 []) : ∀ (c_pg : Nat → Int32) (v1 : Int32) (v2 : Int32) (v3 : Int32) (v4 : Int32) (u1 : Int32) (u2 : Int32), wpX2_endOf_b31 post k7 c_pg v1 v2 v3 v4 u1 u2 → Y p l e { frames := 2, cells := 0, slots := 0, locals := 86 } s m args below meth c (MQ below (yQi D s0 A (fun r M1 => M1 = mM ad c_pg c_bm c_tx c_ty c_ft c_fa c_sp c_nu c_un c_sf c_st c_ll c_ln c_ip c_gr c_hs ∧ post r)) args s 0 0 A) D s0 A 6 (mM ad c_pg c_bm c_tx c_ty c_ft c_fa c_sp c_nu c_un c_sf c_st c_ll c_ln c_ip c_gr c_hs) 0 0 [some (yr (some (ad 0))), some (yi v1), some (yi v2), some (yi v3), some (yi v4), none] 31 [yi u2, yi u1, yr (some (ad 0))] := by
  intro c_pg v1 v2 v3 v4 u1 u2 h
  rw [wpX2_endOf_b31] at h
  refine y_callVi0 C (metX2_of hd hB h) (cwV 2 C.hts (lw_V q1250 q1252 qs28 q91 q1253) rfl rfl rfl kdX2_of ⟨Nat.le_of_ble_eq_true rfl, Nat.le_of_ble_eq_true rfl⟩) mM_0 rfl rfl rfl (Nat.le_of_ble_eq_true rfl) dX2_endOf_31 (fun r1 M1 hp => ?_)
  clear h
  obtain ⟨rfl, h⟩ := hp
  refine y_istore C 5 (by decide) dX2_endOf_34 ?_
  refine y_aload_n C 0 rfl rfl dX2_endOf_36 ?_
  refine y_iload C 4 rfl dX2_endOf_37 ?_
  refine y_iconst C 4 dX2_endOf_39 lit4 ?_
  refine y_callVi0 C (metX2_of hd hB h) (cwV 2 C.hts (lw_V q1250 q1252 qs28 q91 q1253) rfl rfl rfl kdX2_of ⟨Nat.le_of_ble_eq_true rfl, Nat.le_of_ble_eq_true rfl⟩) mM_0 rfl rfl rfl (Nat.le_of_ble_eq_true rfl) dX2_endOf_40 (fun r2 M1 hp => ?_)
  clear h
  obtain ⟨rfl, h⟩ := hp
  refine y_iload_n C 1 rfl rfl dX2_endOf_43 ?_
  refine y_icmp_ne C 78 dX2_endOf_44 (by decide) (fun c9 => ?_) (fun c9 => ?_)
  · replace h := h.1 c9
    refine y_to C _ ?_ (okX2_endOf_b78 C hB hd hr hk7 _ _ _ _ _ h)
    exact (And.intro rfl (And.intro rfl (And.intro rfl (And.intro rfl (And.intro rfl trivial)))))
  · replace h := h.2 c9
    refine y_iload_n C 3 rfl rfl dX2_endOf_47 ?_
    refine y_sipush C (-999) dX2_endOf_48 y_sm999 ?_
    refine y_icmp_eq C 73 dX2_endOf_51 (by decide) (fun c9 => ?_) (fun c9 => ?_)
    · replace h := h.1 c9
      refine y_to C _ ?_ (okX2_endOf_b73 C hB hd hr hk7 _ _ _ _ _ h)
      exact (And.intro rfl (And.intro rfl (And.intro rfl (And.intro rfl (And.intro rfl trivial)))))
    · replace h := h.2 c9
      refine y_iload_n C 2 rfl rfl dX2_endOf_54 ?_
      refine y_if_eq C 67 dX2_endOf_55 (by decide) (fun c9 => ?_) (fun c9 => ?_)
      · replace h := h.1 c9
        refine y_iload C 5 rfl dX2_endOf_67 ?_
        refine y_iload_n C 3 rfl rfl dX2_endOf_69 ?_
        refine y_icmp_ge C 78 dX2_endOf_70 (by decide) (fun c9 => ?_) (fun c9 => ?_)
        · replace h := h.1 c9
          refine y_to C _ ?_ (okX2_endOf_b78 C hB hd hr hk7 _ _ _ _ _ h)
          exact (And.intro rfl (And.intro rfl (And.intro rfl (And.intro rfl (And.intro rfl trivial)))))
        · replace h := h.2 c9
          refine y_to C _ ?_ (okX2_endOf_b73 C hB hd hr hk7 _ _ _ _ _ h)
          exact (And.intro rfl (And.intro rfl (And.intro rfl (And.intro rfl (And.intro rfl trivial)))))
      · replace h := h.2 c9
        refine y_iload C 5 rfl dX2_endOf_58 ?_
        refine y_iload_n C 3 rfl rfl dX2_endOf_60 ?_
        refine y_icmp_le C 78 dX2_endOf_61 (by decide) (fun c9 => ?_) (fun c9 => ?_)
        · replace h := h.1 c9
          refine y_to C _ ?_ (okX2_endOf_b78 C hB hd hr hk7 _ _ _ _ _ h)
          exact (And.intro rfl (And.intro rfl (And.intro rfl (And.intro rfl (And.intro rfl trivial)))))
        · replace h := h.2 c9
          refine y_goto C 73 dX2_endOf_64 (by decide) ?_
          refine y_to C _ ?_ (okX2_endOf_b73 C hB hd hr hk7 _ _ _ _ _ h)
          exact (And.intro rfl (And.intro rfl (And.intro rfl (And.intro rfl (And.intro rfl trivial)))))
def wpX2_endOf_b7 (post : Int32 → Prop) : Nat → (Nat → Int32) → Int32 → Int32 → Int32 → Int32 → Prop
  | 0, _, _, _, _, _ => False
  | nn + 1, c_pg, v1, v2, v3, v4 => vp_in 13 1120 ∧ (((c_pg (Int32.toNatClampNeg 13)) ≤ v4 → post v3) ∧ (¬ (c_pg (Int32.toNatClampNeg 13)) ≤ v4 → ((v2 = 0 → wpX2_endOf_b31 post (fun c_pg v1 v2 v3 v4 => wpX2_endOf_b7 post nn c_pg v1 v2 v3 v4) c_pg v1 v2 v3 v4 v4 0) ∧ (¬ v2 = 0 → wpX2_endOf_b31 post (fun c_pg v1 v2 v3 v4 => wpX2_endOf_b7 post nn c_pg v1 v2 v3 v4) c_pg v1 v2 v3 v4 v4 1))))
theorem okX2_endOf_b7 (C : yC p { frames := 2, cells := 0, slots := 0, locals := 86 } s m args meth c cX2_endOf 6 RX2 D s0 a0 A) (hB : yB D s0 a0) (hd : yAd ad) (hr : meth.sig.returnType = (some .int)) {post : Int32 → Prop}  : ∀ (nn : Nat) (c_pg : Nat → Int32) (v1 : Int32) (v2 : Int32) (v3 : Int32) (v4 : Int32), wpX2_endOf_b7 post nn c_pg v1 v2 v3 v4 → Y p l e { frames := 2, cells := 0, slots := 0, locals := 86 } s m args below meth c (MQ below (yQi D s0 A (fun r M1 => M1 = mM ad c_pg c_bm c_tx c_ty c_ft c_fa c_sp c_nu c_un c_sf c_st c_ll c_ln c_ip c_gr c_hs ∧ post r)) args s 0 0 A) D s0 A 6 (mM ad c_pg c_bm c_tx c_ty c_ft c_fa c_sp c_nu c_un c_sf c_st c_ll c_ln c_ip c_gr c_hs) 0 0 [some (yr (some (ad 0))), some (yi v1), some (yi v2), some (yi v3), some (yi v4), none] 7 [] := by
  intro nn
  induction nn with
  | zero => intro c_pg v1 v2 v3 v4 h; exact absurd h (by rw [wpX2_endOf_b7]; exact id)
  | succ nn ih =>
    intro c_pg v1 v2 v3 v4 h
    rw [wpX2_endOf_b7] at h
    refine y_iload C 4 rfl dX2_endOf_7 ?_
    refine y_aload_n C 0 rfl rfl dX2_endOf_9 ?_
    refine y_get (ci := 2) (k := 0) C in_X2 rfl (by decide) q1169 (fun _ h => h) mM_0 rfl dX2_endOf_10 ?_
    refine y_bipush C 13 dX2_endOf_13 y_b13 ?_
    obtain ⟨i9, h⟩ := h
    refine y_iald C (mM_1 hd) i9 dX2_endOf_15 ?_
    refine y_icmp_ge C 86 dX2_endOf_16 (by decide) (fun c9 => ?_) (fun c9 => ?_)
    · replace h := h.1 c9
      refine y_iload_n C 3 rfl rfl dX2_endOf_86 ?_
      exact y_ireti C hr rfl rfl ⟨rfl, h⟩ dX2_endOf_87
    · replace h := h.2 c9
      refine y_aload_n C 0 rfl rfl dX2_endOf_19 ?_
      refine y_iload C 4 rfl dX2_endOf_20 ?_
      refine y_iload_n C 2 rfl rfl dX2_endOf_22 ?_
      refine y_if_eq C 30 dX2_endOf_23 (by decide) (fun c9 => ?_) (fun c9 => ?_)
      · replace h := h.1 c9
        refine y_iconst C 0 dX2_endOf_30 lit0 ?_
        refine y_to C _ ?_ (okX2_endOf_b31 C hB hd hr ih _ _ _ _ _ _ _ h)
        exact (And.intro rfl (And.intro rfl (And.intro rfl (And.intro rfl (And.intro rfl trivial)))))
      · replace h := h.2 c9
        refine y_iconst C 1 dX2_endOf_26 lit1 ?_
        refine y_goto C 31 dX2_endOf_27 (by decide) ?_
        refine y_to C _ ?_ (okX2_endOf_b31 C hB hd hr ih _ _ _ _ _ _ _ h)
        exact (And.intro rfl (And.intro rfl (And.intro rfl (And.intro rfl (And.intro rfl trivial)))))
end sX2_endOf
def wpX2_endOf (c_pg : Nat → Int32) (a1 : Int32) (a2 : Int32) (post : Int32 → Prop) : Prop := ∃ nf9 : Nat, wpX2_endOf_b7 post nf9 c_pg a1 a2 (-999) 0
theorem metX2_endOf {l : Launch} {D : va_G} {s0 : State} {a0 : Array Value} {ad : Nat → Nat} (hd : yAd ad) (hB : yB D s0 a0) {c_pg : Nat → Int32} {c_bm : Int32} {c_tx : Nat → Int32} {c_ty : Int32} {c_ft : Int32} {c_fa : Int32} {c_sp : Int32} {c_nu : Int32} {c_un : Nat → Int32} {c_sf : Nat → Int32} {c_st : Nat → Int32} {c_ll : Nat → Int32} {c_ln : Nat → Int32} {c_ip : Nat → Int32} {c_gr : Nat → Int32} {c_hs : Int64} {a1 : Int32} {a2 : Int32} {post : Int32 → Prop} (h : wpX2_endOf c_pg a1 a2 post) : yMi l yX2_endOf (ws_ yX2_endOf cX2_endOf 6 (some .int)) 2 86 0 0 D s0 [yr (some (ad 0)), yi a1, yi a2] (mM ad c_pg c_bm c_tx c_ty c_ft c_fa c_sp c_nu c_un c_sf c_st c_ll c_ln c_ip c_gr c_hs) (fun r M1 => M1 = mM ad c_pg c_bm c_tx c_ty c_ft c_fa c_sp c_nu c_un c_sf c_st c_ll c_ln c_ip c_gr c_hs ∧ post r) := by
  refine y_meti hB (by decide) rfl (Nat.le_of_ble_eq_true rfl) ?_
  intro p e s m below meth c A hr hnm C
  rw [wpX2_endOf] at h
  refine y_sipush C (-999) dX2_endOf_0 y_sm999 ?_
  refine y_istore_n C 3 rfl (by decide) dX2_endOf_3 ?_
  refine y_iconst C 0 dX2_endOf_4 lit0 ?_
  refine y_istore C 4 (by decide) dX2_endOf_5 ?_
  obtain ⟨nf9, h⟩ := h
  refine y_to C _ ?_ (okX2_endOf_b7 C hB hd hr  nf9 _ _ _ _ _ h)
  exact (And.intro rfl (And.intro rfl (And.intro rfl (And.intro rfl (And.intro rfl trivial)))))
theorem kdX2_endOf : yX2_endOf.cls = RX2 ∧ yX2_endOf.cls ≠ "java/lang/invoke/MethodHandle" ∧ yX2_endOf.cls ≠ "java/lang/invoke/VarHandle" ∧ (parseMethodDescriptor yX2_endOf.desc).map (fun d => d.parameters.length) = some 2 := by decide +kernel
section sX2_over
variable {p : Program} {l : Launch} {e : Env} {s : State} {m : MethodId} {args : Array Value} {below : List Frame} {meth : Method} {c : Code} {D : va_G} {s0 : State} {a0 : Array Value} {A : Nat → Prop} {ad : Nat → Nat} {c_pg : Nat → Int32} {c_bm : Int32} {c_tx : Nat → Int32} {c_ty : Int32} {c_ft : Int32} {c_fa : Int32} {c_sp : Int32} {c_nu : Int32} {c_un : Nat → Int32} {c_sf : Nat → Int32} {c_st : Nat → Int32} {c_ll : Nat → Int32} {c_ln : Nat → Int32} {c_ip : Nat → Int32} {c_gr : Nat → Int32} {c_hs : Int64}
def wpX2_over_b55 (post : Int32 → Prop) (k2 : (Nat → Int32) → Int32 → Int32 → Prop) (c_pg : Nat → Int32) (v1 : Int32) (v2 : Int32) : Prop := ∀ x2 : Int32, x2 = v2 + 1 → k2 c_pg v1 x2
theorem okX2_over_b55 (C : yC p { frames := 3, cells := 0, slots := 0, locals := 111 } s m args meth c cX2_over 3 RX2 D s0 a0 A) (hB : yB D s0 a0) (hd : yAd ad) (hr : meth.sig.returnType = (some .int)) {post : Int32 → Prop} {k2 : (Nat → Int32) → Int32 → Int32 → Prop} (hk2 : ∀ (c_pg : Nat → Int32) (v1 : Int32) (v2 : Int32), k2 c_pg v1 v2 → Y p l e { frames := 3, cells := 0, slots := 0, locals := 111 } s m args below meth c (MQ below (yQi D s0 A (fun r M1 => M1 = mM ad c_pg c_bm c_tx c_ty c_ft c_fa c_sp c_nu c_un c_sf c_st c_ll c_ln c_ip c_gr c_hs ∧ post r)) args s 0 0 A) D s0 A 3 (mM ad c_pg c_bm c_tx c_ty c_ft c_fa c_sp c_nu c_un c_sf c_st c_ll c_ln c_ip c_gr c_hs) 0 0 [some (yr (some (ad 0))), some (yi v1), some (yi v2)] 2 []) : ∀ (c_pg : Nat → Int32) (v1 : Int32) (v2 : Int32), wpX2_over_b55 post k2 c_pg v1 v2 → Y p l e { frames := 3, cells := 0, slots := 0, locals := 111 } s m args below meth c (MQ below (yQi D s0 A (fun r M1 => M1 = mM ad c_pg c_bm c_tx c_ty c_ft c_fa c_sp c_nu c_un c_sf c_st c_ll c_ln c_ip c_gr c_hs ∧ post r)) args s 0 0 A) D s0 A 3 (mM ad c_pg c_bm c_tx c_ty c_ft c_fa c_sp c_nu c_un c_sf c_st c_ll c_ln c_ip c_gr c_hs) 0 0 [some (yr (some (ad 0))), some (yi v1), some (yi v2)] 55 [] := by
  intro c_pg v1 v2 h
  rw [wpX2_over_b55] at h
  replace h := h _ rfl
  refine y_iinc C 2 _ rfl (y_inc1 _) (by decide) dX2_over_55 ?_
  refine y_goto C 2 dX2_over_58 (by decide) ?_
  refine y_to C _ ?_ (hk2 _ _ _ h)
  exact (And.intro rfl (And.intro rfl (And.intro rfl trivial)))
def wpX2_over_b2 (post : Int32 → Prop) : Nat → (Nat → Int32) → Int32 → Int32 → Prop
  | 0, _, _, _ => False
  | nn + 1, c_pg, v1, v2 => vp_in 13 1120 ∧ (((c_pg (Int32.toNatClampNeg 13)) ≤ v2 → post (-999)) ∧ (¬ (c_pg (Int32.toNatClampNeg 13)) ≤ v2 → wpX2_of c_pg v2 4 (fun r1 => ((r1 = v1 → wpX2_over_b55 post (fun c_pg v1 v2 => wpX2_over_b2 post nn c_pg v1 v2) c_pg v1 v2) ∧ (¬ r1 = v1 → wpX2_of c_pg v2 0 (fun r3 => wpX2_endOf c_pg v1 0 (fun r4 => ((¬ r3 = r4 → wpX2_over_b55 post (fun c_pg v1 v2 => wpX2_over_b2 post nn c_pg v1 v2) c_pg v1 v2) ∧ (r3 = r4 → wpX2_of c_pg v2 1 (fun r5 => wpX2_endOf c_pg v1 1 (fun r6 => ((¬ r5 = r6 → wpX2_over_b55 post (fun c_pg v1 v2 => wpX2_over_b2 post nn c_pg v1 v2) c_pg v1 v2) ∧ (r5 = r6 → post v2)))))))))))))
theorem okX2_over_b2 (C : yC p { frames := 3, cells := 0, slots := 0, locals := 111 } s m args meth c cX2_over 3 RX2 D s0 a0 A) (hB : yB D s0 a0) (hd : yAd ad) (hr : meth.sig.returnType = (some .int)) {post : Int32 → Prop}  : ∀ (nn : Nat) (c_pg : Nat → Int32) (v1 : Int32) (v2 : Int32), wpX2_over_b2 post nn c_pg v1 v2 → Y p l e { frames := 3, cells := 0, slots := 0, locals := 111 } s m args below meth c (MQ below (yQi D s0 A (fun r M1 => M1 = mM ad c_pg c_bm c_tx c_ty c_ft c_fa c_sp c_nu c_un c_sf c_st c_ll c_ln c_ip c_gr c_hs ∧ post r)) args s 0 0 A) D s0 A 3 (mM ad c_pg c_bm c_tx c_ty c_ft c_fa c_sp c_nu c_un c_sf c_st c_ll c_ln c_ip c_gr c_hs) 0 0 [some (yr (some (ad 0))), some (yi v1), some (yi v2)] 2 [] := by
  intro nn
  induction nn with
  | zero => intro c_pg v1 v2 h; exact absurd h (by rw [wpX2_over_b2]; exact id)
  | succ nn ih =>
    intro c_pg v1 v2 h
    rw [wpX2_over_b2] at h
    refine y_iload_n C 2 rfl rfl dX2_over_2 ?_
    refine y_aload_n C 0 rfl rfl dX2_over_3 ?_
    refine y_get (ci := 2) (k := 0) C in_X2 rfl (by decide) q1169 (fun _ h => h) mM_0 rfl dX2_over_4 ?_
    refine y_bipush C 13 dX2_over_7 y_b13 ?_
    obtain ⟨i9, h⟩ := h
    refine y_iald C (mM_1 hd) i9 dX2_over_9 ?_
    refine y_icmp_ge C 61 dX2_over_10 (by decide) (fun c9 => ?_) (fun c9 => ?_)
    · replace h := h.1 c9
      refine y_sipush C (-999) dX2_over_61 y_sm999 ?_
      exact y_ireti C hr rfl rfl ⟨rfl, h⟩ dX2_over_64
    · replace h := h.2 c9
      refine y_aload_n C 0 rfl rfl dX2_over_13 ?_
      refine y_iload_n C 2 rfl rfl dX2_over_14 ?_
      refine y_iconst C 4 dX2_over_15 lit4 ?_
      refine y_callVi0 C (metX2_of hd hB h) (cwV 2 C.hts (lw_V q1250 q1252 qs28 q91 q1253) rfl rfl rfl kdX2_of ⟨Nat.le_of_ble_eq_true rfl, Nat.le_of_ble_eq_true rfl⟩) mM_0 rfl rfl rfl (Nat.le_of_ble_eq_true rfl) dX2_over_16 (fun r1 M1 hp => ?_)
      clear h
      obtain ⟨rfl, h⟩ := hp
      refine y_iload_n C 1 rfl rfl dX2_over_19 ?_
      refine y_icmp_eq C 55 dX2_over_20 (by decide) (fun c9 => ?_) (fun c9 => ?_)
      · replace h := h.1 c9
        refine y_to C _ ?_ (okX2_over_b55 C hB hd hr ih _ _ _ h)
        exact (And.intro rfl (And.intro rfl (And.intro rfl trivial)))
      · replace h := h.2 c9
        refine y_aload_n C 0 rfl rfl dX2_over_23 ?_
        refine y_iload_n C 2 rfl rfl dX2_over_24 ?_
        refine y_iconst C 0 dX2_over_25 lit0 ?_
        refine y_callVi0 C (metX2_of hd hB h) (cwV 2 C.hts (lw_V q1250 q1252 qs28 q91 q1253) rfl rfl rfl kdX2_of ⟨Nat.le_of_ble_eq_true rfl, Nat.le_of_ble_eq_true rfl⟩) mM_0 rfl rfl rfl (Nat.le_of_ble_eq_true rfl) dX2_over_26 (fun r3 M1 hp => ?_)
        clear h
        obtain ⟨rfl, h⟩ := hp
        refine y_aload_n C 0 rfl rfl dX2_over_29 ?_
        refine y_iload_n C 1 rfl rfl dX2_over_30 ?_
        refine y_iconst C 0 dX2_over_31 lit0 ?_
        refine y_callVi0 C (metX2_endOf hd hB h) (cwV 2 C.hts (lw_V q1530 q1532 qs76 q91 q1533) rfl rfl rfl kdX2_endOf ⟨Nat.le_of_ble_eq_true rfl, Nat.le_of_ble_eq_true rfl⟩) mM_0 rfl rfl rfl (Nat.le_of_ble_eq_true rfl) dX2_over_32 (fun r4 M1 hp => ?_)
        clear h
        obtain ⟨rfl, h⟩ := hp
        refine y_icmp_ne C 55 dX2_over_35 (by decide) (fun c9 => ?_) (fun c9 => ?_)
        · replace h := h.1 c9
          refine y_to C _ ?_ (okX2_over_b55 C hB hd hr ih _ _ _ h)
          exact (And.intro rfl (And.intro rfl (And.intro rfl trivial)))
        · replace h := h.2 c9
          refine y_aload_n C 0 rfl rfl dX2_over_38 ?_
          refine y_iload_n C 2 rfl rfl dX2_over_39 ?_
          refine y_iconst C 1 dX2_over_40 lit1 ?_
          refine y_callVi0 C (metX2_of hd hB h) (cwV 2 C.hts (lw_V q1250 q1252 qs28 q91 q1253) rfl rfl rfl kdX2_of ⟨Nat.le_of_ble_eq_true rfl, Nat.le_of_ble_eq_true rfl⟩) mM_0 rfl rfl rfl (Nat.le_of_ble_eq_true rfl) dX2_over_41 (fun r5 M1 hp => ?_)
          clear h
          obtain ⟨rfl, h⟩ := hp
          refine y_aload_n C 0 rfl rfl dX2_over_44 ?_
          refine y_iload_n C 1 rfl rfl dX2_over_45 ?_
          refine y_iconst C 1 dX2_over_46 lit1 ?_
          refine y_callVi0 C (metX2_endOf hd hB h) (cwV 2 C.hts (lw_V q1530 q1532 qs76 q91 q1533) rfl rfl rfl kdX2_endOf ⟨Nat.le_of_ble_eq_true rfl, Nat.le_of_ble_eq_true rfl⟩) mM_0 rfl rfl rfl (Nat.le_of_ble_eq_true rfl) dX2_over_47 (fun r6 M1 hp => ?_)
          clear h
          obtain ⟨rfl, h⟩ := hp
          refine y_icmp_ne C 55 dX2_over_50 (by decide) (fun c9 => ?_) (fun c9 => ?_)
          · replace h := h.1 c9
            refine y_to C _ ?_ (okX2_over_b55 C hB hd hr ih _ _ _ h)
            exact (And.intro rfl (And.intro rfl (And.intro rfl trivial)))
          · replace h := h.2 c9
            refine y_iload_n C 2 rfl rfl dX2_over_53 ?_
            exact y_ireti C hr rfl rfl ⟨rfl, h⟩ dX2_over_54
end sX2_over
def wpX2_over (c_pg : Nat → Int32) (a1 : Int32) (post : Int32 → Prop) : Prop := ∃ nf9 : Nat, wpX2_over_b2 post nf9 c_pg a1 0
theorem metX2_over {l : Launch} {D : va_G} {s0 : State} {a0 : Array Value} {ad : Nat → Nat} (hd : yAd ad) (hB : yB D s0 a0) {c_pg : Nat → Int32} {c_bm : Int32} {c_tx : Nat → Int32} {c_ty : Int32} {c_ft : Int32} {c_fa : Int32} {c_sp : Int32} {c_nu : Int32} {c_un : Nat → Int32} {c_sf : Nat → Int32} {c_st : Nat → Int32} {c_ll : Nat → Int32} {c_ln : Nat → Int32} {c_ip : Nat → Int32} {c_gr : Nat → Int32} {c_hs : Int64} {a1 : Int32} {post : Int32 → Prop} (h : wpX2_over c_pg a1 post) : yMi l yX2_over (ws_ yX2_over cX2_over 3 (some .int)) 3 111 0 0 D s0 [yr (some (ad 0)), yi a1] (mM ad c_pg c_bm c_tx c_ty c_ft c_fa c_sp c_nu c_un c_sf c_st c_ll c_ln c_ip c_gr c_hs) (fun r M1 => M1 = mM ad c_pg c_bm c_tx c_ty c_ft c_fa c_sp c_nu c_un c_sf c_st c_ll c_ln c_ip c_gr c_hs ∧ post r) := by
  refine y_meti hB (by decide) rfl (Nat.le_of_ble_eq_true rfl) ?_
  intro p e s m below meth c A hr hnm C
  rw [wpX2_over] at h
  refine y_iconst C 0 dX2_over_0 lit0 ?_
  refine y_istore_n C 2 rfl (by decide) dX2_over_1 ?_
  obtain ⟨nf9, h⟩ := h
  refine y_to C _ ?_ (okX2_over_b2 C hB hd hr  nf9 _ _ _ h)
  exact (And.intro rfl (And.intro rfl (And.intro rfl trivial)))
theorem kdX2_over : yX2_over.cls = RX2 ∧ yX2_over.cls ≠ "java/lang/invoke/MethodHandle" ∧ yX2_over.cls ≠ "java/lang/invoke/VarHandle" ∧ (parseMethodDescriptor yX2_over.desc).map (fun d => d.parameters.length) = some 1 := by decide +kernel
section sX2_laneOfChain
variable {p : Program} {l : Launch} {e : Env} {s : State} {m : MethodId} {args : Array Value} {below : List Frame} {meth : Method} {c : Code} {D : va_G} {s0 : State} {a0 : Array Value} {A : Nat → Prop} {ad : Nat → Nat} {c_pg : Nat → Int32} {c_bm : Int32} {c_tx : Nat → Int32} {c_ty : Int32} {c_ft : Int32} {c_fa : Int32} {c_sp : Int32} {c_nu : Int32} {c_un : Nat → Int32} {c_sf : Nat → Int32} {c_st : Nat → Int32} {c_ll : Nat → Int32} {c_ln : Nat → Int32} {c_ip : Nat → Int32} {c_gr : Nat → Int32} {c_hs : Int64}
def wpX2_laneOfChain_b6 (post : Int32 → (Nat → Int32) → (Nat → Int32) → (Nat → Int32) → (Nat → Int32) → (Nat → Int32) → (Nat → Int32) → Prop) : Nat → (Nat → Int32) → (Nat → Int32) → (Nat → Int32) → (Nat → Int32) → (Nat → Int32) → (Nat → Int32) → (Nat → Int32) → Int32 → Int32 → Prop
  | 0, _, _, _, _, _, _, _, _, _ => False
  | nn + 1, c_pg, c_un, c_sf, c_st, c_ll, c_ln, c_ip, v1, v2 => wpX2_of c_pg v2 4 (fun r7 => ((r7 = v1 → wpX2_laneOf c_un c_ln v2 (fun r8 => post r8 c_un c_sf c_st c_ll c_ln c_ip)) ∧ (¬ r7 = v1 → ∀ x9 : Int32, x9 = v2 + 1 → wpX2_laneOfChain_b6 post nn c_pg c_un c_sf c_st c_ll c_ln c_ip v1 x9)))
theorem okX2_laneOfChain_b6 (C : yC p { frames := 9, cells := 0, slots := 0, locals := 241 } s m args meth c cX2_laneOfChain 3 RX2 D s0 a0 A) (hB : yB D s0 a0) (hd : yAd ad) (hr : meth.sig.returnType = (some .int)) {post : Int32 → (Nat → Int32) → (Nat → Int32) → (Nat → Int32) → (Nat → Int32) → (Nat → Int32) → (Nat → Int32) → Prop}  : ∀ (nn : Nat) (c_pg : Nat → Int32) (c_un : Nat → Int32) (c_sf : Nat → Int32) (c_st : Nat → Int32) (c_ll : Nat → Int32) (c_ln : Nat → Int32) (c_ip : Nat → Int32) (v1 : Int32) (v2 : Int32), wpX2_laneOfChain_b6 post nn c_pg c_un c_sf c_st c_ll c_ln c_ip v1 v2 → Y p l e { frames := 9, cells := 0, slots := 0, locals := 241 } s m args below meth c (MQ below (yQi D s0 A (fun r M1 => ∃ (w_un : Nat → Int32) (w_sf : Nat → Int32) (w_st : Nat → Int32) (w_ll : Nat → Int32) (w_ln : Nat → Int32) (w_ip : Nat → Int32), M1 = mM ad c_pg c_bm c_tx c_ty c_ft c_fa c_sp c_nu w_un w_sf w_st w_ll w_ln w_ip c_gr c_hs ∧ post r w_un w_sf w_st w_ll w_ln w_ip)) args s 0 0 A) D s0 A 3 (mM ad c_pg c_bm c_tx c_ty c_ft c_fa c_sp c_nu c_un c_sf c_st c_ll c_ln c_ip c_gr c_hs) 0 0 [some (yr (some (ad 0))), some (yi v1), some (yi v2)] 6 [] := by
  intro nn
  induction nn with
  | zero => intro c_pg c_un c_sf c_st c_ll c_ln c_ip v1 v2 h; exact absurd h (by rw [wpX2_laneOfChain_b6]; exact id)
  | succ nn ih =>
    intro c_pg c_un c_sf c_st c_ll c_ln c_ip v1 v2 h
    rw [wpX2_laneOfChain_b6] at h
    refine y_aload_n C 0 rfl rfl dX2_laneOfChain_6 ?_
    refine y_iload_n C 2 rfl rfl dX2_laneOfChain_7 ?_
    refine y_iconst C 4 dX2_laneOfChain_8 lit4 ?_
    refine y_callVi0 C (metX2_of hd hB h) (cwV 2 C.hts (lw_V q1250 q1252 qs28 q91 q1253) rfl rfl rfl kdX2_of ⟨Nat.le_of_ble_eq_true rfl, Nat.le_of_ble_eq_true rfl⟩) mM_0 rfl rfl rfl (Nat.le_of_ble_eq_true rfl) dX2_laneOfChain_9 (fun r7 M1 hp => ?_)
    clear h
    obtain ⟨rfl, h⟩ := hp
    refine y_iload_n C 1 rfl rfl dX2_laneOfChain_12 ?_
    refine y_icmp_eq C 22 dX2_laneOfChain_13 (by decide) (fun c9 => ?_) (fun c9 => ?_)
    · replace h := h.1 c9
      refine y_aload_n C 0 rfl rfl dX2_laneOfChain_22 ?_
      refine y_iload_n C 2 rfl rfl dX2_laneOfChain_23 ?_
      refine y_callVi0 C (metX2_laneOf hd hB h) (cwV 1 C.hts (lw_V q1467 q1469 qs68 q91 q1470) rfl rfl rfl kdX2_laneOf ⟨Nat.le_of_ble_eq_true rfl, Nat.le_of_ble_eq_true rfl⟩) mM_0 rfl rfl rfl (Nat.le_of_ble_eq_true rfl) dX2_laneOfChain_24 (fun r8 M1 hp => ?_)
      clear h
      obtain ⟨rfl, h⟩ := hp
      exact y_ireti C hr rfl rfl ⟨_, _, _, _, _, _, rfl, h⟩ dX2_laneOfChain_27
    · replace h := h.2 c9
      replace h := h _ rfl
      refine y_iinc C 2 _ rfl (y_inc1 _) (by decide) dX2_laneOfChain_16 ?_
      refine y_goto C 6 dX2_laneOfChain_19 (by decide) ?_
      refine y_to C _ ?_ (ih _ _ _ _ _ _ _ _ _ h)
      exact (And.intro rfl (And.intro rfl (And.intro rfl trivial)))
end sX2_laneOfChain
def wpX2_laneOfChain (c_pg : Nat → Int32) (c_un : Nat → Int32) (c_sf : Nat → Int32) (c_st : Nat → Int32) (c_ll : Nat → Int32) (c_ln : Nat → Int32) (c_ip : Nat → Int32) (a1 : Int32) (post : Int32 → (Nat → Int32) → (Nat → Int32) → (Nat → Int32) → (Nat → Int32) → (Nat → Int32) → (Nat → Int32) → Prop) : Prop := wpX2_laysLanes c_pg c_un c_sf c_st c_ll c_ln c_ip (fun w_un1 w_sf2 w_st3 w_ll4 w_ln5 w_ip6 => ∃ nf9 : Nat, wpX2_laneOfChain_b6 post nf9 c_pg w_un1 w_sf2 w_st3 w_ll4 w_ln5 w_ip6 a1 0)
theorem metX2_laneOfChain {l : Launch} {D : va_G} {s0 : State} {a0 : Array Value} {ad : Nat → Nat} (hd : yAd ad) (hB : yB D s0 a0) {c_pg : Nat → Int32} {c_bm : Int32} {c_tx : Nat → Int32} {c_ty : Int32} {c_ft : Int32} {c_fa : Int32} {c_sp : Int32} {c_nu : Int32} {c_un : Nat → Int32} {c_sf : Nat → Int32} {c_st : Nat → Int32} {c_ll : Nat → Int32} {c_ln : Nat → Int32} {c_ip : Nat → Int32} {c_gr : Nat → Int32} {c_hs : Int64} {a1 : Int32} {post : Int32 → (Nat → Int32) → (Nat → Int32) → (Nat → Int32) → (Nat → Int32) → (Nat → Int32) → (Nat → Int32) → Prop} (h : wpX2_laneOfChain c_pg c_un c_sf c_st c_ll c_ln c_ip a1 post) : yMi l yX2_laneOfChain (ws_ yX2_laneOfChain cX2_laneOfChain 3 (some .int)) 9 241 0 0 D s0 [yr (some (ad 0)), yi a1] (mM ad c_pg c_bm c_tx c_ty c_ft c_fa c_sp c_nu c_un c_sf c_st c_ll c_ln c_ip c_gr c_hs) (fun r M1 => ∃ (w_un : Nat → Int32) (w_sf : Nat → Int32) (w_st : Nat → Int32) (w_ll : Nat → Int32) (w_ln : Nat → Int32) (w_ip : Nat → Int32), M1 = mM ad c_pg c_bm c_tx c_ty c_ft c_fa c_sp c_nu w_un w_sf w_st w_ll w_ln w_ip c_gr c_hs ∧ post r w_un w_sf w_st w_ll w_ln w_ip) := by
  refine y_meti hB (by decide) rfl (Nat.le_of_ble_eq_true rfl) ?_
  intro p e s m below meth c A hr hnm C
  rw [wpX2_laneOfChain] at h
  refine y_aload_n C 0 rfl rfl dX2_laneOfChain_0 ?_
  refine y_callVv0 C (metX2_laysLanes hd hB h) (cwV 0 C.hts (lw_V q1415 q1417 qs55 q91 q1418) rfl rfl rfl kdX2_laysLanes ⟨Nat.le_of_ble_eq_true rfl, Nat.le_of_ble_eq_true rfl⟩) mM_0 rfl rfl rfl (Nat.le_of_ble_eq_true rfl) dX2_laneOfChain_1 (fun M1 hp => ?_)
  clear h
  obtain ⟨w_un1, w_sf2, w_st3, w_ll4, w_ln5, w_ip6, rfl, h⟩ := hp
  refine y_iconst C 0 dX2_laneOfChain_4 lit0 ?_
  refine y_istore_n C 2 rfl (by decide) dX2_laneOfChain_5 ?_
  obtain ⟨nf9, h⟩ := h
  refine y_to C _ ?_ (okX2_laneOfChain_b6 C hB hd hr  nf9 _ _ _ _ _ _ _ _ _ h)
  exact (And.intro rfl (And.intro rfl (And.intro rfl trivial)))
theorem kdX2_laneOfChain : yX2_laneOfChain.cls = RX2 ∧ yX2_laneOfChain.cls ≠ "java/lang/invoke/MethodHandle" ∧ yX2_laneOfChain.cls ≠ "java/lang/invoke/VarHandle" ∧ (parseMethodDescriptor yX2_laneOfChain.desc).map (fun d => d.parameters.length) = some 1 := by decide +kernel
section sX2_sumOf
variable {p : Program} {l : Launch} {e : Env} {s : State} {m : MethodId} {args : Array Value} {below : List Frame} {meth : Method} {c : Code} {D : va_G} {s0 : State} {a0 : Array Value} {A : Nat → Prop} {ad : Nat → Nat} {c_pg : Nat → Int32} {c_bm : Int32} {c_tx : Nat → Int32} {c_ty : Int32} {c_ft : Int32} {c_fa : Int32} {c_sp : Int32} {c_nu : Int32} {c_un : Nat → Int32} {c_sf : Nat → Int32} {c_st : Nat → Int32} {c_ll : Nat → Int32} {c_ln : Nat → Int32} {c_ip : Nat → Int32} {c_gr : Nat → Int32} {c_hs : Int64}
def wpX2_sumOf_b75 (post : Int32 → Prop) (k5 : (Nat → Int32) → Int32 → Int32 → Int32 → Int32 → Prop) (c_pg : Nat → Int32) (v1 : Int32) (v2 : Int32) (v4 : Int32) (u0 : Int32) (u1 : Int32) : Prop := ∀ x3 : Int32, x3 = (u0 + u1) → ∀ x4 : Int32, x4 = v4 + 1 → k5 c_pg v1 v2 x3 x4
theorem okX2_sumOf_b75 (C : yC p { frames := 4, cells := 0, slots := 0, locals := 128 } s m args meth c cX2_sumOf 6 RX2 D s0 a0 A) (hB : yB D s0 a0) (hd : yAd ad) (hr : meth.sig.returnType = (some .int)) {post : Int32 → Prop} {k5 : (Nat → Int32) → Int32 → Int32 → Int32 → Int32 → Prop} (hk5 : ∀ (c_pg : Nat → Int32) (v1 : Int32) (v2 : Int32) (v3 : Int32) (v4 : Int32), k5 c_pg v1 v2 v3 v4 → Y p l e { frames := 4, cells := 0, slots := 0, locals := 128 } s m args below meth c (MQ below (yQi D s0 A (fun r M1 => M1 = mM ad c_pg c_bm c_tx c_ty c_ft c_fa c_sp c_nu c_un c_sf c_st c_ll c_ln c_ip c_gr c_hs ∧ post r)) args s 0 0 A) D s0 A 6 (mM ad c_pg c_bm c_tx c_ty c_ft c_fa c_sp c_nu c_un c_sf c_st c_ll c_ln c_ip c_gr c_hs) 0 0 [some (yr (some (ad 0))), some (yi v1), some (yi v2), some (yi v3), some (yi v4), none] 5 []) : ∀ (c_pg : Nat → Int32) (v1 : Int32) (v2 : Int32) (v4 : Int32) (u0 : Int32) (u1 : Int32), wpX2_sumOf_b75 post k5 c_pg v1 v2 v4 u0 u1 → Y p l e { frames := 4, cells := 0, slots := 0, locals := 128 } s m args below meth c (MQ below (yQi D s0 A (fun r M1 => M1 = mM ad c_pg c_bm c_tx c_ty c_ft c_fa c_sp c_nu c_un c_sf c_st c_ll c_ln c_ip c_gr c_hs ∧ post r)) args s 0 0 A) D s0 A 6 (mM ad c_pg c_bm c_tx c_ty c_ft c_fa c_sp c_nu c_un c_sf c_st c_ll c_ln c_ip c_gr c_hs) 0 0 [some (yr (some (ad 0))), some (yi v1), some (yi v2), none, some (yi v4), none] 75 [yi u1, yi u0] := by
  intro c_pg v1 v2 v4 u0 u1 h
  rw [wpX2_sumOf_b75] at h
  refine y_iadd C dX2_sumOf_75 ?_
  replace h := h _ rfl
  refine y_istore_n C 3 rfl (by decide) dX2_sumOf_76 ?_
  replace h := h _ rfl
  refine y_iinc C 4 _ rfl (y_inc1 _) (by decide) dX2_sumOf_77 ?_
  refine y_goto C 5 dX2_sumOf_80 (by decide) ?_
  refine y_to C _ ?_ (hk5 _ _ _ _ _ h)
  exact (And.intro rfl (And.intro rfl (And.intro rfl (And.intro rfl (And.intro rfl trivial)))))
def wpX2_sumOf_b55 (post : Int32 → Prop) (k5 : (Nat → Int32) → Int32 → Int32 → Int32 → Int32 → Prop) (c_pg : Nat → Int32) (v1 : Int32) (v2 : Int32) (v3 : Int32) (v4 : Int32) (u0 : Int32) : Prop := wpX2_of c_pg v4 4 (fun r2 => ((¬ r2 = v1 → wpX2_sumOf_b75 post k5 c_pg v1 v2 v4 v3 0) ∧ (r2 = v1 → wpX2_sumOf_b75 post k5 c_pg v1 v2 v4 v3 u0)))
theorem okX2_sumOf_b55 (C : yC p { frames := 4, cells := 0, slots := 0, locals := 128 } s m args meth c cX2_sumOf 6 RX2 D s0 a0 A) (hB : yB D s0 a0) (hd : yAd ad) (hr : meth.sig.returnType = (some .int)) {post : Int32 → Prop} {k5 : (Nat → Int32) → Int32 → Int32 → Int32 → Int32 → Prop} (hk5 : ∀ (c_pg : Nat → Int32) (v1 : Int32) (v2 : Int32) (v3 : Int32) (v4 : Int32), k5 c_pg v1 v2 v3 v4 → Y p l e { frames := 4, cells := 0, slots := 0, locals := 128 } s m args below meth c (MQ below (yQi D s0 A (fun r M1 => M1 = mM ad c_pg c_bm c_tx c_ty c_ft c_fa c_sp c_nu c_un c_sf c_st c_ll c_ln c_ip c_gr c_hs ∧ post r)) args s 0 0 A) D s0 A 6 (mM ad c_pg c_bm c_tx c_ty c_ft c_fa c_sp c_nu c_un c_sf c_st c_ll c_ln c_ip c_gr c_hs) 0 0 [some (yr (some (ad 0))), some (yi v1), some (yi v2), some (yi v3), some (yi v4), none] 5 []) : ∀ (c_pg : Nat → Int32) (v1 : Int32) (v2 : Int32) (v3 : Int32) (v4 : Int32) (u0 : Int32), wpX2_sumOf_b55 post k5 c_pg v1 v2 v3 v4 u0 → Y p l e { frames := 4, cells := 0, slots := 0, locals := 128 } s m args below meth c (MQ below (yQi D s0 A (fun r M1 => M1 = mM ad c_pg c_bm c_tx c_ty c_ft c_fa c_sp c_nu c_un c_sf c_st c_ll c_ln c_ip c_gr c_hs ∧ post r)) args s 0 0 A) D s0 A 6 (mM ad c_pg c_bm c_tx c_ty c_ft c_fa c_sp c_nu c_un c_sf c_st c_ll c_ln c_ip c_gr c_hs) 0 0 [some (yr (some (ad 0))), some (yi v1), some (yi v2), some (yi v3), some (yi v4), none] 55 [yi u0] := by
  intro c_pg v1 v2 v3 v4 u0 h
  rw [wpX2_sumOf_b55] at h
  refine y_istore C 5 (by decide) dX2_sumOf_55 ?_
  refine y_iload_n C 3 rfl rfl dX2_sumOf_57 ?_
  refine y_aload_n C 0 rfl rfl dX2_sumOf_58 ?_
  refine y_iload C 4 rfl dX2_sumOf_59 ?_
  refine y_iconst C 4 dX2_sumOf_61 lit4 ?_
  refine y_callVi0 C (metX2_of hd hB h) (cwV 2 C.hts (lw_V q1250 q1252 qs28 q91 q1253) rfl rfl rfl kdX2_of ⟨Nat.le_of_ble_eq_true rfl, Nat.le_of_ble_eq_true rfl⟩) mM_0 rfl rfl rfl (Nat.le_of_ble_eq_true rfl) dX2_sumOf_62 (fun r2 M1 hp => ?_)
  clear h
  obtain ⟨rfl, h⟩ := hp
  refine y_iload_n C 1 rfl rfl dX2_sumOf_65 ?_
  refine y_icmp_ne C 74 dX2_sumOf_66 (by decide) (fun c9 => ?_) (fun c9 => ?_)
  · replace h := h.1 c9
    refine y_iconst C 0 dX2_sumOf_74 lit0 ?_
    refine y_to C _ ?_ (okX2_sumOf_b75 C hB hd hr hk5 _ _ _ _ _ _ h)
    exact (And.intro rfl (And.intro rfl (And.intro rfl (And.intro rfl trivial))))
  · replace h := h.2 c9
    refine y_iload C 5 rfl dX2_sumOf_69 ?_
    refine y_goto C 75 dX2_sumOf_71 (by decide) ?_
    refine y_to C _ ?_ (okX2_sumOf_b75 C hB hd hr hk5 _ _ _ _ _ _ h)
    exact (And.intro rfl (And.intro rfl (And.intro rfl (And.intro rfl trivial))))
def wpX2_sumOf_b52 (post : Int32 → Prop) (k5 : (Nat → Int32) → Int32 → Int32 → Int32 → Int32 → Prop) (c_pg : Nat → Int32) (v1 : Int32) (v2 : Int32) (v3 : Int32) (v4 : Int32) (u1 : Int32) (u2 : Int32) : Prop := wpX2_of c_pg u1 u2 (fun r1 => wpX2_sumOf_b55 post k5 c_pg v1 v2 v3 v4 r1)
theorem okX2_sumOf_b52 (C : yC p { frames := 4, cells := 0, slots := 0, locals := 128 } s m args meth c cX2_sumOf 6 RX2 D s0 a0 A) (hB : yB D s0 a0) (hd : yAd ad) (hr : meth.sig.returnType = (some .int)) {post : Int32 → Prop} {k5 : (Nat → Int32) → Int32 → Int32 → Int32 → Int32 → Prop} (hk5 : ∀ (c_pg : Nat → Int32) (v1 : Int32) (v2 : Int32) (v3 : Int32) (v4 : Int32), k5 c_pg v1 v2 v3 v4 → Y p l e { frames := 4, cells := 0, slots := 0, locals := 128 } s m args below meth c (MQ below (yQi D s0 A (fun r M1 => M1 = mM ad c_pg c_bm c_tx c_ty c_ft c_fa c_sp c_nu c_un c_sf c_st c_ll c_ln c_ip c_gr c_hs ∧ post r)) args s 0 0 A) D s0 A 6 (mM ad c_pg c_bm c_tx c_ty c_ft c_fa c_sp c_nu c_un c_sf c_st c_ll c_ln c_ip c_gr c_hs) 0 0 [some (yr (some (ad 0))), some (yi v1), some (yi v2), some (yi v3), some (yi v4), none] 5 []) : ∀ (c_pg : Nat → Int32) (v1 : Int32) (v2 : Int32) (v3 : Int32) (v4 : Int32) (u1 : Int32) (u2 : Int32), wpX2_sumOf_b52 post k5 c_pg v1 v2 v3 v4 u1 u2 → Y p l e { frames := 4, cells := 0, slots := 0, locals := 128 } s m args below meth c (MQ below (yQi D s0 A (fun r M1 => M1 = mM ad c_pg c_bm c_tx c_ty c_ft c_fa c_sp c_nu c_un c_sf c_st c_ll c_ln c_ip c_gr c_hs ∧ post r)) args s 0 0 A) D s0 A 6 (mM ad c_pg c_bm c_tx c_ty c_ft c_fa c_sp c_nu c_un c_sf c_st c_ll c_ln c_ip c_gr c_hs) 0 0 [some (yr (some (ad 0))), some (yi v1), some (yi v2), some (yi v3), some (yi v4), none] 52 [yi u2, yi u1, yr (some (ad 0))] := by
  intro c_pg v1 v2 v3 v4 u1 u2 h
  rw [wpX2_sumOf_b52] at h
  refine y_callVi0 C (metX2_of hd hB h) (cwV 2 C.hts (lw_V q1250 q1252 qs28 q91 q1253) rfl rfl rfl kdX2_of ⟨Nat.le_of_ble_eq_true rfl, Nat.le_of_ble_eq_true rfl⟩) mM_0 rfl rfl rfl (Nat.le_of_ble_eq_true rfl) dX2_sumOf_52 (fun r1 M1 hp => ?_)
  clear h
  obtain ⟨rfl, h⟩ := hp
  refine y_to C _ ?_ (okX2_sumOf_b55 C hB hd hr hk5 _ _ _ _ _ _ h)
  exact (And.intro rfl (And.intro rfl (And.intro rfl (And.intro rfl (And.intro rfl trivial)))))
def wpX2_sumOf_b5 (post : Int32 → Prop) : Nat → (Nat → Int32) → Int32 → Int32 → Int32 → Int32 → Prop
  | 0, _, _, _, _, _ => False
  | nn + 1, c_pg, v1, v2, v3, v4 => vp_in 13 1120 ∧ (((c_pg (Int32.toNatClampNeg 13)) ≤ v4 → post v3) ∧ (¬ (c_pg (Int32.toNatClampNeg 13)) ≤ v4 → ((¬ v2 = 0 → ((¬ v2 = 4 → ((¬ v2 = 5 → wpX2_sumOf_b52 post (fun c_pg v1 v2 v3 v4 => wpX2_sumOf_b5 post nn c_pg v1 v2 v3 v4) c_pg v1 v2 v3 v4 v4 3) ∧ (v2 = 5 → wpX2_sumOf_b52 post (fun c_pg v1 v2 v3 v4 => wpX2_sumOf_b5 post nn c_pg v1 v2 v3 v4) c_pg v1 v2 v3 v4 v4 2))) ∧ (v2 = 4 → wpX2_value c_pg v4 (fun r5 => wpX2_sumOf_b55 post (fun c_pg v1 v2 v3 v4 => wpX2_sumOf_b5 post nn c_pg v1 v2 v3 v4) c_pg v1 v2 v3 v4 r5)))) ∧ (v2 = 0 → wpX2_sumOf_b55 post (fun c_pg v1 v2 v3 v4 => wpX2_sumOf_b5 post nn c_pg v1 v2 v3 v4) c_pg v1 v2 v3 v4 1))))
theorem okX2_sumOf_b5 (C : yC p { frames := 4, cells := 0, slots := 0, locals := 128 } s m args meth c cX2_sumOf 6 RX2 D s0 a0 A) (hB : yB D s0 a0) (hd : yAd ad) (hr : meth.sig.returnType = (some .int)) {post : Int32 → Prop}  : ∀ (nn : Nat) (c_pg : Nat → Int32) (v1 : Int32) (v2 : Int32) (v3 : Int32) (v4 : Int32), wpX2_sumOf_b5 post nn c_pg v1 v2 v3 v4 → Y p l e { frames := 4, cells := 0, slots := 0, locals := 128 } s m args below meth c (MQ below (yQi D s0 A (fun r M1 => M1 = mM ad c_pg c_bm c_tx c_ty c_ft c_fa c_sp c_nu c_un c_sf c_st c_ll c_ln c_ip c_gr c_hs ∧ post r)) args s 0 0 A) D s0 A 6 (mM ad c_pg c_bm c_tx c_ty c_ft c_fa c_sp c_nu c_un c_sf c_st c_ll c_ln c_ip c_gr c_hs) 0 0 [some (yr (some (ad 0))), some (yi v1), some (yi v2), some (yi v3), some (yi v4), none] 5 [] := by
  intro nn
  induction nn with
  | zero => intro c_pg v1 v2 v3 v4 h; exact absurd h (by rw [wpX2_sumOf_b5]; exact id)
  | succ nn ih =>
    intro c_pg v1 v2 v3 v4 h
    rw [wpX2_sumOf_b5] at h
    refine y_iload C 4 rfl dX2_sumOf_5 ?_
    refine y_aload_n C 0 rfl rfl dX2_sumOf_7 ?_
    refine y_get (ci := 2) (k := 0) C in_X2 rfl (by decide) q1169 (fun _ h => h) mM_0 rfl dX2_sumOf_8 ?_
    refine y_bipush C 13 dX2_sumOf_11 y_b13 ?_
    obtain ⟨i9, h⟩ := h
    refine y_iald C (mM_1 hd) i9 dX2_sumOf_13 ?_
    refine y_icmp_ge C 83 dX2_sumOf_14 (by decide) (fun c9 => ?_) (fun c9 => ?_)
    · replace h := h.1 c9
      refine y_iload_n C 3 rfl rfl dX2_sumOf_83 ?_
      exact y_ireti C hr rfl rfl ⟨rfl, h⟩ dX2_sumOf_84
    · replace h := h.2 c9
      refine y_iload_n C 2 rfl rfl dX2_sumOf_17 ?_
      refine y_if_ne C 25 dX2_sumOf_18 (by decide) (fun c9 => ?_) (fun c9 => ?_)
      · replace h := h.1 c9
        refine y_iload_n C 2 rfl rfl dX2_sumOf_25 ?_
        refine y_iconst C 4 dX2_sumOf_26 lit4 ?_
        refine y_icmp_ne C 39 dX2_sumOf_27 (by decide) (fun c9 => ?_) (fun c9 => ?_)
        · replace h := h.1 c9
          refine y_aload_n C 0 rfl rfl dX2_sumOf_39 ?_
          refine y_iload C 4 rfl dX2_sumOf_40 ?_
          refine y_iload_n C 2 rfl rfl dX2_sumOf_42 ?_
          refine y_iconst C 5 dX2_sumOf_43 lit5 ?_
          refine y_icmp_ne C 51 dX2_sumOf_44 (by decide) (fun c9 => ?_) (fun c9 => ?_)
          · replace h := h.1 c9
            refine y_iconst C 3 dX2_sumOf_51 lit3 ?_
            refine y_to C _ ?_ (okX2_sumOf_b52 C hB hd hr ih _ _ _ _ _ _ _ h)
            exact (And.intro rfl (And.intro rfl (And.intro rfl (And.intro rfl (And.intro rfl trivial)))))
          · replace h := h.2 c9
            refine y_iconst C 2 dX2_sumOf_47 lit2 ?_
            refine y_goto C 52 dX2_sumOf_48 (by decide) ?_
            refine y_to C _ ?_ (okX2_sumOf_b52 C hB hd hr ih _ _ _ _ _ _ _ h)
            exact (And.intro rfl (And.intro rfl (And.intro rfl (And.intro rfl (And.intro rfl trivial)))))
        · replace h := h.2 c9
          refine y_aload_n C 0 rfl rfl dX2_sumOf_30 ?_
          refine y_iload C 4 rfl dX2_sumOf_31 ?_
          refine y_callVi0 C (metX2_value hd hB h) (cwV 1 C.hts (lw_V q1383 q1385 qs47 q91 q1386) rfl rfl rfl kdX2_value ⟨Nat.le_of_ble_eq_true rfl, Nat.le_of_ble_eq_true rfl⟩) mM_0 rfl rfl rfl (Nat.le_of_ble_eq_true rfl) dX2_sumOf_33 (fun r5 M1 hp => ?_)
          clear h
          obtain ⟨rfl, h⟩ := hp
          refine y_goto C 55 dX2_sumOf_36 (by decide) ?_
          refine y_to C _ ?_ (okX2_sumOf_b55 C hB hd hr ih _ _ _ _ _ _ h)
          exact (And.intro rfl (And.intro rfl (And.intro rfl (And.intro rfl (And.intro rfl trivial)))))
      · replace h := h.2 c9
        refine y_iconst C 1 dX2_sumOf_21 lit1 ?_
        refine y_goto C 55 dX2_sumOf_22 (by decide) ?_
        refine y_to C _ ?_ (okX2_sumOf_b55 C hB hd hr ih _ _ _ _ _ _ h)
        exact (And.intro rfl (And.intro rfl (And.intro rfl (And.intro rfl (And.intro rfl trivial)))))
end sX2_sumOf
def wpX2_sumOf (c_pg : Nat → Int32) (a1 : Int32) (a2 : Int32) (post : Int32 → Prop) : Prop := ∃ nf9 : Nat, wpX2_sumOf_b5 post nf9 c_pg a1 a2 0 0
theorem metX2_sumOf {l : Launch} {D : va_G} {s0 : State} {a0 : Array Value} {ad : Nat → Nat} (hd : yAd ad) (hB : yB D s0 a0) {c_pg : Nat → Int32} {c_bm : Int32} {c_tx : Nat → Int32} {c_ty : Int32} {c_ft : Int32} {c_fa : Int32} {c_sp : Int32} {c_nu : Int32} {c_un : Nat → Int32} {c_sf : Nat → Int32} {c_st : Nat → Int32} {c_ll : Nat → Int32} {c_ln : Nat → Int32} {c_ip : Nat → Int32} {c_gr : Nat → Int32} {c_hs : Int64} {a1 : Int32} {a2 : Int32} {post : Int32 → Prop} (h : wpX2_sumOf c_pg a1 a2 post) : yMi l yX2_sumOf (ws_ yX2_sumOf cX2_sumOf 6 (some .int)) 4 128 0 0 D s0 [yr (some (ad 0)), yi a1, yi a2] (mM ad c_pg c_bm c_tx c_ty c_ft c_fa c_sp c_nu c_un c_sf c_st c_ll c_ln c_ip c_gr c_hs) (fun r M1 => M1 = mM ad c_pg c_bm c_tx c_ty c_ft c_fa c_sp c_nu c_un c_sf c_st c_ll c_ln c_ip c_gr c_hs ∧ post r) := by
  refine y_meti hB (by decide) rfl (Nat.le_of_ble_eq_true rfl) ?_
  intro p e s m below meth c A hr hnm C
  rw [wpX2_sumOf] at h
  refine y_iconst C 0 dX2_sumOf_0 lit0 ?_
  refine y_istore_n C 3 rfl (by decide) dX2_sumOf_1 ?_
  refine y_iconst C 0 dX2_sumOf_2 lit0 ?_
  refine y_istore C 4 (by decide) dX2_sumOf_3 ?_
  obtain ⟨nf9, h⟩ := h
  refine y_to C _ ?_ (okX2_sumOf_b5 C hB hd hr  nf9 _ _ _ _ _ h)
  exact (And.intro rfl (And.intro rfl (And.intro rfl (And.intro rfl (And.intro rfl trivial)))))
theorem kdX2_sumOf : yX2_sumOf.cls = RX2 ∧ yX2_sumOf.cls ≠ "java/lang/invoke/MethodHandle" ∧ yX2_sumOf.cls ≠ "java/lang/invoke/VarHandle" ∧ (parseMethodDescriptor yX2_sumOf.desc).map (fun d => d.parameters.length) = some 2 := by decide +kernel
section sX2_isClosed
variable {p : Program} {l : Launch} {e : Env} {s : State} {m : MethodId} {args : Array Value} {below : List Frame} {meth : Method} {c : Code} {D : va_G} {s0 : State} {a0 : Array Value} {A : Nat → Prop} {ad : Nat → Nat} {c_pg : Nat → Int32} {c_bm : Int32} {c_tx : Nat → Int32} {c_ty : Int32} {c_ft : Int32} {c_fa : Int32} {c_sp : Int32} {c_nu : Int32} {c_un : Nat → Int32} {c_sf : Nat → Int32} {c_st : Nat → Int32} {c_ll : Nat → Int32} {c_ln : Nat → Int32} {c_ip : Nat → Int32} {c_gr : Nat → Int32} {c_hs : Int64}
def wpX2_isClosed_b146 (post : Int32 → Prop) (k12 : (Nat → Int32) → Int32 → Int32 → Int32 → Int32 → Prop) (c_pg : Nat → Int32) (v1 : Int32) (v3 : Int32) (v4 : Int32) (u0 : Int32) : Prop := k12 c_pg v1 u0 v3 v4
theorem okX2_isClosed_b146 (C : yC p { frames := 5, cells := 0, slots := 0, locals := 153 } s m args meth c cX2_isClosed 9 RX2 D s0 a0 A) (hB : yB D s0 a0) (hd : yAd ad) (hr : meth.sig.returnType = (some .boolean)) {post : Int32 → Prop} {k12 : (Nat → Int32) → Int32 → Int32 → Int32 → Int32 → Prop} (hk12 : ∀ (c_pg : Nat → Int32) (v1 : Int32) (v2 : Int32) (v3 : Int32) (v4 : Int32), k12 c_pg v1 v2 v3 v4 → Y p l e { frames := 5, cells := 0, slots := 0, locals := 153 } s m args below meth c (MQ below (yQi D s0 A (fun r M1 => M1 = mM ad c_pg c_bm c_tx c_ty c_ft c_fa c_sp c_nu c_un c_sf c_st c_ll c_ln c_ip c_gr c_hs ∧ post r)) args s 0 0 A) D s0 A 9 (mM ad c_pg c_bm c_tx c_ty c_ft c_fa c_sp c_nu c_un c_sf c_st c_ll c_ln c_ip c_gr c_hs) 0 0 [some (yr (some (ad 0))), some (yi v1), some (yi v2), some (yi v3), some (yi v4), none, none, none, none] 12 []) : ∀ (c_pg : Nat → Int32) (v1 : Int32) (v3 : Int32) (v4 : Int32) (u0 : Int32), wpX2_isClosed_b146 post k12 c_pg v1 v3 v4 u0 → Y p l e { frames := 5, cells := 0, slots := 0, locals := 153 } s m args below meth c (MQ below (yQi D s0 A (fun r M1 => M1 = mM ad c_pg c_bm c_tx c_ty c_ft c_fa c_sp c_nu c_un c_sf c_st c_ll c_ln c_ip c_gr c_hs ∧ post r)) args s 0 0 A) D s0 A 9 (mM ad c_pg c_bm c_tx c_ty c_ft c_fa c_sp c_nu c_un c_sf c_st c_ll c_ln c_ip c_gr c_hs) 0 0 [some (yr (some (ad 0))), some (yi v1), none, some (yi v3), some (yi v4), none, none, none, none] 146 [yi u0] := by
  intro c_pg v1 v3 v4 u0 h
  rw [wpX2_isClosed_b146] at h
  refine y_istore_n C 2 rfl (by decide) dX2_isClosed_146 ?_
  refine y_goto C 12 dX2_isClosed_147 (by decide) ?_
  refine y_to C _ ?_ (hk12 _ _ _ _ _ h)
  exact (And.intro rfl (And.intro rfl (And.intro rfl (And.intro rfl (And.intro rfl trivial)))))
def wpX2_isClosed_b128 (post : Int32 → Prop) (k12 : (Nat → Int32) → Int32 → Int32 → Int32 → Int32 → Prop) (c_pg : Nat → Int32) (v1 : Int32) (v2 : Int32) (v4 : Int32) (v5 : Int32) (u0 : Int32) (u1 : Int32) : Prop := ∀ x3 : Int32, x3 = (u0 + u1) → ((v4 = 0 → wpX2_isClosed_b146 post k12 c_pg v1 x3 v4 v2) ∧ (¬ v4 = 0 → wpX2_of c_pg v5 1 (fun r4 => wpX2_isClosed_b146 post k12 c_pg v1 x3 v4 r4)))
theorem okX2_isClosed_b128 (C : yC p { frames := 5, cells := 0, slots := 0, locals := 153 } s m args meth c cX2_isClosed 9 RX2 D s0 a0 A) (hB : yB D s0 a0) (hd : yAd ad) (hr : meth.sig.returnType = (some .boolean)) {post : Int32 → Prop} {k12 : (Nat → Int32) → Int32 → Int32 → Int32 → Int32 → Prop} (hk12 : ∀ (c_pg : Nat → Int32) (v1 : Int32) (v2 : Int32) (v3 : Int32) (v4 : Int32), k12 c_pg v1 v2 v3 v4 → Y p l e { frames := 5, cells := 0, slots := 0, locals := 153 } s m args below meth c (MQ below (yQi D s0 A (fun r M1 => M1 = mM ad c_pg c_bm c_tx c_ty c_ft c_fa c_sp c_nu c_un c_sf c_st c_ll c_ln c_ip c_gr c_hs ∧ post r)) args s 0 0 A) D s0 A 9 (mM ad c_pg c_bm c_tx c_ty c_ft c_fa c_sp c_nu c_un c_sf c_st c_ll c_ln c_ip c_gr c_hs) 0 0 [some (yr (some (ad 0))), some (yi v1), some (yi v2), some (yi v3), some (yi v4), none, none, none, none] 12 []) : ∀ (c_pg : Nat → Int32) (v1 : Int32) (v2 : Int32) (v4 : Int32) (v5 : Int32) (u0 : Int32) (u1 : Int32), wpX2_isClosed_b128 post k12 c_pg v1 v2 v4 v5 u0 u1 → Y p l e { frames := 5, cells := 0, slots := 0, locals := 153 } s m args below meth c (MQ below (yQi D s0 A (fun r M1 => M1 = mM ad c_pg c_bm c_tx c_ty c_ft c_fa c_sp c_nu c_un c_sf c_st c_ll c_ln c_ip c_gr c_hs ∧ post r)) args s 0 0 A) D s0 A 9 (mM ad c_pg c_bm c_tx c_ty c_ft c_fa c_sp c_nu c_un c_sf c_st c_ll c_ln c_ip c_gr c_hs) 0 0 [some (yr (some (ad 0))), some (yi v1), some (yi v2), none, some (yi v4), some (yi v5), none, none, none] 128 [yi u1, yi u0] := by
  intro c_pg v1 v2 v4 v5 u0 u1 h
  rw [wpX2_isClosed_b128] at h
  refine y_iadd C dX2_isClosed_128 ?_
  replace h := h _ rfl
  refine y_istore_n C 3 rfl (by decide) dX2_isClosed_129 ?_
  refine y_iload C 4 rfl dX2_isClosed_130 ?_
  refine y_if_eq C 145 dX2_isClosed_132 (by decide) (fun c9 => ?_) (fun c9 => ?_)
  · replace h := h.1 c9
    refine y_iload_n C 2 rfl rfl dX2_isClosed_145 ?_
    refine y_to C _ ?_ (okX2_isClosed_b146 C hB hd hr hk12 _ _ _ _ _ h)
    exact (And.intro rfl (And.intro rfl (And.intro rfl (And.intro rfl trivial))))
  · replace h := h.2 c9
    refine y_aload_n C 0 rfl rfl dX2_isClosed_135 ?_
    refine y_iload C 5 rfl dX2_isClosed_136 ?_
    refine y_iconst C 1 dX2_isClosed_138 lit1 ?_
    refine y_callVi0 C (metX2_of hd hB h) (cwV 2 C.hts (lw_V q1250 q1252 qs28 q91 q1253) rfl rfl rfl kdX2_of ⟨Nat.le_of_ble_eq_true rfl, Nat.le_of_ble_eq_true rfl⟩) mM_0 rfl rfl rfl (Nat.le_of_ble_eq_true rfl) dX2_isClosed_139 (fun r4 M1 hp => ?_)
    clear h
    obtain ⟨rfl, h⟩ := hp
    refine y_goto C 146 dX2_isClosed_142 (by decide) ?_
    refine y_to C _ ?_ (okX2_isClosed_b146 C hB hd hr hk12 _ _ _ _ _ h)
    exact (And.intro rfl (And.intro rfl (And.intro rfl (And.intro rfl trivial))))
def wpX2_isClosed_b115 (post : Int32 → Prop) (k12 : (Nat → Int32) → Int32 → Int32 → Int32 → Int32 → Prop) (c_pg : Nat → Int32) (v1 : Int32) (v2 : Int32) (v3 : Int32) (v5 : Int32) (u0 : Int32) : Prop := ((u0 = 0 → wpX2_isClosed_b128 post k12 c_pg v1 v2 u0 v5 v3 0) ∧ (¬ u0 = 0 → wpX2_isClosed_b128 post k12 c_pg v1 v2 u0 v5 v3 1))
theorem okX2_isClosed_b115 (C : yC p { frames := 5, cells := 0, slots := 0, locals := 153 } s m args meth c cX2_isClosed 9 RX2 D s0 a0 A) (hB : yB D s0 a0) (hd : yAd ad) (hr : meth.sig.returnType = (some .boolean)) {post : Int32 → Prop} {k12 : (Nat → Int32) → Int32 → Int32 → Int32 → Int32 → Prop} (hk12 : ∀ (c_pg : Nat → Int32) (v1 : Int32) (v2 : Int32) (v3 : Int32) (v4 : Int32), k12 c_pg v1 v2 v3 v4 → Y p l e { frames := 5, cells := 0, slots := 0, locals := 153 } s m args below meth c (MQ below (yQi D s0 A (fun r M1 => M1 = mM ad c_pg c_bm c_tx c_ty c_ft c_fa c_sp c_nu c_un c_sf c_st c_ll c_ln c_ip c_gr c_hs ∧ post r)) args s 0 0 A) D s0 A 9 (mM ad c_pg c_bm c_tx c_ty c_ft c_fa c_sp c_nu c_un c_sf c_st c_ll c_ln c_ip c_gr c_hs) 0 0 [some (yr (some (ad 0))), some (yi v1), some (yi v2), some (yi v3), some (yi v4), none, none, none, none] 12 []) : ∀ (c_pg : Nat → Int32) (v1 : Int32) (v2 : Int32) (v3 : Int32) (v5 : Int32) (u0 : Int32), wpX2_isClosed_b115 post k12 c_pg v1 v2 v3 v5 u0 → Y p l e { frames := 5, cells := 0, slots := 0, locals := 153 } s m args below meth c (MQ below (yQi D s0 A (fun r M1 => M1 = mM ad c_pg c_bm c_tx c_ty c_ft c_fa c_sp c_nu c_un c_sf c_st c_ll c_ln c_ip c_gr c_hs ∧ post r)) args s 0 0 A) D s0 A 9 (mM ad c_pg c_bm c_tx c_ty c_ft c_fa c_sp c_nu c_un c_sf c_st c_ll c_ln c_ip c_gr c_hs) 0 0 [some (yr (some (ad 0))), some (yi v1), some (yi v2), some (yi v3), none, some (yi v5), none, none, none] 115 [yi u0] := by
  intro c_pg v1 v2 v3 v5 u0 h
  rw [wpX2_isClosed_b115] at h
  refine y_istore C 4 (by decide) dX2_isClosed_115 ?_
  refine y_iload_n C 3 rfl rfl dX2_isClosed_117 ?_
  refine y_iload C 4 rfl dX2_isClosed_118 ?_
  refine y_if_eq C 127 dX2_isClosed_120 (by decide) (fun c9 => ?_) (fun c9 => ?_)
  · replace h := h.1 c9
    refine y_iconst C 0 dX2_isClosed_127 lit0 ?_
    refine y_to C _ ?_ (okX2_isClosed_b128 C hB hd hr hk12 _ _ _ _ _ _ _ h)
    exact (And.intro rfl (And.intro rfl (And.intro rfl (And.intro rfl (And.intro rfl trivial)))))
  · replace h := h.2 c9
    refine y_iconst C 1 dX2_isClosed_123 lit1 ?_
    refine y_goto C 128 dX2_isClosed_124 (by decide) ?_
    refine y_to C _ ?_ (okX2_isClosed_b128 C hB hd hr hk12 _ _ _ _ _ _ _ h)
    exact (And.intro rfl (And.intro rfl (And.intro rfl (And.intro rfl (And.intro rfl trivial)))))
def wpX2_isClosed_b95 (post : Int32 → Prop) (k12 : (Nat → Int32) → Int32 → Int32 → Int32 → Int32 → Prop) (k28 : (Nat → Int32) → Int32 → Int32 → Int32 → Int32 → Int32 → Int32 → Prop) (c_pg : Nat → Int32) (v1 : Int32) (v2 : Int32) (v3 : Int32) (v5 : Int32) (v7 : Int32) (u0 : Int32) (u1 : Int32) : Prop := ∀ x6 : Int32, x6 = (u0 + u1) → ∀ x7 : Int32, x7 = v7 + 1 → k28 c_pg v1 v2 v3 v5 x6 x7
theorem okX2_isClosed_b95 (C : yC p { frames := 5, cells := 0, slots := 0, locals := 153 } s m args meth c cX2_isClosed 9 RX2 D s0 a0 A) (hB : yB D s0 a0) (hd : yAd ad) (hr : meth.sig.returnType = (some .boolean)) {post : Int32 → Prop} {k12 : (Nat → Int32) → Int32 → Int32 → Int32 → Int32 → Prop} {k28 : (Nat → Int32) → Int32 → Int32 → Int32 → Int32 → Int32 → Int32 → Prop} (hk12 : ∀ (c_pg : Nat → Int32) (v1 : Int32) (v2 : Int32) (v3 : Int32) (v4 : Int32), k12 c_pg v1 v2 v3 v4 → Y p l e { frames := 5, cells := 0, slots := 0, locals := 153 } s m args below meth c (MQ below (yQi D s0 A (fun r M1 => M1 = mM ad c_pg c_bm c_tx c_ty c_ft c_fa c_sp c_nu c_un c_sf c_st c_ll c_ln c_ip c_gr c_hs ∧ post r)) args s 0 0 A) D s0 A 9 (mM ad c_pg c_bm c_tx c_ty c_ft c_fa c_sp c_nu c_un c_sf c_st c_ll c_ln c_ip c_gr c_hs) 0 0 [some (yr (some (ad 0))), some (yi v1), some (yi v2), some (yi v3), some (yi v4), none, none, none, none] 12 []) (hk28 : ∀ (c_pg : Nat → Int32) (v1 : Int32) (v2 : Int32) (v3 : Int32) (v5 : Int32) (v6 : Int32) (v7 : Int32), k28 c_pg v1 v2 v3 v5 v6 v7 → Y p l e { frames := 5, cells := 0, slots := 0, locals := 153 } s m args below meth c (MQ below (yQi D s0 A (fun r M1 => M1 = mM ad c_pg c_bm c_tx c_ty c_ft c_fa c_sp c_nu c_un c_sf c_st c_ll c_ln c_ip c_gr c_hs ∧ post r)) args s 0 0 A) D s0 A 9 (mM ad c_pg c_bm c_tx c_ty c_ft c_fa c_sp c_nu c_un c_sf c_st c_ll c_ln c_ip c_gr c_hs) 0 0 [some (yr (some (ad 0))), some (yi v1), some (yi v2), some (yi v3), none, some (yi v5), some (yi v6), some (yi v7), none] 28 []) : ∀ (c_pg : Nat → Int32) (v1 : Int32) (v2 : Int32) (v3 : Int32) (v5 : Int32) (v7 : Int32) (u0 : Int32) (u1 : Int32), wpX2_isClosed_b95 post k12 k28 c_pg v1 v2 v3 v5 v7 u0 u1 → Y p l e { frames := 5, cells := 0, slots := 0, locals := 153 } s m args below meth c (MQ below (yQi D s0 A (fun r M1 => M1 = mM ad c_pg c_bm c_tx c_ty c_ft c_fa c_sp c_nu c_un c_sf c_st c_ll c_ln c_ip c_gr c_hs ∧ post r)) args s 0 0 A) D s0 A 9 (mM ad c_pg c_bm c_tx c_ty c_ft c_fa c_sp c_nu c_un c_sf c_st c_ll c_ln c_ip c_gr c_hs) 0 0 [some (yr (some (ad 0))), some (yi v1), some (yi v2), some (yi v3), none, some (yi v5), none, some (yi v7), none] 95 [yi u1, yi u0] := by
  intro c_pg v1 v2 v3 v5 v7 u0 u1 h
  rw [wpX2_isClosed_b95] at h
  refine y_iadd C dX2_isClosed_95 ?_
  replace h := h _ rfl
  refine y_istore C 6 (by decide) dX2_isClosed_96 ?_
  replace h := h _ rfl
  refine y_iinc C 7 _ rfl (y_inc1 _) (by decide) dX2_isClosed_98 ?_
  refine y_goto C 28 dX2_isClosed_101 (by decide) ?_
  refine y_to C _ ?_ (hk28 _ _ _ _ _ _ _ h)
  exact (And.intro rfl (And.intro rfl (And.intro rfl (And.intro rfl (And.intro rfl (And.intro rfl (And.intro rfl trivial)))))))
def wpX2_isClosed_b81 (post : Int32 → Prop) (k12 : (Nat → Int32) → Int32 → Int32 → Int32 → Int32 → Prop) (k28 : (Nat → Int32) → Int32 → Int32 → Int32 → Int32 → Int32 → Int32 → Prop) (c_pg : Nat → Int32) (v1 : Int32) (v2 : Int32) (v3 : Int32) (v6 : Int32) (v7 : Int32) (v8 : Int32) (u0 : Int32) : Prop := ((v8 = 0 → wpX2_isClosed_b95 post k12 k28 c_pg v1 v2 v3 u0 v7 v6 0) ∧ (¬ v8 = 0 → wpX2_isClosed_b95 post k12 k28 c_pg v1 v2 v3 u0 v7 v6 1))
theorem okX2_isClosed_b81 (C : yC p { frames := 5, cells := 0, slots := 0, locals := 153 } s m args meth c cX2_isClosed 9 RX2 D s0 a0 A) (hB : yB D s0 a0) (hd : yAd ad) (hr : meth.sig.returnType = (some .boolean)) {post : Int32 → Prop} {k12 : (Nat → Int32) → Int32 → Int32 → Int32 → Int32 → Prop} {k28 : (Nat → Int32) → Int32 → Int32 → Int32 → Int32 → Int32 → Int32 → Prop} (hk12 : ∀ (c_pg : Nat → Int32) (v1 : Int32) (v2 : Int32) (v3 : Int32) (v4 : Int32), k12 c_pg v1 v2 v3 v4 → Y p l e { frames := 5, cells := 0, slots := 0, locals := 153 } s m args below meth c (MQ below (yQi D s0 A (fun r M1 => M1 = mM ad c_pg c_bm c_tx c_ty c_ft c_fa c_sp c_nu c_un c_sf c_st c_ll c_ln c_ip c_gr c_hs ∧ post r)) args s 0 0 A) D s0 A 9 (mM ad c_pg c_bm c_tx c_ty c_ft c_fa c_sp c_nu c_un c_sf c_st c_ll c_ln c_ip c_gr c_hs) 0 0 [some (yr (some (ad 0))), some (yi v1), some (yi v2), some (yi v3), some (yi v4), none, none, none, none] 12 []) (hk28 : ∀ (c_pg : Nat → Int32) (v1 : Int32) (v2 : Int32) (v3 : Int32) (v5 : Int32) (v6 : Int32) (v7 : Int32), k28 c_pg v1 v2 v3 v5 v6 v7 → Y p l e { frames := 5, cells := 0, slots := 0, locals := 153 } s m args below meth c (MQ below (yQi D s0 A (fun r M1 => M1 = mM ad c_pg c_bm c_tx c_ty c_ft c_fa c_sp c_nu c_un c_sf c_st c_ll c_ln c_ip c_gr c_hs ∧ post r)) args s 0 0 A) D s0 A 9 (mM ad c_pg c_bm c_tx c_ty c_ft c_fa c_sp c_nu c_un c_sf c_st c_ll c_ln c_ip c_gr c_hs) 0 0 [some (yr (some (ad 0))), some (yi v1), some (yi v2), some (yi v3), none, some (yi v5), some (yi v6), some (yi v7), none] 28 []) : ∀ (c_pg : Nat → Int32) (v1 : Int32) (v2 : Int32) (v3 : Int32) (v6 : Int32) (v7 : Int32) (v8 : Int32) (u0 : Int32), wpX2_isClosed_b81 post k12 k28 c_pg v1 v2 v3 v6 v7 v8 u0 → Y p l e { frames := 5, cells := 0, slots := 0, locals := 153 } s m args below meth c (MQ below (yQi D s0 A (fun r M1 => M1 = mM ad c_pg c_bm c_tx c_ty c_ft c_fa c_sp c_nu c_un c_sf c_st c_ll c_ln c_ip c_gr c_hs ∧ post r)) args s 0 0 A) D s0 A 9 (mM ad c_pg c_bm c_tx c_ty c_ft c_fa c_sp c_nu c_un c_sf c_st c_ll c_ln c_ip c_gr c_hs) 0 0 [some (yr (some (ad 0))), some (yi v1), some (yi v2), some (yi v3), none, none, some (yi v6), some (yi v7), some (yi v8)] 81 [yi u0] := by
  intro c_pg v1 v2 v3 v6 v7 v8 u0 h
  rw [wpX2_isClosed_b81] at h
  refine y_istore C 5 (by decide) dX2_isClosed_81 ?_
  refine y_iload C 6 rfl dX2_isClosed_83 ?_
  refine y_iload C 8 rfl dX2_isClosed_85 ?_
  refine y_if_eq C 94 dX2_isClosed_87 (by decide) (fun c9 => ?_) (fun c9 => ?_)
  · replace h := h.1 c9
    refine y_iconst C 0 dX2_isClosed_94 lit0 ?_
    refine y_to C _ ?_ (okX2_isClosed_b95 C hB hd hr hk12 hk28 _ _ _ _ _ _ _ _ h)
    exact (And.intro rfl (And.intro rfl (And.intro rfl (And.intro rfl (And.intro rfl (And.intro rfl trivial))))))
  · replace h := h.2 c9
    refine y_iconst C 1 dX2_isClosed_90 lit1 ?_
    refine y_goto C 95 dX2_isClosed_91 (by decide) ?_
    refine y_to C _ ?_ (okX2_isClosed_b95 C hB hd hr hk12 hk28 _ _ _ _ _ _ _ _ h)
    exact (And.intro rfl (And.intro rfl (And.intro rfl (And.intro rfl (And.intro rfl (And.intro rfl trivial))))))
def wpX2_isClosed_b67 (post : Int32 → Prop) (k12 : (Nat → Int32) → Int32 → Int32 → Int32 → Int32 → Prop) (k28 : (Nat → Int32) → Int32 → Int32 → Int32 → Int32 → Int32 → Int32 → Prop) (c_pg : Nat → Int32) (v1 : Int32) (v2 : Int32) (v3 : Int32) (v5 : Int32) (v6 : Int32) (v7 : Int32) (u0 : Int32) : Prop := ((u0 = 0 → wpX2_isClosed_b81 post k12 k28 c_pg v1 v2 v3 v6 v7 u0 v5) ∧ (¬ u0 = 0 → wpX2_isClosed_b81 post k12 k28 c_pg v1 v2 v3 v6 v7 u0 v7))
theorem okX2_isClosed_b67 (C : yC p { frames := 5, cells := 0, slots := 0, locals := 153 } s m args meth c cX2_isClosed 9 RX2 D s0 a0 A) (hB : yB D s0 a0) (hd : yAd ad) (hr : meth.sig.returnType = (some .boolean)) {post : Int32 → Prop} {k12 : (Nat → Int32) → Int32 → Int32 → Int32 → Int32 → Prop} {k28 : (Nat → Int32) → Int32 → Int32 → Int32 → Int32 → Int32 → Int32 → Prop} (hk12 : ∀ (c_pg : Nat → Int32) (v1 : Int32) (v2 : Int32) (v3 : Int32) (v4 : Int32), k12 c_pg v1 v2 v3 v4 → Y p l e { frames := 5, cells := 0, slots := 0, locals := 153 } s m args below meth c (MQ below (yQi D s0 A (fun r M1 => M1 = mM ad c_pg c_bm c_tx c_ty c_ft c_fa c_sp c_nu c_un c_sf c_st c_ll c_ln c_ip c_gr c_hs ∧ post r)) args s 0 0 A) D s0 A 9 (mM ad c_pg c_bm c_tx c_ty c_ft c_fa c_sp c_nu c_un c_sf c_st c_ll c_ln c_ip c_gr c_hs) 0 0 [some (yr (some (ad 0))), some (yi v1), some (yi v2), some (yi v3), some (yi v4), none, none, none, none] 12 []) (hk28 : ∀ (c_pg : Nat → Int32) (v1 : Int32) (v2 : Int32) (v3 : Int32) (v5 : Int32) (v6 : Int32) (v7 : Int32), k28 c_pg v1 v2 v3 v5 v6 v7 → Y p l e { frames := 5, cells := 0, slots := 0, locals := 153 } s m args below meth c (MQ below (yQi D s0 A (fun r M1 => M1 = mM ad c_pg c_bm c_tx c_ty c_ft c_fa c_sp c_nu c_un c_sf c_st c_ll c_ln c_ip c_gr c_hs ∧ post r)) args s 0 0 A) D s0 A 9 (mM ad c_pg c_bm c_tx c_ty c_ft c_fa c_sp c_nu c_un c_sf c_st c_ll c_ln c_ip c_gr c_hs) 0 0 [some (yr (some (ad 0))), some (yi v1), some (yi v2), some (yi v3), none, some (yi v5), some (yi v6), some (yi v7), none] 28 []) : ∀ (c_pg : Nat → Int32) (v1 : Int32) (v2 : Int32) (v3 : Int32) (v5 : Int32) (v6 : Int32) (v7 : Int32) (u0 : Int32), wpX2_isClosed_b67 post k12 k28 c_pg v1 v2 v3 v5 v6 v7 u0 → Y p l e { frames := 5, cells := 0, slots := 0, locals := 153 } s m args below meth c (MQ below (yQi D s0 A (fun r M1 => M1 = mM ad c_pg c_bm c_tx c_ty c_ft c_fa c_sp c_nu c_un c_sf c_st c_ll c_ln c_ip c_gr c_hs ∧ post r)) args s 0 0 A) D s0 A 9 (mM ad c_pg c_bm c_tx c_ty c_ft c_fa c_sp c_nu c_un c_sf c_st c_ll c_ln c_ip c_gr c_hs) 0 0 [some (yr (some (ad 0))), some (yi v1), some (yi v2), some (yi v3), none, some (yi v5), some (yi v6), some (yi v7), none] 67 [yi u0] := by
  intro c_pg v1 v2 v3 v5 v6 v7 u0 h
  rw [wpX2_isClosed_b67] at h
  refine y_istore C 8 (by decide) dX2_isClosed_67 ?_
  refine y_iload C 8 rfl dX2_isClosed_69 ?_
  refine y_if_eq C 79 dX2_isClosed_71 (by decide) (fun c9 => ?_) (fun c9 => ?_)
  · replace h := h.1 c9
    refine y_iload C 5 rfl dX2_isClosed_79 ?_
    refine y_to C _ ?_ (okX2_isClosed_b81 C hB hd hr hk12 hk28 _ _ _ _ _ _ _ _ h)
    exact (And.intro rfl (And.intro rfl (And.intro rfl (And.intro rfl (And.intro rfl (And.intro rfl (And.intro rfl trivial)))))))
  · replace h := h.2 c9
    refine y_iload C 7 rfl dX2_isClosed_74 ?_
    refine y_goto C 81 dX2_isClosed_76 (by decide) ?_
    refine y_to C _ ?_ (okX2_isClosed_b81 C hB hd hr hk12 hk28 _ _ _ _ _ _ _ _ h)
    exact (And.intro rfl (And.intro rfl (And.intro rfl (And.intro rfl (And.intro rfl (And.intro rfl (And.intro rfl trivial)))))))
def wpX2_isClosed_b66 (post : Int32 → Prop) (k12 : (Nat → Int32) → Int32 → Int32 → Int32 → Int32 → Prop) (k28 : (Nat → Int32) → Int32 → Int32 → Int32 → Int32 → Int32 → Int32 → Prop) (c_pg : Nat → Int32) (v1 : Int32) (v2 : Int32) (v3 : Int32) (v5 : Int32) (v6 : Int32) (v7 : Int32) : Prop := wpX2_isClosed_b67 post k12 k28 c_pg v1 v2 v3 v5 v6 v7 0
theorem okX2_isClosed_b66 (C : yC p { frames := 5, cells := 0, slots := 0, locals := 153 } s m args meth c cX2_isClosed 9 RX2 D s0 a0 A) (hB : yB D s0 a0) (hd : yAd ad) (hr : meth.sig.returnType = (some .boolean)) {post : Int32 → Prop} {k12 : (Nat → Int32) → Int32 → Int32 → Int32 → Int32 → Prop} {k28 : (Nat → Int32) → Int32 → Int32 → Int32 → Int32 → Int32 → Int32 → Prop} (hk12 : ∀ (c_pg : Nat → Int32) (v1 : Int32) (v2 : Int32) (v3 : Int32) (v4 : Int32), k12 c_pg v1 v2 v3 v4 → Y p l e { frames := 5, cells := 0, slots := 0, locals := 153 } s m args below meth c (MQ below (yQi D s0 A (fun r M1 => M1 = mM ad c_pg c_bm c_tx c_ty c_ft c_fa c_sp c_nu c_un c_sf c_st c_ll c_ln c_ip c_gr c_hs ∧ post r)) args s 0 0 A) D s0 A 9 (mM ad c_pg c_bm c_tx c_ty c_ft c_fa c_sp c_nu c_un c_sf c_st c_ll c_ln c_ip c_gr c_hs) 0 0 [some (yr (some (ad 0))), some (yi v1), some (yi v2), some (yi v3), some (yi v4), none, none, none, none] 12 []) (hk28 : ∀ (c_pg : Nat → Int32) (v1 : Int32) (v2 : Int32) (v3 : Int32) (v5 : Int32) (v6 : Int32) (v7 : Int32), k28 c_pg v1 v2 v3 v5 v6 v7 → Y p l e { frames := 5, cells := 0, slots := 0, locals := 153 } s m args below meth c (MQ below (yQi D s0 A (fun r M1 => M1 = mM ad c_pg c_bm c_tx c_ty c_ft c_fa c_sp c_nu c_un c_sf c_st c_ll c_ln c_ip c_gr c_hs ∧ post r)) args s 0 0 A) D s0 A 9 (mM ad c_pg c_bm c_tx c_ty c_ft c_fa c_sp c_nu c_un c_sf c_st c_ll c_ln c_ip c_gr c_hs) 0 0 [some (yr (some (ad 0))), some (yi v1), some (yi v2), some (yi v3), none, some (yi v5), some (yi v6), some (yi v7), none] 28 []) : ∀ (c_pg : Nat → Int32) (v1 : Int32) (v2 : Int32) (v3 : Int32) (v5 : Int32) (v6 : Int32) (v7 : Int32), wpX2_isClosed_b66 post k12 k28 c_pg v1 v2 v3 v5 v6 v7 → Y p l e { frames := 5, cells := 0, slots := 0, locals := 153 } s m args below meth c (MQ below (yQi D s0 A (fun r M1 => M1 = mM ad c_pg c_bm c_tx c_ty c_ft c_fa c_sp c_nu c_un c_sf c_st c_ll c_ln c_ip c_gr c_hs ∧ post r)) args s 0 0 A) D s0 A 9 (mM ad c_pg c_bm c_tx c_ty c_ft c_fa c_sp c_nu c_un c_sf c_st c_ll c_ln c_ip c_gr c_hs) 0 0 [some (yr (some (ad 0))), some (yi v1), some (yi v2), some (yi v3), none, some (yi v5), some (yi v6), some (yi v7), none] 66 [] := by
  intro c_pg v1 v2 v3 v5 v6 v7 h
  rw [wpX2_isClosed_b66] at h
  refine y_iconst C 0 dX2_isClosed_66 lit0 ?_
  refine y_to C _ ?_ (okX2_isClosed_b67 C hB hd hr hk12 hk28 _ _ _ _ _ _ _ _ h)
  exact (And.intro rfl (And.intro rfl (And.intro rfl (And.intro rfl (And.intro rfl (And.intro rfl (And.intro rfl trivial)))))))
def wpX2_isClosed_b28 (post : Int32 → Prop) (k12 : (Nat → Int32) → Int32 → Int32 → Int32 → Int32 → Prop) : Nat → (Nat → Int32) → Int32 → Int32 → Int32 → Int32 → Int32 → Int32 → Prop
  | 0, _, _, _, _, _, _, _ => False
  | nn + 1, c_pg, v1, v2, v3, v5, v6, v7 => vp_in 13 1120 ∧ (((c_pg (Int32.toNatClampNeg 13)) ≤ v7 → ((¬ v6 = 1 → wpX2_isClosed_b115 post k12 c_pg v1 v2 v3 v5 0) ∧ (v6 = 1 → wpX2_isClosed_b115 post k12 c_pg v1 v2 v3 v5 1))) ∧ (¬ (c_pg (Int32.toNatClampNeg 13)) ≤ v7 → wpX2_of c_pg v7 4 (fun r5 => ((¬ r5 = v1 → wpX2_isClosed_b66 post k12 (fun c_pg v1 v2 v3 v5 v6 v7 => wpX2_isClosed_b28 post k12 nn c_pg v1 v2 v3 v5 v6 v7) c_pg v1 v2 v3 v5 v6 v7) ∧ (r5 = v1 → wpX2_of c_pg v7 0 (fun r8 => ((¬ r8 = v2 → wpX2_isClosed_b66 post k12 (fun c_pg v1 v2 v3 v5 v6 v7 => wpX2_isClosed_b28 post k12 nn c_pg v1 v2 v3 v5 v6 v7) c_pg v1 v2 v3 v5 v6 v7) ∧ (r8 = v2 → wpX2_isClosed_b67 post k12 (fun c_pg v1 v2 v3 v5 v6 v7 => wpX2_isClosed_b28 post k12 nn c_pg v1 v2 v3 v5 v6 v7) c_pg v1 v2 v3 v5 v6 v7 1))))))))
theorem okX2_isClosed_b28 (C : yC p { frames := 5, cells := 0, slots := 0, locals := 153 } s m args meth c cX2_isClosed 9 RX2 D s0 a0 A) (hB : yB D s0 a0) (hd : yAd ad) (hr : meth.sig.returnType = (some .boolean)) {post : Int32 → Prop} {k12 : (Nat → Int32) → Int32 → Int32 → Int32 → Int32 → Prop} (hk12 : ∀ (c_pg : Nat → Int32) (v1 : Int32) (v2 : Int32) (v3 : Int32) (v4 : Int32), k12 c_pg v1 v2 v3 v4 → Y p l e { frames := 5, cells := 0, slots := 0, locals := 153 } s m args below meth c (MQ below (yQi D s0 A (fun r M1 => M1 = mM ad c_pg c_bm c_tx c_ty c_ft c_fa c_sp c_nu c_un c_sf c_st c_ll c_ln c_ip c_gr c_hs ∧ post r)) args s 0 0 A) D s0 A 9 (mM ad c_pg c_bm c_tx c_ty c_ft c_fa c_sp c_nu c_un c_sf c_st c_ll c_ln c_ip c_gr c_hs) 0 0 [some (yr (some (ad 0))), some (yi v1), some (yi v2), some (yi v3), some (yi v4), none, none, none, none] 12 []) : ∀ (nn : Nat) (c_pg : Nat → Int32) (v1 : Int32) (v2 : Int32) (v3 : Int32) (v5 : Int32) (v6 : Int32) (v7 : Int32), wpX2_isClosed_b28 post k12 nn c_pg v1 v2 v3 v5 v6 v7 → Y p l e { frames := 5, cells := 0, slots := 0, locals := 153 } s m args below meth c (MQ below (yQi D s0 A (fun r M1 => M1 = mM ad c_pg c_bm c_tx c_ty c_ft c_fa c_sp c_nu c_un c_sf c_st c_ll c_ln c_ip c_gr c_hs ∧ post r)) args s 0 0 A) D s0 A 9 (mM ad c_pg c_bm c_tx c_ty c_ft c_fa c_sp c_nu c_un c_sf c_st c_ll c_ln c_ip c_gr c_hs) 0 0 [some (yr (some (ad 0))), some (yi v1), some (yi v2), some (yi v3), none, some (yi v5), some (yi v6), some (yi v7), none] 28 [] := by
  intro nn
  induction nn with
  | zero => intro c_pg v1 v2 v3 v5 v6 v7 h; exact absurd h (by rw [wpX2_isClosed_b28]; exact id)
  | succ nn ih =>
    intro c_pg v1 v2 v3 v5 v6 v7 h
    rw [wpX2_isClosed_b28] at h
    refine y_iload C 7 rfl dX2_isClosed_28 ?_
    refine y_aload_n C 0 rfl rfl dX2_isClosed_30 ?_
    refine y_get (ci := 2) (k := 0) C in_X2 rfl (by decide) q1169 (fun _ h => h) mM_0 rfl dX2_isClosed_31 ?_
    refine y_bipush C 13 dX2_isClosed_34 y_b13 ?_
    obtain ⟨i9, h⟩ := h
    refine y_iald C (mM_1 hd) i9 dX2_isClosed_36 ?_
    refine y_icmp_ge C 104 dX2_isClosed_37 (by decide) (fun c9 => ?_) (fun c9 => ?_)
    · replace h := h.1 c9
      refine y_iload C 6 rfl dX2_isClosed_104 ?_
      refine y_iconst C 1 dX2_isClosed_106 lit1 ?_
      refine y_icmp_ne C 114 dX2_isClosed_107 (by decide) (fun c9 => ?_) (fun c9 => ?_)
      · replace h := h.1 c9
        refine y_iconst C 0 dX2_isClosed_114 lit0 ?_
        refine y_to C _ ?_ (okX2_isClosed_b115 C hB hd hr hk12 _ _ _ _ _ _ h)
        exact (And.intro rfl (And.intro rfl (And.intro rfl (And.intro rfl (And.intro rfl trivial)))))
      · replace h := h.2 c9
        refine y_iconst C 1 dX2_isClosed_110 lit1 ?_
        refine y_goto C 115 dX2_isClosed_111 (by decide) ?_
        refine y_to C _ ?_ (okX2_isClosed_b115 C hB hd hr hk12 _ _ _ _ _ _ h)
        exact (And.intro rfl (And.intro rfl (And.intro rfl (And.intro rfl (And.intro rfl trivial)))))
    · replace h := h.2 c9
      refine y_aload_n C 0 rfl rfl dX2_isClosed_40 ?_
      refine y_iload C 7 rfl dX2_isClosed_41 ?_
      refine y_iconst C 4 dX2_isClosed_43 lit4 ?_
      refine y_callVi0 C (metX2_of hd hB h) (cwV 2 C.hts (lw_V q1250 q1252 qs28 q91 q1253) rfl rfl rfl kdX2_of ⟨Nat.le_of_ble_eq_true rfl, Nat.le_of_ble_eq_true rfl⟩) mM_0 rfl rfl rfl (Nat.le_of_ble_eq_true rfl) dX2_isClosed_44 (fun r5 M1 hp => ?_)
      clear h
      obtain ⟨rfl, h⟩ := hp
      refine y_iload_n C 1 rfl rfl dX2_isClosed_47 ?_
      refine y_icmp_ne C 66 dX2_isClosed_48 (by decide) (fun c9 => ?_) (fun c9 => ?_)
      · replace h := h.1 c9
        refine y_to C _ ?_ (okX2_isClosed_b66 C hB hd hr hk12 ih _ _ _ _ _ _ _ h)
        exact (And.intro rfl (And.intro rfl (And.intro rfl (And.intro rfl (And.intro rfl (And.intro rfl (And.intro rfl trivial)))))))
      · replace h := h.2 c9
        refine y_aload_n C 0 rfl rfl dX2_isClosed_51 ?_
        refine y_iload C 7 rfl dX2_isClosed_52 ?_
        refine y_iconst C 0 dX2_isClosed_54 lit0 ?_
        refine y_callVi0 C (metX2_of hd hB h) (cwV 2 C.hts (lw_V q1250 q1252 qs28 q91 q1253) rfl rfl rfl kdX2_of ⟨Nat.le_of_ble_eq_true rfl, Nat.le_of_ble_eq_true rfl⟩) mM_0 rfl rfl rfl (Nat.le_of_ble_eq_true rfl) dX2_isClosed_55 (fun r8 M1 hp => ?_)
        clear h
        obtain ⟨rfl, h⟩ := hp
        refine y_iload_n C 2 rfl rfl dX2_isClosed_58 ?_
        refine y_icmp_ne C 66 dX2_isClosed_59 (by decide) (fun c9 => ?_) (fun c9 => ?_)
        · replace h := h.1 c9
          refine y_to C _ ?_ (okX2_isClosed_b66 C hB hd hr hk12 ih _ _ _ _ _ _ _ h)
          exact (And.intro rfl (And.intro rfl (And.intro rfl (And.intro rfl (And.intro rfl (And.intro rfl (And.intro rfl trivial)))))))
        · replace h := h.2 c9
          refine y_iconst C 1 dX2_isClosed_62 lit1 ?_
          refine y_goto C 67 dX2_isClosed_63 (by decide) ?_
          refine y_to C _ ?_ (okX2_isClosed_b67 C hB hd hr hk12 ih _ _ _ _ _ _ _ _ h)
          exact (And.intro rfl (And.intro rfl (And.intro rfl (And.intro rfl (And.intro rfl (And.intro rfl (And.intro rfl trivial)))))))
def wpX2_isClosed_b12 (post : Int32 → Prop) : Nat → (Nat → Int32) → Int32 → Int32 → Int32 → Int32 → Prop
  | 0, _, _, _, _, _ => False
  | nn + 1, c_pg, v1, v2, v3, v4 => ((v4 = 0 → wpX2_sumOf c_pg v1 0 (fun r2 => ((¬ v3 = r2 → post 0) ∧ (v3 = r2 → post 1)))) ∧ (¬ v4 = 0 → ∃ nf9 : Nat, wpX2_isClosed_b28 post (fun c_pg v1 v2 v3 v4 => wpX2_isClosed_b12 post nn c_pg v1 v2 v3 v4) nf9 c_pg v1 v2 v3 (-999) 0 0))
theorem okX2_isClosed_b12 (C : yC p { frames := 5, cells := 0, slots := 0, locals := 153 } s m args meth c cX2_isClosed 9 RX2 D s0 a0 A) (hB : yB D s0 a0) (hd : yAd ad) (hr : meth.sig.returnType = (some .boolean)) {post : Int32 → Prop}  : ∀ (nn : Nat) (c_pg : Nat → Int32) (v1 : Int32) (v2 : Int32) (v3 : Int32) (v4 : Int32), wpX2_isClosed_b12 post nn c_pg v1 v2 v3 v4 → Y p l e { frames := 5, cells := 0, slots := 0, locals := 153 } s m args below meth c (MQ below (yQi D s0 A (fun r M1 => M1 = mM ad c_pg c_bm c_tx c_ty c_ft c_fa c_sp c_nu c_un c_sf c_st c_ll c_ln c_ip c_gr c_hs ∧ post r)) args s 0 0 A) D s0 A 9 (mM ad c_pg c_bm c_tx c_ty c_ft c_fa c_sp c_nu c_un c_sf c_st c_ll c_ln c_ip c_gr c_hs) 0 0 [some (yr (some (ad 0))), some (yi v1), some (yi v2), some (yi v3), some (yi v4), none, none, none, none] 12 [] := by
  intro nn
  induction nn with
  | zero => intro c_pg v1 v2 v3 v4 h; exact absurd h (by rw [wpX2_isClosed_b12]; exact id)
  | succ nn ih =>
    intro c_pg v1 v2 v3 v4 h
    rw [wpX2_isClosed_b12] at h
    refine y_iload C 4 rfl dX2_isClosed_12 ?_
    refine y_if_eq C 150 dX2_isClosed_14 (by decide) (fun c9 => ?_) (fun c9 => ?_)
    · replace h := h.1 c9
      refine y_iload_n C 3 rfl rfl dX2_isClosed_150 ?_
      refine y_aload_n C 0 rfl rfl dX2_isClosed_151 ?_
      refine y_iload_n C 1 rfl rfl dX2_isClosed_152 ?_
      refine y_iconst C 0 dX2_isClosed_153 lit0 ?_
      refine y_callVi0 C (metX2_sumOf hd hB h) (cwV 2 C.hts (lw_V q1526 q1528 qs75 q91 q1529) rfl rfl rfl kdX2_sumOf ⟨Nat.le_of_ble_eq_true rfl, Nat.le_of_ble_eq_true rfl⟩) mM_0 rfl rfl rfl (Nat.le_of_ble_eq_true rfl) dX2_isClosed_154 (fun r2 M1 hp => ?_)
      clear h
      obtain ⟨rfl, h⟩ := hp
      refine y_icmp_ne C 164 dX2_isClosed_157 (by decide) (fun c9 => ?_) (fun c9 => ?_)
      · replace h := h.1 c9
        refine y_iconst C 0 dX2_isClosed_164 lit0 ?_
        exact y_iretz C hr rfl rfl (by decide) ⟨rfl, h⟩ dX2_isClosed_165
      · replace h := h.2 c9
        refine y_iconst C 1 dX2_isClosed_160 lit1 ?_
        refine y_goto C 165 dX2_isClosed_161 (by decide) ?_
        exact y_iretz C hr rfl rfl (by decide) ⟨rfl, h⟩ dX2_isClosed_165
    · replace h := h.2 c9
      refine y_sipush C (-999) dX2_isClosed_17 y_sm999 ?_
      refine y_istore C 5 (by decide) dX2_isClosed_20 ?_
      refine y_iconst C 0 dX2_isClosed_22 lit0 ?_
      refine y_istore C 6 (by decide) dX2_isClosed_23 ?_
      refine y_iconst C 0 dX2_isClosed_25 lit0 ?_
      refine y_istore C 7 (by decide) dX2_isClosed_26 ?_
      obtain ⟨nf9, h⟩ := h
      refine y_to C _ ?_ (okX2_isClosed_b28 C hB hd hr ih nf9 _ _ _ _ _ _ _ h)
      exact (And.intro rfl (And.intro rfl (And.intro rfl (And.intro rfl (And.intro rfl (And.intro rfl (And.intro rfl trivial)))))))
end sX2_isClosed
def wpX2_isClosed (c_pg : Nat → Int32) (a1 : Int32) (post : Int32 → Prop) : Prop := wpX2_endOf c_pg a1 0 (fun r1 => ∃ nf9 : Nat, wpX2_isClosed_b12 post nf9 c_pg a1 r1 0 1)
theorem metX2_isClosed {l : Launch} {D : va_G} {s0 : State} {a0 : Array Value} {ad : Nat → Nat} (hd : yAd ad) (hB : yB D s0 a0) {c_pg : Nat → Int32} {c_bm : Int32} {c_tx : Nat → Int32} {c_ty : Int32} {c_ft : Int32} {c_fa : Int32} {c_sp : Int32} {c_nu : Int32} {c_un : Nat → Int32} {c_sf : Nat → Int32} {c_st : Nat → Int32} {c_ll : Nat → Int32} {c_ln : Nat → Int32} {c_ip : Nat → Int32} {c_gr : Nat → Int32} {c_hs : Int64} {a1 : Int32} {post : Int32 → Prop} (h : wpX2_isClosed c_pg a1 post) : yMi l yX2_isClosed (ws_ yX2_isClosed cX2_isClosed 9 (some .boolean)) 5 153 0 0 D s0 [yr (some (ad 0)), yi a1] (mM ad c_pg c_bm c_tx c_ty c_ft c_fa c_sp c_nu c_un c_sf c_st c_ll c_ln c_ip c_gr c_hs) (fun r M1 => M1 = mM ad c_pg c_bm c_tx c_ty c_ft c_fa c_sp c_nu c_un c_sf c_st c_ll c_ln c_ip c_gr c_hs ∧ post r) := by
  refine y_meti hB (by decide) rfl (Nat.le_of_ble_eq_true rfl) ?_
  intro p e s m below meth c A hr hnm C
  rw [wpX2_isClosed] at h
  refine y_aload_n C 0 rfl rfl dX2_isClosed_0 ?_
  refine y_iload_n C 1 rfl rfl dX2_isClosed_1 ?_
  refine y_iconst C 0 dX2_isClosed_2 lit0 ?_
  refine y_callVi0 C (metX2_endOf hd hB h) (cwV 2 C.hts (lw_V q1530 q1532 qs76 q91 q1533) rfl rfl rfl kdX2_endOf ⟨Nat.le_of_ble_eq_true rfl, Nat.le_of_ble_eq_true rfl⟩) mM_0 rfl rfl rfl (Nat.le_of_ble_eq_true rfl) dX2_isClosed_3 (fun r1 M1 hp => ?_)
  clear h
  obtain ⟨rfl, h⟩ := hp
  refine y_istore_n C 2 rfl (by decide) dX2_isClosed_6 ?_
  refine y_iconst C 0 dX2_isClosed_7 lit0 ?_
  refine y_istore_n C 3 rfl (by decide) dX2_isClosed_8 ?_
  refine y_iconst C 1 dX2_isClosed_9 lit1 ?_
  refine y_istore C 4 (by decide) dX2_isClosed_10 ?_
  obtain ⟨nf9, h⟩ := h
  refine y_to C _ ?_ (okX2_isClosed_b12 C hB hd hr  nf9 _ _ _ _ _ h)
  exact (And.intro rfl (And.intro rfl (And.intro rfl (And.intro rfl (And.intro rfl trivial)))))
theorem kdX2_isClosed : yX2_isClosed.cls = RX2 ∧ yX2_isClosed.cls ≠ "java/lang/invoke/MethodHandle" ∧ yX2_isClosed.cls ≠ "java/lang/invoke/VarHandle" ∧ (parseMethodDescriptor yX2_isClosed.desc).map (fun d => d.parameters.length) = some 1 := by decide +kernel
section sX2_chain
variable {p : Program} {l : Launch} {e : Env} {s : State} {m : MethodId} {args : Array Value} {below : List Frame} {meth : Method} {c : Code} {D : va_G} {s0 : State} {a0 : Array Value} {A : Nat → Prop} {ad : Nat → Nat} {c_pg : Nat → Int32} {c_bm : Int32} {c_tx : Nat → Int32} {c_ty : Int32} {c_ft : Int32} {c_fa : Int32} {c_sp : Int32} {c_nu : Int32} {c_un : Nat → Int32} {c_sf : Nat → Int32} {c_st : Nat → Int32} {c_ll : Nat → Int32} {c_ln : Nat → Int32} {c_ip : Nat → Int32} {c_gr : Nat → Int32} {c_hs : Int64}
def wpX2_chain_b35 (post : Int32 → (Nat → Int32) → (Nat → Int32) → (Nat → Int32) → (Nat → Int32) → (Nat → Int32) → (Nat → Int32) → Prop) (c_pg : Nat → Int32) (c_un : Nat → Int32) (c_sf : Nat → Int32) (c_st : Nat → Int32) (c_ll : Nat → Int32) (c_ln : Nat → Int32) (c_ip : Nat → Int32) (v1 : Int32) (v2 : Int32) : Prop := wpX2_sumOf c_pg v1 v2 (fun r3 => post r3 c_un c_sf c_st c_ll c_ln c_ip)
theorem okX2_chain_b35 (C : yC p { frames := 10, cells := 0, slots := 0, locals := 263 } s m args meth c cX2_chain 3 RX2 D s0 a0 A) (hB : yB D s0 a0) (hd : yAd ad) (hr : meth.sig.returnType = (some .int)) {post : Int32 → (Nat → Int32) → (Nat → Int32) → (Nat → Int32) → (Nat → Int32) → (Nat → Int32) → (Nat → Int32) → Prop}  : ∀ (c_pg : Nat → Int32) (c_un : Nat → Int32) (c_sf : Nat → Int32) (c_st : Nat → Int32) (c_ll : Nat → Int32) (c_ln : Nat → Int32) (c_ip : Nat → Int32) (v1 : Int32) (v2 : Int32), wpX2_chain_b35 post c_pg c_un c_sf c_st c_ll c_ln c_ip v1 v2 → Y p l e { frames := 10, cells := 0, slots := 0, locals := 263 } s m args below meth c (MQ below (yQi D s0 A (fun r M1 => ∃ (w_un : Nat → Int32) (w_sf : Nat → Int32) (w_st : Nat → Int32) (w_ll : Nat → Int32) (w_ln : Nat → Int32) (w_ip : Nat → Int32), M1 = mM ad c_pg c_bm c_tx c_ty c_ft c_fa c_sp c_nu w_un w_sf w_st w_ll w_ln w_ip c_gr c_hs ∧ post r w_un w_sf w_st w_ll w_ln w_ip)) args s 0 0 A) D s0 A 3 (mM ad c_pg c_bm c_tx c_ty c_ft c_fa c_sp c_nu c_un c_sf c_st c_ll c_ln c_ip c_gr c_hs) 0 0 [some (yr (some (ad 0))), some (yi v1), some (yi v2)] 35 [] := by
  intro c_pg c_un c_sf c_st c_ll c_ln c_ip v1 v2 h
  rw [wpX2_chain_b35] at h
  refine y_aload_n C 0 rfl rfl dX2_chain_35 ?_
  refine y_iload_n C 1 rfl rfl dX2_chain_36 ?_
  refine y_iload_n C 2 rfl rfl dX2_chain_37 ?_
  refine y_callVi0 C (metX2_sumOf hd hB h) (cwV 2 C.hts (lw_V q1526 q1528 qs75 q91 q1529) rfl rfl rfl kdX2_sumOf ⟨Nat.le_of_ble_eq_true rfl, Nat.le_of_ble_eq_true rfl⟩) mM_0 rfl rfl rfl (Nat.le_of_ble_eq_true rfl) dX2_chain_38 (fun r3 M1 hp => ?_)
  clear h
  obtain ⟨rfl, h⟩ := hp
  exact y_ireti C hr rfl rfl ⟨_, _, _, _, _, _, rfl, h⟩ dX2_chain_41
def wpX2_chain_b142 (post : Int32 → (Nat → Int32) → (Nat → Int32) → (Nat → Int32) → (Nat → Int32) → (Nat → Int32) → (Nat → Int32) → Prop) (c_pg : Nat → Int32) (c_un : Nat → Int32) (c_sf : Nat → Int32) (c_st : Nat → Int32) (c_ll : Nat → Int32) (c_ln : Nat → Int32) (c_ip : Nat → Int32) (v1 : Int32) : Prop := wpX2_laneOfChain c_pg c_un c_sf c_st c_ll c_ln c_ip v1 (fun r17 w_un11 w_sf12 w_st13 w_ll14 w_ln15 w_ip16 => post r17 w_un11 w_sf12 w_st13 w_ll14 w_ln15 w_ip16)
theorem okX2_chain_b142 (C : yC p { frames := 10, cells := 0, slots := 0, locals := 263 } s m args meth c cX2_chain 3 RX2 D s0 a0 A) (hB : yB D s0 a0) (hd : yAd ad) (hr : meth.sig.returnType = (some .int)) {post : Int32 → (Nat → Int32) → (Nat → Int32) → (Nat → Int32) → (Nat → Int32) → (Nat → Int32) → (Nat → Int32) → Prop}  : ∀ (c_pg : Nat → Int32) (c_un : Nat → Int32) (c_sf : Nat → Int32) (c_st : Nat → Int32) (c_ll : Nat → Int32) (c_ln : Nat → Int32) (c_ip : Nat → Int32) (v1 : Int32), wpX2_chain_b142 post c_pg c_un c_sf c_st c_ll c_ln c_ip v1 → Y p l e { frames := 10, cells := 0, slots := 0, locals := 263 } s m args below meth c (MQ below (yQi D s0 A (fun r M1 => ∃ (w_un : Nat → Int32) (w_sf : Nat → Int32) (w_st : Nat → Int32) (w_ll : Nat → Int32) (w_ln : Nat → Int32) (w_ip : Nat → Int32), M1 = mM ad c_pg c_bm c_tx c_ty c_ft c_fa c_sp c_nu w_un w_sf w_st w_ll w_ln w_ip c_gr c_hs ∧ post r w_un w_sf w_st w_ll w_ln w_ip)) args s 0 0 A) D s0 A 3 (mM ad c_pg c_bm c_tx c_ty c_ft c_fa c_sp c_nu c_un c_sf c_st c_ll c_ln c_ip c_gr c_hs) 0 0 [some (yr (some (ad 0))), some (yi v1), none] 142 [] := by
  intro c_pg c_un c_sf c_st c_ll c_ln c_ip v1 h
  rw [wpX2_chain_b142] at h
  refine y_aload_n C 0 rfl rfl dX2_chain_142 ?_
  refine y_iload_n C 1 rfl rfl dX2_chain_143 ?_
  refine y_callVi0 C (metX2_laneOfChain hd hB h) (cwV 1 C.hts (lw_V q1542 q1544 qs79 q91 q1545) rfl rfl rfl kdX2_laneOfChain ⟨Nat.le_of_ble_eq_true rfl, Nat.le_of_ble_eq_true rfl⟩) mM_0 rfl rfl rfl (Nat.le_of_ble_eq_true rfl) dX2_chain_144 (fun r17 M1 hp => ?_)
  clear h
  obtain ⟨w_un11, w_sf12, w_st13, w_ll14, w_ln15, w_ip16, rfl, h⟩ := hp
  exact y_ireti C hr rfl rfl ⟨_, _, _, _, _, _, rfl, h⟩ dX2_chain_147
end sX2_chain
def wpX2_chain (c_pg : Nat → Int32) (c_un : Nat → Int32) (c_sf : Nat → Int32) (c_st : Nat → Int32) (c_ll : Nat → Int32) (c_ln : Nat → Int32) (c_ip : Nat → Int32) (a1 : Int32) (a2 : Int32) (post : Int32 → (Nat → Int32) → (Nat → Int32) → (Nat → Int32) → (Nat → Int32) → (Nat → Int32) → (Nat → Int32) → Prop) : Prop := wpX2_in a1 1 5 (fun r1 => ((r1 = 0 → post (-1) c_un c_sf c_st c_ll c_ln c_ip) ∧ (¬ r1 = 0 → wpX2_in a2 0 8 (fun r2 => ((¬ r2 = 0 → ((a2 = 0 → wpX2_chain_b35 post c_pg c_un c_sf c_st c_ll c_ln c_ip a1 a2) ∧ (¬ a2 = 0 → wpX2_in a2 4 6 (fun r4 => ((r4 = 0 → wpX2_sumOf c_pg a1 0 (fun r5 => ((¬ r5 = 0 → ((a2 = 1 → wpX2_endOf c_pg a1 0 (fun r6 => wpX2_position c_pg r6 (fun r7 => post r7 c_un c_sf c_st c_ll c_ln c_ip))) ∧ (a2 = 2 → wpX2_endOf c_pg a1 1 (fun r8 => wpX2_position c_pg r8 (fun r9 => post r9 c_un c_sf c_st c_ll c_ln c_ip))) ∧ (a2 = 3 → wpX2_isClosed c_pg a1 (fun r10 => ((r10 = 0 → post 0 c_un c_sf c_st c_ll c_ln c_ip) ∧ (¬ r10 = 0 → post 1 c_un c_sf c_st c_ll c_ln c_ip)))) ∧ (a2 = 4 → wpX2_chain_b142 post c_pg c_un c_sf c_st c_ll c_ln c_ip a1) ∧ (a2 = 5 → wpX2_chain_b142 post c_pg c_un c_sf c_st c_ll c_ln c_ip a1) ∧ (a2 = 6 → wpX2_chain_b142 post c_pg c_un c_sf c_st c_ll c_ln c_ip a1) ∧ (a2 = 7 → wpX2_over c_pg a1 (fun r18 => post r18 c_un c_sf c_st c_ll c_ln c_ip)) ∧ (¬ a2 = 1 ∧ ¬ a2 = 2 ∧ ¬ a2 = 3 ∧ ¬ a2 = 4 ∧ ¬ a2 = 5 ∧ ¬ a2 = 6 ∧ ¬ a2 = 7 → wpX2_chain_b142 post c_pg c_un c_sf c_st c_ll c_ln c_ip a1))) ∧ (r5 = 0 → post (-999) c_un c_sf c_st c_ll c_ln c_ip)))) ∧ (¬ r4 = 0 → wpX2_chain_b35 post c_pg c_un c_sf c_st c_ll c_ln c_ip a1 a2)))))) ∧ (r2 = 0 → post (-1) c_un c_sf c_st c_ll c_ln c_ip))))))
theorem metX2_chain {l : Launch} {D : va_G} {s0 : State} {a0 : Array Value} {ad : Nat → Nat} (hd : yAd ad) (hB : yB D s0 a0) {c_pg : Nat → Int32} {c_bm : Int32} {c_tx : Nat → Int32} {c_ty : Int32} {c_ft : Int32} {c_fa : Int32} {c_sp : Int32} {c_nu : Int32} {c_un : Nat → Int32} {c_sf : Nat → Int32} {c_st : Nat → Int32} {c_ll : Nat → Int32} {c_ln : Nat → Int32} {c_ip : Nat → Int32} {c_gr : Nat → Int32} {c_hs : Int64} {a1 : Int32} {a2 : Int32} {post : Int32 → (Nat → Int32) → (Nat → Int32) → (Nat → Int32) → (Nat → Int32) → (Nat → Int32) → (Nat → Int32) → Prop} (h : wpX2_chain c_pg c_un c_sf c_st c_ll c_ln c_ip a1 a2 post) : yMi l yX2_chain (ws_ yX2_chain cX2_chain 3 (some .int)) 10 263 0 0 D s0 [yr (some (ad 0)), yi a1, yi a2] (mM ad c_pg c_bm c_tx c_ty c_ft c_fa c_sp c_nu c_un c_sf c_st c_ll c_ln c_ip c_gr c_hs) (fun r M1 => ∃ (w_un : Nat → Int32) (w_sf : Nat → Int32) (w_st : Nat → Int32) (w_ll : Nat → Int32) (w_ln : Nat → Int32) (w_ip : Nat → Int32), M1 = mM ad c_pg c_bm c_tx c_ty c_ft c_fa c_sp c_nu w_un w_sf w_st w_ll w_ln w_ip c_gr c_hs ∧ post r w_un w_sf w_st w_ll w_ln w_ip) := by
  refine y_meti hB (by decide) rfl (Nat.le_of_ble_eq_true rfl) ?_
  intro p e s m below meth c A hr hnm C
  rw [wpX2_chain] at h
  refine y_iload_n C 1 rfl rfl dX2_chain_0 ?_
  refine y_iconst C 1 dX2_chain_1 lit1 ?_
  refine y_iconst C 5 dX2_chain_2 lit5 ?_
  refine y_callSi0 C (metX2_in hB h) (va_cwS 3 C.hts (lw_S q1231 q1232 q91 q1233) rfl rfl rfl kdX2_in.2 ⟨Nat.le_of_ble_eq_true rfl, Nat.le_of_ble_eq_true rfl⟩) rfl rfl (Nat.le_of_ble_eq_true rfl) dX2_chain_3 (fun r1 M1 hp => ?_)
  clear h
  obtain ⟨rfl, h⟩ := hp
  refine y_if_eq C 19 dX2_chain_6 (by decide) (fun c9 => ?_) (fun c9 => ?_)
  · replace h := h.1 c9
    refine y_iconst C (-1) dX2_chain_19 litm1 ?_
    exact y_ireti C hr rfl rfl ⟨_, _, _, _, _, _, rfl, h⟩ dX2_chain_20
  · replace h := h.2 c9
    refine y_iload_n C 2 rfl rfl dX2_chain_9 ?_
    refine y_iconst C 0 dX2_chain_10 lit0 ?_
    refine y_bipush C 8 dX2_chain_11 y_b8 ?_
    refine y_callSi0 C (metX2_in hB h) (va_cwS 3 C.hts (lw_S q1231 q1232 q91 q1233) rfl rfl rfl kdX2_in.2 ⟨Nat.le_of_ble_eq_true rfl, Nat.le_of_ble_eq_true rfl⟩) rfl rfl (Nat.le_of_ble_eq_true rfl) dX2_chain_13 (fun r2 M1 hp => ?_)
    clear h
    obtain ⟨rfl, h⟩ := hp
    refine y_if_ne C 21 dX2_chain_16 (by decide) (fun c9 => ?_) (fun c9 => ?_)
    · replace h := h.1 c9
      refine y_iload_n C 2 rfl rfl dX2_chain_21 ?_
      refine y_if_eq C 35 dX2_chain_22 (by decide) (fun c9 => ?_) (fun c9 => ?_)
      · replace h := h.1 c9
        refine y_to C _ ?_ (okX2_chain_b35 C hB hd hr  _ _ _ _ _ _ _ _ _ h)
        exact (And.intro rfl (And.intro rfl (And.intro rfl trivial)))
      · replace h := h.2 c9
        refine y_iload_n C 2 rfl rfl dX2_chain_25 ?_
        refine y_iconst C 4 dX2_chain_26 lit4 ?_
        refine y_bipush C 6 dX2_chain_27 y_b6 ?_
        refine y_callSi0 C (metX2_in hB h) (va_cwS 3 C.hts (lw_S q1231 q1232 q91 q1233) rfl rfl rfl kdX2_in.2 ⟨Nat.le_of_ble_eq_true rfl, Nat.le_of_ble_eq_true rfl⟩) rfl rfl (Nat.le_of_ble_eq_true rfl) dX2_chain_29 (fun r4 M1 hp => ?_)
        clear h
        obtain ⟨rfl, h⟩ := hp
        refine y_if_eq C 42 dX2_chain_32 (by decide) (fun c9 => ?_) (fun c9 => ?_)
        · replace h := h.1 c9
          refine y_aload_n C 0 rfl rfl dX2_chain_42 ?_
          refine y_iload_n C 1 rfl rfl dX2_chain_43 ?_
          refine y_iconst C 0 dX2_chain_44 lit0 ?_
          refine y_callVi0 C (metX2_sumOf hd hB h) (cwV 2 C.hts (lw_V q1526 q1528 qs75 q91 q1529) rfl rfl rfl kdX2_sumOf ⟨Nat.le_of_ble_eq_true rfl, Nat.le_of_ble_eq_true rfl⟩) mM_0 rfl rfl rfl (Nat.le_of_ble_eq_true rfl) dX2_chain_45 (fun r5 M1 hp => ?_)
          clear h
          obtain ⟨rfl, h⟩ := hp
          refine y_if_ne C 55 dX2_chain_48 (by decide) (fun c9 => ?_) (fun c9 => ?_)
          · replace h := h.1 c9
            refine y_iload_n C 2 rfl rfl dX2_chain_55 ?_
            by_cases q9_0 : a2 = 1
            · replace h := h.1 q9_0
              refine y_tabIn C 100 dX2_chain_56 (by rw [q9_0]; decide) (by rw [q9_0]; decide) (by rw [q9_0]; rfl) (by decide) ?_
              refine y_aload_n C 0 rfl rfl dX2_chain_100 ?_
              refine y_aload_n C 0 rfl rfl dX2_chain_101 ?_
              refine y_iload_n C 1 rfl rfl dX2_chain_102 ?_
              refine y_iconst C 0 dX2_chain_103 lit0 ?_
              refine y_callVi0 C (metX2_endOf hd hB h) (cwV 2 C.hts (lw_V q1530 q1532 qs76 q91 q1533) rfl rfl rfl kdX2_endOf ⟨Nat.le_of_ble_eq_true rfl, Nat.le_of_ble_eq_true rfl⟩) mM_0 rfl rfl rfl (Nat.le_of_ble_eq_true rfl) dX2_chain_104 (fun r6 M1 hp => ?_)
              clear h
              obtain ⟨rfl, h⟩ := hp
              refine y_callVi0 C (metX2_position hd hB h) (cwV 1 C.hts (lw_V q1238 q1240 qs25 q91 q1241) rfl rfl rfl kdX2_position ⟨Nat.le_of_ble_eq_true rfl, Nat.le_of_ble_eq_true rfl⟩) mM_0 rfl rfl rfl (Nat.le_of_ble_eq_true rfl) dX2_chain_107 (fun r7 M1 hp => ?_)
              clear h
              obtain ⟨rfl, h⟩ := hp
              exact y_ireti C hr rfl rfl ⟨_, _, _, _, _, _, rfl, h⟩ dX2_chain_110
            replace h := h.2
            by_cases q9_1 : a2 = 2
            · replace h := h.1 q9_1
              refine y_tabIn C 111 dX2_chain_56 (by rw [q9_1]; decide) (by rw [q9_1]; decide) (by rw [q9_1]; rfl) (by decide) ?_
              refine y_aload_n C 0 rfl rfl dX2_chain_111 ?_
              refine y_aload_n C 0 rfl rfl dX2_chain_112 ?_
              refine y_iload_n C 1 rfl rfl dX2_chain_113 ?_
              refine y_iconst C 1 dX2_chain_114 lit1 ?_
              refine y_callVi0 C (metX2_endOf hd hB h) (cwV 2 C.hts (lw_V q1530 q1532 qs76 q91 q1533) rfl rfl rfl kdX2_endOf ⟨Nat.le_of_ble_eq_true rfl, Nat.le_of_ble_eq_true rfl⟩) mM_0 rfl rfl rfl (Nat.le_of_ble_eq_true rfl) dX2_chain_115 (fun r8 M1 hp => ?_)
              clear h
              obtain ⟨rfl, h⟩ := hp
              refine y_callVi0 C (metX2_position hd hB h) (cwV 1 C.hts (lw_V q1238 q1240 qs25 q91 q1241) rfl rfl rfl kdX2_position ⟨Nat.le_of_ble_eq_true rfl, Nat.le_of_ble_eq_true rfl⟩) mM_0 rfl rfl rfl (Nat.le_of_ble_eq_true rfl) dX2_chain_118 (fun r9 M1 hp => ?_)
              clear h
              obtain ⟨rfl, h⟩ := hp
              exact y_ireti C hr rfl rfl ⟨_, _, _, _, _, _, rfl, h⟩ dX2_chain_121
            replace h := h.2
            by_cases q9_2 : a2 = 3
            · replace h := h.1 q9_2
              refine y_tabIn C 122 dX2_chain_56 (by rw [q9_2]; decide) (by rw [q9_2]; decide) (by rw [q9_2]; rfl) (by decide) ?_
              refine y_aload_n C 0 rfl rfl dX2_chain_122 ?_
              refine y_iload_n C 1 rfl rfl dX2_chain_123 ?_
              refine y_callVi0 C (metX2_isClosed hd hB h) (cwV 1 C.hts (lw_V q1534 q1536 qs77 q91 q1537) rfl rfl rfl kdX2_isClosed ⟨Nat.le_of_ble_eq_true rfl, Nat.le_of_ble_eq_true rfl⟩) mM_0 rfl rfl rfl (Nat.le_of_ble_eq_true rfl) dX2_chain_124 (fun r10 M1 hp => ?_)
              clear h
              obtain ⟨rfl, h⟩ := hp
              refine y_if_eq C 134 dX2_chain_127 (by decide) (fun c9 => ?_) (fun c9 => ?_)
              · replace h := h.1 c9
                refine y_iconst C 0 dX2_chain_134 lit0 ?_
                exact y_ireti C hr rfl rfl ⟨_, _, _, _, _, _, rfl, h⟩ dX2_chain_135
              · replace h := h.2 c9
                refine y_iconst C 1 dX2_chain_130 lit1 ?_
                refine y_goto C 135 dX2_chain_131 (by decide) ?_
                exact y_ireti C hr rfl rfl ⟨_, _, _, _, _, _, rfl, h⟩ dX2_chain_135
            replace h := h.2
            by_cases q9_3 : a2 = 4
            · replace h := h.1 q9_3
              refine y_tabIn C 142 dX2_chain_56 (by rw [q9_3]; decide) (by rw [q9_3]; decide) (by rw [q9_3]; rfl) (by decide) ?_
              refine y_to C _ ?_ (okX2_chain_b142 C hB hd hr  _ _ _ _ _ _ _ _ h)
              exact (And.intro rfl (And.intro rfl trivial))
            replace h := h.2
            by_cases q9_4 : a2 = 5
            · replace h := h.1 q9_4
              refine y_tabIn C 142 dX2_chain_56 (by rw [q9_4]; decide) (by rw [q9_4]; decide) (by rw [q9_4]; rfl) (by decide) ?_
              refine y_to C _ ?_ (okX2_chain_b142 C hB hd hr  _ _ _ _ _ _ _ _ h)
              exact (And.intro rfl (And.intro rfl trivial))
            replace h := h.2
            by_cases q9_5 : a2 = 6
            · replace h := h.1 q9_5
              refine y_tabIn C 142 dX2_chain_56 (by rw [q9_5]; decide) (by rw [q9_5]; decide) (by rw [q9_5]; rfl) (by decide) ?_
              refine y_to C _ ?_ (okX2_chain_b142 C hB hd hr  _ _ _ _ _ _ _ _ h)
              exact (And.intro rfl (And.intro rfl trivial))
            replace h := h.2
            by_cases q9_6 : a2 = 7
            · replace h := h.1 q9_6
              refine y_tabIn C 136 dX2_chain_56 (by rw [q9_6]; decide) (by rw [q9_6]; decide) (by rw [q9_6]; rfl) (by decide) ?_
              refine y_aload_n C 0 rfl rfl dX2_chain_136 ?_
              refine y_iload_n C 1 rfl rfl dX2_chain_137 ?_
              refine y_callVi0 C (metX2_over hd hB h) (cwV 1 C.hts (lw_V q1538 q1540 qs78 q91 q1541) rfl rfl rfl kdX2_over ⟨Nat.le_of_ble_eq_true rfl, Nat.le_of_ble_eq_true rfl⟩) mM_0 rfl rfl rfl (Nat.le_of_ble_eq_true rfl) dX2_chain_138 (fun r18 M1 hp => ?_)
              clear h
              obtain ⟨rfl, h⟩ := hp
              exact y_ireti C hr rfl rfl ⟨_, _, _, _, _, _, rfl, h⟩ dX2_chain_141
            replace h := h.2
            replace h := h ⟨q9_0, q9_1, q9_2, q9_3, q9_4, q9_5, q9_6⟩
            refine y_tabOut C 142 dX2_chain_56 (y_rng 7 (by decide) (by decide) (by decide) (fun k9 hk9 => by
                rcases (show k9 = 0 ∨ k9 = 1 ∨ k9 = 2 ∨ k9 = 3 ∨ k9 = 4 ∨ k9 = 5 ∨ k9 = 6 by omega) with rfl | rfl | rfl | rfl | rfl | rfl | rfl
                · exact q9_0
                · exact q9_1
                · exact q9_2
                · exact q9_3
                · exact q9_4
                · exact q9_5
                · exact q9_6)) (by decide) ?_
            refine y_to C _ ?_ (okX2_chain_b142 C hB hd hr  _ _ _ _ _ _ _ _ h)
            exact (And.intro rfl (And.intro rfl trivial))
          · replace h := h.2 c9
            refine y_sipush C (-999) dX2_chain_51 y_sm999 ?_
            exact y_ireti C hr rfl rfl ⟨_, _, _, _, _, _, rfl, h⟩ dX2_chain_54
        · replace h := h.2 c9
          refine y_to C _ ?_ (okX2_chain_b35 C hB hd hr  _ _ _ _ _ _ _ _ _ h)
          exact (And.intro rfl (And.intro rfl (And.intro rfl trivial)))
    · replace h := h.2 c9
      refine y_iconst C (-1) dX2_chain_19 litm1 ?_
      exact y_ireti C hr rfl rfl ⟨_, _, _, _, _, _, rfl, h⟩ dX2_chain_20
theorem kdX2_chain : yX2_chain.cls = RX2 ∧ yX2_chain.cls ≠ "java/lang/invoke/MethodHandle" ∧ yX2_chain.cls ≠ "java/lang/invoke/VarHandle" ∧ (parseMethodDescriptor yX2_chain.desc).map (fun d => d.parameters.length) = some 2 := by decide +kernel
section sX2_lanes
variable {p : Program} {l : Launch} {e : Env} {s : State} {m : MethodId} {args : Array Value} {below : List Frame} {meth : Method} {c : Code} {D : va_G} {s0 : State} {a0 : Array Value} {A : Nat → Prop} {ad : Nat → Nat} {c_pg : Nat → Int32} {c_bm : Int32} {c_tx : Nat → Int32} {c_ty : Int32} {c_ft : Int32} {c_fa : Int32} {c_sp : Int32} {c_nu : Int32} {c_un : Nat → Int32} {c_sf : Nat → Int32} {c_st : Nat → Int32} {c_ll : Nat → Int32} {c_ln : Nat → Int32} {c_ip : Nat → Int32} {c_gr : Nat → Int32} {c_hs : Int64}
def wpX2_lanes_b35 (post : Int32 → Prop) (k4 : (Nat → Int32) → (Nat → Int32) → (Nat → Int32) → Int32 → Int32 → Prop) (c_pg : Nat → Int32) (c_un : Nat → Int32) (c_ln : Nat → Int32) (v2 : Int32) (u0 : Int32) : Prop := ∀ x2 : Int32, x2 = v2 + 1 → k4 c_pg c_un c_ln u0 x2
theorem okX2_lanes_b35 (C : yC p { frames := 2, cells := 0, slots := 0, locals := 85 } s m args meth c cX2_lanes 3 RX2 D s0 a0 A) (hB : yB D s0 a0) (hd : yAd ad) (hr : meth.sig.returnType = (some .int)) {post : Int32 → Prop} {k4 : (Nat → Int32) → (Nat → Int32) → (Nat → Int32) → Int32 → Int32 → Prop} (hk4 : ∀ (c_pg : Nat → Int32) (c_un : Nat → Int32) (c_ln : Nat → Int32) (v1 : Int32) (v2 : Int32), k4 c_pg c_un c_ln v1 v2 → Y p l e { frames := 2, cells := 0, slots := 0, locals := 85 } s m args below meth c (MQ below (yQi D s0 A (fun r M1 => M1 = mM ad c_pg c_bm c_tx c_ty c_ft c_fa c_sp c_nu c_un c_sf c_st c_ll c_ln c_ip c_gr c_hs ∧ post r)) args s 0 0 A) D s0 A 3 (mM ad c_pg c_bm c_tx c_ty c_ft c_fa c_sp c_nu c_un c_sf c_st c_ll c_ln c_ip c_gr c_hs) 0 0 [some (yr (some (ad 0))), some (yi v1), some (yi v2)] 4 []) : ∀ (c_pg : Nat → Int32) (c_un : Nat → Int32) (c_ln : Nat → Int32) (v2 : Int32) (u0 : Int32), wpX2_lanes_b35 post k4 c_pg c_un c_ln v2 u0 → Y p l e { frames := 2, cells := 0, slots := 0, locals := 85 } s m args below meth c (MQ below (yQi D s0 A (fun r M1 => M1 = mM ad c_pg c_bm c_tx c_ty c_ft c_fa c_sp c_nu c_un c_sf c_st c_ll c_ln c_ip c_gr c_hs ∧ post r)) args s 0 0 A) D s0 A 3 (mM ad c_pg c_bm c_tx c_ty c_ft c_fa c_sp c_nu c_un c_sf c_st c_ll c_ln c_ip c_gr c_hs) 0 0 [some (yr (some (ad 0))), none, some (yi v2)] 35 [yi u0] := by
  intro c_pg c_un c_ln v2 u0 h
  rw [wpX2_lanes_b35] at h
  refine y_istore_n C 1 rfl (by decide) dX2_lanes_35 ?_
  replace h := h _ rfl
  refine y_iinc C 2 _ rfl (y_inc1 _) (by decide) dX2_lanes_36 ?_
  refine y_goto C 4 dX2_lanes_39 (by decide) ?_
  refine y_to C _ ?_ (hk4 _ _ _ _ _ h)
  exact (And.intro rfl (And.intro rfl (And.intro rfl trivial)))
def wpX2_lanes_b4 (post : Int32 → Prop) : Nat → (Nat → Int32) → (Nat → Int32) → (Nat → Int32) → Int32 → Int32 → Prop
  | 0, _, _, _, _, _ => False
  | nn + 1, c_pg, c_un, c_ln, v1, v2 => vp_in 13 1120 ∧ (((c_pg (Int32.toNatClampNeg 13)) ≤ v2 → post v1) ∧ (¬ (c_pg (Int32.toNatClampNeg 13)) ≤ v2 → wpX2_laneOf c_un c_ln v2 (fun r1 => ((r1 < v1 → wpX2_lanes_b35 post (fun c_pg c_un c_ln v1 v2 => wpX2_lanes_b4 post nn c_pg c_un c_ln v1 v2) c_pg c_un c_ln v2 v1) ∧ (¬ r1 < v1 → wpX2_laneOf c_un c_ln v2 (fun r3 => wpX2_lanes_b35 post (fun c_pg c_un c_ln v1 v2 => wpX2_lanes_b4 post nn c_pg c_un c_ln v1 v2) c_pg c_un c_ln v2 (r3 + 1)))))))
theorem okX2_lanes_b4 (C : yC p { frames := 2, cells := 0, slots := 0, locals := 85 } s m args meth c cX2_lanes 3 RX2 D s0 a0 A) (hB : yB D s0 a0) (hd : yAd ad) (hr : meth.sig.returnType = (some .int)) {post : Int32 → Prop}  : ∀ (nn : Nat) (c_pg : Nat → Int32) (c_un : Nat → Int32) (c_ln : Nat → Int32) (v1 : Int32) (v2 : Int32), wpX2_lanes_b4 post nn c_pg c_un c_ln v1 v2 → Y p l e { frames := 2, cells := 0, slots := 0, locals := 85 } s m args below meth c (MQ below (yQi D s0 A (fun r M1 => M1 = mM ad c_pg c_bm c_tx c_ty c_ft c_fa c_sp c_nu c_un c_sf c_st c_ll c_ln c_ip c_gr c_hs ∧ post r)) args s 0 0 A) D s0 A 3 (mM ad c_pg c_bm c_tx c_ty c_ft c_fa c_sp c_nu c_un c_sf c_st c_ll c_ln c_ip c_gr c_hs) 0 0 [some (yr (some (ad 0))), some (yi v1), some (yi v2)] 4 [] := by
  intro nn
  induction nn with
  | zero => intro c_pg c_un c_ln v1 v2 h; exact absurd h (by rw [wpX2_lanes_b4]; exact id)
  | succ nn ih =>
    intro c_pg c_un c_ln v1 v2 h
    rw [wpX2_lanes_b4] at h
    refine y_iload_n C 2 rfl rfl dX2_lanes_4 ?_
    refine y_aload_n C 0 rfl rfl dX2_lanes_5 ?_
    refine y_get (ci := 2) (k := 0) C in_X2 rfl (by decide) q1169 (fun _ h => h) mM_0 rfl dX2_lanes_6 ?_
    refine y_bipush C 13 dX2_lanes_9 y_b13 ?_
    obtain ⟨i9, h⟩ := h
    refine y_iald C (mM_1 hd) i9 dX2_lanes_11 ?_
    refine y_icmp_ge C 42 dX2_lanes_12 (by decide) (fun c9 => ?_) (fun c9 => ?_)
    · replace h := h.1 c9
      refine y_iload_n C 1 rfl rfl dX2_lanes_42 ?_
      exact y_ireti C hr rfl rfl ⟨rfl, h⟩ dX2_lanes_43
    · replace h := h.2 c9
      refine y_aload_n C 0 rfl rfl dX2_lanes_15 ?_
      refine y_iload_n C 2 rfl rfl dX2_lanes_16 ?_
      refine y_callVi0 C (metX2_laneOf hd hB h) (cwV 1 C.hts (lw_V q1467 q1469 qs68 q91 q1470) rfl rfl rfl kdX2_laneOf ⟨Nat.le_of_ble_eq_true rfl, Nat.le_of_ble_eq_true rfl⟩) mM_0 rfl rfl rfl (Nat.le_of_ble_eq_true rfl) dX2_lanes_17 (fun r1 M1 hp => ?_)
      clear h
      obtain ⟨rfl, h⟩ := hp
      refine y_iload_n C 1 rfl rfl dX2_lanes_20 ?_
      refine y_icmp_lt C 34 dX2_lanes_21 (by decide) (fun c9 => ?_) (fun c9 => ?_)
      · replace h := h.1 c9
        refine y_iload_n C 1 rfl rfl dX2_lanes_34 ?_
        refine y_to C _ ?_ (okX2_lanes_b35 C hB hd hr ih _ _ _ _ _ h)
        exact (And.intro rfl (And.intro rfl trivial))
      · replace h := h.2 c9
        refine y_aload_n C 0 rfl rfl dX2_lanes_24 ?_
        refine y_iload_n C 2 rfl rfl dX2_lanes_25 ?_
        refine y_callVi0 C (metX2_laneOf hd hB h) (cwV 1 C.hts (lw_V q1467 q1469 qs68 q91 q1470) rfl rfl rfl kdX2_laneOf ⟨Nat.le_of_ble_eq_true rfl, Nat.le_of_ble_eq_true rfl⟩) mM_0 rfl rfl rfl (Nat.le_of_ble_eq_true rfl) dX2_lanes_26 (fun r3 M1 hp => ?_)
        clear h
        obtain ⟨rfl, h⟩ := hp
        refine y_iconst C 1 dX2_lanes_29 lit1 ?_
        refine y_iadd C dX2_lanes_30 ?_
        refine y_goto C 35 dX2_lanes_31 (by decide) ?_
        refine y_to C _ ?_ (okX2_lanes_b35 C hB hd hr ih _ _ _ _ _ h)
        exact (And.intro rfl (And.intro rfl trivial))
end sX2_lanes
def wpX2_lanes (c_pg : Nat → Int32) (c_un : Nat → Int32) (c_ln : Nat → Int32)  (post : Int32 → Prop) : Prop := ∃ nf9 : Nat, wpX2_lanes_b4 post nf9 c_pg c_un c_ln 0 0
theorem metX2_lanes {l : Launch} {D : va_G} {s0 : State} {a0 : Array Value} {ad : Nat → Nat} (hd : yAd ad) (hB : yB D s0 a0) {c_pg : Nat → Int32} {c_bm : Int32} {c_tx : Nat → Int32} {c_ty : Int32} {c_ft : Int32} {c_fa : Int32} {c_sp : Int32} {c_nu : Int32} {c_un : Nat → Int32} {c_sf : Nat → Int32} {c_st : Nat → Int32} {c_ll : Nat → Int32} {c_ln : Nat → Int32} {c_ip : Nat → Int32} {c_gr : Nat → Int32} {c_hs : Int64}  {post : Int32 → Prop} (h : wpX2_lanes c_pg c_un c_ln  post) : yMi l yX2_lanes (ws_ yX2_lanes cX2_lanes 3 (some .int)) 2 85 0 0 D s0 [yr (some (ad 0))] (mM ad c_pg c_bm c_tx c_ty c_ft c_fa c_sp c_nu c_un c_sf c_st c_ll c_ln c_ip c_gr c_hs) (fun r M1 => M1 = mM ad c_pg c_bm c_tx c_ty c_ft c_fa c_sp c_nu c_un c_sf c_st c_ll c_ln c_ip c_gr c_hs ∧ post r) := by
  refine y_meti hB (by decide) rfl (Nat.le_of_ble_eq_true rfl) ?_
  intro p e s m below meth c A hr hnm C
  rw [wpX2_lanes] at h
  refine y_iconst C 0 dX2_lanes_0 lit0 ?_
  refine y_istore_n C 1 rfl (by decide) dX2_lanes_1 ?_
  refine y_iconst C 0 dX2_lanes_2 lit0 ?_
  refine y_istore_n C 2 rfl (by decide) dX2_lanes_3 ?_
  obtain ⟨nf9, h⟩ := h
  refine y_to C _ ?_ (okX2_lanes_b4 C hB hd hr  nf9 _ _ _ _ _ h)
  exact (And.intro rfl (And.intro rfl (And.intro rfl trivial)))
theorem kdX2_lanes : yX2_lanes.cls = RX2 ∧ yX2_lanes.cls ≠ "java/lang/invoke/MethodHandle" ∧ yX2_lanes.cls ≠ "java/lang/invoke/VarHandle" ∧ (parseMethodDescriptor yX2_lanes.desc).map (fun d => d.parameters.length) = some 0 := by decide +kernel
def wpX2_ifArrow (c_pg : Nat → Int32) (c_un : Nat → Int32) (c_sf : Nat → Int32) (c_st : Nat → Int32) (c_ll : Nat → Int32) (c_ln : Nat → Int32) (c_ip : Nat → Int32) (a1 : Int32) (post : Int32 → (Nat → Int32) → (Nat → Int32) → (Nat → Int32) → (Nat → Int32) → (Nat → Int32) → (Nat → Int32) → (Nat → Int32) → Prop) : Prop := wpX2_in a1 1 9 (fun r1 => ((¬ r1 = 0 → vp_in 111 1120 ∧ ∀ x2 : Int32, x2 = (c_pg (Int32.toNatClampNeg 111)) → vp_in 111 1120 ∧ ∀ f3 : Nat → Int32, f3 = upd c_pg (Int32.toNatClampNeg 111) a1 → wpX2_laysLanes f3 c_un c_sf c_st c_ll c_ln c_ip (fun w_un4 w_sf5 w_st6 w_ll7 w_ln8 w_ip9 => vp_in 111 1120 ∧ ∀ f10 : Nat → Int32, f10 = upd f3 (Int32.toNatClampNeg 111) x2 → wpX2_lanes f10 w_un4 w_ln8 (fun r11 => post r11 f10 w_un4 w_sf5 w_st6 w_ll7 w_ln8 w_ip9))) ∧ (r1 = 0 → post (-1) c_pg c_un c_sf c_st c_ll c_ln c_ip)))
theorem metX2_ifArrow {l : Launch} {D : va_G} {s0 : State} {a0 : Array Value} {ad : Nat → Nat} (hd : yAd ad) (hB : yB D s0 a0) {c_pg : Nat → Int32} {c_bm : Int32} {c_tx : Nat → Int32} {c_ty : Int32} {c_ft : Int32} {c_fa : Int32} {c_sp : Int32} {c_nu : Int32} {c_un : Nat → Int32} {c_sf : Nat → Int32} {c_st : Nat → Int32} {c_ll : Nat → Int32} {c_ln : Nat → Int32} {c_ip : Nat → Int32} {c_gr : Nat → Int32} {c_hs : Int64} {a1 : Int32} {post : Int32 → (Nat → Int32) → (Nat → Int32) → (Nat → Int32) → (Nat → Int32) → (Nat → Int32) → (Nat → Int32) → (Nat → Int32) → Prop} (h : wpX2_ifArrow c_pg c_un c_sf c_st c_ll c_ln c_ip a1 post) : yMi l yX2_ifArrow (ws_ yX2_ifArrow cX2_ifArrow 3 (some .int)) 9 241 0 0 D s0 [yr (some (ad 0)), yi a1] (mM ad c_pg c_bm c_tx c_ty c_ft c_fa c_sp c_nu c_un c_sf c_st c_ll c_ln c_ip c_gr c_hs) (fun r M1 => ∃ (w_pg : Nat → Int32) (w_un : Nat → Int32) (w_sf : Nat → Int32) (w_st : Nat → Int32) (w_ll : Nat → Int32) (w_ln : Nat → Int32) (w_ip : Nat → Int32), M1 = mM ad w_pg c_bm c_tx c_ty c_ft c_fa c_sp c_nu w_un w_sf w_st w_ll w_ln w_ip c_gr c_hs ∧ post r w_pg w_un w_sf w_st w_ll w_ln w_ip) := by
  refine y_meti hB (by decide) rfl (Nat.le_of_ble_eq_true rfl) ?_
  intro p e s m below meth c A hr hnm C
  rw [wpX2_ifArrow] at h
  refine y_iload_n C 1 rfl rfl dX2_ifArrow_0 ?_
  refine y_iconst C 1 dX2_ifArrow_1 lit1 ?_
  refine y_bipush C 9 dX2_ifArrow_2 y_b9 ?_
  refine y_callSi0 C (metX2_in hB h) (va_cwS 3 C.hts (lw_S q1231 q1232 q91 q1233) rfl rfl rfl kdX2_in.2 ⟨Nat.le_of_ble_eq_true rfl, Nat.le_of_ble_eq_true rfl⟩) rfl rfl (Nat.le_of_ble_eq_true rfl) dX2_ifArrow_4 (fun r1 M1 hp => ?_)
  clear h
  obtain ⟨rfl, h⟩ := hp
  refine y_if_ne C 12 dX2_ifArrow_7 (by decide) (fun c9 => ?_) (fun c9 => ?_)
  · replace h := h.1 c9
    refine y_aload_n C 0 rfl rfl dX2_ifArrow_12 ?_
    refine y_get (ci := 2) (k := 0) C in_X2 rfl (by decide) q1169 (fun _ h => h) mM_0 rfl dX2_ifArrow_13 ?_
    refine y_bipush C 111 dX2_ifArrow_16 y_b111 ?_
    obtain ⟨i9, h⟩ := h
    refine y_iald C (mM_1 hd) i9 dX2_ifArrow_18 ?_
    replace h := h _ rfl
    refine y_istore_n C 2 rfl (by decide) dX2_ifArrow_19 ?_
    refine y_aload_n C 0 rfl rfl dX2_ifArrow_20 ?_
    refine y_get (ci := 2) (k := 0) C in_X2 rfl (by decide) q1169 (fun _ h => h) mM_0 rfl dX2_ifArrow_21 ?_
    refine y_bipush C 111 dX2_ifArrow_24 y_b111 ?_
    refine y_iload_n C 1 rfl rfl dX2_ifArrow_26 ?_
    obtain ⟨i9, h⟩ := h
    replace h := h _ rfl
    refine y_iast C (mM_1 hd) i9 (mU_pg hd _) dX2_ifArrow_27 ?_
    refine y_aload_n C 0 rfl rfl dX2_ifArrow_28 ?_
    refine y_callVv0 C (metX2_laysLanes hd hB h) (cwV 0 C.hts (lw_V q1415 q1417 qs55 q91 q1418) rfl rfl rfl kdX2_laysLanes ⟨Nat.le_of_ble_eq_true rfl, Nat.le_of_ble_eq_true rfl⟩) mM_0 rfl rfl rfl (Nat.le_of_ble_eq_true rfl) dX2_ifArrow_29 (fun M1 hp => ?_)
    clear h
    obtain ⟨w_un4, w_sf5, w_st6, w_ll7, w_ln8, w_ip9, rfl, h⟩ := hp
    refine y_aload_n C 0 rfl rfl dX2_ifArrow_32 ?_
    refine y_get (ci := 2) (k := 0) C in_X2 rfl (by decide) q1169 (fun _ h => h) mM_0 rfl dX2_ifArrow_33 ?_
    refine y_bipush C 111 dX2_ifArrow_36 y_b111 ?_
    refine y_iload_n C 2 rfl rfl dX2_ifArrow_38 ?_
    obtain ⟨i9, h⟩ := h
    replace h := h _ rfl
    refine y_iast C (mM_1 hd) i9 (mU_pg hd _) dX2_ifArrow_39 ?_
    refine y_aload_n C 0 rfl rfl dX2_ifArrow_40 ?_
    refine y_callVi0 C (metX2_lanes hd hB h) (cwV 0 C.hts (lw_V q1550 q1552 qs80 q91 q1553) rfl rfl rfl kdX2_lanes ⟨Nat.le_of_ble_eq_true rfl, Nat.le_of_ble_eq_true rfl⟩) mM_0 rfl rfl rfl (Nat.le_of_ble_eq_true rfl) dX2_ifArrow_41 (fun r11 M1 hp => ?_)
    clear h
    obtain ⟨rfl, h⟩ := hp
    exact y_ireti C hr rfl rfl ⟨_, _, _, _, _, _, _, rfl, h⟩ dX2_ifArrow_44
  · replace h := h.2 c9
    refine y_iconst C (-1) dX2_ifArrow_10 litm1 ?_
    exact y_ireti C hr rfl rfl ⟨_, _, _, _, _, _, _, rfl, h⟩ dX2_ifArrow_11
theorem kdX2_ifArrow : yX2_ifArrow.cls = RX2 ∧ yX2_ifArrow.cls ≠ "java/lang/invoke/MethodHandle" ∧ yX2_ifArrow.cls ≠ "java/lang/invoke/VarHandle" ∧ (parseMethodDescriptor yX2_ifArrow.desc).map (fun d => d.parameters.length) = some 1 := by decide +kernel
section sX2_units
variable {p : Program} {l : Launch} {e : Env} {s : State} {m : MethodId} {args : Array Value} {below : List Frame} {meth : Method} {c : Code} {D : va_G} {s0 : State} {a0 : Array Value} {A : Nat → Prop} {ad : Nat → Nat} {c_pg : Nat → Int32} {c_bm : Int32} {c_tx : Nat → Int32} {c_ty : Int32} {c_ft : Int32} {c_fa : Int32} {c_sp : Int32} {c_nu : Int32} {c_un : Nat → Int32} {c_sf : Nat → Int32} {c_st : Nat → Int32} {c_ll : Nat → Int32} {c_ln : Nat → Int32} {c_ip : Nat → Int32} {c_gr : Nat → Int32} {c_hs : Int64}
def wpX2_units_b30 (post : Int32 → Prop) (k4 : (Nat → Int32) → Int32 → Int32 → Prop) (c_pg : Nat → Int32) (v2 : Int32) (u0 : Int32) (u1 : Int32) : Prop := ∀ x2 : Int32, x2 = (u0 + u1) → ∀ x3 : Int32, x3 = v2 + 1 → k4 c_pg x2 x3
theorem okX2_units_b30 (C : yC p { frames := 3, cells := 0, slots := 0, locals := 108 } s m args meth c cX2_units 3 RX2 D s0 a0 A) (hB : yB D s0 a0) (hd : yAd ad) (hr : meth.sig.returnType = (some .int)) {post : Int32 → Prop} {k4 : (Nat → Int32) → Int32 → Int32 → Prop} (hk4 : ∀ (c_pg : Nat → Int32) (v1 : Int32) (v2 : Int32), k4 c_pg v1 v2 → Y p l e { frames := 3, cells := 0, slots := 0, locals := 108 } s m args below meth c (MQ below (yQi D s0 A (fun r M1 => M1 = mM ad c_pg c_bm c_tx c_ty c_ft c_fa c_sp c_nu c_un c_sf c_st c_ll c_ln c_ip c_gr c_hs ∧ post r)) args s 0 0 A) D s0 A 3 (mM ad c_pg c_bm c_tx c_ty c_ft c_fa c_sp c_nu c_un c_sf c_st c_ll c_ln c_ip c_gr c_hs) 0 0 [some (yr (some (ad 0))), some (yi v1), some (yi v2)] 4 []) : ∀ (c_pg : Nat → Int32) (v2 : Int32) (u0 : Int32) (u1 : Int32), wpX2_units_b30 post k4 c_pg v2 u0 u1 → Y p l e { frames := 3, cells := 0, slots := 0, locals := 108 } s m args below meth c (MQ below (yQi D s0 A (fun r M1 => M1 = mM ad c_pg c_bm c_tx c_ty c_ft c_fa c_sp c_nu c_un c_sf c_st c_ll c_ln c_ip c_gr c_hs ∧ post r)) args s 0 0 A) D s0 A 3 (mM ad c_pg c_bm c_tx c_ty c_ft c_fa c_sp c_nu c_un c_sf c_st c_ll c_ln c_ip c_gr c_hs) 0 0 [some (yr (some (ad 0))), none, some (yi v2)] 30 [yi u1, yi u0] := by
  intro c_pg v2 u0 u1 h
  rw [wpX2_units_b30] at h
  refine y_iadd C dX2_units_30 ?_
  replace h := h _ rfl
  refine y_istore_n C 1 rfl (by decide) dX2_units_31 ?_
  replace h := h _ rfl
  refine y_iinc C 2 _ rfl (y_inc1 _) (by decide) dX2_units_32 ?_
  refine y_goto C 4 dX2_units_35 (by decide) ?_
  refine y_to C _ ?_ (hk4 _ _ _ h)
  exact (And.intro rfl (And.intro rfl (And.intro rfl trivial)))
def wpX2_units_b4 (post : Int32 → Prop) : Nat → (Nat → Int32) → Int32 → Int32 → Prop
  | 0, _, _, _ => False
  | nn + 1, c_pg, v1, v2 => vp_in 13 1120 ∧ (((c_pg (Int32.toNatClampNeg 13)) ≤ v2 → post v1) ∧ (¬ (c_pg (Int32.toNatClampNeg 13)) ≤ v2 → wpX2_unitOf c_pg v2 (fun r1 => ((¬ r1 = v2 → wpX2_units_b30 post (fun c_pg v1 v2 => wpX2_units_b4 post nn c_pg v1 v2) c_pg v2 v1 0) ∧ (r1 = v2 → wpX2_units_b30 post (fun c_pg v1 v2 => wpX2_units_b4 post nn c_pg v1 v2) c_pg v2 v1 1)))))
theorem okX2_units_b4 (C : yC p { frames := 3, cells := 0, slots := 0, locals := 108 } s m args meth c cX2_units 3 RX2 D s0 a0 A) (hB : yB D s0 a0) (hd : yAd ad) (hr : meth.sig.returnType = (some .int)) {post : Int32 → Prop}  : ∀ (nn : Nat) (c_pg : Nat → Int32) (v1 : Int32) (v2 : Int32), wpX2_units_b4 post nn c_pg v1 v2 → Y p l e { frames := 3, cells := 0, slots := 0, locals := 108 } s m args below meth c (MQ below (yQi D s0 A (fun r M1 => M1 = mM ad c_pg c_bm c_tx c_ty c_ft c_fa c_sp c_nu c_un c_sf c_st c_ll c_ln c_ip c_gr c_hs ∧ post r)) args s 0 0 A) D s0 A 3 (mM ad c_pg c_bm c_tx c_ty c_ft c_fa c_sp c_nu c_un c_sf c_st c_ll c_ln c_ip c_gr c_hs) 0 0 [some (yr (some (ad 0))), some (yi v1), some (yi v2)] 4 [] := by
  intro nn
  induction nn with
  | zero => intro c_pg v1 v2 h; exact absurd h (by rw [wpX2_units_b4]; exact id)
  | succ nn ih =>
    intro c_pg v1 v2 h
    rw [wpX2_units_b4] at h
    refine y_iload_n C 2 rfl rfl dX2_units_4 ?_
    refine y_aload_n C 0 rfl rfl dX2_units_5 ?_
    refine y_get (ci := 2) (k := 0) C in_X2 rfl (by decide) q1169 (fun _ h => h) mM_0 rfl dX2_units_6 ?_
    refine y_bipush C 13 dX2_units_9 y_b13 ?_
    obtain ⟨i9, h⟩ := h
    refine y_iald C (mM_1 hd) i9 dX2_units_11 ?_
    refine y_icmp_ge C 38 dX2_units_12 (by decide) (fun c9 => ?_) (fun c9 => ?_)
    · replace h := h.1 c9
      refine y_iload_n C 1 rfl rfl dX2_units_38 ?_
      exact y_ireti C hr rfl rfl ⟨rfl, h⟩ dX2_units_39
    · replace h := h.2 c9
      refine y_iload_n C 1 rfl rfl dX2_units_15 ?_
      refine y_aload_n C 0 rfl rfl dX2_units_16 ?_
      refine y_iload_n C 2 rfl rfl dX2_units_17 ?_
      refine y_callVi0 C (metX2_unitOf hd hB h) (cwV 1 C.hts (lw_V q1423 q1425 qs57 q91 q1426) rfl rfl rfl kdX2_unitOf ⟨Nat.le_of_ble_eq_true rfl, Nat.le_of_ble_eq_true rfl⟩) mM_0 rfl rfl rfl (Nat.le_of_ble_eq_true rfl) dX2_units_18 (fun r1 M1 hp => ?_)
      clear h
      obtain ⟨rfl, h⟩ := hp
      refine y_iload_n C 2 rfl rfl dX2_units_21 ?_
      refine y_icmp_ne C 29 dX2_units_22 (by decide) (fun c9 => ?_) (fun c9 => ?_)
      · replace h := h.1 c9
        refine y_iconst C 0 dX2_units_29 lit0 ?_
        refine y_to C _ ?_ (okX2_units_b30 C hB hd hr ih _ _ _ _ h)
        exact (And.intro rfl (And.intro rfl trivial))
      · replace h := h.2 c9
        refine y_iconst C 1 dX2_units_25 lit1 ?_
        refine y_goto C 30 dX2_units_26 (by decide) ?_
        refine y_to C _ ?_ (okX2_units_b30 C hB hd hr ih _ _ _ _ h)
        exact (And.intro rfl (And.intro rfl trivial))
end sX2_units
def wpX2_units (c_pg : Nat → Int32)  (post : Int32 → Prop) : Prop := ∃ nf9 : Nat, wpX2_units_b4 post nf9 c_pg 0 0
theorem metX2_units {l : Launch} {D : va_G} {s0 : State} {a0 : Array Value} {ad : Nat → Nat} (hd : yAd ad) (hB : yB D s0 a0) {c_pg : Nat → Int32} {c_bm : Int32} {c_tx : Nat → Int32} {c_ty : Int32} {c_ft : Int32} {c_fa : Int32} {c_sp : Int32} {c_nu : Int32} {c_un : Nat → Int32} {c_sf : Nat → Int32} {c_st : Nat → Int32} {c_ll : Nat → Int32} {c_ln : Nat → Int32} {c_ip : Nat → Int32} {c_gr : Nat → Int32} {c_hs : Int64}  {post : Int32 → Prop} (h : wpX2_units c_pg  post) : yMi l yX2_units (ws_ yX2_units cX2_units 3 (some .int)) 3 108 0 0 D s0 [yr (some (ad 0))] (mM ad c_pg c_bm c_tx c_ty c_ft c_fa c_sp c_nu c_un c_sf c_st c_ll c_ln c_ip c_gr c_hs) (fun r M1 => M1 = mM ad c_pg c_bm c_tx c_ty c_ft c_fa c_sp c_nu c_un c_sf c_st c_ll c_ln c_ip c_gr c_hs ∧ post r) := by
  refine y_meti hB (by decide) rfl (Nat.le_of_ble_eq_true rfl) ?_
  intro p e s m below meth c A hr hnm C
  rw [wpX2_units] at h
  refine y_iconst C 0 dX2_units_0 lit0 ?_
  refine y_istore_n C 1 rfl (by decide) dX2_units_1 ?_
  refine y_iconst C 0 dX2_units_2 lit0 ?_
  refine y_istore_n C 2 rfl (by decide) dX2_units_3 ?_
  obtain ⟨nf9, h⟩ := h
  refine y_to C _ ?_ (okX2_units_b4 C hB hd hr  nf9 _ _ _ h)
  exact (And.intro rfl (And.intro rfl (And.intro rfl trivial)))
theorem kdX2_units : yX2_units.cls = RX2 ∧ yX2_units.cls ≠ "java/lang/invoke/MethodHandle" ∧ yX2_units.cls ≠ "java/lang/invoke/VarHandle" ∧ (parseMethodDescriptor yX2_units.desc).map (fun d => d.parameters.length) = some 0 := by decide +kernel
section sX2_groups
variable {p : Program} {l : Launch} {e : Env} {s : State} {m : MethodId} {args : Array Value} {below : List Frame} {meth : Method} {c : Code} {D : va_G} {s0 : State} {a0 : Array Value} {A : Nat → Prop} {ad : Nat → Nat} {c_pg : Nat → Int32} {c_bm : Int32} {c_tx : Nat → Int32} {c_ty : Int32} {c_ft : Int32} {c_fa : Int32} {c_sp : Int32} {c_nu : Int32} {c_un : Nat → Int32} {c_sf : Nat → Int32} {c_st : Nat → Int32} {c_ll : Nat → Int32} {c_ln : Nat → Int32} {c_ip : Nat → Int32} {c_gr : Nat → Int32} {c_hs : Int64}
def wpX2_groups_b36 (post : Int32 → (Nat → Int32) → Prop) (k12 : (Nat → Int32) → (Nat → Int32) → Int32 → Int32 → Prop) (c_pg : Nat → Int32) (c_gr : Nat → Int32) (v2 : Int32) (u0 : Int32) (u1 : Int32) : Prop := ∀ x3 : Int32, x3 = (u0 + u1) → ∀ x4 : Int32, x4 = v2 + 1 → k12 c_pg c_gr x3 x4
theorem okX2_groups_b36 (C : yC p { frames := 5, cells := 0, slots := 0, locals := 154 } s m args meth c cX2_groups 3 RX2 D s0 a0 A) (hB : yB D s0 a0) (hd : yAd ad) (hr : meth.sig.returnType = (some .int)) {post : Int32 → (Nat → Int32) → Prop} {k12 : (Nat → Int32) → (Nat → Int32) → Int32 → Int32 → Prop} (hk12 : ∀ (c_pg : Nat → Int32) (c_gr : Nat → Int32) (v1 : Int32) (v2 : Int32), k12 c_pg c_gr v1 v2 → Y p l e { frames := 5, cells := 0, slots := 0, locals := 154 } s m args below meth c (MQ below (yQi D s0 A (fun r M1 => ∃ (w_gr : Nat → Int32), M1 = mM ad c_pg c_bm c_tx c_ty c_ft c_fa c_sp c_nu c_un c_sf c_st c_ll c_ln c_ip w_gr c_hs ∧ post r w_gr)) args s 0 0 A) D s0 A 3 (mM ad c_pg c_bm c_tx c_ty c_ft c_fa c_sp c_nu c_un c_sf c_st c_ll c_ln c_ip c_gr c_hs) 0 0 [some (yr (some (ad 0))), some (yi v1), some (yi v2)] 12 []) : ∀ (c_pg : Nat → Int32) (c_gr : Nat → Int32) (v2 : Int32) (u0 : Int32) (u1 : Int32), wpX2_groups_b36 post k12 c_pg c_gr v2 u0 u1 → Y p l e { frames := 5, cells := 0, slots := 0, locals := 154 } s m args below meth c (MQ below (yQi D s0 A (fun r M1 => ∃ (w_gr : Nat → Int32), M1 = mM ad c_pg c_bm c_tx c_ty c_ft c_fa c_sp c_nu c_un c_sf c_st c_ll c_ln c_ip w_gr c_hs ∧ post r w_gr)) args s 0 0 A) D s0 A 3 (mM ad c_pg c_bm c_tx c_ty c_ft c_fa c_sp c_nu c_un c_sf c_st c_ll c_ln c_ip c_gr c_hs) 0 0 [some (yr (some (ad 0))), none, some (yi v2)] 36 [yi u1, yi u0] := by
  intro c_pg c_gr v2 u0 u1 h
  rw [wpX2_groups_b36] at h
  refine y_iadd C dX2_groups_36 ?_
  replace h := h _ rfl
  refine y_istore_n C 1 rfl (by decide) dX2_groups_37 ?_
  replace h := h _ rfl
  refine y_iinc C 2 _ rfl (y_inc1 _) (by decide) dX2_groups_38 ?_
  refine y_goto C 12 dX2_groups_41 (by decide) ?_
  refine y_to C _ ?_ (hk12 _ _ _ _ h)
  exact (And.intro rfl (And.intro rfl (And.intro rfl trivial)))
def wpX2_groups_b12 (post : Int32 → (Nat → Int32) → Prop) : Nat → (Nat → Int32) → (Nat → Int32) → Int32 → Int32 → Prop
  | 0, _, _, _, _ => False
  | nn + 1, c_pg, c_gr, v1, v2 => vp_in 0 1120 ∧ (((c_pg (Int32.toNatClampNeg 0)) ≤ v2 → post v1 c_gr) ∧ (¬ (c_pg (Int32.toNatClampNeg 0)) ≤ v2 → wpX2_isFirst c_gr v2 (fun r2 => ((r2 = 0 → wpX2_groups_b36 post (fun c_pg c_gr v1 v2 => wpX2_groups_b12 post nn c_pg c_gr v1 v2) c_pg c_gr v2 v1 0) ∧ (¬ r2 = 0 → wpX2_groups_b36 post (fun c_pg c_gr v1 v2 => wpX2_groups_b12 post nn c_pg c_gr v1 v2) c_pg c_gr v2 v1 1)))))
theorem okX2_groups_b12 (C : yC p { frames := 5, cells := 0, slots := 0, locals := 154 } s m args meth c cX2_groups 3 RX2 D s0 a0 A) (hB : yB D s0 a0) (hd : yAd ad) (hr : meth.sig.returnType = (some .int)) {post : Int32 → (Nat → Int32) → Prop}  : ∀ (nn : Nat) (c_pg : Nat → Int32) (c_gr : Nat → Int32) (v1 : Int32) (v2 : Int32), wpX2_groups_b12 post nn c_pg c_gr v1 v2 → Y p l e { frames := 5, cells := 0, slots := 0, locals := 154 } s m args below meth c (MQ below (yQi D s0 A (fun r M1 => ∃ (w_gr : Nat → Int32), M1 = mM ad c_pg c_bm c_tx c_ty c_ft c_fa c_sp c_nu c_un c_sf c_st c_ll c_ln c_ip w_gr c_hs ∧ post r w_gr)) args s 0 0 A) D s0 A 3 (mM ad c_pg c_bm c_tx c_ty c_ft c_fa c_sp c_nu c_un c_sf c_st c_ll c_ln c_ip c_gr c_hs) 0 0 [some (yr (some (ad 0))), some (yi v1), some (yi v2)] 12 [] := by
  intro nn
  induction nn with
  | zero => intro c_pg c_gr v1 v2 h; exact absurd h (by rw [wpX2_groups_b12]; exact id)
  | succ nn ih =>
    intro c_pg c_gr v1 v2 h
    rw [wpX2_groups_b12] at h
    refine y_iload_n C 2 rfl rfl dX2_groups_12 ?_
    refine y_aload_n C 0 rfl rfl dX2_groups_13 ?_
    refine y_get (ci := 2) (k := 0) C in_X2 rfl (by decide) q1169 (fun _ h => h) mM_0 rfl dX2_groups_14 ?_
    refine y_iconst C 0 dX2_groups_17 lit0 ?_
    obtain ⟨i9, h⟩ := h
    refine y_iald C (mM_1 hd) i9 dX2_groups_18 ?_
    refine y_icmp_ge C 44 dX2_groups_19 (by decide) (fun c9 => ?_) (fun c9 => ?_)
    · replace h := h.1 c9
      refine y_iload_n C 1 rfl rfl dX2_groups_44 ?_
      exact y_ireti C hr rfl rfl ⟨_, rfl, h⟩ dX2_groups_45
    · replace h := h.2 c9
      refine y_iload_n C 1 rfl rfl dX2_groups_22 ?_
      refine y_aload_n C 0 rfl rfl dX2_groups_23 ?_
      refine y_iload_n C 2 rfl rfl dX2_groups_24 ?_
      refine y_callVi0 C (metX2_isFirst hd hB h) (cwV 1 C.hts (lw_V q1411 q1413 qs54 q91 q1414) rfl rfl rfl kdX2_isFirst ⟨Nat.le_of_ble_eq_true rfl, Nat.le_of_ble_eq_true rfl⟩) mM_0 rfl rfl rfl (Nat.le_of_ble_eq_true rfl) dX2_groups_25 (fun r2 M1 hp => ?_)
      clear h
      obtain ⟨rfl, h⟩ := hp
      refine y_if_eq C 35 dX2_groups_28 (by decide) (fun c9 => ?_) (fun c9 => ?_)
      · replace h := h.1 c9
        refine y_iconst C 0 dX2_groups_35 lit0 ?_
        refine y_to C _ ?_ (okX2_groups_b36 C hB hd hr ih _ _ _ _ _ h)
        exact (And.intro rfl (And.intro rfl trivial))
      · replace h := h.2 c9
        refine y_iconst C 1 dX2_groups_31 lit1 ?_
        refine y_goto C 36 dX2_groups_32 (by decide) ?_
        refine y_to C _ ?_ (okX2_groups_b36 C hB hd hr ih _ _ _ _ _ h)
        exact (And.intro rfl (And.intro rfl trivial))
end sX2_groups
def wpX2_groups (c_pg : Nat → Int32) (c_gr : Nat → Int32)  (post : Int32 → (Nat → Int32) → Prop) : Prop := wpX2_laysDistances c_pg c_gr 0 (-999) (fun w_gr1 => ∃ nf9 : Nat, wpX2_groups_b12 post nf9 c_pg w_gr1 0 0)
theorem metX2_groups {l : Launch} {D : va_G} {s0 : State} {a0 : Array Value} {ad : Nat → Nat} (hd : yAd ad) (hB : yB D s0 a0) {c_pg : Nat → Int32} {c_bm : Int32} {c_tx : Nat → Int32} {c_ty : Int32} {c_ft : Int32} {c_fa : Int32} {c_sp : Int32} {c_nu : Int32} {c_un : Nat → Int32} {c_sf : Nat → Int32} {c_st : Nat → Int32} {c_ll : Nat → Int32} {c_ln : Nat → Int32} {c_ip : Nat → Int32} {c_gr : Nat → Int32} {c_hs : Int64}  {post : Int32 → (Nat → Int32) → Prop} (h : wpX2_groups c_pg c_gr  post) : yMi l yX2_groups (ws_ yX2_groups cX2_groups 3 (some .int)) 5 154 0 0 D s0 [yr (some (ad 0))] (mM ad c_pg c_bm c_tx c_ty c_ft c_fa c_sp c_nu c_un c_sf c_st c_ll c_ln c_ip c_gr c_hs) (fun r M1 => ∃ (w_gr : Nat → Int32), M1 = mM ad c_pg c_bm c_tx c_ty c_ft c_fa c_sp c_nu c_un c_sf c_st c_ll c_ln c_ip w_gr c_hs ∧ post r w_gr) := by
  refine y_meti hB (by decide) rfl (Nat.le_of_ble_eq_true rfl) ?_
  intro p e s m below meth c A hr hnm C
  rw [wpX2_groups] at h
  refine y_aload_n C 0 rfl rfl dX2_groups_0 ?_
  refine y_iconst C 0 dX2_groups_1 lit0 ?_
  refine y_sipush C (-999) dX2_groups_2 y_sm999 ?_
  refine y_callVv0 C (metX2_laysDistances hd hB h) (cwV 2 C.hts (lw_V q1378 q1380 qs46 q91 q1381) rfl rfl rfl kdX2_laysDistances ⟨Nat.le_of_ble_eq_true rfl, Nat.le_of_ble_eq_true rfl⟩) mM_0 rfl rfl rfl (Nat.le_of_ble_eq_true rfl) dX2_groups_5 (fun M1 hp => ?_)
  clear h
  obtain ⟨w_gr1, rfl, h⟩ := hp
  refine y_iconst C 0 dX2_groups_8 lit0 ?_
  refine y_istore_n C 1 rfl (by decide) dX2_groups_9 ?_
  refine y_iconst C 0 dX2_groups_10 lit0 ?_
  refine y_istore_n C 2 rfl (by decide) dX2_groups_11 ?_
  obtain ⟨nf9, h⟩ := h
  refine y_to C _ ?_ (okX2_groups_b12 C hB hd hr  nf9 _ _ _ _ h)
  exact (And.intro rfl (And.intro rfl (And.intro rfl trivial)))
theorem kdX2_groups : yX2_groups.cls = RX2 ∧ yX2_groups.cls ≠ "java/lang/invoke/MethodHandle" ∧ yX2_groups.cls ≠ "java/lang/invoke/VarHandle" ∧ (parseMethodDescriptor yX2_groups.desc).map (fun d => d.parameters.length) = some 0 := by decide +kernel
section sX2_superfluous
variable {p : Program} {l : Launch} {e : Env} {s : State} {m : MethodId} {args : Array Value} {below : List Frame} {meth : Method} {c : Code} {D : va_G} {s0 : State} {a0 : Array Value} {A : Nat → Prop} {ad : Nat → Nat} {c_pg : Nat → Int32} {c_bm : Int32} {c_tx : Nat → Int32} {c_ty : Int32} {c_ft : Int32} {c_fa : Int32} {c_sp : Int32} {c_nu : Int32} {c_un : Nat → Int32} {c_sf : Nat → Int32} {c_st : Nat → Int32} {c_ll : Nat → Int32} {c_ln : Nat → Int32} {c_ip : Nat → Int32} {c_gr : Nat → Int32} {c_hs : Int64}
def wpX2_superfluous_b30 (post : Int32 → (Nat → Int32) → Prop) (k4 : (Nat → Int32) → (Nat → Int32) → Int32 → Int32 → Prop) (c_pg : Nat → Int32) (c_gr : Nat → Int32) (v2 : Int32) (u0 : Int32) (u1 : Int32) : Prop := ∀ x3 : Int32, x3 = (u0 + u1) → ∀ x4 : Int32, x4 = v2 + 1 → k4 c_pg c_gr x3 x4
theorem okX2_superfluous_b30 (C : yC p { frames := 6, cells := 0, slots := 0, locals := 178 } s m args meth c cX2_superfluous 3 RX2 D s0 a0 A) (hB : yB D s0 a0) (hd : yAd ad) (hr : meth.sig.returnType = (some .int)) {post : Int32 → (Nat → Int32) → Prop} {k4 : (Nat → Int32) → (Nat → Int32) → Int32 → Int32 → Prop} (hk4 : ∀ (c_pg : Nat → Int32) (c_gr : Nat → Int32) (v1 : Int32) (v2 : Int32), k4 c_pg c_gr v1 v2 → Y p l e { frames := 6, cells := 0, slots := 0, locals := 178 } s m args below meth c (MQ below (yQi D s0 A (fun r M1 => ∃ (w_gr : Nat → Int32), M1 = mM ad c_pg c_bm c_tx c_ty c_ft c_fa c_sp c_nu c_un c_sf c_st c_ll c_ln c_ip w_gr c_hs ∧ post r w_gr)) args s 0 0 A) D s0 A 3 (mM ad c_pg c_bm c_tx c_ty c_ft c_fa c_sp c_nu c_un c_sf c_st c_ll c_ln c_ip c_gr c_hs) 0 0 [some (yr (some (ad 0))), some (yi v1), some (yi v2)] 4 []) : ∀ (c_pg : Nat → Int32) (c_gr : Nat → Int32) (v2 : Int32) (u0 : Int32) (u1 : Int32), wpX2_superfluous_b30 post k4 c_pg c_gr v2 u0 u1 → Y p l e { frames := 6, cells := 0, slots := 0, locals := 178 } s m args below meth c (MQ below (yQi D s0 A (fun r M1 => ∃ (w_gr : Nat → Int32), M1 = mM ad c_pg c_bm c_tx c_ty c_ft c_fa c_sp c_nu c_un c_sf c_st c_ll c_ln c_ip w_gr c_hs ∧ post r w_gr)) args s 0 0 A) D s0 A 3 (mM ad c_pg c_bm c_tx c_ty c_ft c_fa c_sp c_nu c_un c_sf c_st c_ll c_ln c_ip c_gr c_hs) 0 0 [some (yr (some (ad 0))), none, some (yi v2)] 30 [yi u1, yi u0] := by
  intro c_pg c_gr v2 u0 u1 h
  rw [wpX2_superfluous_b30] at h
  refine y_iadd C dX2_superfluous_30 ?_
  replace h := h _ rfl
  refine y_istore_n C 1 rfl (by decide) dX2_superfluous_31 ?_
  replace h := h _ rfl
  refine y_iinc C 2 _ rfl (y_inc1 _) (by decide) dX2_superfluous_32 ?_
  refine y_goto C 4 dX2_superfluous_35 (by decide) ?_
  refine y_to C _ ?_ (hk4 _ _ _ _ h)
  exact (And.intro rfl (And.intro rfl (And.intro rfl trivial)))
def wpX2_superfluous_b4 (post : Int32 → (Nat → Int32) → Prop) : Nat → (Nat → Int32) → (Nat → Int32) → Int32 → Int32 → Prop
  | 0, _, _, _, _ => False
  | nn + 1, c_pg, c_gr, v1, v2 => vp_in 13 1120 ∧ (((c_pg (Int32.toNatClampNeg 13)) ≤ v2 → post v1 c_gr) ∧ (¬ (c_pg (Int32.toNatClampNeg 13)) ≤ v2 → wpX2_isSuperfluous c_pg c_gr v2 0 (fun r2 w_gr1 => ((r2 = 0 → wpX2_superfluous_b30 post (fun c_pg c_gr v1 v2 => wpX2_superfluous_b4 post nn c_pg c_gr v1 v2) c_pg w_gr1 v2 v1 0) ∧ (¬ r2 = 0 → wpX2_superfluous_b30 post (fun c_pg c_gr v1 v2 => wpX2_superfluous_b4 post nn c_pg c_gr v1 v2) c_pg w_gr1 v2 v1 1)))))
theorem okX2_superfluous_b4 (C : yC p { frames := 6, cells := 0, slots := 0, locals := 178 } s m args meth c cX2_superfluous 3 RX2 D s0 a0 A) (hB : yB D s0 a0) (hd : yAd ad) (hr : meth.sig.returnType = (some .int)) {post : Int32 → (Nat → Int32) → Prop}  : ∀ (nn : Nat) (c_pg : Nat → Int32) (c_gr : Nat → Int32) (v1 : Int32) (v2 : Int32), wpX2_superfluous_b4 post nn c_pg c_gr v1 v2 → Y p l e { frames := 6, cells := 0, slots := 0, locals := 178 } s m args below meth c (MQ below (yQi D s0 A (fun r M1 => ∃ (w_gr : Nat → Int32), M1 = mM ad c_pg c_bm c_tx c_ty c_ft c_fa c_sp c_nu c_un c_sf c_st c_ll c_ln c_ip w_gr c_hs ∧ post r w_gr)) args s 0 0 A) D s0 A 3 (mM ad c_pg c_bm c_tx c_ty c_ft c_fa c_sp c_nu c_un c_sf c_st c_ll c_ln c_ip c_gr c_hs) 0 0 [some (yr (some (ad 0))), some (yi v1), some (yi v2)] 4 [] := by
  intro nn
  induction nn with
  | zero => intro c_pg c_gr v1 v2 h; exact absurd h (by rw [wpX2_superfluous_b4]; exact id)
  | succ nn ih =>
    intro c_pg c_gr v1 v2 h
    rw [wpX2_superfluous_b4] at h
    refine y_iload_n C 2 rfl rfl dX2_superfluous_4 ?_
    refine y_aload_n C 0 rfl rfl dX2_superfluous_5 ?_
    refine y_get (ci := 2) (k := 0) C in_X2 rfl (by decide) q1169 (fun _ h => h) mM_0 rfl dX2_superfluous_6 ?_
    refine y_bipush C 13 dX2_superfluous_9 y_b13 ?_
    obtain ⟨i9, h⟩ := h
    refine y_iald C (mM_1 hd) i9 dX2_superfluous_11 ?_
    refine y_icmp_ge C 38 dX2_superfluous_12 (by decide) (fun c9 => ?_) (fun c9 => ?_)
    · replace h := h.1 c9
      refine y_iload_n C 1 rfl rfl dX2_superfluous_38 ?_
      exact y_ireti C hr rfl rfl ⟨_, rfl, h⟩ dX2_superfluous_39
    · replace h := h.2 c9
      refine y_iload_n C 1 rfl rfl dX2_superfluous_15 ?_
      refine y_aload_n C 0 rfl rfl dX2_superfluous_16 ?_
      refine y_iload_n C 2 rfl rfl dX2_superfluous_17 ?_
      refine y_iconst C 0 dX2_superfluous_18 lit0 ?_
      refine y_callVi0 C (metX2_isSuperfluous hd hB h) (cwV 2 C.hts (lw_V q1483 q1485 qs71 q91 q1486) rfl rfl rfl kdX2_isSuperfluous ⟨Nat.le_of_ble_eq_true rfl, Nat.le_of_ble_eq_true rfl⟩) mM_0 rfl rfl rfl (Nat.le_of_ble_eq_true rfl) dX2_superfluous_19 (fun r2 M1 hp => ?_)
      clear h
      obtain ⟨w_gr1, rfl, h⟩ := hp
      refine y_if_eq C 29 dX2_superfluous_22 (by decide) (fun c9 => ?_) (fun c9 => ?_)
      · replace h := h.1 c9
        refine y_iconst C 0 dX2_superfluous_29 lit0 ?_
        refine y_to C _ ?_ (okX2_superfluous_b30 C hB hd hr ih _ _ _ _ _ h)
        exact (And.intro rfl (And.intro rfl trivial))
      · replace h := h.2 c9
        refine y_iconst C 1 dX2_superfluous_25 lit1 ?_
        refine y_goto C 30 dX2_superfluous_26 (by decide) ?_
        refine y_to C _ ?_ (okX2_superfluous_b30 C hB hd hr ih _ _ _ _ _ h)
        exact (And.intro rfl (And.intro rfl trivial))
end sX2_superfluous
def wpX2_superfluous (c_pg : Nat → Int32) (c_gr : Nat → Int32)  (post : Int32 → (Nat → Int32) → Prop) : Prop := ∃ nf9 : Nat, wpX2_superfluous_b4 post nf9 c_pg c_gr 0 0
theorem metX2_superfluous {l : Launch} {D : va_G} {s0 : State} {a0 : Array Value} {ad : Nat → Nat} (hd : yAd ad) (hB : yB D s0 a0) {c_pg : Nat → Int32} {c_bm : Int32} {c_tx : Nat → Int32} {c_ty : Int32} {c_ft : Int32} {c_fa : Int32} {c_sp : Int32} {c_nu : Int32} {c_un : Nat → Int32} {c_sf : Nat → Int32} {c_st : Nat → Int32} {c_ll : Nat → Int32} {c_ln : Nat → Int32} {c_ip : Nat → Int32} {c_gr : Nat → Int32} {c_hs : Int64}  {post : Int32 → (Nat → Int32) → Prop} (h : wpX2_superfluous c_pg c_gr  post) : yMi l yX2_superfluous (ws_ yX2_superfluous cX2_superfluous 3 (some .int)) 6 178 0 0 D s0 [yr (some (ad 0))] (mM ad c_pg c_bm c_tx c_ty c_ft c_fa c_sp c_nu c_un c_sf c_st c_ll c_ln c_ip c_gr c_hs) (fun r M1 => ∃ (w_gr : Nat → Int32), M1 = mM ad c_pg c_bm c_tx c_ty c_ft c_fa c_sp c_nu c_un c_sf c_st c_ll c_ln c_ip w_gr c_hs ∧ post r w_gr) := by
  refine y_meti hB (by decide) rfl (Nat.le_of_ble_eq_true rfl) ?_
  intro p e s m below meth c A hr hnm C
  rw [wpX2_superfluous] at h
  refine y_iconst C 0 dX2_superfluous_0 lit0 ?_
  refine y_istore_n C 1 rfl (by decide) dX2_superfluous_1 ?_
  refine y_iconst C 0 dX2_superfluous_2 lit0 ?_
  refine y_istore_n C 2 rfl (by decide) dX2_superfluous_3 ?_
  obtain ⟨nf9, h⟩ := h
  refine y_to C _ ?_ (okX2_superfluous_b4 C hB hd hr  nf9 _ _ _ _ h)
  exact (And.intro rfl (And.intro rfl (And.intro rfl trivial)))
theorem kdX2_superfluous : yX2_superfluous.cls = RX2 ∧ yX2_superfluous.cls ≠ "java/lang/invoke/MethodHandle" ∧ yX2_superfluous.cls ≠ "java/lang/invoke/VarHandle" ∧ (parseMethodDescriptor yX2_superfluous.desc).map (fun d => d.parameters.length) = some 0 := by decide +kernel
def wpX2_count (c_pg : Nat → Int32) (c_bm : Int32) (c_ty : Int32) (c_un : Nat → Int32) (c_sf : Nat → Int32) (c_st : Nat → Int32) (c_ll : Nat → Int32) (c_ln : Nat → Int32) (c_ip : Nat → Int32) (c_gr : Nat → Int32) (a1 : Int32) (post : Int32 → (Nat → Int32) → (Nat → Int32) → (Nat → Int32) → (Nat → Int32) → (Nat → Int32) → (Nat → Int32) → (Nat → Int32) → Prop) : Prop := wpX2_laysLanes c_pg c_un c_sf c_st c_ll c_ln c_ip (fun w_un1 w_sf2 w_st3 w_ll4 w_ln5 w_ip6 => ((a1 = 0 → vp_in 0 1120 ∧ post (c_pg (Int32.toNatClampNeg 0)) w_un1 w_sf2 w_st3 w_ll4 w_ln5 w_ip6 c_gr) ∧ (a1 = 1 → vp_in 13 1120 ∧ post (c_pg (Int32.toNatClampNeg 13)) w_un1 w_sf2 w_st3 w_ll4 w_ln5 w_ip6 c_gr) ∧ (a1 = 2 → wpX2_units c_pg (fun r7 => post r7 w_un1 w_sf2 w_st3 w_ll4 w_ln5 w_ip6 c_gr)) ∧ (a1 = 3 → wpX2_lanes c_pg w_un1 w_ln5 (fun r8 => post r8 w_un1 w_sf2 w_st3 w_ll4 w_ln5 w_ip6 c_gr)) ∧ (a1 = 4 → wpX2_crossings c_pg w_un1 w_ln5 (-999) (-999) (fun r9 => post r9 w_un1 w_sf2 w_st3 w_ll4 w_ln5 w_ip6 c_gr)) ∧ (a1 = 5 → wpX2_groups c_pg c_gr (fun r11 w_gr10 => post r11 w_un1 w_sf2 w_st3 w_ll4 w_ln5 w_ip6 w_gr10)) ∧ (a1 = 6 → wpX2_superfluous c_pg c_gr (fun r13 w_gr12 => post r13 w_un1 w_sf2 w_st3 w_ll4 w_ln5 w_ip6 w_gr12)) ∧ (a1 = 7 → vp_in 110 1120 ∧ post (c_pg (Int32.toNatClampNeg 110)) w_un1 w_sf2 w_st3 w_ll4 w_ln5 w_ip6 c_gr) ∧ (a1 = 8 → vp_in 111 1120 ∧ post (c_pg (Int32.toNatClampNeg 111)) w_un1 w_sf2 w_st3 w_ll4 w_ln5 w_ip6 c_gr) ∧ (a1 = 9 → post c_ty w_un1 w_sf2 w_st3 w_ll4 w_ln5 w_ip6 c_gr) ∧ (a1 = 10 → post c_bm w_un1 w_sf2 w_st3 w_ll4 w_ln5 w_ip6 c_gr) ∧ (¬ a1 = 0 ∧ ¬ a1 = 1 ∧ ¬ a1 = 2 ∧ ¬ a1 = 3 ∧ ¬ a1 = 4 ∧ ¬ a1 = 5 ∧ ¬ a1 = 6 ∧ ¬ a1 = 7 ∧ ¬ a1 = 8 ∧ ¬ a1 = 9 ∧ ¬ a1 = 10 → post (-1) w_un1 w_sf2 w_st3 w_ll4 w_ln5 w_ip6 c_gr)))
theorem metX2_count {l : Launch} {D : va_G} {s0 : State} {a0 : Array Value} {ad : Nat → Nat} (hd : yAd ad) (hB : yB D s0 a0) {c_pg : Nat → Int32} {c_bm : Int32} {c_tx : Nat → Int32} {c_ty : Int32} {c_ft : Int32} {c_fa : Int32} {c_sp : Int32} {c_nu : Int32} {c_un : Nat → Int32} {c_sf : Nat → Int32} {c_st : Nat → Int32} {c_ll : Nat → Int32} {c_ln : Nat → Int32} {c_ip : Nat → Int32} {c_gr : Nat → Int32} {c_hs : Int64} {a1 : Int32} {post : Int32 → (Nat → Int32) → (Nat → Int32) → (Nat → Int32) → (Nat → Int32) → (Nat → Int32) → (Nat → Int32) → (Nat → Int32) → Prop} (h : wpX2_count c_pg c_bm c_ty c_un c_sf c_st c_ll c_ln c_ip c_gr a1 post) : yMi l yX2_count (ws_ yX2_count cX2_count 2 (some .int)) 9 241 0 0 D s0 [yr (some (ad 0)), yi a1] (mM ad c_pg c_bm c_tx c_ty c_ft c_fa c_sp c_nu c_un c_sf c_st c_ll c_ln c_ip c_gr c_hs) (fun r M1 => ∃ (w_un : Nat → Int32) (w_sf : Nat → Int32) (w_st : Nat → Int32) (w_ll : Nat → Int32) (w_ln : Nat → Int32) (w_ip : Nat → Int32) (w_gr : Nat → Int32), M1 = mM ad c_pg c_bm c_tx c_ty c_ft c_fa c_sp c_nu w_un w_sf w_st w_ll w_ln w_ip w_gr c_hs ∧ post r w_un w_sf w_st w_ll w_ln w_ip w_gr) := by
  refine y_meti hB (by decide) rfl (Nat.le_of_ble_eq_true rfl) ?_
  intro p e s m below meth c A hr hnm C
  rw [wpX2_count] at h
  refine y_aload_n C 0 rfl rfl dX2_count_0 ?_
  refine y_callVv0 C (metX2_laysLanes hd hB h) (cwV 0 C.hts (lw_V q1415 q1417 qs55 q91 q1418) rfl rfl rfl kdX2_laysLanes ⟨Nat.le_of_ble_eq_true rfl, Nat.le_of_ble_eq_true rfl⟩) mM_0 rfl rfl rfl (Nat.le_of_ble_eq_true rfl) dX2_count_1 (fun M1 hp => ?_)
  clear h
  obtain ⟨w_un1, w_sf2, w_st3, w_ll4, w_ln5, w_ip6, rfl, h⟩ := hp
  refine y_iload_n C 1 rfl rfl dX2_count_4 ?_
  by_cases q9_0 : a1 = 0
  · replace h := h.1 q9_0
    refine y_tabIn C 64 dX2_count_5 (by rw [q9_0]; decide) (by rw [q9_0]; decide) (by rw [q9_0]; rfl) (by decide) ?_
    refine y_aload_n C 0 rfl rfl dX2_count_64 ?_
    refine y_get (ci := 2) (k := 0) C in_X2 rfl (by decide) q1169 (fun _ h => h) mM_0 rfl dX2_count_65 ?_
    refine y_iconst C 0 dX2_count_68 lit0 ?_
    obtain ⟨i9, h⟩ := h
    refine y_iald C (mM_1 hd) i9 dX2_count_69 ?_
    exact y_ireti C hr rfl rfl ⟨_, _, _, _, _, _, _, rfl, h⟩ dX2_count_70
  replace h := h.2
  by_cases q9_1 : a1 = 1
  · replace h := h.1 q9_1
    refine y_tabIn C 71 dX2_count_5 (by rw [q9_1]; decide) (by rw [q9_1]; decide) (by rw [q9_1]; rfl) (by decide) ?_
    refine y_aload_n C 0 rfl rfl dX2_count_71 ?_
    refine y_get (ci := 2) (k := 0) C in_X2 rfl (by decide) q1169 (fun _ h => h) mM_0 rfl dX2_count_72 ?_
    refine y_bipush C 13 dX2_count_75 y_b13 ?_
    obtain ⟨i9, h⟩ := h
    refine y_iald C (mM_1 hd) i9 dX2_count_77 ?_
    exact y_ireti C hr rfl rfl ⟨_, _, _, _, _, _, _, rfl, h⟩ dX2_count_78
  replace h := h.2
  by_cases q9_2 : a1 = 2
  · replace h := h.1 q9_2
    refine y_tabIn C 79 dX2_count_5 (by rw [q9_2]; decide) (by rw [q9_2]; decide) (by rw [q9_2]; rfl) (by decide) ?_
    refine y_aload_n C 0 rfl rfl dX2_count_79 ?_
    refine y_callVi0 C (metX2_units hd hB h) (cwV 0 C.hts (lw_V q1558 q1560 qs81 q91 q1561) rfl rfl rfl kdX2_units ⟨Nat.le_of_ble_eq_true rfl, Nat.le_of_ble_eq_true rfl⟩) mM_0 rfl rfl rfl (Nat.le_of_ble_eq_true rfl) dX2_count_80 (fun r7 M1 hp => ?_)
    clear h
    obtain ⟨rfl, h⟩ := hp
    exact y_ireti C hr rfl rfl ⟨_, _, _, _, _, _, _, rfl, h⟩ dX2_count_83
  replace h := h.2
  by_cases q9_3 : a1 = 3
  · replace h := h.1 q9_3
    refine y_tabIn C 84 dX2_count_5 (by rw [q9_3]; decide) (by rw [q9_3]; decide) (by rw [q9_3]; rfl) (by decide) ?_
    refine y_aload_n C 0 rfl rfl dX2_count_84 ?_
    refine y_callVi0 C (metX2_lanes hd hB h) (cwV 0 C.hts (lw_V q1550 q1552 qs80 q91 q1553) rfl rfl rfl kdX2_lanes ⟨Nat.le_of_ble_eq_true rfl, Nat.le_of_ble_eq_true rfl⟩) mM_0 rfl rfl rfl (Nat.le_of_ble_eq_true rfl) dX2_count_85 (fun r8 M1 hp => ?_)
    clear h
    obtain ⟨rfl, h⟩ := hp
    exact y_ireti C hr rfl rfl ⟨_, _, _, _, _, _, _, rfl, h⟩ dX2_count_88
  replace h := h.2
  by_cases q9_4 : a1 = 4
  · replace h := h.1 q9_4
    refine y_tabIn C 89 dX2_count_5 (by rw [q9_4]; decide) (by rw [q9_4]; decide) (by rw [q9_4]; rfl) (by decide) ?_
    refine y_aload_n C 0 rfl rfl dX2_count_89 ?_
    refine y_sipush C (-999) dX2_count_90 y_sm999 ?_
    refine y_sipush C (-999) dX2_count_93 y_sm999 ?_
    refine y_callVi0 C (metX2_crossings hd hB h) (cwV 2 C.hts (lw_V q1471 q1473 qs69 q91 q1474) rfl rfl rfl kdX2_crossings ⟨Nat.le_of_ble_eq_true rfl, Nat.le_of_ble_eq_true rfl⟩) mM_0 rfl rfl rfl (Nat.le_of_ble_eq_true rfl) dX2_count_96 (fun r9 M1 hp => ?_)
    clear h
    obtain ⟨rfl, h⟩ := hp
    exact y_ireti C hr rfl rfl ⟨_, _, _, _, _, _, _, rfl, h⟩ dX2_count_99
  replace h := h.2
  by_cases q9_5 : a1 = 5
  · replace h := h.1 q9_5
    refine y_tabIn C 100 dX2_count_5 (by rw [q9_5]; decide) (by rw [q9_5]; decide) (by rw [q9_5]; rfl) (by decide) ?_
    refine y_aload_n C 0 rfl rfl dX2_count_100 ?_
    refine y_callVi0 C (metX2_groups hd hB h) (cwV 0 C.hts (lw_V q1562 q1564 qs82 q91 q1565) rfl rfl rfl kdX2_groups ⟨Nat.le_of_ble_eq_true rfl, Nat.le_of_ble_eq_true rfl⟩) mM_0 rfl rfl rfl (Nat.le_of_ble_eq_true rfl) dX2_count_101 (fun r11 M1 hp => ?_)
    clear h
    obtain ⟨w_gr10, rfl, h⟩ := hp
    exact y_ireti C hr rfl rfl ⟨_, _, _, _, _, _, _, rfl, h⟩ dX2_count_104
  replace h := h.2
  by_cases q9_6 : a1 = 6
  · replace h := h.1 q9_6
    refine y_tabIn C 105 dX2_count_5 (by rw [q9_6]; decide) (by rw [q9_6]; decide) (by rw [q9_6]; rfl) (by decide) ?_
    refine y_aload_n C 0 rfl rfl dX2_count_105 ?_
    refine y_callVi0 C (metX2_superfluous hd hB h) (cwV 0 C.hts (lw_V q1566 q1568 qs83 q91 q1569) rfl rfl rfl kdX2_superfluous ⟨Nat.le_of_ble_eq_true rfl, Nat.le_of_ble_eq_true rfl⟩) mM_0 rfl rfl rfl (Nat.le_of_ble_eq_true rfl) dX2_count_106 (fun r13 M1 hp => ?_)
    clear h
    obtain ⟨w_gr12, rfl, h⟩ := hp
    exact y_ireti C hr rfl rfl ⟨_, _, _, _, _, _, _, rfl, h⟩ dX2_count_109
  replace h := h.2
  by_cases q9_7 : a1 = 7
  · replace h := h.1 q9_7
    refine y_tabIn C 110 dX2_count_5 (by rw [q9_7]; decide) (by rw [q9_7]; decide) (by rw [q9_7]; rfl) (by decide) ?_
    refine y_aload_n C 0 rfl rfl dX2_count_110 ?_
    refine y_get (ci := 2) (k := 0) C in_X2 rfl (by decide) q1169 (fun _ h => h) mM_0 rfl dX2_count_111 ?_
    refine y_bipush C 110 dX2_count_114 y_b110 ?_
    obtain ⟨i9, h⟩ := h
    refine y_iald C (mM_1 hd) i9 dX2_count_116 ?_
    exact y_ireti C hr rfl rfl ⟨_, _, _, _, _, _, _, rfl, h⟩ dX2_count_117
  replace h := h.2
  by_cases q9_8 : a1 = 8
  · replace h := h.1 q9_8
    refine y_tabIn C 118 dX2_count_5 (by rw [q9_8]; decide) (by rw [q9_8]; decide) (by rw [q9_8]; rfl) (by decide) ?_
    refine y_aload_n C 0 rfl rfl dX2_count_118 ?_
    refine y_get (ci := 2) (k := 0) C in_X2 rfl (by decide) q1169 (fun _ h => h) mM_0 rfl dX2_count_119 ?_
    refine y_bipush C 111 dX2_count_122 y_b111 ?_
    obtain ⟨i9, h⟩ := h
    refine y_iald C (mM_1 hd) i9 dX2_count_124 ?_
    exact y_ireti C hr rfl rfl ⟨_, _, _, _, _, _, _, rfl, h⟩ dX2_count_125
  replace h := h.2
  by_cases q9_9 : a1 = 9
  · replace h := h.1 q9_9
    refine y_tabIn C 126 dX2_count_5 (by rw [q9_9]; decide) (by rw [q9_9]; decide) (by rw [q9_9]; rfl) (by decide) ?_
    refine y_aload_n C 0 rfl rfl dX2_count_126 ?_
    refine y_get (ci := 2) (k := 3) C in_X2 rfl (by decide) q1172 (fun _ h => h) mM_0 rfl dX2_count_127 ?_
    exact y_ireti C hr rfl rfl ⟨_, _, _, _, _, _, _, rfl, h⟩ dX2_count_130
  replace h := h.2
  by_cases q9_10 : a1 = 10
  · replace h := h.1 q9_10
    refine y_tabIn C 131 dX2_count_5 (by rw [q9_10]; decide) (by rw [q9_10]; decide) (by rw [q9_10]; rfl) (by decide) ?_
    refine y_aload_n C 0 rfl rfl dX2_count_131 ?_
    refine y_get (ci := 2) (k := 1) C in_X2 rfl (by decide) q1170 (fun _ h => h) mM_0 rfl dX2_count_132 ?_
    exact y_ireti C hr rfl rfl ⟨_, _, _, _, _, _, _, rfl, h⟩ dX2_count_135
  replace h := h.2
  replace h := h ⟨q9_0, q9_1, q9_2, q9_3, q9_4, q9_5, q9_6, q9_7, q9_8, q9_9, q9_10⟩
  refine y_tabOut C 136 dX2_count_5 (y_rng 11 (by decide) (by decide) (by decide) (fun k9 hk9 => by
      rcases (show k9 = 0 ∨ k9 = 1 ∨ k9 = 2 ∨ k9 = 3 ∨ k9 = 4 ∨ k9 = 5 ∨ k9 = 6 ∨ k9 = 7 ∨ k9 = 8 ∨ k9 = 9 ∨ k9 = 10 by omega) with rfl | rfl | rfl | rfl | rfl | rfl | rfl | rfl | rfl | rfl | rfl
      · exact q9_0
      · exact q9_1
      · exact q9_2
      · exact q9_3
      · exact q9_4
      · exact q9_5
      · exact q9_6
      · exact q9_7
      · exact q9_8
      · exact q9_9
      · exact q9_10)) (by decide) ?_
  refine y_iconst C (-1) dX2_count_136 litm1 ?_
  exact y_ireti C hr rfl rfl ⟨_, _, _, _, _, _, _, rfl, h⟩ dX2_count_137
theorem kdX2_count : yX2_count.cls = RX2 ∧ yX2_count.cls ≠ "java/lang/invoke/MethodHandle" ∧ yX2_count.cls ≠ "java/lang/invoke/VarHandle" ∧ (parseMethodDescriptor yX2_count.desc).map (fun d => d.parameters.length) = some 1 := by decide +kernel
def wpX2_mixes (c_hs : Int64) (a1 : Int32) (post : Int64 → Prop) : Prop := ∀ x1 : Int64, x1 = ((31 * c_hs) + (Int32.toInt64 a1)) → post x1
theorem metX2_mixes {l : Launch} {D : va_G} {s0 : State} {a0 : Array Value} {ad : Nat → Nat} (hd : yAd ad) (hB : yB D s0 a0) {c_pg : Nat → Int32} {c_bm : Int32} {c_tx : Nat → Int32} {c_ty : Int32} {c_ft : Int32} {c_fa : Int32} {c_sp : Int32} {c_nu : Int32} {c_un : Nat → Int32} {c_sf : Nat → Int32} {c_st : Nat → Int32} {c_ll : Nat → Int32} {c_ln : Nat → Int32} {c_ip : Nat → Int32} {c_gr : Nat → Int32} {c_hs : Int64} {a1 : Int32} {post : Int64 → Prop} (h : wpX2_mixes c_hs a1 post) : yMv l yX2_mixes (ws_ yX2_mixes cX2_mixes 2 none) 1 64 0 0 D s0 [yr (some (ad 0)), yi a1] (mM ad c_pg c_bm c_tx c_ty c_ft c_fa c_sp c_nu c_un c_sf c_st c_ll c_ln c_ip c_gr c_hs) (fun M1 => ∃ (w_hs : Int64), M1 = mM ad c_pg c_bm c_tx c_ty c_ft c_fa c_sp c_nu c_un c_sf c_st c_ll c_ln c_ip c_gr w_hs ∧ post w_hs) := by
  refine y_metv hB (by decide) rfl (Nat.le_of_ble_eq_true rfl) ?_
  intro p e s m below meth c A hr hnm C
  rw [wpX2_mixes] at h
  refine y_aload_n C 0 rfl rfl dX2_mixes_0 ?_
  refine y_ldc2 C 31 q1580 dX2_mixes_1 ?_
  refine y_aload_n C 0 rfl rfl dX2_mixes_4 ?_
  refine y_get (ci := 2) (k := 15) C in_X2 rfl (by decide) q1184 (fun _ h => h) mM_0 rfl dX2_mixes_5 ?_
  refine y_lmul C dX2_mixes_8 ?_
  refine y_iload_n C 1 rfl rfl dX2_mixes_9 ?_
  refine y_i2l C dX2_mixes_10 ?_
  refine y_ladd C dX2_mixes_11 ?_
  replace h := h _ rfl
  refine y_put (ci := 2) (k := 15) C in_X2 tyX2_ok nmX2 rfl (by decide) q1184 (fun _ h => h) rfl mM_0 (y_lt rfl) rfl rfl (mU_hs _) dX2_mixes_12 ?_
  exact y_vret C hr rfl rfl ⟨_, rfl, h⟩ dX2_mixes_15
theorem kdX2_mixes : yX2_mixes.cls = RX2 ∧ yX2_mixes.cls ≠ "java/lang/invoke/MethodHandle" ∧ yX2_mixes.cls ≠ "java/lang/invoke/VarHandle" ∧ (parseMethodDescriptor yX2_mixes.desc).map (fun d => d.parameters.length) = some 1 := by decide +kernel
section sX2_digest
variable {p : Program} {l : Launch} {e : Env} {s : State} {m : MethodId} {args : Array Value} {below : List Frame} {meth : Method} {c : Code} {D : va_G} {s0 : State} {a0 : Array Value} {A : Nat → Prop} {ad : Nat → Nat} {c_pg : Nat → Int32} {c_bm : Int32} {c_tx : Nat → Int32} {c_ty : Int32} {c_ft : Int32} {c_fa : Int32} {c_sp : Int32} {c_nu : Int32} {c_un : Nat → Int32} {c_sf : Nat → Int32} {c_st : Nat → Int32} {c_ll : Nat → Int32} {c_ln : Nat → Int32} {c_ip : Nat → Int32} {c_gr : Nat → Int32} {c_hs : Int64}
def wpX2_digest_b193 (post : Int64 → (Nat → Int32) → (Nat → Int32) → (Nat → Int32) → (Nat → Int32) → (Nat → Int32) → (Nat → Int32) → (Nat → Int32) → Int64 → Prop) (k186 : (Nat → Int32) → Int32 → Int32 → (Nat → Int32) → (Nat → Int32) → (Nat → Int32) → (Nat → Int32) → (Nat → Int32) → (Nat → Int32) → (Nat → Int32) → Int64 → Int32 → Prop) : Nat → (Nat → Int32) → Int32 → Int32 → (Nat → Int32) → (Nat → Int32) → (Nat → Int32) → (Nat → Int32) → (Nat → Int32) → (Nat → Int32) → (Nat → Int32) → Int64 → Int32 → Int32 → Prop
  | 0, _, _, _, _, _, _, _, _, _, _, _, _, _ => False
  | nn + 1, c_pg, c_bm, c_ty, c_un, c_sf, c_st, c_ll, c_ln, c_ip, c_gr, c_hs, v1, v2 => ((9 ≤ v2 → ∀ x4 : Int32, x4 = v1 + 1 → k186 c_pg c_bm c_ty c_un c_sf c_st c_ll c_ln c_ip c_gr c_hs x4) ∧ (¬ 9 ≤ v2 → wpX2_chain c_pg c_un c_sf c_st c_ll c_ln c_ip v1 v2 (fun r11 w_un5 w_sf6 w_st7 w_ll8 w_ln9 w_ip10 => wpX2_mixes c_hs r11 (fun w_hs12 => ∀ x13 : Int32, x13 = v2 + 1 → wpX2_digest_b193 post k186 nn c_pg c_bm c_ty w_un5 w_sf6 w_st7 w_ll8 w_ln9 w_ip10 c_gr w_hs12 v1 x13))))
theorem okX2_digest_b193 (C : yC p { frames := 11, cells := 0, slots := 0, locals := 285 } s m args meth c cX2_digest 3 RX2 D s0 a0 A) (hB : yB D s0 a0) (hd : yAd ad) (hr : meth.sig.returnType = (some .long)) {post : Int64 → (Nat → Int32) → (Nat → Int32) → (Nat → Int32) → (Nat → Int32) → (Nat → Int32) → (Nat → Int32) → (Nat → Int32) → Int64 → Prop} {k186 : (Nat → Int32) → Int32 → Int32 → (Nat → Int32) → (Nat → Int32) → (Nat → Int32) → (Nat → Int32) → (Nat → Int32) → (Nat → Int32) → (Nat → Int32) → Int64 → Int32 → Prop} (hk186 : ∀ (c_pg : Nat → Int32) (c_bm : Int32) (c_ty : Int32) (c_un : Nat → Int32) (c_sf : Nat → Int32) (c_st : Nat → Int32) (c_ll : Nat → Int32) (c_ln : Nat → Int32) (c_ip : Nat → Int32) (c_gr : Nat → Int32) (c_hs : Int64) (v1 : Int32), k186 c_pg c_bm c_ty c_un c_sf c_st c_ll c_ln c_ip c_gr c_hs v1 → Y p l e { frames := 11, cells := 0, slots := 0, locals := 285 } s m args below meth c (MQ below (yQl D s0 A (fun r M1 => ∃ (w_un : Nat → Int32) (w_sf : Nat → Int32) (w_st : Nat → Int32) (w_ll : Nat → Int32) (w_ln : Nat → Int32) (w_ip : Nat → Int32) (w_gr : Nat → Int32) (w_hs : Int64), M1 = mM ad c_pg c_bm c_tx c_ty c_ft c_fa c_sp c_nu w_un w_sf w_st w_ll w_ln w_ip w_gr w_hs ∧ post r w_un w_sf w_st w_ll w_ln w_ip w_gr w_hs)) args s 0 0 A) D s0 A 3 (mM ad c_pg c_bm c_tx c_ty c_ft c_fa c_sp c_nu c_un c_sf c_st c_ll c_ln c_ip c_gr c_hs) 0 0 [some (yr (some (ad 0))), some (yi v1), none] 186 []) : ∀ (nn : Nat) (c_pg : Nat → Int32) (c_bm : Int32) (c_ty : Int32) (c_un : Nat → Int32) (c_sf : Nat → Int32) (c_st : Nat → Int32) (c_ll : Nat → Int32) (c_ln : Nat → Int32) (c_ip : Nat → Int32) (c_gr : Nat → Int32) (c_hs : Int64) (v1 : Int32) (v2 : Int32), wpX2_digest_b193 post k186 nn c_pg c_bm c_ty c_un c_sf c_st c_ll c_ln c_ip c_gr c_hs v1 v2 → Y p l e { frames := 11, cells := 0, slots := 0, locals := 285 } s m args below meth c (MQ below (yQl D s0 A (fun r M1 => ∃ (w_un : Nat → Int32) (w_sf : Nat → Int32) (w_st : Nat → Int32) (w_ll : Nat → Int32) (w_ln : Nat → Int32) (w_ip : Nat → Int32) (w_gr : Nat → Int32) (w_hs : Int64), M1 = mM ad c_pg c_bm c_tx c_ty c_ft c_fa c_sp c_nu w_un w_sf w_st w_ll w_ln w_ip w_gr w_hs ∧ post r w_un w_sf w_st w_ll w_ln w_ip w_gr w_hs)) args s 0 0 A) D s0 A 3 (mM ad c_pg c_bm c_tx c_ty c_ft c_fa c_sp c_nu c_un c_sf c_st c_ll c_ln c_ip c_gr c_hs) 0 0 [some (yr (some (ad 0))), some (yi v1), some (yi v2)] 193 [] := by
  intro nn
  induction nn with
  | zero => intro c_pg c_bm c_ty c_un c_sf c_st c_ll c_ln c_ip c_gr c_hs v1 v2 h; exact absurd h (by rw [wpX2_digest_b193]; exact id)
  | succ nn ih =>
    intro c_pg c_bm c_ty c_un c_sf c_st c_ll c_ln c_ip c_gr c_hs v1 v2 h
    rw [wpX2_digest_b193] at h
    refine y_iload_n C 2 rfl rfl dX2_digest_193 ?_
    refine y_bipush C 9 dX2_digest_194 y_b9 ?_
    refine y_icmp_ge C 215 dX2_digest_196 (by decide) (fun c9 => ?_) (fun c9 => ?_)
    · replace h := h.1 c9
      replace h := h _ rfl
      refine y_iinc C 1 _ rfl (y_inc1 _) (by decide) dX2_digest_215 ?_
      refine y_goto C 186 dX2_digest_218 (by decide) ?_
      refine y_to C _ ?_ (hk186 _ _ _ _ _ _ _ _ _ _ _ _ h)
      exact (And.intro rfl (And.intro rfl trivial))
    · replace h := h.2 c9
      refine y_aload_n C 0 rfl rfl dX2_digest_199 ?_
      refine y_aload_n C 0 rfl rfl dX2_digest_200 ?_
      refine y_iload_n C 1 rfl rfl dX2_digest_201 ?_
      refine y_iload_n C 2 rfl rfl dX2_digest_202 ?_
      refine y_callVi0 C (metX2_chain hd hB h) (cwV 2 C.hts (lw_V q1585 q1523 q1524 q91 q1525) rfl rfl rfl kdX2_chain ⟨Nat.le_of_ble_eq_true rfl, Nat.le_of_ble_eq_true rfl⟩) mM_0 rfl rfl rfl (Nat.le_of_ble_eq_true rfl) dX2_digest_203 (fun r11 M1 hp => ?_)
      clear h
      obtain ⟨w_un5, w_sf6, w_st7, w_ll8, w_ln9, w_ip10, rfl, h⟩ := hp
      refine y_callVv0 C (metX2_mixes hd hB h) (cwV 1 C.hts (lw_V q1576 q1578 qs84 q91 q1579) rfl rfl rfl kdX2_mixes ⟨Nat.le_of_ble_eq_true rfl, Nat.le_of_ble_eq_true rfl⟩) mM_0 rfl rfl rfl (Nat.le_of_ble_eq_true rfl) dX2_digest_206 (fun M1 hp => ?_)
      clear h
      obtain ⟨w_hs12, rfl, h⟩ := hp
      replace h := h _ rfl
      refine y_iinc C 2 _ rfl (y_inc1 _) (by decide) dX2_digest_209 ?_
      refine y_goto C 193 dX2_digest_212 (by decide) ?_
      refine y_to C _ ?_ (ih _ _ _ _ _ _ _ _ _ _ _ _ _ h)
      exact (And.intro rfl (And.intro rfl (And.intro rfl trivial)))
def wpX2_digest_b186 (post : Int64 → (Nat → Int32) → (Nat → Int32) → (Nat → Int32) → (Nat → Int32) → (Nat → Int32) → (Nat → Int32) → (Nat → Int32) → Int64 → Prop) : Nat → (Nat → Int32) → Int32 → Int32 → (Nat → Int32) → (Nat → Int32) → (Nat → Int32) → (Nat → Int32) → (Nat → Int32) → (Nat → Int32) → (Nat → Int32) → Int64 → Int32 → Prop
  | 0, _, _, _, _, _, _, _, _, _, _, _, _ => False
  | nn + 1, c_pg, c_bm, c_ty, c_un, c_sf, c_st, c_ll, c_ln, c_ip, c_gr, c_hs, v1 => ((5 < v1 → wpX2_needed c_pg c_gr (fun r2 w_gr1 => wpX2_mixes c_hs r2 (fun w_hs3 => post w_hs3 c_un c_sf c_st c_ll c_ln c_ip w_gr1 w_hs3))) ∧ (¬ 5 < v1 → ∃ nf9 : Nat, wpX2_digest_b193 post (fun c_pg c_bm c_ty c_un c_sf c_st c_ll c_ln c_ip c_gr c_hs v1 => wpX2_digest_b186 post nn c_pg c_bm c_ty c_un c_sf c_st c_ll c_ln c_ip c_gr c_hs v1) nf9 c_pg c_bm c_ty c_un c_sf c_st c_ll c_ln c_ip c_gr c_hs v1 0))
theorem okX2_digest_b186 (C : yC p { frames := 11, cells := 0, slots := 0, locals := 285 } s m args meth c cX2_digest 3 RX2 D s0 a0 A) (hB : yB D s0 a0) (hd : yAd ad) (hr : meth.sig.returnType = (some .long)) {post : Int64 → (Nat → Int32) → (Nat → Int32) → (Nat → Int32) → (Nat → Int32) → (Nat → Int32) → (Nat → Int32) → (Nat → Int32) → Int64 → Prop}  : ∀ (nn : Nat) (c_pg : Nat → Int32) (c_bm : Int32) (c_ty : Int32) (c_un : Nat → Int32) (c_sf : Nat → Int32) (c_st : Nat → Int32) (c_ll : Nat → Int32) (c_ln : Nat → Int32) (c_ip : Nat → Int32) (c_gr : Nat → Int32) (c_hs : Int64) (v1 : Int32), wpX2_digest_b186 post nn c_pg c_bm c_ty c_un c_sf c_st c_ll c_ln c_ip c_gr c_hs v1 → Y p l e { frames := 11, cells := 0, slots := 0, locals := 285 } s m args below meth c (MQ below (yQl D s0 A (fun r M1 => ∃ (w_un : Nat → Int32) (w_sf : Nat → Int32) (w_st : Nat → Int32) (w_ll : Nat → Int32) (w_ln : Nat → Int32) (w_ip : Nat → Int32) (w_gr : Nat → Int32) (w_hs : Int64), M1 = mM ad c_pg c_bm c_tx c_ty c_ft c_fa c_sp c_nu w_un w_sf w_st w_ll w_ln w_ip w_gr w_hs ∧ post r w_un w_sf w_st w_ll w_ln w_ip w_gr w_hs)) args s 0 0 A) D s0 A 3 (mM ad c_pg c_bm c_tx c_ty c_ft c_fa c_sp c_nu c_un c_sf c_st c_ll c_ln c_ip c_gr c_hs) 0 0 [some (yr (some (ad 0))), some (yi v1), none] 186 [] := by
  intro nn
  induction nn with
  | zero => intro c_pg c_bm c_ty c_un c_sf c_st c_ll c_ln c_ip c_gr c_hs v1 h; exact absurd h (by rw [wpX2_digest_b186]; exact id)
  | succ nn ih =>
    intro c_pg c_bm c_ty c_un c_sf c_st c_ll c_ln c_ip c_gr c_hs v1 h
    rw [wpX2_digest_b186] at h
    refine y_iload_n C 1 rfl rfl dX2_digest_186 ?_
    refine y_iconst C 5 dX2_digest_187 lit5 ?_
    refine y_icmp_gt C 221 dX2_digest_188 (by decide) (fun c9 => ?_) (fun c9 => ?_)
    · replace h := h.1 c9
      refine y_aload_n C 0 rfl rfl dX2_digest_221 ?_
      refine y_aload_n C 0 rfl rfl dX2_digest_222 ?_
      refine y_callVi0 C (metX2_needed hd hB h) (cwV 0 C.hts (lw_V q1586 q1519 q1520 q91 q1521) rfl rfl rfl kdX2_needed ⟨Nat.le_of_ble_eq_true rfl, Nat.le_of_ble_eq_true rfl⟩) mM_0 rfl rfl rfl (Nat.le_of_ble_eq_true rfl) dX2_digest_223 (fun r2 M1 hp => ?_)
      clear h
      obtain ⟨w_gr1, rfl, h⟩ := hp
      refine y_callVv0 C (metX2_mixes hd hB h) (cwV 1 C.hts (lw_V q1576 q1578 qs84 q91 q1579) rfl rfl rfl kdX2_mixes ⟨Nat.le_of_ble_eq_true rfl, Nat.le_of_ble_eq_true rfl⟩) mM_0 rfl rfl rfl (Nat.le_of_ble_eq_true rfl) dX2_digest_226 (fun M1 hp => ?_)
      clear h
      obtain ⟨w_hs3, rfl, h⟩ := hp
      refine y_aload_n C 0 rfl rfl dX2_digest_229 ?_
      refine y_get (ci := 2) (k := 15) C in_X2 rfl (by decide) q1184 (fun _ h => h) mM_0 rfl dX2_digest_230 ?_
      exact y_lretl C hr rfl rfl ⟨_, _, _, _, _, _, _, _, rfl, h⟩ dX2_digest_233
    · replace h := h.2 c9
      refine y_iconst C 0 dX2_digest_191 lit0 ?_
      refine y_istore_n C 2 rfl (by decide) dX2_digest_192 ?_
      obtain ⟨nf9, h⟩ := h
      refine y_to C _ ?_ (okX2_digest_b193 C hB hd hr ih nf9 _ _ _ _ _ _ _ _ _ _ _ _ _ h)
      exact (And.intro rfl (And.intro rfl (And.intro rfl trivial)))
def wpX2_digest_b130 (post : Int64 → (Nat → Int32) → (Nat → Int32) → (Nat → Int32) → (Nat → Int32) → (Nat → Int32) → (Nat → Int32) → (Nat → Int32) → Int64 → Prop) (k116 : (Nat → Int32) → Int32 → Int32 → (Nat → Int32) → (Nat → Int32) → (Nat → Int32) → (Nat → Int32) → (Nat → Int32) → (Nat → Int32) → (Nat → Int32) → Int64 → Int32 → Prop) : Nat → (Nat → Int32) → Int32 → Int32 → (Nat → Int32) → (Nat → Int32) → (Nat → Int32) → (Nat → Int32) → (Nat → Int32) → (Nat → Int32) → (Nat → Int32) → Int64 → Int32 → Int32 → Prop
  | 0, _, _, _, _, _, _, _, _, _, _, _, _, _ => False
  | nn + 1, c_pg, c_bm, c_ty, c_un, c_sf, c_st, c_ll, c_ln, c_ip, c_gr, c_hs, v1, v2 => vp_in 0 1120 ∧ (((c_pg (Int32.toNatClampNeg 0)) ≤ v2 → ∀ x15 : Int32, x15 = v1 + 1 → k116 c_pg c_bm c_ty c_un c_sf c_st c_ll c_ln c_ip c_gr c_hs x15) ∧ (¬ (c_pg (Int32.toNatClampNeg 0)) ≤ v2 → wpX2_distance c_pg c_gr v1 v2 0 (fun r17 w_gr16 => wpX2_mixes c_hs r17 (fun w_hs18 => wpX2_distance c_pg w_gr16 v1 v2 1 (fun r20 w_gr19 => wpX2_mixes w_hs18 r20 (fun w_hs21 => wpX2_critical c_pg w_gr19 v1 v2 (fun r23 w_gr22 => wpX2_mixes w_hs21 r23 (fun w_hs24 => ∀ x25 : Int32, x25 = v2 + 1 → wpX2_digest_b130 post k116 nn c_pg c_bm c_ty c_un c_sf c_st c_ll c_ln c_ip w_gr22 w_hs24 v1 x25))))))))
theorem okX2_digest_b130 (C : yC p { frames := 11, cells := 0, slots := 0, locals := 285 } s m args meth c cX2_digest 3 RX2 D s0 a0 A) (hB : yB D s0 a0) (hd : yAd ad) (hr : meth.sig.returnType = (some .long)) {post : Int64 → (Nat → Int32) → (Nat → Int32) → (Nat → Int32) → (Nat → Int32) → (Nat → Int32) → (Nat → Int32) → (Nat → Int32) → Int64 → Prop} {k116 : (Nat → Int32) → Int32 → Int32 → (Nat → Int32) → (Nat → Int32) → (Nat → Int32) → (Nat → Int32) → (Nat → Int32) → (Nat → Int32) → (Nat → Int32) → Int64 → Int32 → Prop} (hk116 : ∀ (c_pg : Nat → Int32) (c_bm : Int32) (c_ty : Int32) (c_un : Nat → Int32) (c_sf : Nat → Int32) (c_st : Nat → Int32) (c_ll : Nat → Int32) (c_ln : Nat → Int32) (c_ip : Nat → Int32) (c_gr : Nat → Int32) (c_hs : Int64) (v1 : Int32), k116 c_pg c_bm c_ty c_un c_sf c_st c_ll c_ln c_ip c_gr c_hs v1 → Y p l e { frames := 11, cells := 0, slots := 0, locals := 285 } s m args below meth c (MQ below (yQl D s0 A (fun r M1 => ∃ (w_un : Nat → Int32) (w_sf : Nat → Int32) (w_st : Nat → Int32) (w_ll : Nat → Int32) (w_ln : Nat → Int32) (w_ip : Nat → Int32) (w_gr : Nat → Int32) (w_hs : Int64), M1 = mM ad c_pg c_bm c_tx c_ty c_ft c_fa c_sp c_nu w_un w_sf w_st w_ll w_ln w_ip w_gr w_hs ∧ post r w_un w_sf w_st w_ll w_ln w_ip w_gr w_hs)) args s 0 0 A) D s0 A 3 (mM ad c_pg c_bm c_tx c_ty c_ft c_fa c_sp c_nu c_un c_sf c_st c_ll c_ln c_ip c_gr c_hs) 0 0 [some (yr (some (ad 0))), some (yi v1), none] 116 []) : ∀ (nn : Nat) (c_pg : Nat → Int32) (c_bm : Int32) (c_ty : Int32) (c_un : Nat → Int32) (c_sf : Nat → Int32) (c_st : Nat → Int32) (c_ll : Nat → Int32) (c_ln : Nat → Int32) (c_ip : Nat → Int32) (c_gr : Nat → Int32) (c_hs : Int64) (v1 : Int32) (v2 : Int32), wpX2_digest_b130 post k116 nn c_pg c_bm c_ty c_un c_sf c_st c_ll c_ln c_ip c_gr c_hs v1 v2 → Y p l e { frames := 11, cells := 0, slots := 0, locals := 285 } s m args below meth c (MQ below (yQl D s0 A (fun r M1 => ∃ (w_un : Nat → Int32) (w_sf : Nat → Int32) (w_st : Nat → Int32) (w_ll : Nat → Int32) (w_ln : Nat → Int32) (w_ip : Nat → Int32) (w_gr : Nat → Int32) (w_hs : Int64), M1 = mM ad c_pg c_bm c_tx c_ty c_ft c_fa c_sp c_nu w_un w_sf w_st w_ll w_ln w_ip w_gr w_hs ∧ post r w_un w_sf w_st w_ll w_ln w_ip w_gr w_hs)) args s 0 0 A) D s0 A 3 (mM ad c_pg c_bm c_tx c_ty c_ft c_fa c_sp c_nu c_un c_sf c_st c_ll c_ln c_ip c_gr c_hs) 0 0 [some (yr (some (ad 0))), some (yi v1), some (yi v2)] 130 [] := by
  intro nn
  induction nn with
  | zero => intro c_pg c_bm c_ty c_un c_sf c_st c_ll c_ln c_ip c_gr c_hs v1 v2 h; exact absurd h (by rw [wpX2_digest_b130]; exact id)
  | succ nn ih =>
    intro c_pg c_bm c_ty c_un c_sf c_st c_ll c_ln c_ip c_gr c_hs v1 v2 h
    rw [wpX2_digest_b130] at h
    refine y_iload_n C 2 rfl rfl dX2_digest_130 ?_
    refine y_aload_n C 0 rfl rfl dX2_digest_131 ?_
    refine y_get (ci := 2) (k := 0) C in_X2 rfl (by decide) q1169 (fun _ h => h) mM_0 rfl dX2_digest_132 ?_
    refine y_iconst C 0 dX2_digest_135 lit0 ?_
    obtain ⟨i9, h⟩ := h
    refine y_iald C (mM_1 hd) i9 dX2_digest_136 ?_
    refine y_icmp_ge C 178 dX2_digest_137 (by decide) (fun c9 => ?_) (fun c9 => ?_)
    · replace h := h.1 c9
      replace h := h _ rfl
      refine y_iinc C 1 _ rfl (y_inc1 _) (by decide) dX2_digest_178 ?_
      refine y_goto C 116 dX2_digest_181 (by decide) ?_
      refine y_to C _ ?_ (hk116 _ _ _ _ _ _ _ _ _ _ _ _ h)
      exact (And.intro rfl (And.intro rfl trivial))
    · replace h := h.2 c9
      refine y_aload_n C 0 rfl rfl dX2_digest_140 ?_
      refine y_aload_n C 0 rfl rfl dX2_digest_141 ?_
      refine y_iload_n C 1 rfl rfl dX2_digest_142 ?_
      refine y_iload_n C 2 rfl rfl dX2_digest_143 ?_
      refine y_iconst C 0 dX2_digest_144 lit0 ?_
      refine y_callVi0 C (metX2_distance hd hB h) (cwV 3 C.hts (lw_V q1583 q1495 q1496 q91 q1497) rfl rfl rfl kdX2_distance ⟨Nat.le_of_ble_eq_true rfl, Nat.le_of_ble_eq_true rfl⟩) mM_0 rfl rfl rfl (Nat.le_of_ble_eq_true rfl) dX2_digest_145 (fun r17 M1 hp => ?_)
      clear h
      obtain ⟨w_gr16, rfl, h⟩ := hp
      refine y_callVv0 C (metX2_mixes hd hB h) (cwV 1 C.hts (lw_V q1576 q1578 qs84 q91 q1579) rfl rfl rfl kdX2_mixes ⟨Nat.le_of_ble_eq_true rfl, Nat.le_of_ble_eq_true rfl⟩) mM_0 rfl rfl rfl (Nat.le_of_ble_eq_true rfl) dX2_digest_148 (fun M1 hp => ?_)
      clear h
      obtain ⟨w_hs18, rfl, h⟩ := hp
      refine y_aload_n C 0 rfl rfl dX2_digest_151 ?_
      refine y_aload_n C 0 rfl rfl dX2_digest_152 ?_
      refine y_iload_n C 1 rfl rfl dX2_digest_153 ?_
      refine y_iload_n C 2 rfl rfl dX2_digest_154 ?_
      refine y_iconst C 1 dX2_digest_155 lit1 ?_
      refine y_callVi0 C (metX2_distance hd hB h) (cwV 3 C.hts (lw_V q1583 q1495 q1496 q91 q1497) rfl rfl rfl kdX2_distance ⟨Nat.le_of_ble_eq_true rfl, Nat.le_of_ble_eq_true rfl⟩) mM_0 rfl rfl rfl (Nat.le_of_ble_eq_true rfl) dX2_digest_156 (fun r20 M1 hp => ?_)
      clear h
      obtain ⟨w_gr19, rfl, h⟩ := hp
      refine y_callVv0 C (metX2_mixes hd hB h) (cwV 1 C.hts (lw_V q1576 q1578 qs84 q91 q1579) rfl rfl rfl kdX2_mixes ⟨Nat.le_of_ble_eq_true rfl, Nat.le_of_ble_eq_true rfl⟩) mM_0 rfl rfl rfl (Nat.le_of_ble_eq_true rfl) dX2_digest_159 (fun M1 hp => ?_)
      clear h
      obtain ⟨w_hs21, rfl, h⟩ := hp
      refine y_aload_n C 0 rfl rfl dX2_digest_162 ?_
      refine y_aload_n C 0 rfl rfl dX2_digest_163 ?_
      refine y_iload_n C 1 rfl rfl dX2_digest_164 ?_
      refine y_iload_n C 2 rfl rfl dX2_digest_165 ?_
      refine y_callVi0 C (metX2_critical hd hB h) (cwV 2 C.hts (lw_V q1584 q1515 q1516 q91 q1517) rfl rfl rfl kdX2_critical ⟨Nat.le_of_ble_eq_true rfl, Nat.le_of_ble_eq_true rfl⟩) mM_0 rfl rfl rfl (Nat.le_of_ble_eq_true rfl) dX2_digest_166 (fun r23 M1 hp => ?_)
      clear h
      obtain ⟨w_gr22, rfl, h⟩ := hp
      refine y_callVv0 C (metX2_mixes hd hB h) (cwV 1 C.hts (lw_V q1576 q1578 qs84 q91 q1579) rfl rfl rfl kdX2_mixes ⟨Nat.le_of_ble_eq_true rfl, Nat.le_of_ble_eq_true rfl⟩) mM_0 rfl rfl rfl (Nat.le_of_ble_eq_true rfl) dX2_digest_169 (fun M1 hp => ?_)
      clear h
      obtain ⟨w_hs24, rfl, h⟩ := hp
      replace h := h _ rfl
      refine y_iinc C 2 _ rfl (y_inc1 _) (by decide) dX2_digest_172 ?_
      refine y_goto C 130 dX2_digest_175 (by decide) ?_
      refine y_to C _ ?_ (ih _ _ _ _ _ _ _ _ _ _ _ _ _ h)
      exact (And.intro rfl (And.intro rfl (And.intro rfl trivial)))
def wpX2_digest_b116 (post : Int64 → (Nat → Int32) → (Nat → Int32) → (Nat → Int32) → (Nat → Int32) → (Nat → Int32) → (Nat → Int32) → (Nat → Int32) → Int64 → Prop) : Nat → (Nat → Int32) → Int32 → Int32 → (Nat → Int32) → (Nat → Int32) → (Nat → Int32) → (Nat → Int32) → (Nat → Int32) → (Nat → Int32) → (Nat → Int32) → Int64 → Int32 → Prop
  | 0, _, _, _, _, _, _, _, _, _, _, _, _ => False
  | nn + 1, c_pg, c_bm, c_ty, c_un, c_sf, c_st, c_ll, c_ln, c_ip, c_gr, c_hs, v1 => vp_in 0 1120 ∧ (((c_pg (Int32.toNatClampNeg 0)) ≤ v1 → ∃ nf9 : Nat, wpX2_digest_b186 post nf9 c_pg c_bm c_ty c_un c_sf c_st c_ll c_ln c_ip c_gr c_hs 1) ∧ (¬ (c_pg (Int32.toNatClampNeg 0)) ≤ v1 → ∀ x14 : Int32, x14 = (v1 + 1) → ∃ nf9 : Nat, wpX2_digest_b130 post (fun c_pg c_bm c_ty c_un c_sf c_st c_ll c_ln c_ip c_gr c_hs v1 => wpX2_digest_b116 post nn c_pg c_bm c_ty c_un c_sf c_st c_ll c_ln c_ip c_gr c_hs v1) nf9 c_pg c_bm c_ty c_un c_sf c_st c_ll c_ln c_ip c_gr c_hs v1 x14))
theorem okX2_digest_b116 (C : yC p { frames := 11, cells := 0, slots := 0, locals := 285 } s m args meth c cX2_digest 3 RX2 D s0 a0 A) (hB : yB D s0 a0) (hd : yAd ad) (hr : meth.sig.returnType = (some .long)) {post : Int64 → (Nat → Int32) → (Nat → Int32) → (Nat → Int32) → (Nat → Int32) → (Nat → Int32) → (Nat → Int32) → (Nat → Int32) → Int64 → Prop}  : ∀ (nn : Nat) (c_pg : Nat → Int32) (c_bm : Int32) (c_ty : Int32) (c_un : Nat → Int32) (c_sf : Nat → Int32) (c_st : Nat → Int32) (c_ll : Nat → Int32) (c_ln : Nat → Int32) (c_ip : Nat → Int32) (c_gr : Nat → Int32) (c_hs : Int64) (v1 : Int32), wpX2_digest_b116 post nn c_pg c_bm c_ty c_un c_sf c_st c_ll c_ln c_ip c_gr c_hs v1 → Y p l e { frames := 11, cells := 0, slots := 0, locals := 285 } s m args below meth c (MQ below (yQl D s0 A (fun r M1 => ∃ (w_un : Nat → Int32) (w_sf : Nat → Int32) (w_st : Nat → Int32) (w_ll : Nat → Int32) (w_ln : Nat → Int32) (w_ip : Nat → Int32) (w_gr : Nat → Int32) (w_hs : Int64), M1 = mM ad c_pg c_bm c_tx c_ty c_ft c_fa c_sp c_nu w_un w_sf w_st w_ll w_ln w_ip w_gr w_hs ∧ post r w_un w_sf w_st w_ll w_ln w_ip w_gr w_hs)) args s 0 0 A) D s0 A 3 (mM ad c_pg c_bm c_tx c_ty c_ft c_fa c_sp c_nu c_un c_sf c_st c_ll c_ln c_ip c_gr c_hs) 0 0 [some (yr (some (ad 0))), some (yi v1), none] 116 [] := by
  intro nn
  induction nn with
  | zero => intro c_pg c_bm c_ty c_un c_sf c_st c_ll c_ln c_ip c_gr c_hs v1 h; exact absurd h (by rw [wpX2_digest_b116]; exact id)
  | succ nn ih =>
    intro c_pg c_bm c_ty c_un c_sf c_st c_ll c_ln c_ip c_gr c_hs v1 h
    rw [wpX2_digest_b116] at h
    refine y_iload_n C 1 rfl rfl dX2_digest_116 ?_
    refine y_aload_n C 0 rfl rfl dX2_digest_117 ?_
    refine y_get (ci := 2) (k := 0) C in_X2 rfl (by decide) q1169 (fun _ h => h) mM_0 rfl dX2_digest_118 ?_
    refine y_iconst C 0 dX2_digest_121 lit0 ?_
    obtain ⟨i9, h⟩ := h
    refine y_iald C (mM_1 hd) i9 dX2_digest_122 ?_
    refine y_icmp_ge C 184 dX2_digest_123 (by decide) (fun c9 => ?_) (fun c9 => ?_)
    · replace h := h.1 c9
      refine y_iconst C 1 dX2_digest_184 lit1 ?_
      refine y_istore_n C 1 rfl (by decide) dX2_digest_185 ?_
      obtain ⟨nf9, h⟩ := h
      refine y_to C _ ?_ (okX2_digest_b186 C hB hd hr  nf9 _ _ _ _ _ _ _ _ _ _ _ _ h)
      exact (And.intro rfl (And.intro rfl trivial))
    · replace h := h.2 c9
      refine y_iload_n C 1 rfl rfl dX2_digest_126 ?_
      refine y_iconst C 1 dX2_digest_127 lit1 ?_
      refine y_iadd C dX2_digest_128 ?_
      replace h := h _ rfl
      refine y_istore_n C 2 rfl (by decide) dX2_digest_129 ?_
      obtain ⟨nf9, h⟩ := h
      refine y_to C _ ?_ (okX2_digest_b130 C hB hd hr ih nf9 _ _ _ _ _ _ _ _ _ _ _ _ _ h)
      exact (And.intro rfl (And.intro rfl (And.intro rfl trivial)))
def wpX2_digest_b86 (post : Int64 → (Nat → Int32) → (Nat → Int32) → (Nat → Int32) → (Nat → Int32) → (Nat → Int32) → (Nat → Int32) → (Nat → Int32) → Int64 → Prop) (k73 : (Nat → Int32) → Int32 → Int32 → (Nat → Int32) → (Nat → Int32) → (Nat → Int32) → (Nat → Int32) → (Nat → Int32) → (Nat → Int32) → (Nat → Int32) → Int64 → Int32 → Prop) : Nat → (Nat → Int32) → Int32 → Int32 → (Nat → Int32) → (Nat → Int32) → (Nat → Int32) → (Nat → Int32) → (Nat → Int32) → (Nat → Int32) → (Nat → Int32) → Int64 → Int32 → Int32 → Prop
  | 0, _, _, _, _, _, _, _, _, _, _, _, _, _ => False
  | nn + 1, c_pg, c_bm, c_ty, c_un, c_sf, c_st, c_ll, c_ln, c_ip, c_gr, c_hs, v1, v2 => ((13 ≤ v2 → ∀ x26 : Int32, x26 = v1 + 1 → k73 c_pg c_bm c_ty c_un c_sf c_st c_ll c_ln c_ip c_gr c_hs x26) ∧ (¬ 13 ≤ v2 → wpX2_dimension c_pg c_un c_sf c_st c_ll c_ln c_ip c_gr v1 v2 (fun r34 w_un27 w_sf28 w_st29 w_ll30 w_ln31 w_ip32 w_gr33 => wpX2_mixes c_hs r34 (fun w_hs35 => ∀ x36 : Int32, x36 = v2 + 1 → wpX2_digest_b86 post k73 nn c_pg c_bm c_ty w_un27 w_sf28 w_st29 w_ll30 w_ln31 w_ip32 w_gr33 w_hs35 v1 x36))))
theorem okX2_digest_b86 (C : yC p { frames := 11, cells := 0, slots := 0, locals := 285 } s m args meth c cX2_digest 3 RX2 D s0 a0 A) (hB : yB D s0 a0) (hd : yAd ad) (hr : meth.sig.returnType = (some .long)) {post : Int64 → (Nat → Int32) → (Nat → Int32) → (Nat → Int32) → (Nat → Int32) → (Nat → Int32) → (Nat → Int32) → (Nat → Int32) → Int64 → Prop} {k73 : (Nat → Int32) → Int32 → Int32 → (Nat → Int32) → (Nat → Int32) → (Nat → Int32) → (Nat → Int32) → (Nat → Int32) → (Nat → Int32) → (Nat → Int32) → Int64 → Int32 → Prop} (hk73 : ∀ (c_pg : Nat → Int32) (c_bm : Int32) (c_ty : Int32) (c_un : Nat → Int32) (c_sf : Nat → Int32) (c_st : Nat → Int32) (c_ll : Nat → Int32) (c_ln : Nat → Int32) (c_ip : Nat → Int32) (c_gr : Nat → Int32) (c_hs : Int64) (v1 : Int32), k73 c_pg c_bm c_ty c_un c_sf c_st c_ll c_ln c_ip c_gr c_hs v1 → Y p l e { frames := 11, cells := 0, slots := 0, locals := 285 } s m args below meth c (MQ below (yQl D s0 A (fun r M1 => ∃ (w_un : Nat → Int32) (w_sf : Nat → Int32) (w_st : Nat → Int32) (w_ll : Nat → Int32) (w_ln : Nat → Int32) (w_ip : Nat → Int32) (w_gr : Nat → Int32) (w_hs : Int64), M1 = mM ad c_pg c_bm c_tx c_ty c_ft c_fa c_sp c_nu w_un w_sf w_st w_ll w_ln w_ip w_gr w_hs ∧ post r w_un w_sf w_st w_ll w_ln w_ip w_gr w_hs)) args s 0 0 A) D s0 A 3 (mM ad c_pg c_bm c_tx c_ty c_ft c_fa c_sp c_nu c_un c_sf c_st c_ll c_ln c_ip c_gr c_hs) 0 0 [some (yr (some (ad 0))), some (yi v1), none] 73 []) : ∀ (nn : Nat) (c_pg : Nat → Int32) (c_bm : Int32) (c_ty : Int32) (c_un : Nat → Int32) (c_sf : Nat → Int32) (c_st : Nat → Int32) (c_ll : Nat → Int32) (c_ln : Nat → Int32) (c_ip : Nat → Int32) (c_gr : Nat → Int32) (c_hs : Int64) (v1 : Int32) (v2 : Int32), wpX2_digest_b86 post k73 nn c_pg c_bm c_ty c_un c_sf c_st c_ll c_ln c_ip c_gr c_hs v1 v2 → Y p l e { frames := 11, cells := 0, slots := 0, locals := 285 } s m args below meth c (MQ below (yQl D s0 A (fun r M1 => ∃ (w_un : Nat → Int32) (w_sf : Nat → Int32) (w_st : Nat → Int32) (w_ll : Nat → Int32) (w_ln : Nat → Int32) (w_ip : Nat → Int32) (w_gr : Nat → Int32) (w_hs : Int64), M1 = mM ad c_pg c_bm c_tx c_ty c_ft c_fa c_sp c_nu w_un w_sf w_st w_ll w_ln w_ip w_gr w_hs ∧ post r w_un w_sf w_st w_ll w_ln w_ip w_gr w_hs)) args s 0 0 A) D s0 A 3 (mM ad c_pg c_bm c_tx c_ty c_ft c_fa c_sp c_nu c_un c_sf c_st c_ll c_ln c_ip c_gr c_hs) 0 0 [some (yr (some (ad 0))), some (yi v1), some (yi v2)] 86 [] := by
  intro nn
  induction nn with
  | zero => intro c_pg c_bm c_ty c_un c_sf c_st c_ll c_ln c_ip c_gr c_hs v1 v2 h; exact absurd h (by rw [wpX2_digest_b86]; exact id)
  | succ nn ih =>
    intro c_pg c_bm c_ty c_un c_sf c_st c_ll c_ln c_ip c_gr c_hs v1 v2 h
    rw [wpX2_digest_b86] at h
    refine y_iload_n C 2 rfl rfl dX2_digest_86 ?_
    refine y_bipush C 13 dX2_digest_87 y_b13 ?_
    refine y_icmp_ge C 108 dX2_digest_89 (by decide) (fun c9 => ?_) (fun c9 => ?_)
    · replace h := h.1 c9
      replace h := h _ rfl
      refine y_iinc C 1 _ rfl (y_inc1 _) (by decide) dX2_digest_108 ?_
      refine y_goto C 73 dX2_digest_111 (by decide) ?_
      refine y_to C _ ?_ (hk73 _ _ _ _ _ _ _ _ _ _ _ _ h)
      exact (And.intro rfl (And.intro rfl trivial))
    · replace h := h.2 c9
      refine y_aload_n C 0 rfl rfl dX2_digest_92 ?_
      refine y_aload_n C 0 rfl rfl dX2_digest_93 ?_
      refine y_iload_n C 1 rfl rfl dX2_digest_94 ?_
      refine y_iload_n C 2 rfl rfl dX2_digest_95 ?_
      refine y_callVi0 C (metX2_dimension hd hB h) (cwV 2 C.hts (lw_V q1582 q1480 q1481 q91 q1482) rfl rfl rfl kdX2_dimension ⟨Nat.le_of_ble_eq_true rfl, Nat.le_of_ble_eq_true rfl⟩) mM_0 rfl rfl rfl (Nat.le_of_ble_eq_true rfl) dX2_digest_96 (fun r34 M1 hp => ?_)
      clear h
      obtain ⟨w_un27, w_sf28, w_st29, w_ll30, w_ln31, w_ip32, w_gr33, rfl, h⟩ := hp
      refine y_callVv0 C (metX2_mixes hd hB h) (cwV 1 C.hts (lw_V q1576 q1578 qs84 q91 q1579) rfl rfl rfl kdX2_mixes ⟨Nat.le_of_ble_eq_true rfl, Nat.le_of_ble_eq_true rfl⟩) mM_0 rfl rfl rfl (Nat.le_of_ble_eq_true rfl) dX2_digest_99 (fun M1 hp => ?_)
      clear h
      obtain ⟨w_hs35, rfl, h⟩ := hp
      replace h := h _ rfl
      refine y_iinc C 2 _ rfl (y_inc1 _) (by decide) dX2_digest_102 ?_
      refine y_goto C 86 dX2_digest_105 (by decide) ?_
      refine y_to C _ ?_ (ih _ _ _ _ _ _ _ _ _ _ _ _ _ h)
      exact (And.intro rfl (And.intro rfl (And.intro rfl trivial)))
def wpX2_digest_b73 (post : Int64 → (Nat → Int32) → (Nat → Int32) → (Nat → Int32) → (Nat → Int32) → (Nat → Int32) → (Nat → Int32) → (Nat → Int32) → Int64 → Prop) : Nat → (Nat → Int32) → Int32 → Int32 → (Nat → Int32) → (Nat → Int32) → (Nat → Int32) → (Nat → Int32) → (Nat → Int32) → (Nat → Int32) → (Nat → Int32) → Int64 → Int32 → Prop
  | 0, _, _, _, _, _, _, _, _, _, _, _, _ => False
  | nn + 1, c_pg, c_bm, c_ty, c_un, c_sf, c_st, c_ll, c_ln, c_ip, c_gr, c_hs, v1 => vp_in 13 1120 ∧ (((c_pg (Int32.toNatClampNeg 13)) ≤ v1 → ∃ nf9 : Nat, wpX2_digest_b116 post nf9 c_pg c_bm c_ty c_un c_sf c_st c_ll c_ln c_ip c_gr c_hs 0) ∧ (¬ (c_pg (Int32.toNatClampNeg 13)) ≤ v1 → ∃ nf9 : Nat, wpX2_digest_b86 post (fun c_pg c_bm c_ty c_un c_sf c_st c_ll c_ln c_ip c_gr c_hs v1 => wpX2_digest_b73 post nn c_pg c_bm c_ty c_un c_sf c_st c_ll c_ln c_ip c_gr c_hs v1) nf9 c_pg c_bm c_ty c_un c_sf c_st c_ll c_ln c_ip c_gr c_hs v1 0))
theorem okX2_digest_b73 (C : yC p { frames := 11, cells := 0, slots := 0, locals := 285 } s m args meth c cX2_digest 3 RX2 D s0 a0 A) (hB : yB D s0 a0) (hd : yAd ad) (hr : meth.sig.returnType = (some .long)) {post : Int64 → (Nat → Int32) → (Nat → Int32) → (Nat → Int32) → (Nat → Int32) → (Nat → Int32) → (Nat → Int32) → (Nat → Int32) → Int64 → Prop}  : ∀ (nn : Nat) (c_pg : Nat → Int32) (c_bm : Int32) (c_ty : Int32) (c_un : Nat → Int32) (c_sf : Nat → Int32) (c_st : Nat → Int32) (c_ll : Nat → Int32) (c_ln : Nat → Int32) (c_ip : Nat → Int32) (c_gr : Nat → Int32) (c_hs : Int64) (v1 : Int32), wpX2_digest_b73 post nn c_pg c_bm c_ty c_un c_sf c_st c_ll c_ln c_ip c_gr c_hs v1 → Y p l e { frames := 11, cells := 0, slots := 0, locals := 285 } s m args below meth c (MQ below (yQl D s0 A (fun r M1 => ∃ (w_un : Nat → Int32) (w_sf : Nat → Int32) (w_st : Nat → Int32) (w_ll : Nat → Int32) (w_ln : Nat → Int32) (w_ip : Nat → Int32) (w_gr : Nat → Int32) (w_hs : Int64), M1 = mM ad c_pg c_bm c_tx c_ty c_ft c_fa c_sp c_nu w_un w_sf w_st w_ll w_ln w_ip w_gr w_hs ∧ post r w_un w_sf w_st w_ll w_ln w_ip w_gr w_hs)) args s 0 0 A) D s0 A 3 (mM ad c_pg c_bm c_tx c_ty c_ft c_fa c_sp c_nu c_un c_sf c_st c_ll c_ln c_ip c_gr c_hs) 0 0 [some (yr (some (ad 0))), some (yi v1), none] 73 [] := by
  intro nn
  induction nn with
  | zero => intro c_pg c_bm c_ty c_un c_sf c_st c_ll c_ln c_ip c_gr c_hs v1 h; exact absurd h (by rw [wpX2_digest_b73]; exact id)
  | succ nn ih =>
    intro c_pg c_bm c_ty c_un c_sf c_st c_ll c_ln c_ip c_gr c_hs v1 h
    rw [wpX2_digest_b73] at h
    refine y_iload_n C 1 rfl rfl dX2_digest_73 ?_
    refine y_aload_n C 0 rfl rfl dX2_digest_74 ?_
    refine y_get (ci := 2) (k := 0) C in_X2 rfl (by decide) q1169 (fun _ h => h) mM_0 rfl dX2_digest_75 ?_
    refine y_bipush C 13 dX2_digest_78 y_b13 ?_
    obtain ⟨i9, h⟩ := h
    refine y_iald C (mM_1 hd) i9 dX2_digest_80 ?_
    refine y_icmp_ge C 114 dX2_digest_81 (by decide) (fun c9 => ?_) (fun c9 => ?_)
    · replace h := h.1 c9
      refine y_iconst C 0 dX2_digest_114 lit0 ?_
      refine y_istore_n C 1 rfl (by decide) dX2_digest_115 ?_
      obtain ⟨nf9, h⟩ := h
      refine y_to C _ ?_ (okX2_digest_b116 C hB hd hr  nf9 _ _ _ _ _ _ _ _ _ _ _ _ h)
      exact (And.intro rfl (And.intro rfl trivial))
    · replace h := h.2 c9
      refine y_iconst C 0 dX2_digest_84 lit0 ?_
      refine y_istore_n C 2 rfl (by decide) dX2_digest_85 ?_
      obtain ⟨nf9, h⟩ := h
      refine y_to C _ ?_ (okX2_digest_b86 C hB hd hr ih nf9 _ _ _ _ _ _ _ _ _ _ _ _ _ h)
      exact (And.intro rfl (And.intro rfl (And.intro rfl trivial)))
def wpX2_digest_b44 (post : Int64 → (Nat → Int32) → (Nat → Int32) → (Nat → Int32) → (Nat → Int32) → (Nat → Int32) → (Nat → Int32) → (Nat → Int32) → Int64 → Prop) (k32 : (Nat → Int32) → Int32 → Int32 → (Nat → Int32) → (Nat → Int32) → (Nat → Int32) → (Nat → Int32) → (Nat → Int32) → (Nat → Int32) → (Nat → Int32) → Int64 → Int32 → Prop) : Nat → (Nat → Int32) → Int32 → Int32 → (Nat → Int32) → (Nat → Int32) → (Nat → Int32) → (Nat → Int32) → (Nat → Int32) → (Nat → Int32) → (Nat → Int32) → Int64 → Int32 → Int32 → Prop
  | 0, _, _, _, _, _, _, _, _, _, _, _, _, _ => False
  | nn + 1, c_pg, c_bm, c_ty, c_un, c_sf, c_st, c_ll, c_ln, c_ip, c_gr, c_hs, v1, v2 => ((5 ≤ v2 → ∀ x37 : Int32, x37 = v1 + 1 → k32 c_pg c_bm c_ty c_un c_sf c_st c_ll c_ln c_ip c_gr c_hs x37) ∧ (¬ 5 ≤ v2 → wpX2_point c_pg c_un c_sf c_st c_ll c_ln c_ip c_gr v1 v2 (fun r45 w_un38 w_sf39 w_st40 w_ll41 w_ln42 w_ip43 w_gr44 => wpX2_mixes c_hs r45 (fun w_hs46 => ∀ x47 : Int32, x47 = v2 + 1 → wpX2_digest_b44 post k32 nn c_pg c_bm c_ty w_un38 w_sf39 w_st40 w_ll41 w_ln42 w_ip43 w_gr44 w_hs46 v1 x47))))
theorem okX2_digest_b44 (C : yC p { frames := 11, cells := 0, slots := 0, locals := 285 } s m args meth c cX2_digest 3 RX2 D s0 a0 A) (hB : yB D s0 a0) (hd : yAd ad) (hr : meth.sig.returnType = (some .long)) {post : Int64 → (Nat → Int32) → (Nat → Int32) → (Nat → Int32) → (Nat → Int32) → (Nat → Int32) → (Nat → Int32) → (Nat → Int32) → Int64 → Prop} {k32 : (Nat → Int32) → Int32 → Int32 → (Nat → Int32) → (Nat → Int32) → (Nat → Int32) → (Nat → Int32) → (Nat → Int32) → (Nat → Int32) → (Nat → Int32) → Int64 → Int32 → Prop} (hk32 : ∀ (c_pg : Nat → Int32) (c_bm : Int32) (c_ty : Int32) (c_un : Nat → Int32) (c_sf : Nat → Int32) (c_st : Nat → Int32) (c_ll : Nat → Int32) (c_ln : Nat → Int32) (c_ip : Nat → Int32) (c_gr : Nat → Int32) (c_hs : Int64) (v1 : Int32), k32 c_pg c_bm c_ty c_un c_sf c_st c_ll c_ln c_ip c_gr c_hs v1 → Y p l e { frames := 11, cells := 0, slots := 0, locals := 285 } s m args below meth c (MQ below (yQl D s0 A (fun r M1 => ∃ (w_un : Nat → Int32) (w_sf : Nat → Int32) (w_st : Nat → Int32) (w_ll : Nat → Int32) (w_ln : Nat → Int32) (w_ip : Nat → Int32) (w_gr : Nat → Int32) (w_hs : Int64), M1 = mM ad c_pg c_bm c_tx c_ty c_ft c_fa c_sp c_nu w_un w_sf w_st w_ll w_ln w_ip w_gr w_hs ∧ post r w_un w_sf w_st w_ll w_ln w_ip w_gr w_hs)) args s 0 0 A) D s0 A 3 (mM ad c_pg c_bm c_tx c_ty c_ft c_fa c_sp c_nu c_un c_sf c_st c_ll c_ln c_ip c_gr c_hs) 0 0 [some (yr (some (ad 0))), some (yi v1), none] 32 []) : ∀ (nn : Nat) (c_pg : Nat → Int32) (c_bm : Int32) (c_ty : Int32) (c_un : Nat → Int32) (c_sf : Nat → Int32) (c_st : Nat → Int32) (c_ll : Nat → Int32) (c_ln : Nat → Int32) (c_ip : Nat → Int32) (c_gr : Nat → Int32) (c_hs : Int64) (v1 : Int32) (v2 : Int32), wpX2_digest_b44 post k32 nn c_pg c_bm c_ty c_un c_sf c_st c_ll c_ln c_ip c_gr c_hs v1 v2 → Y p l e { frames := 11, cells := 0, slots := 0, locals := 285 } s m args below meth c (MQ below (yQl D s0 A (fun r M1 => ∃ (w_un : Nat → Int32) (w_sf : Nat → Int32) (w_st : Nat → Int32) (w_ll : Nat → Int32) (w_ln : Nat → Int32) (w_ip : Nat → Int32) (w_gr : Nat → Int32) (w_hs : Int64), M1 = mM ad c_pg c_bm c_tx c_ty c_ft c_fa c_sp c_nu w_un w_sf w_st w_ll w_ln w_ip w_gr w_hs ∧ post r w_un w_sf w_st w_ll w_ln w_ip w_gr w_hs)) args s 0 0 A) D s0 A 3 (mM ad c_pg c_bm c_tx c_ty c_ft c_fa c_sp c_nu c_un c_sf c_st c_ll c_ln c_ip c_gr c_hs) 0 0 [some (yr (some (ad 0))), some (yi v1), some (yi v2)] 44 [] := by
  intro nn
  induction nn with
  | zero => intro c_pg c_bm c_ty c_un c_sf c_st c_ll c_ln c_ip c_gr c_hs v1 v2 h; exact absurd h (by rw [wpX2_digest_b44]; exact id)
  | succ nn ih =>
    intro c_pg c_bm c_ty c_un c_sf c_st c_ll c_ln c_ip c_gr c_hs v1 v2 h
    rw [wpX2_digest_b44] at h
    refine y_iload_n C 2 rfl rfl dX2_digest_44 ?_
    refine y_iconst C 5 dX2_digest_45 lit5 ?_
    refine y_icmp_ge C 65 dX2_digest_46 (by decide) (fun c9 => ?_) (fun c9 => ?_)
    · replace h := h.1 c9
      replace h := h _ rfl
      refine y_iinc C 1 _ rfl (y_inc1 _) (by decide) dX2_digest_65 ?_
      refine y_goto C 32 dX2_digest_68 (by decide) ?_
      refine y_to C _ ?_ (hk32 _ _ _ _ _ _ _ _ _ _ _ _ h)
      exact (And.intro rfl (And.intro rfl trivial))
    · replace h := h.2 c9
      refine y_aload_n C 0 rfl rfl dX2_digest_49 ?_
      refine y_aload_n C 0 rfl rfl dX2_digest_50 ?_
      refine y_iload_n C 1 rfl rfl dX2_digest_51 ?_
      refine y_iload_n C 2 rfl rfl dX2_digest_52 ?_
      refine y_callVi0 C (metX2_point hd hB h) (cwV 2 C.hts (lw_V q1581 q1375 q1376 q91 q1377) rfl rfl rfl kdX2_point ⟨Nat.le_of_ble_eq_true rfl, Nat.le_of_ble_eq_true rfl⟩) mM_0 rfl rfl rfl (Nat.le_of_ble_eq_true rfl) dX2_digest_53 (fun r45 M1 hp => ?_)
      clear h
      obtain ⟨w_un38, w_sf39, w_st40, w_ll41, w_ln42, w_ip43, w_gr44, rfl, h⟩ := hp
      refine y_callVv0 C (metX2_mixes hd hB h) (cwV 1 C.hts (lw_V q1576 q1578 qs84 q91 q1579) rfl rfl rfl kdX2_mixes ⟨Nat.le_of_ble_eq_true rfl, Nat.le_of_ble_eq_true rfl⟩) mM_0 rfl rfl rfl (Nat.le_of_ble_eq_true rfl) dX2_digest_56 (fun M1 hp => ?_)
      clear h
      obtain ⟨w_hs46, rfl, h⟩ := hp
      replace h := h _ rfl
      refine y_iinc C 2 _ rfl (y_inc1 _) (by decide) dX2_digest_59 ?_
      refine y_goto C 44 dX2_digest_62 (by decide) ?_
      refine y_to C _ ?_ (ih _ _ _ _ _ _ _ _ _ _ _ _ _ h)
      exact (And.intro rfl (And.intro rfl (And.intro rfl trivial)))
def wpX2_digest_b32 (post : Int64 → (Nat → Int32) → (Nat → Int32) → (Nat → Int32) → (Nat → Int32) → (Nat → Int32) → (Nat → Int32) → (Nat → Int32) → Int64 → Prop) : Nat → (Nat → Int32) → Int32 → Int32 → (Nat → Int32) → (Nat → Int32) → (Nat → Int32) → (Nat → Int32) → (Nat → Int32) → (Nat → Int32) → (Nat → Int32) → Int64 → Int32 → Prop
  | 0, _, _, _, _, _, _, _, _, _, _, _, _ => False
  | nn + 1, c_pg, c_bm, c_ty, c_un, c_sf, c_st, c_ll, c_ln, c_ip, c_gr, c_hs, v1 => vp_in 0 1120 ∧ (((c_pg (Int32.toNatClampNeg 0)) ≤ v1 → ∃ nf9 : Nat, wpX2_digest_b73 post nf9 c_pg c_bm c_ty c_un c_sf c_st c_ll c_ln c_ip c_gr c_hs 0) ∧ (¬ (c_pg (Int32.toNatClampNeg 0)) ≤ v1 → ∃ nf9 : Nat, wpX2_digest_b44 post (fun c_pg c_bm c_ty c_un c_sf c_st c_ll c_ln c_ip c_gr c_hs v1 => wpX2_digest_b32 post nn c_pg c_bm c_ty c_un c_sf c_st c_ll c_ln c_ip c_gr c_hs v1) nf9 c_pg c_bm c_ty c_un c_sf c_st c_ll c_ln c_ip c_gr c_hs v1 0))
theorem okX2_digest_b32 (C : yC p { frames := 11, cells := 0, slots := 0, locals := 285 } s m args meth c cX2_digest 3 RX2 D s0 a0 A) (hB : yB D s0 a0) (hd : yAd ad) (hr : meth.sig.returnType = (some .long)) {post : Int64 → (Nat → Int32) → (Nat → Int32) → (Nat → Int32) → (Nat → Int32) → (Nat → Int32) → (Nat → Int32) → (Nat → Int32) → Int64 → Prop}  : ∀ (nn : Nat) (c_pg : Nat → Int32) (c_bm : Int32) (c_ty : Int32) (c_un : Nat → Int32) (c_sf : Nat → Int32) (c_st : Nat → Int32) (c_ll : Nat → Int32) (c_ln : Nat → Int32) (c_ip : Nat → Int32) (c_gr : Nat → Int32) (c_hs : Int64) (v1 : Int32), wpX2_digest_b32 post nn c_pg c_bm c_ty c_un c_sf c_st c_ll c_ln c_ip c_gr c_hs v1 → Y p l e { frames := 11, cells := 0, slots := 0, locals := 285 } s m args below meth c (MQ below (yQl D s0 A (fun r M1 => ∃ (w_un : Nat → Int32) (w_sf : Nat → Int32) (w_st : Nat → Int32) (w_ll : Nat → Int32) (w_ln : Nat → Int32) (w_ip : Nat → Int32) (w_gr : Nat → Int32) (w_hs : Int64), M1 = mM ad c_pg c_bm c_tx c_ty c_ft c_fa c_sp c_nu w_un w_sf w_st w_ll w_ln w_ip w_gr w_hs ∧ post r w_un w_sf w_st w_ll w_ln w_ip w_gr w_hs)) args s 0 0 A) D s0 A 3 (mM ad c_pg c_bm c_tx c_ty c_ft c_fa c_sp c_nu c_un c_sf c_st c_ll c_ln c_ip c_gr c_hs) 0 0 [some (yr (some (ad 0))), some (yi v1), none] 32 [] := by
  intro nn
  induction nn with
  | zero => intro c_pg c_bm c_ty c_un c_sf c_st c_ll c_ln c_ip c_gr c_hs v1 h; exact absurd h (by rw [wpX2_digest_b32]; exact id)
  | succ nn ih =>
    intro c_pg c_bm c_ty c_un c_sf c_st c_ll c_ln c_ip c_gr c_hs v1 h
    rw [wpX2_digest_b32] at h
    refine y_iload_n C 1 rfl rfl dX2_digest_32 ?_
    refine y_aload_n C 0 rfl rfl dX2_digest_33 ?_
    refine y_get (ci := 2) (k := 0) C in_X2 rfl (by decide) q1169 (fun _ h => h) mM_0 rfl dX2_digest_34 ?_
    refine y_iconst C 0 dX2_digest_37 lit0 ?_
    obtain ⟨i9, h⟩ := h
    refine y_iald C (mM_1 hd) i9 dX2_digest_38 ?_
    refine y_icmp_ge C 71 dX2_digest_39 (by decide) (fun c9 => ?_) (fun c9 => ?_)
    · replace h := h.1 c9
      refine y_iconst C 0 dX2_digest_71 lit0 ?_
      refine y_istore_n C 1 rfl (by decide) dX2_digest_72 ?_
      obtain ⟨nf9, h⟩ := h
      refine y_to C _ ?_ (okX2_digest_b73 C hB hd hr  nf9 _ _ _ _ _ _ _ _ _ _ _ _ h)
      exact (And.intro rfl (And.intro rfl trivial))
    · replace h := h.2 c9
      refine y_iconst C 0 dX2_digest_42 lit0 ?_
      refine y_istore_n C 2 rfl (by decide) dX2_digest_43 ?_
      obtain ⟨nf9, h⟩ := h
      refine y_to C _ ?_ (okX2_digest_b44 C hB hd hr ih nf9 _ _ _ _ _ _ _ _ _ _ _ _ _ h)
      exact (And.intro rfl (And.intro rfl (And.intro rfl trivial)))
def wpX2_digest_b9 (post : Int64 → (Nat → Int32) → (Nat → Int32) → (Nat → Int32) → (Nat → Int32) → (Nat → Int32) → (Nat → Int32) → (Nat → Int32) → Int64 → Prop) : Nat → (Nat → Int32) → Int32 → Int32 → (Nat → Int32) → (Nat → Int32) → (Nat → Int32) → (Nat → Int32) → (Nat → Int32) → (Nat → Int32) → (Nat → Int32) → Int64 → Int32 → Prop
  | 0, _, _, _, _, _, _, _, _, _, _, _, _ => False
  | nn + 1, c_pg, c_bm, c_ty, c_un, c_sf, c_st, c_ll, c_ln, c_ip, c_gr, c_hs, v1 => ((11 ≤ v1 → ∃ nf9 : Nat, wpX2_digest_b32 post nf9 c_pg c_bm c_ty c_un c_sf c_st c_ll c_ln c_ip c_gr c_hs 0) ∧ (¬ 11 ≤ v1 → wpX2_count c_pg c_bm c_ty c_un c_sf c_st c_ll c_ln c_ip c_gr v1 (fun r55 w_un48 w_sf49 w_st50 w_ll51 w_ln52 w_ip53 w_gr54 => wpX2_mixes c_hs r55 (fun w_hs56 => ∀ x57 : Int32, x57 = v1 + 1 → wpX2_digest_b9 post nn c_pg c_bm c_ty w_un48 w_sf49 w_st50 w_ll51 w_ln52 w_ip53 w_gr54 w_hs56 x57))))
theorem okX2_digest_b9 (C : yC p { frames := 11, cells := 0, slots := 0, locals := 285 } s m args meth c cX2_digest 3 RX2 D s0 a0 A) (hB : yB D s0 a0) (hd : yAd ad) (hr : meth.sig.returnType = (some .long)) {post : Int64 → (Nat → Int32) → (Nat → Int32) → (Nat → Int32) → (Nat → Int32) → (Nat → Int32) → (Nat → Int32) → (Nat → Int32) → Int64 → Prop}  : ∀ (nn : Nat) (c_pg : Nat → Int32) (c_bm : Int32) (c_ty : Int32) (c_un : Nat → Int32) (c_sf : Nat → Int32) (c_st : Nat → Int32) (c_ll : Nat → Int32) (c_ln : Nat → Int32) (c_ip : Nat → Int32) (c_gr : Nat → Int32) (c_hs : Int64) (v1 : Int32), wpX2_digest_b9 post nn c_pg c_bm c_ty c_un c_sf c_st c_ll c_ln c_ip c_gr c_hs v1 → Y p l e { frames := 11, cells := 0, slots := 0, locals := 285 } s m args below meth c (MQ below (yQl D s0 A (fun r M1 => ∃ (w_un : Nat → Int32) (w_sf : Nat → Int32) (w_st : Nat → Int32) (w_ll : Nat → Int32) (w_ln : Nat → Int32) (w_ip : Nat → Int32) (w_gr : Nat → Int32) (w_hs : Int64), M1 = mM ad c_pg c_bm c_tx c_ty c_ft c_fa c_sp c_nu w_un w_sf w_st w_ll w_ln w_ip w_gr w_hs ∧ post r w_un w_sf w_st w_ll w_ln w_ip w_gr w_hs)) args s 0 0 A) D s0 A 3 (mM ad c_pg c_bm c_tx c_ty c_ft c_fa c_sp c_nu c_un c_sf c_st c_ll c_ln c_ip c_gr c_hs) 0 0 [some (yr (some (ad 0))), some (yi v1), none] 9 [] := by
  intro nn
  induction nn with
  | zero => intro c_pg c_bm c_ty c_un c_sf c_st c_ll c_ln c_ip c_gr c_hs v1 h; exact absurd h (by rw [wpX2_digest_b9]; exact id)
  | succ nn ih =>
    intro c_pg c_bm c_ty c_un c_sf c_st c_ll c_ln c_ip c_gr c_hs v1 h
    rw [wpX2_digest_b9] at h
    refine y_iload_n C 1 rfl rfl dX2_digest_9 ?_
    refine y_bipush C 11 dX2_digest_10 y_b11 ?_
    refine y_icmp_ge C 30 dX2_digest_12 (by decide) (fun c9 => ?_) (fun c9 => ?_)
    · replace h := h.1 c9
      refine y_iconst C 0 dX2_digest_30 lit0 ?_
      refine y_istore_n C 1 rfl (by decide) dX2_digest_31 ?_
      obtain ⟨nf9, h⟩ := h
      refine y_to C _ ?_ (okX2_digest_b32 C hB hd hr  nf9 _ _ _ _ _ _ _ _ _ _ _ _ h)
      exact (And.intro rfl (And.intro rfl trivial))
    · replace h := h.2 c9
      refine y_aload_n C 0 rfl rfl dX2_digest_15 ?_
      refine y_aload_n C 0 rfl rfl dX2_digest_16 ?_
      refine y_iload_n C 1 rfl rfl dX2_digest_17 ?_
      refine y_callVi0 C (metX2_count hd hB h) (cwV 1 C.hts (lw_V q1575 q1555 q1556 q91 q1557) rfl rfl rfl kdX2_count ⟨Nat.le_of_ble_eq_true rfl, Nat.le_of_ble_eq_true rfl⟩) mM_0 rfl rfl rfl (Nat.le_of_ble_eq_true rfl) dX2_digest_18 (fun r55 M1 hp => ?_)
      clear h
      obtain ⟨w_un48, w_sf49, w_st50, w_ll51, w_ln52, w_ip53, w_gr54, rfl, h⟩ := hp
      refine y_callVv0 C (metX2_mixes hd hB h) (cwV 1 C.hts (lw_V q1576 q1578 qs84 q91 q1579) rfl rfl rfl kdX2_mixes ⟨Nat.le_of_ble_eq_true rfl, Nat.le_of_ble_eq_true rfl⟩) mM_0 rfl rfl rfl (Nat.le_of_ble_eq_true rfl) dX2_digest_21 (fun M1 hp => ?_)
      clear h
      obtain ⟨w_hs56, rfl, h⟩ := hp
      replace h := h _ rfl
      refine y_iinc C 1 _ rfl (y_inc1 _) (by decide) dX2_digest_24 ?_
      refine y_goto C 9 dX2_digest_27 (by decide) ?_
      refine y_to C _ ?_ (ih _ _ _ _ _ _ _ _ _ _ _ _ h)
      exact (And.intro rfl (And.intro rfl trivial))
end sX2_digest
def wpX2_digest (c_pg : Nat → Int32) (c_bm : Int32) (c_ty : Int32) (c_un : Nat → Int32) (c_sf : Nat → Int32) (c_st : Nat → Int32) (c_ll : Nat → Int32) (c_ln : Nat → Int32) (c_ip : Nat → Int32) (c_gr : Nat → Int32) (c_hs : Int64)  (post : Int64 → (Nat → Int32) → (Nat → Int32) → (Nat → Int32) → (Nat → Int32) → (Nat → Int32) → (Nat → Int32) → (Nat → Int32) → Int64 → Prop) : Prop := ∃ nf9 : Nat, wpX2_digest_b9 post nf9 c_pg c_bm c_ty c_un c_sf c_st c_ll c_ln c_ip c_gr 18841 0
theorem metX2_digest {l : Launch} {D : va_G} {s0 : State} {a0 : Array Value} {ad : Nat → Nat} (hd : yAd ad) (hB : yB D s0 a0) {c_pg : Nat → Int32} {c_bm : Int32} {c_tx : Nat → Int32} {c_ty : Int32} {c_ft : Int32} {c_fa : Int32} {c_sp : Int32} {c_nu : Int32} {c_un : Nat → Int32} {c_sf : Nat → Int32} {c_st : Nat → Int32} {c_ll : Nat → Int32} {c_ln : Nat → Int32} {c_ip : Nat → Int32} {c_gr : Nat → Int32} {c_hs : Int64}  {post : Int64 → (Nat → Int32) → (Nat → Int32) → (Nat → Int32) → (Nat → Int32) → (Nat → Int32) → (Nat → Int32) → (Nat → Int32) → Int64 → Prop} (h : wpX2_digest c_pg c_bm c_ty c_un c_sf c_st c_ll c_ln c_ip c_gr c_hs  post) : yMl l yX2_digest (ws_ yX2_digest cX2_digest 3 (some .long)) 11 285 0 0 D s0 [yr (some (ad 0))] (mM ad c_pg c_bm c_tx c_ty c_ft c_fa c_sp c_nu c_un c_sf c_st c_ll c_ln c_ip c_gr c_hs) (fun r M1 => ∃ (w_un : Nat → Int32) (w_sf : Nat → Int32) (w_st : Nat → Int32) (w_ll : Nat → Int32) (w_ln : Nat → Int32) (w_ip : Nat → Int32) (w_gr : Nat → Int32) (w_hs : Int64), M1 = mM ad c_pg c_bm c_tx c_ty c_ft c_fa c_sp c_nu w_un w_sf w_st w_ll w_ln w_ip w_gr w_hs ∧ post r w_un w_sf w_st w_ll w_ln w_ip w_gr w_hs) := by
  refine y_metl hB (by decide) rfl (Nat.le_of_ble_eq_true rfl) ?_
  intro p e s m below meth c A hr hnm C
  rw [wpX2_digest] at h
  refine y_aload_n C 0 rfl rfl dX2_digest_0 ?_
  refine y_ldc2 C 18841 q1574 dX2_digest_1 ?_
  refine y_put (ci := 2) (k := 15) C in_X2 tyX2_ok nmX2 rfl (by decide) q1184 (fun _ h => h) rfl mM_0 (y_lt rfl) rfl rfl (mU_hs _) dX2_digest_4 ?_
  refine y_iconst C 0 dX2_digest_7 lit0 ?_
  refine y_istore_n C 1 rfl (by decide) dX2_digest_8 ?_
  obtain ⟨nf9, h⟩ := h
  refine y_to C _ ?_ (okX2_digest_b9 C hB hd hr  nf9 _ _ _ _ _ _ _ _ _ _ _ _ h)
  exact (And.intro rfl (And.intro rfl trivial))
theorem kdX2_digest : yX2_digest.cls = RX2 ∧ yX2_digest.cls ≠ "java/lang/invoke/MethodHandle" ∧ yX2_digest.cls ≠ "java/lang/invoke/VarHandle" ∧ (parseMethodDescriptor yX2_digest.desc).map (fun d => d.parameters.length) = some 0 := by decide +kernel

set_option maxRecDepth 100000
theorem kdJ12_init_2 : yJ12_init_2.cls = RJ12 ∧ yJ12_init_2.cls ≠ "java/lang/invoke/MethodHandle" ∧ yJ12_init_2.cls ≠ "java/lang/invoke/VarHandle" ∧ (parseMethodDescriptor yJ12_init_2.desc).map (fun d => d.parameters.length) = some 4 := by decide +kernel
section sJ12_init_2
variable {p : Program} {l : Launch} {e : Env} {s : State} {m : MethodId} {args : Array Value} {below : List Frame} {meth : Method} {c : Code} {D : va_G} {s0 : State} {a0 : Array Value} {A : Nat → Prop}
def wpJ12_init_2_b41 (o_ : Nat) (post : yM → Prop) (M : yM) (v1 : Option Nat) (v2 : Option Nat) (v3 : Int32) : Prop := ∃ fs11 : List yV, M o_ = some (yo 4 fs11) ∧ 3 < fs11.length ∧ ∀ M12 : yM, M12 = yup M o_ (yo 4 (fs11.set 3 (yr v1))) → ∃ fs13 : List yV, M12 o_ = some (yo 4 fs13) ∧ 0 < fs13.length ∧ ∀ M14 : yM, M14 = yup M12 o_ (yo 4 (fs13.set 0 (yr v2))) → ((¬ v3 = 0 → post M14) ∧ (v3 = 0 → ∃ fs15 : List yV, M14 o_ = some (yo 4 fs15) ∧ 2 < fs15.length ∧ ∀ M16 : yM, M16 = yup M14 o_ (yo 4 (fs15.set 2 (yr none))) → post M16))
theorem okJ12_init_2_b41 (C : yC p { frames := 1, cells := 0, slots := 0, locals := 80 } s m args meth c cJ12_init_2 5 RJ12 D s0 a0 A) (hB : yB D s0 a0) (hr : meth.sig.returnType = none) (hin2 : meth.name = "<init>") {o_ : Nat} {post : yM → Prop}  : ∀ (M : yM) (v1 : Option Nat) (v2 : Option Nat) (v3 : Int32), wpJ12_init_2_b41 o_ post M v1 v2 v3 → Y p l e { frames := 1, cells := 0, slots := 0, locals := 80 } s m args below meth c (MQ below (yQv D s0 A post) args s 0 0 A) D s0 A 5 M 0 0 [some (yr (some o_)), some (yr v1), some (yr v2), some (yi v3), none] 41 [] := by
  intro M v1 v2 v3 h
  rw [wpJ12_init_2_b41] at h
  refine y_aload_n C 0 rfl rfl dJ12_init_2_41 ?_
  refine y_aload_n C 1 rfl rfl dJ12_init_2_42 ?_
  obtain ⟨fs11, g1, g2, h⟩ := h
  replace h := h _ rfl
  refine y_put (ci := 4) (k := 3) C in_X4 tyX4_ok nmX4 rfl (by decide) q477 (fun _ h => h) rfl g1 g2 (y_nmr _ v1) (y_ftr _ v1) rfl dJ12_init_2_43 ?_
  refine y_aload_n C 0 rfl rfl dJ12_init_2_46 ?_
  refine y_aload_n C 2 rfl rfl dJ12_init_2_47 ?_
  obtain ⟨fs13, g1, g2, h⟩ := h
  replace h := h _ rfl
  refine y_put (ci := 4) (k := 0) C in_X4 tyX4_ok nmX4 rfl (by decide) q478 (fun _ h => h) rfl g1 g2 (y_nmr _ v2) (y_ftr _ v2) rfl dJ12_init_2_48 ?_
  refine y_iload_n C 3 rfl rfl dJ12_init_2_51 ?_
  refine y_if_ne C 60 dJ12_init_2_52 (by decide) (fun c9 => ?_) (fun c9 => ?_)
  · replace h := h.1 c9
    exact y_vret C hr rfl rfl h dJ12_init_2_60
  · replace h := h.2 c9
    refine y_aload_n C 0 rfl rfl dJ12_init_2_55 ?_
    refine y_null C dJ12_init_2_56 ?_
    obtain ⟨fs15, g1, g2, h⟩ := h
    replace h := h _ rfl
    refine y_put (ci := 4) (k := 2) C in_X4 tyX4_ok nmX4 rfl (by decide) q480 (fun _ h => h) rfl g1 g2 rfl rfl rfl dJ12_init_2_57 ?_
    exact y_vret C hr rfl rfl h dJ12_init_2_60
end sJ12_init_2
def wpJ12_init_2 (M : yM) (o_ : Nat) (a1 : Option Nat) (a2 : Option Nat) (a3 : Int32) (a4 : Int32) (post : yM → Prop) : Prop := ∃ fs1 : List yV, M o_ = some (yo 4 fs1) ∧ 0 < fs1.length ∧ ∀ M2 : yM, M2 = yup M o_ (yo 4 (fs1.set 0 (yr (some o_)))) → ∀ r3 : Option Nat, ∃ fs4 : List yV, M2 o_ = some (yo 4 fs4) ∧ 1 < fs4.length ∧ ∀ M5 : yM, M5 = yup M2 o_ (yo 4 (fs4.set 1 (yr r3))) → ∀ r6 : Option Nat, ∃ fs7 : List yV, M5 o_ = some (yo 4 fs7) ∧ 2 < fs7.length ∧ ∀ M8 : yM, M8 = yup M5 o_ (yo 4 (fs7.set 2 (yr r6))) → ((a4 = 0 → ∃ fs9 : List yV, M8 o_ = some (yo 4 fs9) ∧ 1 < fs9.length ∧ ∀ M10 : yM, M10 = yup M8 o_ (yo 4 (fs9.set 1 (yr none))) → wpJ12_init_2_b41 o_ post M10 a1 a2 a3) ∧ (¬ a4 = 0 → False))
theorem metJ12_init_2 {l : Launch} {D : va_G} {s0 : State} {a0 : Array Value} (hB : yB D s0 a0) {M : yM} {o_ : Nat} {a1 : Option Nat} {a2 : Option Nat} {a3 : Int32} {a4 : Int32} {post : yM → Prop} (h : wpJ12_init_2 M o_ a1 a2 a3 a4 post) : yMv l yJ12_init_2 (ws_ yJ12_init_2 cJ12_init_2 5 none) 1 80 0 0 D s0 [yr (some o_), yr a1, yr a2, yi a3, yi a4] M post := by
  refine y_metv hB (by decide) rfl (Nat.le_of_ble_eq_true rfl) ?_
  intro p e s m below meth c A hr hnm C
  have hin2 : meth.name = "<init>" := hnm
  rw [wpJ12_init_2] at h
  refine y_aload_n C 0 rfl rfl dJ12_init_2_0 ?_
  refine y_objInit C q449 q118 q119 (Nat.le_of_ble_eq_true rfl) (Nat.le_of_ble_eq_true rfl) (Nat.le_of_ble_eq_true rfl) dJ12_init_2_1 ?_
  refine y_aload_n C 0 rfl rfl dJ12_init_2_4 ?_
  refine y_aload_n C 0 rfl rfl dJ12_init_2_5 ?_
  obtain ⟨fs1, g1, g2, h⟩ := h
  replace h := h _ rfl
  refine y_put (ci := 4) (k := 0) C in_X4 tyX4_ok nmX4 rfl (by decide) q478 (fun _ h => h) rfl g1 g2 rfl rfl rfl dJ12_init_2_6 ?_
  refine y_aload_n C 0 rfl rfl dJ12_init_2_9 ?_
  refine y_statq C q451 (lw_all_tbl q103) (by decide +kernel) q450 dJ12_init_2_10 (fun r3 => ?_)
  replace h := h r3
  obtain ⟨fs4, g1, g2, h⟩ := h
  replace h := h _ rfl
  refine y_put (ci := 4) (k := 1) C in_X4 tyX4_ok nmX4 rfl (by decide) q479 (fun _ h => h) rfl g1 g2 (y_nma _ r3) (y_fta _ r3) rfl dJ12_init_2_13 ?_
  refine y_aload_n C 0 rfl rfl dJ12_init_2_16 ?_
  refine y_statq C q453 (lw_all_tbl q103) (by decide +kernel) q452 dJ12_init_2_17 (fun r6 => ?_)
  replace h := h r6
  obtain ⟨fs7, g1, g2, h⟩ := h
  replace h := h _ rfl
  refine y_put (ci := 4) (k := 2) C in_X4 tyX4_ok nmX4 rfl (by decide) q480 (fun _ h => h) rfl g1 g2 (y_nmr _ r6) (y_ftr _ r6) rfl dJ12_init_2_20 ?_
  refine y_iload C 4 rfl dJ12_init_2_23 ?_
  refine y_if_eq C 36 dJ12_init_2_25 (by decide) (fun c9 => ?_) (fun c9 => ?_)
  · replace h := h.1 c9
    refine y_aload_n C 0 rfl rfl dJ12_init_2_36 ?_
    refine y_null C dJ12_init_2_37 ?_
    obtain ⟨fs9, g1, g2, h⟩ := h
    replace h := h _ rfl
    refine y_put (ci := 4) (k := 1) C in_X4 tyX4_ok nmX4 rfl (by decide) q479 (fun _ h => h) rfl g1 g2 rfl rfl rfl dJ12_init_2_38 ?_
    refine y_to C _ ?_ (okJ12_init_2_b41 C hB hr hin2  _ _ _ _ h)
    exact (And.intro rfl (And.intro rfl (And.intro rfl (And.intro rfl trivial))))
  · replace h := h.2 c9
    refine y_aload_n C 0 rfl rfl dJ12_init_2_28 ?_
    exact h.elim
theorem kdJ13_init : yJ13_init.cls = RJ13 ∧ yJ13_init.cls ≠ "java/lang/invoke/MethodHandle" ∧ yJ13_init.cls ≠ "java/lang/invoke/VarHandle" ∧ (parseMethodDescriptor yJ13_init.desc).map (fun d => d.parameters.length) = some 4 := by decide +kernel
def wpJ13_init (M : yM) (o_ : Nat) (a1 : Option Nat) (a2 : Option Nat) (a3 : Int32) (a4 : Int32) (post : yM → Prop) : Prop := wpJ12_init_2 M o_ a1 a2 a3 a4 (fun M1 => post M1)
theorem metJ13_init {l : Launch} {D : va_G} {s0 : State} {a0 : Array Value} (hB : yB D s0 a0) {M : yM} {o_ : Nat} {a1 : Option Nat} {a2 : Option Nat} {a3 : Int32} {a4 : Int32} {post : yM → Prop} (h : wpJ13_init M o_ a1 a2 a3 a4 post) : yMv l yJ13_init (ws_ yJ13_init cJ13_init 5 none) 2 104 0 0 D s0 [yr (some o_), yr a1, yr a2, yi a3, yi a4] M post := by
  refine y_metv hB (by decide) rfl (Nat.le_of_ble_eq_true rfl) ?_
  intro p e s m below meth c A hr hnm C
  have hin2 : meth.name = "<init>" := hnm
  rw [wpJ13_init] at h
  refine y_aload_n C 0 rfl rfl dJ13_init_0 ?_
  refine y_aload_n C 1 rfl rfl dJ13_init_1 ?_
  refine y_aload_n C 2 rfl rfl dJ13_init_2 ?_
  refine y_iload_n C 3 rfl rfl dJ13_init_3 ?_
  refine y_iload C 4 rfl dJ13_init_4 ?_
  refine y_callIv0 C (metJ12_init_2 hB h) (cwI 4 C.hts (lw_meth q471) rfl rfl rfl (C.hts _ q103) (C.hts _ q469) (C.hts _ q470) rfl kdJ12_init_2.2 ⟨Nat.le_of_ble_eq_true rfl, Nat.le_of_ble_eq_true rfl⟩) rfl rfl (Nat.le_of_ble_eq_true rfl) dJ13_init_6 (fun M1 hp => ?_)
  replace h := hp
  exact y_vret C hr rfl rfl h dJ13_init_9
theorem kdX4_init : yX4_init.cls = RX4 ∧ yX4_init.cls ≠ "java/lang/invoke/MethodHandle" ∧ yX4_init.cls ≠ "java/lang/invoke/VarHandle" ∧ (parseMethodDescriptor yX4_init.desc).map (fun d => d.parameters.length) = some 2 := by decide +kernel
def wpX4_init (M : yM) (o_ : Nat) (a1 : Int32) (a2 : Int32) (post : yM → Prop) : Prop := wpJ13_init M o_ none none 0 0 (fun M1 => ∃ fs2 : List yV, M1 o_ = some (yo 4 fs2) ∧ 6 < fs2.length ∧ ∀ M3 : yM, M3 = yup M1 o_ (yo 4 (fs2.set 6 (yi a1))) → ∃ fs4 : List yV, M3 o_ = some (yo 4 fs4) ∧ 7 < fs4.length ∧ ∀ M5 : yM, M5 = yup M3 o_ (yo 4 (fs4.set 7 (yi a2))) → post M5)
theorem metX4_init {l : Launch} {D : va_G} {s0 : State} {a0 : Array Value} (hB : yB D s0 a0) {M : yM} {o_ : Nat} {a1 : Int32} {a2 : Int32} {post : yM → Prop} (h : wpX4_init M o_ a1 a2 post) : yMv l yX4_init (ws_ yX4_init cX4_init 3 none) 3 128 0 0 D s0 [yr (some o_), yi a1, yi a2] M post := by
  refine y_metv hB (by decide) rfl (Nat.le_of_ble_eq_true rfl) ?_
  intro p e s m below meth c A hr hnm C
  have hin2 : meth.name = "<init>" := hnm
  rw [wpX4_init] at h
  refine y_aload_n C 0 rfl rfl dX4_init_0 ?_
  refine y_null C dX4_init_1 ?_
  refine y_null C dX4_init_2 ?_
  refine y_iconst C 0 dX4_init_3 lit0 ?_
  refine y_iconst C 0 dX4_init_4 lit0 ?_
  refine y_callIv0 C (metJ13_init hB h) (cwI 4 C.hts (lw_meth q468) rfl rfl rfl (C.hts _ q104) (C.hts _ q466) (C.hts _ q467) rfl kdJ13_init.2 ⟨Nat.le_of_ble_eq_true rfl, Nat.le_of_ble_eq_true rfl⟩) rfl rfl (Nat.le_of_ble_eq_true rfl) dX4_init_5 (fun M1 hp => ?_)
  replace h := hp
  refine y_aload_n C 0 rfl rfl dX4_init_8 ?_
  refine y_iload_n C 1 rfl rfl dX4_init_9 ?_
  obtain ⟨fs2, g1, g2, h⟩ := h
  replace h := h _ rfl
  refine y_putF (ci := 4) (k := 6) C in_X4 tyX4_ok nmX4 rfl (by decide) q472 (fun _ h => h) rfl hin2 rfl g1 g2 rfl rfl rfl dX4_init_10 ?_
  refine y_aload_n C 0 rfl rfl dX4_init_13 ?_
  refine y_iload_n C 2 rfl rfl dX4_init_14 ?_
  obtain ⟨fs4, g1, g2, h⟩ := h
  replace h := h _ rfl
  refine y_putF (ci := 4) (k := 7) C in_X4 tyX4_ok nmX4 rfl (by decide) q474 (fun _ h => h) rfl hin2 rfl g1 g2 rfl rfl rfl dX4_init_15 ?_
  exact y_vret C hr rfl rfl h dX4_init_18
theorem kdX3_require : yX3_require.cls = RX3 ∧ yX3_require.cls ≠ "java/lang/invoke/MethodHandle" ∧ yX3_require.cls ≠ "java/lang/invoke/VarHandle" ∧ (parseMethodDescriptor yX3_require.desc).map (fun d => d.parameters.length) = some 3 := by decide +kernel
def wpX3_require (M : yM) (mc : Nat) (ms : Nat) (o_ : Nat) (a1 : Int32) (a2 : Int32) (a3 : Int32) (post : yM → Prop) (xpost : Nat → yM → Prop) : Prop := ((¬ a1 = 0 → post M) ∧ (a1 = 0 → 1 ≤ mc ∧ 8 ≤ ms ∧ ∀ q1 : Nat, M q1 = none → ∀ M2 : yM, M2 = yup M q1 (yo 4 [yr none, yr none, yr none, yr none, yr none, yi 0, yi 0, yi 0]) → wpX4_init M2 q1 a2 a3 (fun M3 => ((∃ vs, M3 q1 = some (yo 4 vs)) ∧ xpost q1 M3))))
theorem metX3_require {l : Launch} {D : va_G} {s0 : State} {a0 : Array Value} (hB : yB D s0 a0) {M : yM} {mc : Nat} {ms : Nat} {o_ : Nat} {a1 : Int32} {a2 : Int32} {a3 : Int32} {post : yM → Prop} {xpost : Nat → yM → Prop} (h : wpX3_require M mc ms o_ a1 a2 a3 post xpost) : yNv l yX3_require (ws_ yX3_require cX3_require 4 none) 4 150 mc ms D s0 [yr (some o_), yi a1, yi a2, yi a3] M post xpost := by
  refine y_metXv hB (by decide) rfl (Nat.le_of_ble_eq_true rfl) ?_
  intro p e s m below meth c A hr hno C
  rw [wpX3_require] at h
  refine y_iload_n C 1 rfl rfl dX3_require_0 ?_
  refine y_if_ne C 14 dX3_require_1 (by decide) (fun c9 => ?_) (fun c9 => ?_)
  · replace h := h.1 c9
    refine y_xret ?_
    exact y_vret C hr rfl rfl h dX3_require_14
  · replace h := h.2 c9
    obtain ⟨g1, g2, h⟩ := h
    refine y_new (ci := 4) C in_X4 tyX4_ok rfl q426 q427 q105 [yr none, yr none, yr none, yr none, yr none, yi 0, yi 0, yi 0] (fun j hj => by rcases (show j = 0 ∨ j = 1 ∨ j = 2 ∨ j = 3 ∨ j = 4 ∨ j = 5 ∨ j = 6 ∨ j = 7 by omega) with rfl | rfl | rfl | rfl | rfl | rfl | rfl | rfl <;> rfl) g1 g2 dX3_require_4 (fun q1 g3 => ?_)
    replace h := h q1 g3 _ rfl
    refine y_dup C rfl dX3_require_7 ?_
    refine y_iload_n C 2 rfl rfl dX3_require_8 ?_
    refine y_iload_n C 3 rfl rfl dX3_require_9 ?_
    refine y_callIv0 C (metX4_init hB h) (cwI 2 C.hts (lw_meth q465) rfl rfl rfl (C.hts _ q105) (C.hts _ q463) (C.hts _ q464) rfl kdX4_init.2 ⟨Nat.le_of_ble_eq_true rfl, Nat.le_of_ble_eq_true rfl⟩) rfl rfl (Nat.le_of_ble_eq_true rfl) dX3_require_10 (fun M3 hp => ?_)
    replace h := hp
    obtain ⟨⟨vs9, g1⟩, h⟩ := h
    exact y_athrow C g1 dX3_require_13 (y_xout C hno rfl rfl h)
theorem kdX3_number : yX3_number.cls = RX3 ∧ yX3_number.cls ≠ "java/lang/invoke/MethodHandle" ∧ yX3_number.cls ≠ "java/lang/invoke/VarHandle" ∧ (parseMethodDescriptor yX3_number.desc).map (fun d => d.parameters.length) = some 3 := by decide +kernel
section sX3_number
variable {p : Program} {l : Launch} {e : Env} {s : State} {m : MethodId} {args : Array Value} {below : List Frame} {meth : Method} {c : Code} {D : va_G} {s0 : State} {a0 : Array Value} {A : Nat → Prop} {mc ms : Nat}
def wpX3_number_b46 (o_ : Nat) (post : Int32 → yM → Prop) (xpost : Nat → yM → Prop) (k22 : yM → Nat → Nat → Int32 → Int32 → Int32 → Int32 → Int32 → Prop) (M : yM) (rc : Nat) (rs : Nat) (v1 : Int32) (v2 : Int32) (v3 : Int32) (v4 : Int32) (v5 : Int32) (u1 : Int32) : Prop := ∃ x13 : Int32, yF M o_ 3 2 (yi x13) ∧ ∃ kc14 ks15 : Nat, kc14 ≤ rc ∧ ks15 ≤ rs ∧ (∃ vs, M o_ = some (yo 3 vs)) ∧ wpX3_require M kc14 ks15 o_ u1 1 x13 (fun M16 => (∃ vs, M16 o_ = some (yo 3 vs)) ∧ wpX3_here M16 o_ (fun r17 => ∀ x18 : Int32, x18 = (((10 * v5) + r17) - 48) → ∃ x19 : Int32, yF M16 o_ 3 2 (yi x19) ∧ ∃ fs20 : List yV, M16 o_ = some (yo 3 fs20) ∧ 2 < fs20.length ∧ ∀ M21 : yM, M21 = yup M16 o_ (yo 3 (fs20.set 2 (yi (x19 + 1)))) → k22 M21 (rc - kc14) (rs - ks15) v1 v2 v3 v4 x18)) xpost
theorem okX3_number_b46 (C : yC p { frames := 7, cells := mc, slots := ms, locals := 208 } s m args meth c cX3_number 6 RX3 D s0 a0 A) (hB : yB D s0 a0) (hr : meth.sig.returnType = (some .int)) (hno : ∀ x ∈ c.exceptionTable.toList, False) {o_ : Nat} {post : Int32 → yM → Prop} {xpost : Nat → yM → Prop} {k22 : yM → Nat → Nat → Int32 → Int32 → Int32 → Int32 → Int32 → Prop} (hk22 : ∀ (M : yM) (rc : Nat) (rs : Nat) (v1 : Int32) (v2 : Int32) (v3 : Int32) (v4 : Int32) (v5 : Int32), k22 M rc rs v1 v2 v3 v4 v5 → Y p l e { frames := 7, cells := mc, slots := ms, locals := 208 } s m args below meth c (vz_MQ below (yQi D s0 A post) (yXC D s0 A xpost) args s mc ms A) D s0 A 6 M rc rs [some (yr (some o_)), some (yi v1), some (yi v2), some (yi v3), some (yi v4), some (yi v5)] 22 []) : ∀ (M : yM) (rc : Nat) (rs : Nat) (v1 : Int32) (v2 : Int32) (v3 : Int32) (v4 : Int32) (v5 : Int32) (u1 : Int32), wpX3_number_b46 o_ post xpost k22 M rc rs v1 v2 v3 v4 v5 u1 → Y p l e { frames := 7, cells := mc, slots := ms, locals := 208 } s m args below meth c (vz_MQ below (yQi D s0 A post) (yXC D s0 A xpost) args s mc ms A) D s0 A 6 M rc rs [some (yr (some o_)), some (yi v1), some (yi v2), some (yi v3), some (yi v4), some (yi v5)] 46 [yi u1, yr (some o_)] := by
  intro M rc rs v1 v2 v3 v4 v5 u1 h
  rw [wpX3_number_b46] at h
  refine y_iconst C 1 dX3_number_46 lit1 ?_
  refine y_aload_n C 0 rfl rfl dX3_number_47 ?_
  obtain ⟨x13, ⟨fs9, g1, g2⟩, h⟩ := h
  refine y_get (ci := 3) (k := 2) C in_X3 rfl (by decide) q367 (fun _ h => h) g1 g2 dX3_number_48 ?_
  obtain ⟨kc14, ks15, g1, g2, h⟩ := h
  obtain ⟨⟨vs9, g0⟩, h⟩ := h
  refine y_callXv C (metX3_require hB h) (cwV 3 C.hts (lw_V q422 q424 qs2 q92 q425) rfl rfl rfl kdX3_require ⟨Nat.le_of_ble_eq_true rfl, Nat.le_of_ble_eq_true rfl⟩) g0 rfl rfl rfl (Nat.le_of_ble_eq_true rfl) dX3_number_51 g1 g2 (fun q9 M1 hx => y_xout C hno rfl rfl hx) (fun M16 hp => ?_)
  replace h := hp
  refine y_bipush C 10 dX3_number_54 y_b10 ?_
  refine y_iload C 5 rfl dX3_number_56 ?_
  refine y_imul C dX3_number_58 ?_
  refine y_aload_n C 0 rfl rfl dX3_number_59 ?_
  obtain ⟨⟨vs9, g0⟩, h⟩ := h
  refine y_callVi0 C (metX3_here hB h) (cwV 0 C.hts (lw_V q383 q385 qs1 q92 q386) rfl rfl rfl kdX3_here ⟨Nat.le_of_ble_eq_true rfl, Nat.le_of_ble_eq_true rfl⟩) g0 rfl rfl rfl (Nat.le_of_ble_eq_true rfl) dX3_number_60 (fun r17 M1 hp => ?_)
  clear h
  obtain ⟨rfl, h⟩ := hp
  refine y_iadd C dX3_number_63 ?_
  refine y_bipush C 48 dX3_number_64 y_b48 ?_
  refine y_isub C dX3_number_66 ?_
  replace h := h _ rfl
  refine y_istore C 5 (by decide) dX3_number_67 ?_
  refine y_aload_n C 0 rfl rfl dX3_number_69 ?_
  refine y_dup C rfl dX3_number_70 ?_
  obtain ⟨x19, ⟨fs9, g1, g2⟩, h⟩ := h
  refine y_get (ci := 3) (k := 2) C in_X3 rfl (by decide) q367 (fun _ h => h) g1 g2 dX3_number_71 ?_
  refine y_iconst C 1 dX3_number_74 lit1 ?_
  refine y_iadd C dX3_number_75 ?_
  obtain ⟨fs20, g1, g2, h⟩ := h
  replace h := h _ rfl
  refine y_put (ci := 3) (k := 2) C in_X3 tyX3_ok nmX3 rfl (by decide) q367 (fun _ h => h) rfl g1 g2 rfl rfl rfl dX3_number_76 ?_
  refine y_goto C 22 dX3_number_79 (by decide) ?_
  refine y_to C _ ?_ (hk22 _ _ _ _ _ _ _ _ h)
  exact (And.intro rfl (And.intro rfl (And.intro rfl (And.intro rfl (And.intro rfl (And.intro rfl trivial))))))
def wpX3_number_b22 (o_ : Nat) (post : Int32 → yM → Prop) (xpost : Nat → yM → Prop) : Nat → yM → Nat → Nat → Int32 → Int32 → Int32 → Int32 → Int32 → Prop
  | 0, _, _, _, _, _, _, _, _ => False
  | nn + 1, M, rc, rs, v1, v2, v3, v4, v5 => (∃ vs, M o_ = some (yo 3 vs)) ∧ wpX3_isDigit M o_ (fun r7 => ((r7 = 0 → wpX0_in M v5 v2 v3 (fun r8 => ∃ kc9 ks10 : Nat, kc9 ≤ rc ∧ ks10 ≤ rs ∧ (∃ vs, M o_ = some (yo 3 vs)) ∧ wpX3_require M kc9 ks10 o_ r8 2 v4 (fun M11 => post v5 M11) xpost)) ∧ (¬ r7 = 0 → ∃ x12 : Int32, yF M o_ 3 2 (yi x12) ∧ ((v1 ≤ (x12 - v4) → wpX3_number_b46 o_ post xpost (fun M rc rs v1 v2 v3 v4 v5 => wpX3_number_b22 o_ post xpost nn M rc rs v1 v2 v3 v4 v5) M rc rs v1 v2 v3 v4 v5 0) ∧ (¬ v1 ≤ (x12 - v4) → wpX3_number_b46 o_ post xpost (fun M rc rs v1 v2 v3 v4 v5 => wpX3_number_b22 o_ post xpost nn M rc rs v1 v2 v3 v4 v5) M rc rs v1 v2 v3 v4 v5 1)))))
theorem okX3_number_b22 (C : yC p { frames := 7, cells := mc, slots := ms, locals := 208 } s m args meth c cX3_number 6 RX3 D s0 a0 A) (hB : yB D s0 a0) (hr : meth.sig.returnType = (some .int)) (hno : ∀ x ∈ c.exceptionTable.toList, False) {o_ : Nat} {post : Int32 → yM → Prop} {xpost : Nat → yM → Prop}  : ∀ (nn : Nat) (M : yM) (rc : Nat) (rs : Nat) (v1 : Int32) (v2 : Int32) (v3 : Int32) (v4 : Int32) (v5 : Int32), wpX3_number_b22 o_ post xpost nn M rc rs v1 v2 v3 v4 v5 → Y p l e { frames := 7, cells := mc, slots := ms, locals := 208 } s m args below meth c (vz_MQ below (yQi D s0 A post) (yXC D s0 A xpost) args s mc ms A) D s0 A 6 M rc rs [some (yr (some o_)), some (yi v1), some (yi v2), some (yi v3), some (yi v4), some (yi v5)] 22 [] := by
  intro nn
  induction nn with
  | zero => intro M rc rs v1 v2 v3 v4 v5 h; exact absurd h (by rw [wpX3_number_b22]; exact id)
  | succ nn ih =>
    intro M rc rs v1 v2 v3 v4 v5 h
    rw [wpX3_number_b22] at h
    refine y_aload_n C 0 rfl rfl dX3_number_22 ?_
    obtain ⟨⟨vs9, g0⟩, h⟩ := h
    refine y_callVi0 C (metX3_isDigit hB h) (cwV 0 C.hts (lw_V q501 q503 qs5 q92 q504) rfl rfl rfl kdX3_isDigit ⟨Nat.le_of_ble_eq_true rfl, Nat.le_of_ble_eq_true rfl⟩) g0 rfl rfl rfl (Nat.le_of_ble_eq_true rfl) dX3_number_23 (fun r7 M1 hp => ?_)
    clear h
    obtain ⟨rfl, h⟩ := hp
    refine y_if_eq C 82 dX3_number_26 (by decide) (fun c9 => ?_) (fun c9 => ?_)
    · replace h := h.1 c9
      refine y_aload_n C 0 rfl rfl dX3_number_82 ?_
      refine y_iload C 5 rfl dX3_number_83 ?_
      refine y_iload_n C 2 rfl rfl dX3_number_85 ?_
      refine y_iload_n C 3 rfl rfl dX3_number_86 ?_
      refine y_callSNi0 C (metX0_in hB h) ⟨va_cnB 3 C.hts (lw_meth q211) rfl rfl rfl (C.nestM q505) (C.hts _ q86) kdX0_in.2 ⟨Nat.le_of_ble_eq_true rfl, Nat.le_of_ble_eq_true rfl⟩, C.hts _ q210, trivial⟩ rfl rfl (Nat.le_of_ble_eq_true rfl) dX3_number_87 (fun r8 M1 hp => ?_)
      clear h
      obtain ⟨rfl, h⟩ := hp
      refine y_iconst C 2 dX3_number_90 lit2 ?_
      refine y_iload C 4 rfl dX3_number_91 ?_
      obtain ⟨kc9, ks10, g1, g2, h⟩ := h
      obtain ⟨⟨vs9, g0⟩, h⟩ := h
      refine y_callXv C (metX3_require hB h) (cwV 3 C.hts (lw_V q422 q424 qs2 q92 q425) rfl rfl rfl kdX3_require ⟨Nat.le_of_ble_eq_true rfl, Nat.le_of_ble_eq_true rfl⟩) g0 rfl rfl rfl (Nat.le_of_ble_eq_true rfl) dX3_number_93 g1 g2 (fun q9 M1 hx => y_xout C hno rfl rfl hx) (fun M11 hp => ?_)
      replace h := hp
      refine y_iload C 5 rfl dX3_number_96 ?_
      refine y_xret ?_
      exact y_ireti C hr rfl rfl h dX3_number_98
    · replace h := h.2 c9
      refine y_aload_n C 0 rfl rfl dX3_number_29 ?_
      refine y_aload_n C 0 rfl rfl dX3_number_30 ?_
      obtain ⟨x12, ⟨fs9, g1, g2⟩, h⟩ := h
      refine y_get (ci := 3) (k := 2) C in_X3 rfl (by decide) q367 (fun _ h => h) g1 g2 dX3_number_31 ?_
      refine y_iload C 4 rfl dX3_number_34 ?_
      refine y_isub C dX3_number_36 ?_
      refine y_iload_n C 1 rfl rfl dX3_number_37 ?_
      refine y_icmp_ge C 45 dX3_number_38 (by decide) (fun c9 => ?_) (fun c9 => ?_)
      · replace h := h.1 c9
        refine y_iconst C 0 dX3_number_45 lit0 ?_
        refine y_to C _ ?_ (okX3_number_b46 C hB hr hno ih _ _ _ _ _ _ _ _ _ h)
        exact (And.intro rfl (And.intro rfl (And.intro rfl (And.intro rfl (And.intro rfl (And.intro rfl trivial))))))
      · replace h := h.2 c9
        refine y_iconst C 1 dX3_number_41 lit1 ?_
        refine y_goto C 46 dX3_number_42 (by decide) ?_
        refine y_to C _ ?_ (okX3_number_b46 C hB hr hno ih _ _ _ _ _ _ _ _ _ h)
        exact (And.intro rfl (And.intro rfl (And.intro rfl (And.intro rfl (And.intro rfl (And.intro rfl trivial))))))
end sX3_number
def wpX3_number (M : yM) (mc : Nat) (ms : Nat) (o_ : Nat) (a1 : Int32) (a2 : Int32) (a3 : Int32) (post : Int32 → yM → Prop) (xpost : Nat → yM → Prop) : Prop := ∃ x1 : Int32, yF M o_ 3 2 (yi x1) ∧ (∃ vs, M o_ = some (yo 3 vs)) ∧ wpX3_isDigit M o_ (fun r2 => ∃ x3 : Int32, yF M o_ 3 2 (yi x3) ∧ ∃ kc4 ks5 : Nat, kc4 ≤ mc ∧ ks5 ≤ ms ∧ (∃ vs, M o_ = some (yo 3 vs)) ∧ wpX3_require M kc4 ks5 o_ r2 1 x3 (fun M6 => ∃ nf9 : Nat, wpX3_number_b22 o_ post xpost nf9 M6 (mc - kc4) (ms - ks5) a1 a2 a3 x1 0) xpost)
theorem metX3_number {l : Launch} {D : va_G} {s0 : State} {a0 : Array Value} (hB : yB D s0 a0) {M : yM} {mc : Nat} {ms : Nat} {o_ : Nat} {a1 : Int32} {a2 : Int32} {a3 : Int32} {post : Int32 → yM → Prop} {xpost : Nat → yM → Prop} (h : wpX3_number M mc ms o_ a1 a2 a3 post xpost) : yNi l yX3_number (ws_ yX3_number cX3_number 6 (some .int)) 7 208 mc ms D s0 [yr (some o_), yi a1, yi a2, yi a3] M post xpost := by
  refine y_metXi hB (by decide) rfl (Nat.le_of_ble_eq_true rfl) ?_
  intro p e s m below meth c A hr hno C
  rw [wpX3_number] at h
  refine y_aload_n C 0 rfl rfl dX3_number_0 ?_
  obtain ⟨x1, ⟨fs9, g1, g2⟩, h⟩ := h
  refine y_get (ci := 3) (k := 2) C in_X3 rfl (by decide) q367 (fun _ h => h) g1 g2 dX3_number_1 ?_
  refine y_istore C 4 (by decide) dX3_number_4 ?_
  refine y_iconst C 0 dX3_number_6 lit0 ?_
  refine y_istore C 5 (by decide) dX3_number_7 ?_
  refine y_aload_n C 0 rfl rfl dX3_number_9 ?_
  refine y_aload_n C 0 rfl rfl dX3_number_10 ?_
  obtain ⟨⟨vs9, g0⟩, h⟩ := h
  refine y_callVi0 C (metX3_isDigit hB h) (cwV 0 C.hts (lw_V q501 q503 qs5 q92 q504) rfl rfl rfl kdX3_isDigit ⟨Nat.le_of_ble_eq_true rfl, Nat.le_of_ble_eq_true rfl⟩) g0 rfl rfl rfl (Nat.le_of_ble_eq_true rfl) dX3_number_11 (fun r2 M1 hp => ?_)
  clear h
  obtain ⟨rfl, h⟩ := hp
  refine y_iconst C 1 dX3_number_14 lit1 ?_
  refine y_aload_n C 0 rfl rfl dX3_number_15 ?_
  obtain ⟨x3, ⟨fs9, g1, g2⟩, h⟩ := h
  refine y_get (ci := 3) (k := 2) C in_X3 rfl (by decide) q367 (fun _ h => h) g1 g2 dX3_number_16 ?_
  obtain ⟨kc4, ks5, g1, g2, h⟩ := h
  obtain ⟨⟨vs9, g0⟩, h⟩ := h
  refine y_callXv C (metX3_require hB h) (cwV 3 C.hts (lw_V q422 q424 qs2 q92 q425) rfl rfl rfl kdX3_require ⟨Nat.le_of_ble_eq_true rfl, Nat.le_of_ble_eq_true rfl⟩) g0 rfl rfl rfl (Nat.le_of_ble_eq_true rfl) dX3_number_19 g1 g2 (fun q9 M1 hx => y_xout C hno rfl rfl hx) (fun M6 hp => ?_)
  replace h := hp
  obtain ⟨nf9, h⟩ := h
  refine y_to C _ ?_ (okX3_number_b22 C hB hr hno  nf9 _ _ _ _ _ _ _ _ h)
  exact (And.intro rfl (And.intro rfl (And.intro rfl (And.intro rfl (And.intro rfl (And.intro rfl trivial))))))
theorem kdX3_dimension : yX3_dimension.cls = RX3 ∧ yX3_dimension.cls ≠ "java/lang/invoke/MethodHandle" ∧ yX3_dimension.cls ≠ "java/lang/invoke/VarHandle" ∧ (parseMethodDescriptor yX3_dimension.desc).map (fun d => d.parameters.length) = some 0 := by decide +kernel
section sX3_dimension
variable {p : Program} {l : Launch} {e : Env} {s : State} {m : MethodId} {args : Array Value} {below : List Frame} {meth : Method} {c : Code} {D : va_G} {s0 : State} {a0 : Array Value} {A : Nat → Prop} {mc ms : Nat}
def wpX3_dimension_b162 (z : Nat → Nat) (o_ : Nat) (post : yM → Prop) (xpost : Nat → yM → Prop) (M : yM) (rc : Nat) (rs : Nat) (v4 : Option Nat) (u0 : Option Nat) (u1 : Int32) : Prop := ∃ d46 : Nat, u0 = some d46 ∧ ∃ fs47 : List yV, M d46 = some (yo 6 fs47) ∧ 4 < fs47.length ∧ ∀ M48 : yM, M48 = yup M d46 (yo 6 (fs47.set 4 (yi u1))) → ∃ r49 : Option Nat, yF M48 o_ 3 1 (yr r49) ∧ ∃ d50 : Nat, r49 = some d50 ∧ ∃ r51 : Option Nat, yF M48 d50 1 1 (yr r51) ∧ ∃ d52 : Nat, r51 = some d52 ∧ ∃ kc53 ks54 : Nat, kc53 ≤ rc ∧ ks54 ≤ rs ∧ (∃ vs, M48 d52 = some (yo 9 vs)) ∧ wpJ2_add M48 z kc53 ks54 d52 v4 (fun r56 M55 => post M55)
theorem okX3_dimension_b162 (C : yC p { frames := 8, cells := mc, slots := ms, locals := 233 } s m args meth c cX3_dimension 5 RX3 D s0 a0 A) (hB : yB D s0 a0) (hr : meth.sig.returnType = none) (hno : ∀ x ∈ c.exceptionTable.toList, False) {o_ : Nat} {post : yM → Prop} {xpost : Nat → yM → Prop}  : ∀ (M : yM) (rc : Nat) (rs : Nat) (v4 : Option Nat) (u0 : Option Nat) (u1 : Int32), wpX3_dimension_b162 (yz s0 a0) o_ post xpost M rc rs v4 u0 u1 → Y p l e { frames := 8, cells := mc, slots := ms, locals := 233 } s m args below meth c (vz_MQ below (yQv D s0 A post) (yXC D s0 A xpost) args s mc ms A) D s0 A 5 M rc rs [some (yr (some o_)), none, none, none, some (yr v4)] 162 [yi u1, yr u0] := by
  intro M rc rs v4 u0 u1 h
  rw [wpX3_dimension_b162] at h
  obtain ⟨d46, rfl, h⟩ := h
  obtain ⟨fs47, g1, g2, h⟩ := h
  replace h := h _ rfl
  refine y_putN (ci := 6) (k := 4) C in_X6 tyX6_ok nmX6 rfl (by decide) q605 (fun _ h => h) rfl g1 g2 rfl rfl rfl dX3_dimension_162 ?_
  refine y_aload_n C 0 rfl rfl dX3_dimension_165 ?_
  obtain ⟨r49, ⟨fs9, g1, g2⟩, h⟩ := h
  refine y_get (ci := 3) (k := 1) C in_X3 rfl (by decide) q366 (fun _ h => h) g1 g2 dX3_dimension_166 ?_
  obtain ⟨d50, rfl, h⟩ := h
  obtain ⟨r51, ⟨fs9, g1, g2⟩, h⟩ := h
  refine y_getN (ci := 1) (k := 1) C in_X1 rfl (by decide) q161 (fun _ h => h) g1 g2 dX3_dimension_169 ?_
  refine y_aload C 4 rfl dX3_dimension_172 ?_
  obtain ⟨d52, rfl, h⟩ := h
  obtain ⟨kc53, ks54, g1, g2, h⟩ := h
  obtain ⟨⟨vs9, g0⟩, h⟩ := h
  refine y_callVi C (metJ2_add hB h) (cwV 1 C.hts (lw_V q520 q521 q522 q90 q523) rfl rfl rfl kdJ2_add ⟨Nat.le_of_ble_eq_true rfl, Nat.le_of_ble_eq_true rfl⟩) g0 rfl rfl rfl (Nat.le_of_ble_eq_true rfl) dX3_dimension_174 g1 g2 (fun r56 M55 hp => ?_)
  replace h := hp
  refine y_pop C rfl dX3_dimension_177 ?_
  refine y_xret ?_
  exact y_vret C hr rfl rfl h dX3_dimension_178
def wpX3_dimension_b137 (z : Nat → Nat) (o_ : Nat) (post : yM → Prop) (xpost : Nat → yM → Prop) (M : yM) (rc : Nat) (rs : Nat) (v4 : Option Nat) (u0 : Option Nat) (u1 : Int32) : Prop := ∃ d41 : Nat, u0 = some d41 ∧ ∃ fs42 : List yV, M d41 = some (yo 6 fs42) ∧ 2 < fs42.length ∧ ∀ M43 : yM, M43 = yup M d41 (yo 6 (fs42.set 2 (yi u1))) → (∃ vs, M43 o_ = some (yo 3 vs)) ∧ wpX3_takes M43 o_ 99 (fun r45 M44 => ((r45 = 0 → wpX3_dimension_b162 z o_ post xpost M44 rc rs v4 v4 0) ∧ (¬ r45 = 0 → ∃ kc57 ks58 : Nat, kc57 ≤ rc ∧ ks58 ≤ rs ∧ (∃ vs, M44 o_ = some (yo 3 vs)) ∧ wpX3_number M44 kc57 ks58 o_ 1 0 5 (fun r60 M59 => wpX3_dimension_b162 z o_ post xpost M59 (rc - kc57) (rs - ks58) v4 v4 r60) xpost)))
theorem okX3_dimension_b137 (C : yC p { frames := 8, cells := mc, slots := ms, locals := 233 } s m args meth c cX3_dimension 5 RX3 D s0 a0 A) (hB : yB D s0 a0) (hr : meth.sig.returnType = none) (hno : ∀ x ∈ c.exceptionTable.toList, False) {o_ : Nat} {post : yM → Prop} {xpost : Nat → yM → Prop}  : ∀ (M : yM) (rc : Nat) (rs : Nat) (v4 : Option Nat) (u0 : Option Nat) (u1 : Int32), wpX3_dimension_b137 (yz s0 a0) o_ post xpost M rc rs v4 u0 u1 → Y p l e { frames := 8, cells := mc, slots := ms, locals := 233 } s m args below meth c (vz_MQ below (yQv D s0 A post) (yXC D s0 A xpost) args s mc ms A) D s0 A 5 M rc rs [some (yr (some o_)), none, none, none, some (yr v4)] 137 [yi u1, yr u0] := by
  intro M rc rs v4 u0 u1 h
  rw [wpX3_dimension_b137] at h
  obtain ⟨d41, rfl, h⟩ := h
  obtain ⟨fs42, g1, g2, h⟩ := h
  replace h := h _ rfl
  refine y_putN (ci := 6) (k := 2) C in_X6 tyX6_ok nmX6 rfl (by decide) q598 (fun _ h => h) rfl g1 g2 rfl rfl rfl dX3_dimension_137 ?_
  refine y_aload C 4 rfl dX3_dimension_140 ?_
  refine y_aload_n C 0 rfl rfl dX3_dimension_142 ?_
  refine y_bipush C 99 dX3_dimension_143 y_b99 ?_
  obtain ⟨⟨vs9, g0⟩, h⟩ := h
  refine y_callVi0 C (metX3_takes hB h) (cwV 1 C.hts (lw_V q379 q381 qs0 q92 q382) rfl rfl rfl kdX3_takes ⟨Nat.le_of_ble_eq_true rfl, Nat.le_of_ble_eq_true rfl⟩) g0 rfl rfl rfl (Nat.le_of_ble_eq_true rfl) dX3_dimension_145 (fun r45 M44 hp => ?_)
  replace h := hp
  refine y_if_eq C 161 dX3_dimension_148 (by decide) (fun c9 => ?_) (fun c9 => ?_)
  · replace h := h.1 c9
    refine y_iconst C 0 dX3_dimension_161 lit0 ?_
    refine y_to C _ ?_ (okX3_dimension_b162 C hB hr hno  _ _ _ _ _ _ h)
    exact (And.intro rfl (And.intro rfl trivial))
  · replace h := h.2 c9
    refine y_aload_n C 0 rfl rfl dX3_dimension_151 ?_
    refine y_iconst C 1 dX3_dimension_152 lit1 ?_
    refine y_iconst C 0 dX3_dimension_153 lit0 ?_
    refine y_iconst C 5 dX3_dimension_154 lit5 ?_
    obtain ⟨kc57, ks58, g1, g2, h⟩ := h
    obtain ⟨⟨vs9, g0⟩, h⟩ := h
    refine y_callXi C (metX3_number hB h) (cwV 3 C.hts (lw_V q497 q499 qs4 q92 q500) rfl rfl rfl kdX3_number ⟨Nat.le_of_ble_eq_true rfl, Nat.le_of_ble_eq_true rfl⟩) g0 rfl rfl rfl (Nat.le_of_ble_eq_true rfl) dX3_dimension_155 g1 g2 (fun q9 M1 hx => y_xout C hno rfl rfl hx) (fun r60 M59 hp => ?_)
    replace h := hp
    refine y_goto C 162 dX3_dimension_158 (by decide) ?_
    refine y_to C _ ?_ (okX3_dimension_b162 C hB hr hno  _ _ _ _ _ _ h)
    exact (And.intro rfl (And.intro rfl trivial))
def wpX3_dimension_b111 (z : Nat → Nat) (o_ : Nat) (post : yM → Prop) (xpost : Nat → yM → Prop) (M : yM) (rc : Nat) (rs : Nat) (v4 : Option Nat) (u0 : Option Nat) (u1 : Int32) : Prop := ∃ d36 : Nat, u0 = some d36 ∧ ∃ fs37 : List yV, M d36 = some (yo 6 fs37) ∧ 3 < fs37.length ∧ ∀ M38 : yM, M38 = yup M d36 (yo 6 (fs37.set 3 (yi u1))) → (∃ vs, M38 o_ = some (yo 3 vs)) ∧ wpX3_takes M38 o_ 45 (fun r40 M39 => ((r40 = 0 → wpX3_dimension_b137 z o_ post xpost M39 rc rs v4 v4 0) ∧ (¬ r40 = 0 → ∃ kc61 ks62 : Nat, kc61 ≤ rc ∧ ks62 ≤ rs ∧ (∃ vs, M39 o_ = some (yo 3 vs)) ∧ wpX3_number M39 kc61 ks62 o_ 2 0 20 (fun r64 M63 => wpX3_dimension_b137 z o_ post xpost M63 (rc - kc61) (rs - ks62) v4 v4 r64) xpost)))
theorem okX3_dimension_b111 (C : yC p { frames := 8, cells := mc, slots := ms, locals := 233 } s m args meth c cX3_dimension 5 RX3 D s0 a0 A) (hB : yB D s0 a0) (hr : meth.sig.returnType = none) (hno : ∀ x ∈ c.exceptionTable.toList, False) {o_ : Nat} {post : yM → Prop} {xpost : Nat → yM → Prop}  : ∀ (M : yM) (rc : Nat) (rs : Nat) (v4 : Option Nat) (u0 : Option Nat) (u1 : Int32), wpX3_dimension_b111 (yz s0 a0) o_ post xpost M rc rs v4 u0 u1 → Y p l e { frames := 8, cells := mc, slots := ms, locals := 233 } s m args below meth c (vz_MQ below (yQv D s0 A post) (yXC D s0 A xpost) args s mc ms A) D s0 A 5 M rc rs [some (yr (some o_)), none, none, none, some (yr v4)] 111 [yi u1, yr u0] := by
  intro M rc rs v4 u0 u1 h
  rw [wpX3_dimension_b111] at h
  obtain ⟨d36, rfl, h⟩ := h
  obtain ⟨fs37, g1, g2, h⟩ := h
  replace h := h _ rfl
  refine y_putN (ci := 6) (k := 3) C in_X6 tyX6_ok nmX6 rfl (by decide) q602 (fun _ h => h) rfl g1 g2 rfl rfl rfl dX3_dimension_111 ?_
  refine y_aload C 4 rfl dX3_dimension_114 ?_
  refine y_aload_n C 0 rfl rfl dX3_dimension_116 ?_
  refine y_bipush C 45 dX3_dimension_117 y_b45 ?_
  obtain ⟨⟨vs9, g0⟩, h⟩ := h
  refine y_callVi0 C (metX3_takes hB h) (cwV 1 C.hts (lw_V q379 q381 qs0 q92 q382) rfl rfl rfl kdX3_takes ⟨Nat.le_of_ble_eq_true rfl, Nat.le_of_ble_eq_true rfl⟩) g0 rfl rfl rfl (Nat.le_of_ble_eq_true rfl) dX3_dimension_119 (fun r40 M39 hp => ?_)
  replace h := hp
  refine y_if_eq C 136 dX3_dimension_122 (by decide) (fun c9 => ?_) (fun c9 => ?_)
  · replace h := h.1 c9
    refine y_iconst C 0 dX3_dimension_136 lit0 ?_
    refine y_to C _ ?_ (okX3_dimension_b137 C hB hr hno  _ _ _ _ _ _ h)
    exact (And.intro rfl (And.intro rfl trivial))
  · replace h := h.2 c9
    refine y_aload_n C 0 rfl rfl dX3_dimension_125 ?_
    refine y_iconst C 2 dX3_dimension_126 lit2 ?_
    refine y_iconst C 0 dX3_dimension_127 lit0 ?_
    refine y_bipush C 20 dX3_dimension_128 y_b20 ?_
    obtain ⟨kc61, ks62, g1, g2, h⟩ := h
    obtain ⟨⟨vs9, g0⟩, h⟩ := h
    refine y_callXi C (metX3_number hB h) (cwV 3 C.hts (lw_V q497 q499 qs4 q92 q500) rfl rfl rfl kdX3_number ⟨Nat.le_of_ble_eq_true rfl, Nat.le_of_ble_eq_true rfl⟩) g0 rfl rfl rfl (Nat.le_of_ble_eq_true rfl) dX3_dimension_130 g1 g2 (fun q9 M1 hx => y_xout C hno rfl rfl hx) (fun r64 M63 hp => ?_)
    replace h := hp
    refine y_goto C 137 dX3_dimension_133 (by decide) ?_
    refine y_to C _ ?_ (okX3_dimension_b137 C hB hr hno  _ _ _ _ _ _ h)
    exact (And.intro rfl (And.intro rfl trivial))
end sX3_dimension
def wpX3_dimension (M : yM) (z : Nat → Nat) (mc : Nat) (ms : Nat) (o_ : Nat) (post : yM → Prop) (xpost : Nat → yM → Prop) : Prop := ∃ r1 : Option Nat, yF M o_ 3 1 (yr r1) ∧ ∃ d2 : Nat, r1 = some d2 ∧ ∃ r3 : Option Nat, yF M d2 1 0 (yr r3) ∧ ∃ d4 : Nat, r3 = some d4 ∧ (∃ vs, M d4 = some (yo 9 vs)) ∧ wpJ2_size M d4 (fun r5 => ∀ x6 : Int32, x6 = (if (r5 - 1) < 9 then (r5 - 1) else 9) → ∃ kc7 ks8 : Nat, kc7 ≤ mc ∧ ks8 ≤ ms ∧ (∃ vs, M o_ = some (yo 3 vs)) ∧ wpX3_number M kc7 ks8 o_ 1 0 x6 (fun r10 M9 => (∃ vs, M9 o_ = some (yo 3 vs)) ∧ wpX3_takes M9 o_ 45 (fun r12 M11 => ∃ x13 : Int32, yF M11 o_ 3 2 (yi x13) ∧ ∃ kc14 ks15 : Nat, kc14 ≤ (mc - kc7) ∧ ks15 ≤ (ms - ks8) ∧ (∃ vs, M11 o_ = some (yo 3 vs)) ∧ wpX3_require M11 kc14 ks15 o_ r12 1 x13 (fun M16 => ∃ kc17 ks18 : Nat, kc17 ≤ ((mc - kc7) - kc14) ∧ ks18 ≤ ((ms - ks8) - ks15) ∧ (∃ vs, M16 o_ = some (yo 3 vs)) ∧ wpX3_number M16 kc17 ks18 o_ 1 (r10 + 1) x6 (fun r20 M19 => 1 ≤ (((mc - kc7) - kc14) - kc17) ∧ 10 ≤ (((ms - ks8) - ks15) - ks18) ∧ ∀ q21 : Nat, M19 q21 = none → ∀ M22 : yM, M22 = yup M19 q21 (yo 6 [yr none, yr none, yi 0, yi 0, yi 0, yi 0, yi 0, yi 0, yi 0, yi 0]) → ∃ r23 : Option Nat, yF M22 o_ 3 1 (yr r23) ∧ ∃ d24 : Nat, r23 = some d24 ∧ ∃ r25 : Option Nat, yF M22 d24 1 0 (yr r25) ∧ ∃ d26 : Nat, r25 = some d26 ∧ (∃ vs, M22 d26 = some (yo 9 vs)) ∧ wpJ2_get M22 d26 r10 (fun r27 => (∀ v, r27 = some v → ∃ vs, M22 v = some (yo 5 vs)) ∧ ∃ r28 : Option Nat, yF M22 o_ 3 1 (yr r28) ∧ ∃ d29 : Nat, r28 = some d29 ∧ ∃ r30 : Option Nat, yF M22 d29 1 0 (yr r30) ∧ ∃ d31 : Nat, r30 = some d31 ∧ (∃ vs, M22 d31 = some (yo 9 vs)) ∧ wpJ2_get M22 d31 r20 (fun r32 => (∀ v, r32 = some v → ∃ vs, M22 v = some (yo 5 vs)) ∧ wpX6_init M22 q21 r27 r32 (fun M33 => (∃ vs, M33 o_ = some (yo 3 vs)) ∧ wpX3_takes M33 o_ 43 (fun r35 M34 => ((r35 = 0 → wpX3_dimension_b111 z o_ post xpost M34 ((((mc - kc7) - kc14) - kc17) - 1) ((((ms - ks8) - ks15) - ks18) - 10) (some q21) (some q21) 0) ∧ (¬ r35 = 0 → ∃ kc65 ks66 : Nat, kc65 ≤ ((((mc - kc7) - kc14) - kc17) - 1) ∧ ks66 ≤ ((((ms - ks8) - ks15) - ks18) - 10) ∧ (∃ vs, M34 o_ = some (yo 3 vs)) ∧ wpX3_number M34 kc65 ks66 o_ 2 0 20 (fun r68 M67 => wpX3_dimension_b111 z o_ post xpost M67 (((((mc - kc7) - kc14) - kc17) - 1) - kc65) (((((ms - ks8) - ks15) - ks18) - 10) - ks66) (some q21) (some q21) r68) xpost))))))) xpost) xpost)) xpost)
theorem metX3_dimension {l : Launch} {D : va_G} {s0 : State} {a0 : Array Value} (hB : yB D s0 a0) {M : yM} {mc : Nat} {ms : Nat} {o_ : Nat} {post : yM → Prop} {xpost : Nat → yM → Prop} (h : wpX3_dimension M (yz s0 a0) mc ms o_ post xpost) : yNv l yX3_dimension (ws_ yX3_dimension cX3_dimension 5 none) 8 233 mc ms D s0 [yr (some o_)] M post xpost := by
  refine y_metXv hB (by decide) rfl (Nat.le_of_ble_eq_true rfl) ?_
  intro p e s m below meth c A hr hno C
  rw [wpX3_dimension] at h
  refine y_bipush C 9 dX3_dimension_0 y_b9 ?_
  refine y_aload_n C 0 rfl rfl dX3_dimension_2 ?_
  obtain ⟨r1, ⟨fs9, g1, g2⟩, h⟩ := h
  refine y_get (ci := 3) (k := 1) C in_X3 rfl (by decide) q366 (fun _ h => h) g1 g2 dX3_dimension_3 ?_
  obtain ⟨d2, rfl, h⟩ := h
  obtain ⟨r3, ⟨fs9, g1, g2⟩, h⟩ := h
  refine y_getN (ci := 1) (k := 0) C in_X1 rfl (by decide) q157 (fun _ h => h) g1 g2 dX3_dimension_6 ?_
  obtain ⟨d4, rfl, h⟩ := h
  obtain ⟨⟨vs9, g0⟩, h⟩ := h
  refine y_callVi0 C (metJ2_size hB h) (cwV 0 C.hts (lw_V q493 q494 q495 q90 q496) rfl rfl rfl kdJ2_size ⟨Nat.le_of_ble_eq_true rfl, Nat.le_of_ble_eq_true rfl⟩) g0 rfl rfl rfl (Nat.le_of_ble_eq_true rfl) dX3_dimension_9 (fun r5 M1 hp => ?_)
  clear h
  obtain ⟨rfl, h⟩ := hp
  refine y_iconst C 1 dX3_dimension_12 lit1 ?_
  refine y_isub C dX3_dimension_13 ?_
  refine y_mmin C q567 q296 q99 q297 (Nat.le_of_ble_eq_true rfl) (Nat.le_of_ble_eq_true rfl) (Nat.le_of_ble_eq_true rfl) dX3_dimension_14 ?_
  replace h := h _ rfl
  refine y_istore_n C 1 rfl (by decide) dX3_dimension_17 ?_
  refine y_aload_n C 0 rfl rfl dX3_dimension_18 ?_
  refine y_iconst C 1 dX3_dimension_19 lit1 ?_
  refine y_iconst C 0 dX3_dimension_20 lit0 ?_
  refine y_iload_n C 1 rfl rfl dX3_dimension_21 ?_
  obtain ⟨kc7, ks8, g1, g2, h⟩ := h
  obtain ⟨⟨vs9, g0⟩, h⟩ := h
  refine y_callXi C (metX3_number hB h) (cwV 3 C.hts (lw_V q497 q499 qs4 q92 q500) rfl rfl rfl kdX3_number ⟨Nat.le_of_ble_eq_true rfl, Nat.le_of_ble_eq_true rfl⟩) g0 rfl rfl rfl (Nat.le_of_ble_eq_true rfl) dX3_dimension_22 g1 g2 (fun q9 M1 hx => y_xout C hno rfl rfl hx) (fun r10 M9 hp => ?_)
  replace h := hp
  refine y_istore_n C 2 rfl (by decide) dX3_dimension_25 ?_
  refine y_aload_n C 0 rfl rfl dX3_dimension_26 ?_
  refine y_aload_n C 0 rfl rfl dX3_dimension_27 ?_
  refine y_bipush C 45 dX3_dimension_28 y_b45 ?_
  obtain ⟨⟨vs9, g0⟩, h⟩ := h
  refine y_callVi0 C (metX3_takes hB h) (cwV 1 C.hts (lw_V q379 q381 qs0 q92 q382) rfl rfl rfl kdX3_takes ⟨Nat.le_of_ble_eq_true rfl, Nat.le_of_ble_eq_true rfl⟩) g0 rfl rfl rfl (Nat.le_of_ble_eq_true rfl) dX3_dimension_30 (fun r12 M11 hp => ?_)
  replace h := hp
  refine y_iconst C 1 dX3_dimension_33 lit1 ?_
  refine y_aload_n C 0 rfl rfl dX3_dimension_34 ?_
  obtain ⟨x13, ⟨fs9, g1, g2⟩, h⟩ := h
  refine y_get (ci := 3) (k := 2) C in_X3 rfl (by decide) q367 (fun _ h => h) g1 g2 dX3_dimension_35 ?_
  obtain ⟨kc14, ks15, g1, g2, h⟩ := h
  obtain ⟨⟨vs9, g0⟩, h⟩ := h
  refine y_callXv C (metX3_require hB h) (cwV 3 C.hts (lw_V q422 q424 qs2 q92 q425) rfl rfl rfl kdX3_require ⟨Nat.le_of_ble_eq_true rfl, Nat.le_of_ble_eq_true rfl⟩) g0 rfl rfl rfl (Nat.le_of_ble_eq_true rfl) dX3_dimension_38 g1 g2 (fun q9 M1 hx => y_xout C hno rfl rfl hx) (fun M16 hp => ?_)
  replace h := hp
  refine y_aload_n C 0 rfl rfl dX3_dimension_41 ?_
  refine y_iconst C 1 dX3_dimension_42 lit1 ?_
  refine y_iload_n C 2 rfl rfl dX3_dimension_43 ?_
  refine y_iconst C 1 dX3_dimension_44 lit1 ?_
  refine y_iadd C dX3_dimension_45 ?_
  refine y_iload_n C 1 rfl rfl dX3_dimension_46 ?_
  obtain ⟨kc17, ks18, g1, g2, h⟩ := h
  obtain ⟨⟨vs9, g0⟩, h⟩ := h
  refine y_callXi C (metX3_number hB h) (cwV 3 C.hts (lw_V q497 q499 qs4 q92 q500) rfl rfl rfl kdX3_number ⟨Nat.le_of_ble_eq_true rfl, Nat.le_of_ble_eq_true rfl⟩) g0 rfl rfl rfl (Nat.le_of_ble_eq_true rfl) dX3_dimension_47 g1 g2 (fun q9 M1 hx => y_xout C hno rfl rfl hx) (fun r20 M19 hp => ?_)
  replace h := hp
  refine y_istore_n C 3 rfl (by decide) dX3_dimension_50 ?_
  obtain ⟨g1, g2, h⟩ := h
  refine y_new (ci := 6) C in_X6 tyX6_ok rfl q568 q569 q107 [yr none, yr none, yi 0, yi 0, yi 0, yi 0, yi 0, yi 0, yi 0, yi 0] (fun j hj => by rcases (show j = 0 ∨ j = 1 ∨ j = 2 ∨ j = 3 ∨ j = 4 ∨ j = 5 ∨ j = 6 ∨ j = 7 ∨ j = 8 ∨ j = 9 by omega) with rfl | rfl | rfl | rfl | rfl | rfl | rfl | rfl | rfl | rfl <;> rfl) g1 g2 dX3_dimension_51 (fun q21 g3 => ?_)
  replace h := h q21 g3 _ rfl
  refine y_dup C rfl dX3_dimension_54 ?_
  refine y_aload_n C 0 rfl rfl dX3_dimension_55 ?_
  obtain ⟨r23, ⟨fs9, g1, g2⟩, h⟩ := h
  refine y_get (ci := 3) (k := 1) C in_X3 rfl (by decide) q366 (fun _ h => h) g1 g2 dX3_dimension_56 ?_
  obtain ⟨d24, rfl, h⟩ := h
  obtain ⟨r25, ⟨fs9, g1, g2⟩, h⟩ := h
  refine y_getN (ci := 1) (k := 0) C in_X1 rfl (by decide) q157 (fun _ h => h) g1 g2 dX3_dimension_59 ?_
  refine y_iload_n C 2 rfl rfl dX3_dimension_62 ?_
  obtain ⟨d26, rfl, h⟩ := h
  obtain ⟨⟨vs9, g0⟩, h⟩ := h
  refine y_callVq0 C (metJ2_get hB h) (cwV 1 C.hts (lw_V q570 q571 q572 q90 q573) rfl rfl rfl kdJ2_get ⟨Nat.le_of_ble_eq_true rfl, Nat.le_of_ble_eq_true rfl⟩) g0 rfl rfl rfl (Nat.le_of_ble_eq_true rfl) dX3_dimension_63 (fun r27 M1 hp => ?_)
  clear h
  obtain ⟨rfl, h⟩ := hp
  obtain ⟨g1, h⟩ := h
  refine y_ckc (ci := 5) C q506 rfl g1 dX3_dimension_66 ?_
  refine y_aload_n C 0 rfl rfl dX3_dimension_69 ?_
  obtain ⟨r28, ⟨fs9, g1, g2⟩, h⟩ := h
  refine y_get (ci := 3) (k := 1) C in_X3 rfl (by decide) q366 (fun _ h => h) g1 g2 dX3_dimension_70 ?_
  obtain ⟨d29, rfl, h⟩ := h
  obtain ⟨r30, ⟨fs9, g1, g2⟩, h⟩ := h
  refine y_getN (ci := 1) (k := 0) C in_X1 rfl (by decide) q157 (fun _ h => h) g1 g2 dX3_dimension_73 ?_
  refine y_iload_n C 3 rfl rfl dX3_dimension_76 ?_
  obtain ⟨d31, rfl, h⟩ := h
  obtain ⟨⟨vs9, g0⟩, h⟩ := h
  refine y_callVq0 C (metJ2_get hB h) (cwV 1 C.hts (lw_V q570 q571 q572 q90 q573) rfl rfl rfl kdJ2_get ⟨Nat.le_of_ble_eq_true rfl, Nat.le_of_ble_eq_true rfl⟩) g0 rfl rfl rfl (Nat.le_of_ble_eq_true rfl) dX3_dimension_77 (fun r32 M1 hp => ?_)
  clear h
  obtain ⟨rfl, h⟩ := hp
  obtain ⟨g1, h⟩ := h
  refine y_ckc (ci := 5) C q506 rfl g1 dX3_dimension_80 ?_
  refine y_callIv0 C (metX6_init hB h) (cwI 2 C.hts (lw_meth q584) rfl rfl rfl (C.hts _ q107) (C.hts _ q582) (C.hts _ q583) rfl kdX6_init.2 ⟨Nat.le_of_ble_eq_true rfl, Nat.le_of_ble_eq_true rfl⟩) rfl rfl (Nat.le_of_ble_eq_true rfl) dX3_dimension_83 (fun M33 hp => ?_)
  replace h := hp
  refine y_astore C 4 (by decide) dX3_dimension_86 ?_
  refine y_aload C 4 rfl dX3_dimension_88 ?_
  refine y_aload_n C 0 rfl rfl dX3_dimension_90 ?_
  refine y_bipush C 43 dX3_dimension_91 y_b43 ?_
  obtain ⟨⟨vs9, g0⟩, h⟩ := h
  refine y_callVi0 C (metX3_takes hB h) (cwV 1 C.hts (lw_V q379 q381 qs0 q92 q382) rfl rfl rfl kdX3_takes ⟨Nat.le_of_ble_eq_true rfl, Nat.le_of_ble_eq_true rfl⟩) g0 rfl rfl rfl (Nat.le_of_ble_eq_true rfl) dX3_dimension_93 (fun r35 M34 hp => ?_)
  replace h := hp
  refine y_if_eq C 110 dX3_dimension_96 (by decide) (fun c9 => ?_) (fun c9 => ?_)
  · replace h := h.1 c9
    refine y_iconst C 0 dX3_dimension_110 lit0 ?_
    refine y_to C _ ?_ (okX3_dimension_b111 C hB hr hno  _ _ _ _ _ _ h)
    exact (And.intro rfl (And.intro rfl trivial))
  · replace h := h.2 c9
    refine y_aload_n C 0 rfl rfl dX3_dimension_99 ?_
    refine y_iconst C 2 dX3_dimension_100 lit2 ?_
    refine y_iconst C 0 dX3_dimension_101 lit0 ?_
    refine y_bipush C 20 dX3_dimension_102 y_b20 ?_
    obtain ⟨kc65, ks66, g1, g2, h⟩ := h
    obtain ⟨⟨vs9, g0⟩, h⟩ := h
    refine y_callXi C (metX3_number hB h) (cwV 3 C.hts (lw_V q497 q499 qs4 q92 q500) rfl rfl rfl kdX3_number ⟨Nat.le_of_ble_eq_true rfl, Nat.le_of_ble_eq_true rfl⟩) g0 rfl rfl rfl (Nat.le_of_ble_eq_true rfl) dX3_dimension_104 g1 g2 (fun q9 M1 hx => y_xout C hno rfl rfl hx) (fun r68 M67 hp => ?_)
    replace h := hp
    refine y_goto C 111 dX3_dimension_107 (by decide) ?_
    refine y_to C _ ?_ (okX3_dimension_b111 C hB hr hno  _ _ _ _ _ _ h)
    exact (And.intro rfl (And.intro rfl trivial))
theorem kdX3_read : yX3_read.cls = RX3 ∧ yX3_read.cls ≠ "java/lang/invoke/MethodHandle" ∧ yX3_read.cls ≠ "java/lang/invoke/VarHandle" ∧ (parseMethodDescriptor yX3_read.desc).map (fun d => d.parameters.length) = some 0 := by decide +kernel
section sX3_read
variable {p : Program} {l : Launch} {e : Env} {s : State} {m : MethodId} {args : Array Value} {below : List Frame} {meth : Method} {c : Code} {D : va_G} {s0 : State} {a0 : Array Value} {A : Nat → Prop} {mc ms : Nat}
def wpX3_read_b134 (z : Nat → Nat) (o_ : Nat) (post : Option Nat → yM → Prop) (xpost : Nat → yM → Prop) (k88 : yM → Nat → Nat → Prop) (M : yM) (rc : Nat) (rs : Nat) (u1 : Int32) : Prop := ∃ x39 : Int32, yF M o_ 3 2 (yi x39) ∧ ∃ kc40 ks41 : Nat, kc40 ≤ rc ∧ ks41 ≤ rs ∧ (∃ vs, M o_ = some (yo 3 vs)) ∧ wpX3_require M kc40 ks41 o_ u1 1 x39 (fun M42 => ∃ x43 : Int32, yF M42 o_ 3 2 (yi x43) ∧ ∃ fs44 : List yV, M42 o_ = some (yo 3 fs44) ∧ 2 < fs44.length ∧ ∀ M45 : yM, M45 = yup M42 o_ (yo 3 (fs44.set 2 (yi (x43 + 1)))) → ∃ kc46 ks47 : Nat, kc46 ≤ (rc - kc40) ∧ ks47 ≤ (rs - ks41) ∧ (∃ vs, M45 o_ = some (yo 3 vs)) ∧ wpX3_dimension M45 z kc46 ks47 o_ (fun M48 => k88 M48 ((rc - kc40) - kc46) ((rs - ks41) - ks47)) xpost) xpost
theorem okX3_read_b134 (C : yC p { frames := 9, cells := mc, slots := ms, locals := 257 } s m args meth c cX3_read 2 RX3 D s0 a0 A) (hB : yB D s0 a0) (hr : meth.sig.returnType = (some (.object "DimensionLines$Drawing"))) (hno : ∀ x ∈ c.exceptionTable.toList, False) {o_ : Nat} {post : Option Nat → yM → Prop} {xpost : Nat → yM → Prop} {k88 : yM → Nat → Nat → Prop} (hk88 : ∀ (M : yM) (rc : Nat) (rs : Nat), k88 M rc rs → Y p l e { frames := 9, cells := mc, slots := ms, locals := 257 } s m args below meth c (vz_MQ below (yQq D s0 A post) (yXC D s0 A xpost) args s mc ms A) D s0 A 2 M rc rs [some (yr (some o_)), none] 88 []) : ∀ (M : yM) (rc : Nat) (rs : Nat) (u1 : Int32), wpX3_read_b134 (yz s0 a0) o_ post xpost k88 M rc rs u1 → Y p l e { frames := 9, cells := mc, slots := ms, locals := 257 } s m args below meth c (vz_MQ below (yQq D s0 A post) (yXC D s0 A xpost) args s mc ms A) D s0 A 2 M rc rs [some (yr (some o_)), none] 134 [yi u1, yr (some o_)] := by
  intro M rc rs u1 h
  rw [wpX3_read_b134] at h
  refine y_iconst C 1 dX3_read_134 lit1 ?_
  refine y_aload_n C 0 rfl rfl dX3_read_135 ?_
  obtain ⟨x39, ⟨fs9, g1, g2⟩, h⟩ := h
  refine y_get (ci := 3) (k := 2) C in_X3 rfl (by decide) q367 (fun _ h => h) g1 g2 dX3_read_136 ?_
  obtain ⟨kc40, ks41, g1, g2, h⟩ := h
  obtain ⟨⟨vs9, g0⟩, h⟩ := h
  refine y_callXv C (metX3_require hB h) (cwV 3 C.hts (lw_V q422 q424 qs2 q92 q425) rfl rfl rfl kdX3_require ⟨Nat.le_of_ble_eq_true rfl, Nat.le_of_ble_eq_true rfl⟩) g0 rfl rfl rfl (Nat.le_of_ble_eq_true rfl) dX3_read_139 g1 g2 (fun q9 M1 hx => y_xout C hno rfl rfl hx) (fun M42 hp => ?_)
  replace h := hp
  refine y_aload_n C 0 rfl rfl dX3_read_142 ?_
  refine y_dup C rfl dX3_read_143 ?_
  obtain ⟨x43, ⟨fs9, g1, g2⟩, h⟩ := h
  refine y_get (ci := 3) (k := 2) C in_X3 rfl (by decide) q367 (fun _ h => h) g1 g2 dX3_read_144 ?_
  refine y_iconst C 1 dX3_read_147 lit1 ?_
  refine y_iadd C dX3_read_148 ?_
  obtain ⟨fs44, g1, g2, h⟩ := h
  replace h := h _ rfl
  refine y_put (ci := 3) (k := 2) C in_X3 tyX3_ok nmX3 rfl (by decide) q367 (fun _ h => h) rfl g1 g2 rfl rfl rfl dX3_read_149 ?_
  refine y_aload_n C 0 rfl rfl dX3_read_152 ?_
  obtain ⟨kc46, ks47, g1, g2, h⟩ := h
  obtain ⟨⟨vs9, g0⟩, h⟩ := h
  refine y_callXv C (metX3_dimension hB h) (cwV 0 C.hts (lw_V q563 q565 qs9 q92 q566) rfl rfl rfl kdX3_dimension ⟨Nat.le_of_ble_eq_true rfl, Nat.le_of_ble_eq_true rfl⟩) g0 rfl rfl rfl (Nat.le_of_ble_eq_true rfl) dX3_read_153 g1 g2 (fun q9 M1 hx => y_xout C hno rfl rfl hx) (fun M48 hp => ?_)
  replace h := hp
  refine y_goto C 88 dX3_read_156 (by decide) ?_
  refine y_to C _ ?_ (hk88 _ _ _ h)
  exact (And.intro rfl trivial)
def wpX3_read_b133 (z : Nat → Nat) (o_ : Nat) (post : Option Nat → yM → Prop) (xpost : Nat → yM → Prop) (k88 : yM → Nat → Nat → Prop) (M : yM) (rc : Nat) (rs : Nat) : Prop := wpX3_read_b134 z o_ post xpost k88 M rc rs 0
theorem okX3_read_b133 (C : yC p { frames := 9, cells := mc, slots := ms, locals := 257 } s m args meth c cX3_read 2 RX3 D s0 a0 A) (hB : yB D s0 a0) (hr : meth.sig.returnType = (some (.object "DimensionLines$Drawing"))) (hno : ∀ x ∈ c.exceptionTable.toList, False) {o_ : Nat} {post : Option Nat → yM → Prop} {xpost : Nat → yM → Prop} {k88 : yM → Nat → Nat → Prop} (hk88 : ∀ (M : yM) (rc : Nat) (rs : Nat), k88 M rc rs → Y p l e { frames := 9, cells := mc, slots := ms, locals := 257 } s m args below meth c (vz_MQ below (yQq D s0 A post) (yXC D s0 A xpost) args s mc ms A) D s0 A 2 M rc rs [some (yr (some o_)), none] 88 []) : ∀ (M : yM) (rc : Nat) (rs : Nat), wpX3_read_b133 (yz s0 a0) o_ post xpost k88 M rc rs → Y p l e { frames := 9, cells := mc, slots := ms, locals := 257 } s m args below meth c (vz_MQ below (yQq D s0 A post) (yXC D s0 A xpost) args s mc ms A) D s0 A 2 M rc rs [some (yr (some o_)), none] 133 [yr (some o_)] := by
  intro M rc rs h
  rw [wpX3_read_b133] at h
  refine y_iconst C 0 dX3_read_133 lit0 ?_
  refine y_to C _ ?_ (okX3_read_b134 C hB hr hno hk88 _ _ _ _ h)
  exact (And.intro rfl trivial)
def wpX3_read_b88 (z : Nat → Nat) (o_ : Nat) (post : Option Nat → yM → Prop) (xpost : Nat → yM → Prop) : Nat → yM → Nat → Nat → Prop
  | 0, _, _, _ => False
  | nn + 1, M, rc, rs => ∃ x33 : Int32, yF M o_ 3 2 (yi x33) ∧ ∃ r34 : Option Nat, yF M o_ 3 0 (yr r34) ∧ ∃ d35 : Nat, r34 = some d35 ∧ (∃ vs, M d35 = some (yo 10 vs)) ∧ wpJ4_length M d35 (fun r36 => ((r36 ≤ x33 → ∃ r37 : Option Nat, yF M o_ 3 1 (yr r37) ∧ post r37 M) ∧ (¬ r36 ≤ x33 → (∃ vs, M o_ = some (yo 3 vs)) ∧ wpX3_here M o_ (fun r38 => ((¬ r38 = 59 → wpX3_read_b133 z o_ post xpost (fun M rc rs => wpX3_read_b88 z o_ post xpost nn M rc rs) M rc rs) ∧ (r38 = 59 → ∃ r49 : Option Nat, yF M o_ 3 1 (yr r49) ∧ ∃ d50 : Nat, r49 = some d50 ∧ ∃ r51 : Option Nat, yF M d50 1 1 (yr r51) ∧ ∃ d52 : Nat, r51 = some d52 ∧ (∃ vs, M d52 = some (yo 9 vs)) ∧ wpJ2_size M d52 (fun r53 => ((16 ≤ r53 → wpX3_read_b133 z o_ post xpost (fun M rc rs => wpX3_read_b88 z o_ post xpost nn M rc rs) M rc rs) ∧ (¬ 16 ≤ r53 → wpX3_read_b134 z o_ post xpost (fun M rc rs => wpX3_read_b88 z o_ post xpost nn M rc rs) M rc rs 1)))))))))
theorem okX3_read_b88 (C : yC p { frames := 9, cells := mc, slots := ms, locals := 257 } s m args meth c cX3_read 2 RX3 D s0 a0 A) (hB : yB D s0 a0) (hr : meth.sig.returnType = (some (.object "DimensionLines$Drawing"))) (hno : ∀ x ∈ c.exceptionTable.toList, False) {o_ : Nat} {post : Option Nat → yM → Prop} {xpost : Nat → yM → Prop}  : ∀ (nn : Nat) (M : yM) (rc : Nat) (rs : Nat), wpX3_read_b88 (yz s0 a0) o_ post xpost nn M rc rs → Y p l e { frames := 9, cells := mc, slots := ms, locals := 257 } s m args below meth c (vz_MQ below (yQq D s0 A post) (yXC D s0 A xpost) args s mc ms A) D s0 A 2 M rc rs [some (yr (some o_)), none] 88 [] := by
  intro nn
  induction nn with
  | zero => intro M rc rs h; exact absurd h (by rw [wpX3_read_b88]; exact id)
  | succ nn ih =>
    intro M rc rs h
    rw [wpX3_read_b88] at h
    refine y_aload_n C 0 rfl rfl dX3_read_88 ?_
    obtain ⟨x33, ⟨fs9, g1, g2⟩, h⟩ := h
    refine y_get (ci := 3) (k := 2) C in_X3 rfl (by decide) q367 (fun _ h => h) g1 g2 dX3_read_89 ?_
    refine y_aload_n C 0 rfl rfl dX3_read_92 ?_
    obtain ⟨r34, ⟨fs9, g1, g2⟩, h⟩ := h
    refine y_get (ci := 3) (k := 0) C in_X3 rfl (by decide) q365 (fun _ h => h) g1 g2 dX3_read_93 ?_
    obtain ⟨d35, rfl, h⟩ := h
    obtain ⟨⟨vs9, g0⟩, h⟩ := h
    refine y_callFi0 C (metJ4_length hB h) (va_cwF 0 C.hts (lw_F q388 q392 q394 q94 q396) rfl rfl rfl (y_Fw C q390 q389 q395 q393 q391 (by decide +kernel)) (by decide +kernel) ⟨Nat.le_of_ble_eq_true rfl, Nat.le_of_ble_eq_true rfl⟩) g0 rfl rfl rfl (Nat.le_of_ble_eq_true rfl) dX3_read_96 (fun r36 M1 hp => ?_)
    clear h
    obtain ⟨rfl, h⟩ := hp
    refine y_icmp_ge C 159 dX3_read_101 (by decide) (fun c9 => ?_) (fun c9 => ?_)
    · replace h := h.1 c9
      refine y_aload_n C 0 rfl rfl dX3_read_159 ?_
      obtain ⟨r37, ⟨fs9, g1, g2⟩, h⟩ := h
      refine y_get (ci := 3) (k := 1) C in_X3 rfl (by decide) q366 (fun _ h => h) g1 g2 dX3_read_160 ?_
      refine y_xret ?_
      exact y_aretq C hr (Or.inl ⟨_, rfl⟩) rfl rfl h dX3_read_163
    · replace h := h.2 c9
      refine y_aload_n C 0 rfl rfl dX3_read_104 ?_
      refine y_aload_n C 0 rfl rfl dX3_read_105 ?_
      obtain ⟨⟨vs9, g0⟩, h⟩ := h
      refine y_callVi0 C (metX3_here hB h) (cwV 0 C.hts (lw_V q383 q385 qs1 q92 q386) rfl rfl rfl kdX3_here ⟨Nat.le_of_ble_eq_true rfl, Nat.le_of_ble_eq_true rfl⟩) g0 rfl rfl rfl (Nat.le_of_ble_eq_true rfl) dX3_read_106 (fun r38 M1 hp => ?_)
      clear h
      obtain ⟨rfl, h⟩ := hp
      refine y_bipush C 59 dX3_read_109 y_b59 ?_
      refine y_icmp_ne C 133 dX3_read_111 (by decide) (fun c9 => ?_) (fun c9 => ?_)
      · replace h := h.1 c9
        refine y_to C _ ?_ (okX3_read_b133 C hB hr hno ih _ _ _ h)
        exact (And.intro rfl trivial)
      · replace h := h.2 c9
        refine y_aload_n C 0 rfl rfl dX3_read_114 ?_
        obtain ⟨r49, ⟨fs9, g1, g2⟩, h⟩ := h
        refine y_get (ci := 3) (k := 1) C in_X3 rfl (by decide) q366 (fun _ h => h) g1 g2 dX3_read_115 ?_
        obtain ⟨d50, rfl, h⟩ := h
        obtain ⟨r51, ⟨fs9, g1, g2⟩, h⟩ := h
        refine y_getN (ci := 1) (k := 1) C in_X1 rfl (by decide) q161 (fun _ h => h) g1 g2 dX3_read_118 ?_
        obtain ⟨d52, rfl, h⟩ := h
        obtain ⟨⟨vs9, g0⟩, h⟩ := h
        refine y_callVi0 C (metJ2_size hB h) (cwV 0 C.hts (lw_V q493 q494 q495 q90 q496) rfl rfl rfl kdJ2_size ⟨Nat.le_of_ble_eq_true rfl, Nat.le_of_ble_eq_true rfl⟩) g0 rfl rfl rfl (Nat.le_of_ble_eq_true rfl) dX3_read_121 (fun r53 M1 hp => ?_)
        clear h
        obtain ⟨rfl, h⟩ := hp
        refine y_bipush C 16 dX3_read_124 y_b16 ?_
        refine y_icmp_ge C 133 dX3_read_126 (by decide) (fun c9 => ?_) (fun c9 => ?_)
        · replace h := h.1 c9
          refine y_to C _ ?_ (okX3_read_b133 C hB hr hno ih _ _ _ h)
          exact (And.intro rfl trivial)
        · replace h := h.2 c9
          refine y_iconst C 1 dX3_read_129 lit1 ?_
          refine y_goto C 134 dX3_read_130 (by decide) ?_
          refine y_to C _ ?_ (okX3_read_b134 C hB hr hno ih _ _ _ _ h)
          exact (And.intro rfl trivial)
def wpX3_read_b38 (z : Nat → Nat) (o_ : Nat) (post : Option Nat → yM → Prop) (xpost : Nat → yM → Prop) (k17 : yM → Nat → Nat → Int32 → Prop) (M : yM) (rc : Nat) (rs : Nat) (v1 : Int32) (u1 : Int32) : Prop := ∃ x12 : Int32, yF M o_ 3 2 (yi x12) ∧ ∃ kc13 ks14 : Nat, kc13 ≤ rc ∧ ks14 ≤ rs ∧ (∃ vs, M o_ = some (yo 3 vs)) ∧ wpX3_require M kc13 ks14 o_ u1 1 (x12 - 1) (fun M15 => ∃ kc16 ks17 : Nat, kc16 ≤ (rc - kc13) ∧ ks17 ≤ (rs - ks14) ∧ (∃ vs, M15 o_ = some (yo 3 vs)) ∧ wpX3_number M15 kc16 ks17 o_ 3 (v1 + 1) 300 (fun r19 M18 => ∃ r20 : Option Nat, yF M18 o_ 3 1 (yr r20) ∧ ∃ d21 : Nat, r20 = some d21 ∧ ∃ r22 : Option Nat, yF M18 d21 1 0 (yr r22) ∧ 1 ≤ ((rc - kc13) - kc16) ∧ 1 ≤ ((rs - ks14) - ks17) ∧ ∀ q23 : Nat, M18 q23 = none → ∀ M24 : yM, M24 = yup M18 q23 (yo 5 [yi 0]) → wpX5_init M24 q23 r19 (fun M25 => ∃ d26 : Nat, r22 = some d26 ∧ ∃ kc27 ks28 : Nat, kc27 ≤ (((rc - kc13) - kc16) - 1) ∧ ks28 ≤ (((rs - ks14) - ks17) - 1) ∧ (∃ vs, M25 d26 = some (yo 9 vs)) ∧ wpJ2_add M25 z kc27 ks28 d26 (some q23) (fun r30 M29 => (∃ vs, M29 o_ = some (yo 3 vs)) ∧ wpX3_takes M29 o_ 44 (fun r32 M31 => ((¬ r32 = 0 → k17 M31 ((((rc - kc13) - kc16) - 1) - kc27) ((((rs - ks14) - ks17) - 1) - ks28) r19) ∧ (r32 = 0 → ∃ nf9 : Nat, wpX3_read_b88 z o_ post xpost nf9 M31 ((((rc - kc13) - kc16) - 1) - kc27) ((((rs - ks14) - ks17) - 1) - ks28))))))) xpost) xpost
theorem okX3_read_b38 (C : yC p { frames := 9, cells := mc, slots := ms, locals := 257 } s m args meth c cX3_read 2 RX3 D s0 a0 A) (hB : yB D s0 a0) (hr : meth.sig.returnType = (some (.object "DimensionLines$Drawing"))) (hno : ∀ x ∈ c.exceptionTable.toList, False) {o_ : Nat} {post : Option Nat → yM → Prop} {xpost : Nat → yM → Prop} {k17 : yM → Nat → Nat → Int32 → Prop} (hk17 : ∀ (M : yM) (rc : Nat) (rs : Nat) (v1 : Int32), k17 M rc rs v1 → Y p l e { frames := 9, cells := mc, slots := ms, locals := 257 } s m args below meth c (vz_MQ below (yQq D s0 A post) (yXC D s0 A xpost) args s mc ms A) D s0 A 2 M rc rs [some (yr (some o_)), some (yi v1)] 17 []) : ∀ (M : yM) (rc : Nat) (rs : Nat) (v1 : Int32) (u1 : Int32), wpX3_read_b38 (yz s0 a0) o_ post xpost k17 M rc rs v1 u1 → Y p l e { frames := 9, cells := mc, slots := ms, locals := 257 } s m args below meth c (vz_MQ below (yQq D s0 A post) (yXC D s0 A xpost) args s mc ms A) D s0 A 2 M rc rs [some (yr (some o_)), some (yi v1)] 38 [yi u1, yr (some o_)] := by
  intro M rc rs v1 u1 h
  rw [wpX3_read_b38] at h
  refine y_iconst C 1 dX3_read_38 lit1 ?_
  refine y_aload_n C 0 rfl rfl dX3_read_39 ?_
  obtain ⟨x12, ⟨fs9, g1, g2⟩, h⟩ := h
  refine y_get (ci := 3) (k := 2) C in_X3 rfl (by decide) q367 (fun _ h => h) g1 g2 dX3_read_40 ?_
  refine y_iconst C 1 dX3_read_43 lit1 ?_
  refine y_isub C dX3_read_44 ?_
  obtain ⟨kc13, ks14, g1, g2, h⟩ := h
  obtain ⟨⟨vs9, g0⟩, h⟩ := h
  refine y_callXv C (metX3_require hB h) (cwV 3 C.hts (lw_V q422 q424 qs2 q92 q425) rfl rfl rfl kdX3_require ⟨Nat.le_of_ble_eq_true rfl, Nat.le_of_ble_eq_true rfl⟩) g0 rfl rfl rfl (Nat.le_of_ble_eq_true rfl) dX3_read_45 g1 g2 (fun q9 M1 hx => y_xout C hno rfl rfl hx) (fun M15 hp => ?_)
  replace h := hp
  refine y_aload_n C 0 rfl rfl dX3_read_48 ?_
  refine y_iconst C 3 dX3_read_49 lit3 ?_
  refine y_iload_n C 1 rfl rfl dX3_read_50 ?_
  refine y_iconst C 1 dX3_read_51 lit1 ?_
  refine y_iadd C dX3_read_52 ?_
  refine y_sipush C 300 dX3_read_53 y_s300 ?_
  obtain ⟨kc16, ks17, g1, g2, h⟩ := h
  obtain ⟨⟨vs9, g0⟩, h⟩ := h
  refine y_callXi C (metX3_number hB h) (cwV 3 C.hts (lw_V q497 q499 qs4 q92 q500) rfl rfl rfl kdX3_number ⟨Nat.le_of_ble_eq_true rfl, Nat.le_of_ble_eq_true rfl⟩) g0 rfl rfl rfl (Nat.le_of_ble_eq_true rfl) dX3_read_56 g1 g2 (fun q9 M1 hx => y_xout C hno rfl rfl hx) (fun r19 M18 hp => ?_)
  replace h := hp
  refine y_istore_n C 1 rfl (by decide) dX3_read_59 ?_
  refine y_aload_n C 0 rfl rfl dX3_read_60 ?_
  obtain ⟨r20, ⟨fs9, g1, g2⟩, h⟩ := h
  refine y_get (ci := 3) (k := 1) C in_X3 rfl (by decide) q366 (fun _ h => h) g1 g2 dX3_read_61 ?_
  obtain ⟨d21, rfl, h⟩ := h
  obtain ⟨r22, ⟨fs9, g1, g2⟩, h⟩ := h
  refine y_getN (ci := 1) (k := 0) C in_X1 rfl (by decide) q157 (fun _ h => h) g1 g2 dX3_read_64 ?_
  obtain ⟨g1, g2, h⟩ := h
  refine y_new (ci := 5) C in_X5 tyX5_ok rfl q506 q507 q106 [yi 0] (fun j hj => by rcases (show j = 0 by omega) with rfl <;> rfl) g1 g2 dX3_read_67 (fun q23 g3 => ?_)
  replace h := h q23 g3 _ rfl
  refine y_dup C rfl dX3_read_70 ?_
  refine y_iload_n C 1 rfl rfl dX3_read_71 ?_
  refine y_callIv0 C (metX5_init hB h) (cwI 1 C.hts (lw_meth q510) rfl rfl rfl (C.hts _ q106) (C.hts _ q508) (C.hts _ q509) rfl kdX5_init.2 ⟨Nat.le_of_ble_eq_true rfl, Nat.le_of_ble_eq_true rfl⟩) rfl rfl (Nat.le_of_ble_eq_true rfl) dX3_read_72 (fun M25 hp => ?_)
  replace h := hp
  obtain ⟨d26, rfl, h⟩ := h
  obtain ⟨kc27, ks28, g1, g2, h⟩ := h
  obtain ⟨⟨vs9, g0⟩, h⟩ := h
  refine y_callVi C (metJ2_add hB h) (cwV 1 C.hts (lw_V q520 q521 q522 q90 q523) rfl rfl rfl kdJ2_add ⟨Nat.le_of_ble_eq_true rfl, Nat.le_of_ble_eq_true rfl⟩) g0 rfl rfl rfl (Nat.le_of_ble_eq_true rfl) dX3_read_75 g1 g2 (fun r30 M29 hp => ?_)
  replace h := hp
  refine y_pop C rfl dX3_read_78 ?_
  refine y_aload_n C 0 rfl rfl dX3_read_79 ?_
  refine y_bipush C 44 dX3_read_80 y_b44 ?_
  obtain ⟨⟨vs9, g0⟩, h⟩ := h
  refine y_callVi0 C (metX3_takes hB h) (cwV 1 C.hts (lw_V q379 q381 qs0 q92 q382) rfl rfl rfl kdX3_takes ⟨Nat.le_of_ble_eq_true rfl, Nat.le_of_ble_eq_true rfl⟩) g0 rfl rfl rfl (Nat.le_of_ble_eq_true rfl) dX3_read_82 (fun r32 M31 hp => ?_)
  replace h := hp
  refine y_if_ne C 17 dX3_read_85 (by decide) (fun c9 => ?_) (fun c9 => ?_)
  · replace h := h.1 c9
    refine y_to C _ ?_ (hk17 _ _ _ _ h)
    exact (And.intro rfl (And.intro rfl trivial))
  · replace h := h.2 c9
    obtain ⟨nf9, h⟩ := h
    refine y_to C _ ?_ (okX3_read_b88 C hB hr hno  nf9 _ _ _ h)
    exact (And.intro rfl trivial)
def wpX3_read_b17 (z : Nat → Nat) (o_ : Nat) (post : Option Nat → yM → Prop) (xpost : Nat → yM → Prop) : Nat → yM → Nat → Nat → Int32 → Prop
  | 0, _, _, _, _ => False
  | nn + 1, M, rc, rs, v1 => ∃ r7 : Option Nat, yF M o_ 3 1 (yr r7) ∧ ∃ d8 : Nat, r7 = some d8 ∧ ∃ r9 : Option Nat, yF M d8 1 0 (yr r9) ∧ ∃ d10 : Nat, r9 = some d10 ∧ (∃ vs, M d10 = some (yo 9 vs)) ∧ wpJ2_size M d10 (fun r11 => ((12 ≤ r11 → wpX3_read_b38 z o_ post xpost (fun M rc rs v1 => wpX3_read_b17 z o_ post xpost nn M rc rs v1) M rc rs v1 0) ∧ (¬ 12 ≤ r11 → wpX3_read_b38 z o_ post xpost (fun M rc rs v1 => wpX3_read_b17 z o_ post xpost nn M rc rs v1) M rc rs v1 1)))
theorem okX3_read_b17 (C : yC p { frames := 9, cells := mc, slots := ms, locals := 257 } s m args meth c cX3_read 2 RX3 D s0 a0 A) (hB : yB D s0 a0) (hr : meth.sig.returnType = (some (.object "DimensionLines$Drawing"))) (hno : ∀ x ∈ c.exceptionTable.toList, False) {o_ : Nat} {post : Option Nat → yM → Prop} {xpost : Nat → yM → Prop}  : ∀ (nn : Nat) (M : yM) (rc : Nat) (rs : Nat) (v1 : Int32), wpX3_read_b17 (yz s0 a0) o_ post xpost nn M rc rs v1 → Y p l e { frames := 9, cells := mc, slots := ms, locals := 257 } s m args below meth c (vz_MQ below (yQq D s0 A post) (yXC D s0 A xpost) args s mc ms A) D s0 A 2 M rc rs [some (yr (some o_)), some (yi v1)] 17 [] := by
  intro nn
  induction nn with
  | zero => intro M rc rs v1 h; exact absurd h (by rw [wpX3_read_b17]; exact id)
  | succ nn ih =>
    intro M rc rs v1 h
    rw [wpX3_read_b17] at h
    refine y_aload_n C 0 rfl rfl dX3_read_17 ?_
    refine y_aload_n C 0 rfl rfl dX3_read_18 ?_
    obtain ⟨r7, ⟨fs9, g1, g2⟩, h⟩ := h
    refine y_get (ci := 3) (k := 1) C in_X3 rfl (by decide) q366 (fun _ h => h) g1 g2 dX3_read_19 ?_
    obtain ⟨d8, rfl, h⟩ := h
    obtain ⟨r9, ⟨fs9, g1, g2⟩, h⟩ := h
    refine y_getN (ci := 1) (k := 0) C in_X1 rfl (by decide) q157 (fun _ h => h) g1 g2 dX3_read_22 ?_
    obtain ⟨d10, rfl, h⟩ := h
    obtain ⟨⟨vs9, g0⟩, h⟩ := h
    refine y_callVi0 C (metJ2_size hB h) (cwV 0 C.hts (lw_V q493 q494 q495 q90 q496) rfl rfl rfl kdJ2_size ⟨Nat.le_of_ble_eq_true rfl, Nat.le_of_ble_eq_true rfl⟩) g0 rfl rfl rfl (Nat.le_of_ble_eq_true rfl) dX3_read_25 (fun r11 M1 hp => ?_)
    clear h
    obtain ⟨rfl, h⟩ := hp
    refine y_bipush C 12 dX3_read_28 y_b12 ?_
    refine y_icmp_ge C 37 dX3_read_30 (by decide) (fun c9 => ?_) (fun c9 => ?_)
    · replace h := h.1 c9
      refine y_iconst C 0 dX3_read_37 lit0 ?_
      refine y_to C _ ?_ (okX3_read_b38 C hB hr hno ih _ _ _ _ _ h)
      exact (And.intro rfl (And.intro rfl trivial))
    · replace h := h.2 c9
      refine y_iconst C 1 dX3_read_33 lit1 ?_
      refine y_goto C 38 dX3_read_34 (by decide) ?_
      refine y_to C _ ?_ (okX3_read_b38 C hB hr hno ih _ _ _ _ _ h)
      exact (And.intro rfl (And.intro rfl trivial))
end sX3_read
def wpX3_read (M : yM) (z : Nat → Nat) (mc : Nat) (ms : Nat) (o_ : Nat) (post : Option Nat → yM → Prop) (xpost : Nat → yM → Prop) : Prop := (∃ vs, M o_ = some (yo 3 vs)) ∧ wpX3_takes M o_ 112 (fun r2 M1 => ∃ x3 : Int32, yF M1 o_ 3 2 (yi x3) ∧ ∃ kc4 ks5 : Nat, kc4 ≤ mc ∧ ks5 ≤ ms ∧ (∃ vs, M1 o_ = some (yo 3 vs)) ∧ wpX3_require M1 kc4 ks5 o_ r2 1 x3 (fun M6 => ∃ nf9 : Nat, wpX3_read_b17 z o_ post xpost nf9 M6 (mc - kc4) (ms - ks5) (-1)) xpost)
theorem metX3_read {l : Launch} {D : va_G} {s0 : State} {a0 : Array Value} (hB : yB D s0 a0) {M : yM} {mc : Nat} {ms : Nat} {o_ : Nat} {post : Option Nat → yM → Prop} {xpost : Nat → yM → Prop} (h : wpX3_read M (yz s0 a0) mc ms o_ post xpost) : yNq l yX3_read (ws_ yX3_read cX3_read 2 (some (.object "DimensionLines$Drawing"))) 9 257 mc ms D s0 [yr (some o_)] M post xpost := by
  refine y_metXq hB (by decide) rfl (Nat.le_of_ble_eq_true rfl) ?_
  intro p e s m below meth c A hr hno C
  rw [wpX3_read] at h
  refine y_aload_n C 0 rfl rfl dX3_read_0 ?_
  refine y_aload_n C 0 rfl rfl dX3_read_1 ?_
  refine y_bipush C 112 dX3_read_2 y_b112 ?_
  obtain ⟨⟨vs9, g0⟩, h⟩ := h
  refine y_callVi0 C (metX3_takes hB h) (cwV 1 C.hts (lw_V q379 q381 qs0 q92 q382) rfl rfl rfl kdX3_takes ⟨Nat.le_of_ble_eq_true rfl, Nat.le_of_ble_eq_true rfl⟩) g0 rfl rfl rfl (Nat.le_of_ble_eq_true rfl) dX3_read_4 (fun r2 M1 hp => ?_)
  replace h := hp
  refine y_iconst C 1 dX3_read_7 lit1 ?_
  refine y_aload_n C 0 rfl rfl dX3_read_8 ?_
  obtain ⟨x3, ⟨fs9, g1, g2⟩, h⟩ := h
  refine y_get (ci := 3) (k := 2) C in_X3 rfl (by decide) q367 (fun _ h => h) g1 g2 dX3_read_9 ?_
  obtain ⟨kc4, ks5, g1, g2, h⟩ := h
  obtain ⟨⟨vs9, g0⟩, h⟩ := h
  refine y_callXv C (metX3_require hB h) (cwV 3 C.hts (lw_V q422 q424 qs2 q92 q425) rfl rfl rfl kdX3_require ⟨Nat.le_of_ble_eq_true rfl, Nat.le_of_ble_eq_true rfl⟩) g0 rfl rfl rfl (Nat.le_of_ble_eq_true rfl) dX3_read_12 g1 g2 (fun q9 M1 hx => y_xout C hno rfl rfl hx) (fun M6 hp => ?_)
  replace h := hp
  refine y_iconst C (-1) dX3_read_15 litm1 ?_
  refine y_istore_n C 1 rfl (by decide) dX3_read_16 ?_
  obtain ⟨nf9, h⟩ := h
  refine y_to C _ ?_ (okX3_read_b17 C hB hr hno  nf9 _ _ _ _ h)
  exact (And.intro rfl (And.intro rfl trivial))
theorem kdX0_load : yX0_load.cls = RX0 ∧ yX0_load.cls ≠ "java/lang/invoke/MethodHandle" ∧ yX0_load.cls ≠ "java/lang/invoke/VarHandle" ∧ (parseMethodDescriptor yX0_load.desc).map (fun d => d.parameters.length) = some 0 := by decide +kernel
def wpX0_load (M : yM) (z : Nat → Nat) (mc : Nat) (ms : Nat) (o_ : Nat) (post : Int32 → yM → Prop) : Prop := ∃ fs1 : List yV, M o_ = some (yo 0 fs1) ∧ 5 < fs1.length ∧ ∀ M2 : yM, M2 = yup M o_ (yo 0 (fs1.set 5 (yi 0))) → 1 ≤ mc ∧ 3 ≤ ms ∧ ∀ q3 : Nat, M2 q3 = none → ∀ M4 : yM, M4 = yup M2 q3 (yo 3 [yr none, yr none, yi 0]) → 1 ≤ (mc - 1) ∧ 4 ≤ (ms - 3) ∧ ∀ q5 : Nat, M4 q5 = none → ∀ M6 : yM, M6 = yup M4 q5 (yo 10 [yr none, yi 0, yi 0, yi 0]) → ∃ kc7 ks8 : Nat, kc7 ≤ ((mc - 1) - 1) ∧ ks8 ≤ ((ms - 3) - 4) ∧ wpJ4_init M6 kc7 ks8 q5 (fun M9 => ∃ r10 : Option Nat, yF M9 o_ 0 3 (yr r10) ∧ ∃ x11 : Int32, yF M9 o_ 0 4 (yi x11) ∧ ∃ kc12 ks13 : Nat, kc12 ≤ (((mc - 1) - 1) - kc7) ∧ ks13 ≤ (((ms - 3) - 4) - ks8) ∧ (∃ vs, M9 q5 = some (yo 10 vs)) ∧ wpJ4_append M9 kc12 ks13 q5 r10 0 x11 (fun r15 M14 => ∃ kc16 ks17 : Nat, kc16 ≤ ((((mc - 1) - 1) - kc7) - kc12) ∧ ks17 ≤ ((((ms - 3) - 4) - ks8) - ks13) ∧ wpX3_init M14 z kc16 ks17 q3 r15 (fun M18 => ∃ kc19 ks20 : Nat, kc19 ≤ (((((mc - 1) - 1) - kc7) - kc12) - kc16) ∧ ks20 ≤ (((((ms - 3) - 4) - ks8) - ks13) - ks17) ∧ (∃ vs, M18 q3 = some (yo 3 vs)) ∧ wpX3_read M18 z kc19 ks20 q3 (fun r22 M21 => ∃ r29 : Option Nat, yF M21 o_ 0 0 (yr r29) ∧ ∃ d30 : Nat, r29 = some d30 ∧ ∃ x31 : Int32, yF M21 d30 1 2 (yi x31) ∧ ∃ d32 : Nat, r22 = some d32 ∧ ∃ fs33 : List yV, M21 d32 = some (yo 1 fs33) ∧ 2 < fs33.length ∧ ∀ M34 : yM, M34 = yup M21 d32 (yo 1 (fs33.set 2 (yi x31))) → ∃ r35 : Option Nat, yF M34 o_ 0 0 (yr r35) ∧ ∃ d36 : Nat, r35 = some d36 ∧ ∃ x37 : Int32, yF M34 d36 1 3 (yi x37) ∧ ∃ fs38 : List yV, M34 d32 = some (yo 1 fs38) ∧ 3 < fs38.length ∧ ∀ M39 : yM, M39 = yup M34 d32 (yo 1 (fs38.set 3 (yi x37))) → (∃ vs, M39 o_ = some (yo 0 vs)) ∧ wpX0_become M39 o_ (some d32) (fun M40 => ∃ r41 : Option Nat, yF M40 d32 1 1 (yr r41) ∧ ∃ d42 : Nat, r41 = some d42 ∧ (∃ vs, M40 d42 = some (yo 9 vs)) ∧ wpJ2_size M40 d42 (fun r43 => post r43 M40))) (fun q23 M24 => ∃ x25 : Int32, yF M24 q23 4 6 (yi x25) ∧ ∃ fs26 : List yV, M24 o_ = some (yo 0 fs26) ∧ 5 < fs26.length ∧ ∀ M27 : yM, M27 = yup M24 o_ (yo 0 (fs26.set 5 (yi x25))) → ∃ x28 : Int32, yF M27 q23 4 7 (yi x28) ∧ post ((-10) - x28) M27))))
theorem metX0_load {l : Launch} {D : va_G} {s0 : State} {a0 : Array Value} (hB : yB D s0 a0) {M : yM} {mc : Nat} {ms : Nat} {o_ : Nat} {post : Int32 → yM → Prop} (h : wpX0_load M (yz s0 a0) mc ms o_ post) : yMi l yX0_load (wsW_ yX0_load cX0_load 2 (some .int) [((5 : Nat), (69 : Nat), (70 : Nat), (103 : Nat))]) 10 278 mc ms D s0 [yr (some o_)] M post := by
  refine y_metWi hB (by decide) rfl (Nat.le_of_ble_eq_true rfl) ?_
  intro p e s m below meth c A hr htab C
  rw [wpX0_load] at h
  refine y_aload_n C 0 rfl rfl dX0_load_0 ?_
  refine y_iconst C 0 dX0_load_1 lit0 ?_
  obtain ⟨fs1, g1, g2, h⟩ := h
  replace h := h _ rfl
  refine y_put (ci := 0) (k := 5) C in_X0 tyX0_ok nmX0 rfl (by decide) q190 (fun _ h => h) rfl g1 g2 rfl rfl rfl dX0_load_2 ?_
  obtain ⟨g1, g2, h⟩ := h
  refine y_new (ci := 3) C in_X3 tyX3_ok rfl q221 q222 q92 [yr none, yr none, yi 0] (fun j hj => by rcases (show j = 0 ∨ j = 1 ∨ j = 2 by omega) with rfl | rfl | rfl <;> rfl) g1 g2 dX0_load_5 (fun q3 g3 => ?_)
  replace h := h q3 g3 _ rfl
  refine y_dup C rfl dX0_load_8 ?_
  obtain ⟨g1, g2, h⟩ := h
  refine y_new (ci := 10) C in_J4 tyJ4_ok rfl q223 q224 q94 [yr none, yi 0, yi 0, yi 0] (fun j hj => by rcases (show j = 0 ∨ j = 1 ∨ j = 2 ∨ j = 3 by omega) with rfl | rfl | rfl | rfl <;> rfl) g1 g2 dX0_load_9 (fun q5 g3 => ?_)
  replace h := h q5 g3 _ rfl
  refine y_dup C rfl dX0_load_12 ?_
  obtain ⟨kc7, ks8, g1, g2, h⟩ := h
  refine y_callIv C (metJ4_init hB h) (cwI 0 C.hts (lw_meth q227) rfl rfl rfl (C.hts _ q94) (C.hts _ q225) (C.hts _ q226) rfl kdJ4_init.2 ⟨Nat.le_of_ble_eq_true rfl, Nat.le_of_ble_eq_true rfl⟩) rfl rfl (Nat.le_of_ble_eq_true rfl) dX0_load_13 g1 g2 (fun M9 hp => ?_)
  replace h := hp
  refine y_aload_n C 0 rfl rfl dX0_load_16 ?_
  obtain ⟨r10, ⟨fs9, g1, g2⟩, h⟩ := h
  refine y_get (ci := 0) (k := 3) C in_X0 rfl (by decide) q188 (fun _ h => h) g1 g2 dX0_load_17 ?_
  refine y_iconst C 0 dX0_load_20 lit0 ?_
  refine y_aload_n C 0 rfl rfl dX0_load_21 ?_
  obtain ⟨x11, ⟨fs9, g1, g2⟩, h⟩ := h
  refine y_get (ci := 0) (k := 4) C in_X0 rfl (by decide) q189 (fun _ h => h) g1 g2 dX0_load_22 ?_
  obtain ⟨kc12, ks13, g1, g2, h⟩ := h
  obtain ⟨⟨vs9, g0⟩, h⟩ := h
  refine y_callVq C (metJ4_append hB h) (cwV 3 C.hts (lw_V q254 q255 q256 q94 q257) rfl rfl rfl kdJ4_append ⟨Nat.le_of_ble_eq_true rfl, Nat.le_of_ble_eq_true rfl⟩) g0 rfl rfl rfl (Nat.le_of_ble_eq_true rfl) dX0_load_25 g1 g2 (fun r15 M14 hp => ?_)
  replace h := hp
  obtain ⟨kc16, ks17, g1, g2, h⟩ := h
  refine y_callIv C (metX3_init hB h) (cwI 1 C.hts (lw_meth q361) rfl rfl rfl (C.hts _ q92) (C.hts _ q359) (C.hts _ q360) rfl kdX3_init.2 ⟨Nat.le_of_ble_eq_true rfl, Nat.le_of_ble_eq_true rfl⟩) rfl rfl (Nat.le_of_ble_eq_true rfl) dX0_load_28 g1 g2 (fun M18 hp => ?_)
  replace h := hp
  obtain ⟨kc19, ks20, g1, g2, h⟩ := h
  obtain ⟨⟨vs9, g0⟩, h⟩ := h
  refine y_callXq C (metX3_read hB h) (cwV 0 C.hts (lw_V q375 q376 q377 q92 q378) rfl rfl rfl kdX3_read ⟨Nat.le_of_ble_eq_true rfl, Nat.le_of_ble_eq_true rfl⟩) g0 rfl rfl rfl (Nat.le_of_ble_eq_true rfl) dX0_load_31 g1 g2 (fun q23 M24 hx => ?_) (fun r22 M21 hp => ?_)
  · replace h := hx
    refine y_catch C htab ⟨Nat.le_of_ble_eq_true rfl, Nat.le_of_ble_eq_true rfl⟩ (by decide) q220 q428 ?_
    refine y_astore_n C 1 rfl (by decide) dX0_load_70 ?_
    refine y_aload_n C 0 rfl rfl dX0_load_71 ?_
    refine y_aload_n C 1 rfl rfl dX0_load_72 ?_
    obtain ⟨x25, ⟨fs9, g1, g2⟩, h⟩ := h
    refine y_getN (ci := 4) (k := 6) C in_X4 rfl (by decide) q473 (fun _ h => h) g1 g2 dX0_load_73 ?_
    obtain ⟨fs26, g1, g2, h⟩ := h
    replace h := h _ rfl
    refine y_put (ci := 0) (k := 5) C in_X0 tyX0_ok nmX0 rfl (by decide) q190 (fun _ h => h) rfl g1 g2 rfl rfl rfl dX0_load_76 ?_
    refine y_bipush C (-10) dX0_load_79 y_bm10 ?_
    refine y_aload_n C 1 rfl rfl dX0_load_81 ?_
    obtain ⟨x28, ⟨fs9, g1, g2⟩, h⟩ := h
    refine y_getN (ci := 4) (k := 7) C in_X4 rfl (by decide) q475 (fun _ h => h) g1 g2 dX0_load_82 ?_
    refine y_isub C dX0_load_85 ?_
    exact y_ireti C hr rfl rfl h dX0_load_86
  replace h := hp
  refine y_astore_n C 1 rfl (by decide) dX0_load_34 ?_
  refine y_aload_n C 1 rfl rfl dX0_load_35 ?_
  refine y_aload_n C 0 rfl rfl dX0_load_36 ?_
  obtain ⟨r29, ⟨fs9, g1, g2⟩, h⟩ := h
  refine y_get (ci := 0) (k := 0) C in_X0 rfl (by decide) q185 (fun _ h => h) g1 g2 dX0_load_37 ?_
  obtain ⟨d30, rfl, h⟩ := h
  obtain ⟨x31, ⟨fs9, g1, g2⟩, h⟩ := h
  refine y_getN (ci := 1) (k := 2) C in_X1 rfl (by decide) q163 (fun _ h => h) g1 g2 dX0_load_40 ?_
  obtain ⟨d32, rfl, h⟩ := h
  obtain ⟨fs33, g1, g2, h⟩ := h
  replace h := h _ rfl
  refine y_putN (ci := 1) (k := 2) C in_X1 tyX1_ok nmX1 rfl (by decide) q163 (fun _ h => h) rfl g1 g2 rfl rfl rfl dX0_load_43 ?_
  refine y_aload_n C 1 rfl rfl dX0_load_46 ?_
  refine y_aload_n C 0 rfl rfl dX0_load_47 ?_
  obtain ⟨r35, ⟨fs9, g1, g2⟩, h⟩ := h
  refine y_get (ci := 0) (k := 0) C in_X0 rfl (by decide) q185 (fun _ h => h) g1 g2 dX0_load_48 ?_
  obtain ⟨d36, rfl, h⟩ := h
  obtain ⟨x37, ⟨fs9, g1, g2⟩, h⟩ := h
  refine y_getN (ci := 1) (k := 3) C in_X1 rfl (by decide) q165 (fun _ h => h) g1 g2 dX0_load_51 ?_
  obtain ⟨fs38, g1, g2, h⟩ := h
  replace h := h _ rfl
  refine y_putN (ci := 1) (k := 3) C in_X1 tyX1_ok nmX1 rfl (by decide) q165 (fun _ h => h) rfl g1 g2 rfl rfl rfl dX0_load_54 ?_
  refine y_aload_n C 0 rfl rfl dX0_load_57 ?_
  refine y_aload_n C 1 rfl rfl dX0_load_58 ?_
  obtain ⟨⟨vs9, g0⟩, h⟩ := h
  refine y_callVv0 C (metX0_become hB h) (cwV 1 C.hts (lw_V q640 q642 qs10 q86 q643) rfl rfl rfl kdX0_become ⟨Nat.le_of_ble_eq_true rfl, Nat.le_of_ble_eq_true rfl⟩) g0 rfl rfl rfl (Nat.le_of_ble_eq_true rfl) dX0_load_59 (fun M40 hp => ?_)
  replace h := hp
  refine y_aload_n C 1 rfl rfl dX0_load_62 ?_
  obtain ⟨r41, ⟨fs9, g1, g2⟩, h⟩ := h
  refine y_getN (ci := 1) (k := 1) C in_X1 rfl (by decide) q160 (fun _ h => h) g1 g2 dX0_load_63 ?_
  obtain ⟨d42, rfl, h⟩ := h
  obtain ⟨⟨vs9, g0⟩, h⟩ := h
  refine y_callVi0 C (metJ2_size hB h) (cwV 0 C.hts (lw_V q645 q494 q495 q90 q496) rfl rfl rfl kdJ2_size ⟨Nat.le_of_ble_eq_true rfl, Nat.le_of_ble_eq_true rfl⟩) g0 rfl rfl rfl (Nat.le_of_ble_eq_true rfl) dX0_load_66 (fun r43 M1 hp => ?_)
  clear h
  obtain ⟨rfl, h⟩ := hp
  exact y_ireti C hr rfl rfl h dX0_load_69

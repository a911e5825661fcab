set_option maxRecDepth 100000
theorem kdJ0_init : yJ0_init.cls = RJ0 ∧ yJ0_init.cls ≠ "java/lang/invoke/MethodHandle" ∧ yJ0_init.cls ≠ "java/lang/invoke/VarHandle" ∧ (parseMethodDescriptor yJ0_init.desc).map (fun d => d.parameters.length) = some 0 := by decide +kernel
def wpJ0_init (M : yM) (o_ : Nat) (post : Prop) : Prop := post
theorem metJ0_init {l : Launch} {D : va_G} {s0 : State} {a0 : Array Value} (hB : yB D s0 a0) {M : yM} {o_ : Nat} {post : Prop} (h : wpJ0_init M o_ post) : yMv l yJ0_init (ws_ yJ0_init cJ0_init 1 none) 1 80 0 0 D s0 [yr (some o_)] M (fun M1 => M1 = M ∧ post) := by
  refine y_metv hB (by decide) rfl (Nat.le_of_ble_eq_true rfl) ?_
  intro p e s m below meth c A hr hnm C
  have hin2 : meth.name = "<init>" := hnm
  rw [wpJ0_init] at h
  refine y_aload_n C 0 rfl rfl dJ0_init_0 ?_
  refine y_objInit C q137 q118 q119 (Nat.le_of_ble_eq_true rfl) (Nat.le_of_ble_eq_true rfl) (Nat.le_of_ble_eq_true rfl) dJ0_init_1 ?_
  exact y_vret C hr rfl rfl ⟨rfl, h⟩ dJ0_init_4
theorem kdJ1_init : yJ1_init.cls = RJ1 ∧ yJ1_init.cls ≠ "java/lang/invoke/MethodHandle" ∧ yJ1_init.cls ≠ "java/lang/invoke/VarHandle" ∧ (parseMethodDescriptor yJ1_init.desc).map (fun d => d.parameters.length) = some 0 := by decide +kernel
def wpJ1_init (M : yM) (o_ : Nat) (post : yM → Prop) : Prop := wpJ0_init M o_ (∃ fs1 : List yV, M o_ = some (yo 9 fs1) ∧ 0 < fs1.length ∧ ∀ M2 : yM, M2 = yup M o_ (yo 9 (fs1.set 0 (yi 0))) → post M2)
theorem metJ1_init {l : Launch} {D : va_G} {s0 : State} {a0 : Array Value} (hB : yB D s0 a0) {M : yM} {o_ : Nat} {post : yM → Prop} (h : wpJ1_init M o_ post) : yMv l yJ1_init (ws_ yJ1_init cJ1_init 1 none) 2 100 0 0 D s0 [yr (some o_)] M post := by
  refine y_metv hB (by decide) rfl (Nat.le_of_ble_eq_true rfl) ?_
  intro p e s m below meth c A hr hnm C
  have hin2 : meth.name = "<init>" := hnm
  rw [wpJ1_init] at h
  refine y_aload_n C 0 rfl rfl dJ1_init_0 ?_
  refine y_callIv0 C (metJ0_init hB h) (cwI 0 C.hts (lw_meth q136) rfl rfl rfl (C.hts _ q88) (C.hts _ q134) (C.hts _ q135) rfl kdJ0_init.2 ⟨Nat.le_of_ble_eq_true rfl, Nat.le_of_ble_eq_true rfl⟩) rfl rfl (Nat.le_of_ble_eq_true rfl) dJ1_init_1 (fun M1 hp => ?_)
  clear h
  obtain ⟨rfl, h⟩ := hp
  refine y_aload_n C 0 rfl rfl dJ1_init_4 ?_
  refine y_iconst C 0 dJ1_init_5 lit0 ?_
  obtain ⟨fs1, g1, g2, h⟩ := h
  replace h := h _ rfl
  refine y_put (ci := 9) (k := 0) C in_J2 tyJ2_ok nmJ2 rfl (by decide) q142 (fun _ h => h) rfl g1 g2 rfl rfl rfl dJ1_init_6 ?_
  exact y_vret C hr rfl rfl h dJ1_init_9
theorem kdJ2_init : yJ2_init.cls = RJ2 ∧ yJ2_init.cls ≠ "java/lang/invoke/MethodHandle" ∧ yJ2_init.cls ≠ "java/lang/invoke/VarHandle" ∧ (parseMethodDescriptor yJ2_init.desc).map (fun d => d.parameters.length) = some 0 := by decide +kernel
def wpJ2_init (M : yM) (z : Nat → Nat) (o_ : Nat) (post : yM → Prop) : Prop := wpJ1_init M o_ (fun M1 => ∃ fs2 : List yV, M1 o_ = some (yo 9 fs2) ∧ 1 < fs2.length ∧ ∀ M3 : yM, M3 = yup M1 o_ (yo 9 (fs2.set 1 (yr (some (z 0))))) → post M3)
theorem metJ2_init {l : Launch} {D : va_G} {s0 : State} {a0 : Array Value} (hB : yB D s0 a0) {M : yM} {o_ : Nat} {post : yM → Prop} (h : wpJ2_init M (yz s0 a0) o_ post) : yMv l yJ2_init (ws_ yJ2_init cJ2_init 1 none) 3 120 0 0 D s0 [yr (some o_)] M post := by
  refine y_metv hB (by decide) rfl (Nat.le_of_ble_eq_true rfl) ?_
  intro p e s m below meth c A hr hnm C
  have hin2 : meth.name = "<init>" := hnm
  rw [wpJ2_init] at h
  refine y_aload_n C 0 rfl rfl dJ2_init_0 ?_
  refine y_callIv0 C (metJ1_init hB h) (cwI 0 C.hts (lw_meth q133) rfl rfl rfl (C.hts _ q89) (C.hts _ q131) (C.hts _ q132) rfl kdJ1_init.2 ⟨Nat.le_of_ble_eq_true rfl, Nat.le_of_ble_eq_true rfl⟩) rfl rfl (Nat.le_of_ble_eq_true rfl) dJ2_init_1 (fun M1 hp => ?_)
  replace h := hp
  refine y_aload_n C 0 rfl rfl dJ2_init_4 ?_
  refine y_stat_z0 C q138 dJ2_init_5 ?_
  obtain ⟨fs2, g1, g2, h⟩ := h
  replace h := h _ rfl
  refine y_put (ci := 9) (k := 1) C in_J2 tyJ2_ok nmJ2 rfl (by decide) q140 (fun _ h => h) rfl g1 g2 rfl rfl rfl dJ2_init_8 ?_
  exact y_vret C hr rfl rfl h dJ2_init_11
theorem kdX1_init : yX1_init.cls = RX1 ∧ yX1_init.cls ≠ "java/lang/invoke/MethodHandle" ∧ yX1_init.cls ≠ "java/lang/invoke/VarHandle" ∧ (parseMethodDescriptor yX1_init.desc).map (fun d => d.parameters.length) = some 0 := by decide +kernel
def wpX1_init (M : yM) (z : Nat → Nat) (mc : Nat) (ms : Nat) (o_ : Nat) (post : yM → Prop) : Prop := 1 ≤ mc ∧ 3 ≤ ms ∧ ∀ q1 : Nat, M q1 = none → ∀ M2 : yM, M2 = yup M q1 (yo 9 [yi 0, yr none, yi 0]) → wpJ2_init M2 z q1 (fun M3 => ∃ fs4 : List yV, M3 o_ = some (yo 1 fs4) ∧ 0 < fs4.length ∧ ∀ M5 : yM, M5 = yup M3 o_ (yo 1 (fs4.set 0 (yr (some q1)))) → 1 ≤ (mc - 1) ∧ 3 ≤ (ms - 3) ∧ ∀ q6 : Nat, M5 q6 = none → ∀ M7 : yM, M7 = yup M5 q6 (yo 9 [yi 0, yr none, yi 0]) → wpJ2_init M7 z q6 (fun M8 => ∃ fs9 : List yV, M8 o_ = some (yo 1 fs9) ∧ 1 < fs9.length ∧ ∀ M10 : yM, M10 = yup M8 o_ (yo 1 (fs9.set 1 (yr (some q6)))) → ∃ fs11 : List yV, M10 o_ = some (yo 1 fs11) ∧ 2 < fs11.length ∧ ∀ M12 : yM, M12 = yup M10 o_ (yo 1 (fs11.set 2 (yi 4))) → ∃ fs13 : List yV, M12 o_ = some (yo 1 fs13) ∧ 3 < fs13.length ∧ ∀ M14 : yM, M14 = yup M12 o_ (yo 1 (fs13.set 3 (yi 3))) → ¬ (16 : Int32) < 0 ∧ (Int32.toNatClampNeg 16) ≤ 65536 ∧ 1 ≤ ((mc - 1) - 1) ∧ (Int32.toNatClampNeg 16) ≤ ((ms - 3) - 3) ∧ ∀ q15 : Nat, M14 q15 = none → ∀ M16 : yM, M16 = yup M14 q15 (yaq "DimensionLines$Bounds" (Int32.toNatClampNeg 16) (fun _ => none)) → ∃ fs17 : List yV, M16 o_ = some (yo 1 fs17) ∧ 6 < fs17.length ∧ ∀ M18 : yM, M18 = yup M16 o_ (yo 1 (fs17.set 6 (yr (some q15)))) → post M18))
theorem metX1_init {l : Launch} {D : va_G} {s0 : State} {a0 : Array Value} (hB : yB D s0 a0) {M : yM} {mc : Nat} {ms : Nat} {o_ : Nat} {post : yM → Prop} (h : wpX1_init M (yz s0 a0) mc ms o_ post) : yMv l yX1_init (ws_ yX1_init cX1_init 1 none) 4 140 mc ms D s0 [yr (some o_)] M post := by
  refine y_metv hB (by decide) rfl (Nat.le_of_ble_eq_true rfl) ?_
  intro p e s m below meth c A hr hnm C
  have hin2 : meth.name = "<init>" := hnm
  rw [wpX1_init] at h
  refine y_aload_n C 0 rfl rfl dX1_init_0 ?_
  refine y_objInit C q125 q118 q119 (Nat.le_of_ble_eq_true rfl) (Nat.le_of_ble_eq_true rfl) (Nat.le_of_ble_eq_true rfl) dX1_init_1 ?_
  refine y_aload_n C 0 rfl rfl dX1_init_4 ?_
  obtain ⟨g1, g2, h⟩ := h
  refine y_new (ci := 9) C in_J2 tyJ2_ok rfl q126 q127 q90 [yi 0, yr none, yi 0] (fun j hj => by rcases (show j = 0 ∨ j = 1 ∨ j = 2 by omega) with rfl | rfl | rfl <;> rfl) g1 g2 dX1_init_5 (fun q1 g3 => ?_)
  replace h := h q1 g3 _ rfl
  refine y_dup C rfl dX1_init_8 ?_
  refine y_callIv0 C (metJ2_init hB h) (cwI 0 C.hts (lw_meth q130) rfl rfl rfl (C.hts _ q90) (C.hts _ q128) (C.hts _ q129) rfl kdJ2_init.2 ⟨Nat.le_of_ble_eq_true rfl, Nat.le_of_ble_eq_true rfl⟩) rfl rfl (Nat.le_of_ble_eq_true rfl) dX1_init_9 (fun M3 hp => ?_)
  replace h := hp
  obtain ⟨fs4, g1, g2, h⟩ := h
  replace h := h _ rfl
  refine y_putF (ci := 1) (k := 0) C in_X1 tyX1_ok nmX1 rfl (by decide) q155 (fun _ h => h) rfl hin2 rfl g1 g2 rfl rfl rfl dX1_init_12 ?_
  refine y_aload_n C 0 rfl rfl dX1_init_15 ?_
  obtain ⟨g1, g2, h⟩ := h
  refine y_new (ci := 9) C in_J2 tyJ2_ok rfl q126 q127 q90 [yi 0, yr none, yi 0] (fun j hj => by rcases (show j = 0 ∨ j = 1 ∨ j = 2 by omega) with rfl | rfl | rfl <;> rfl) g1 g2 dX1_init_16 (fun q6 g3 => ?_)
  replace h := h q6 g3 _ rfl
  refine y_dup C rfl dX1_init_19 ?_
  refine y_callIv0 C (metJ2_init hB h) (cwI 0 C.hts (lw_meth q130) rfl rfl rfl (C.hts _ q90) (C.hts _ q128) (C.hts _ q129) rfl kdJ2_init.2 ⟨Nat.le_of_ble_eq_true rfl, Nat.le_of_ble_eq_true rfl⟩) rfl rfl (Nat.le_of_ble_eq_true rfl) dX1_init_20 (fun M8 hp => ?_)
  replace h := hp
  obtain ⟨fs9, g1, g2, h⟩ := h
  replace h := h _ rfl
  refine y_putF (ci := 1) (k := 1) C in_X1 tyX1_ok nmX1 rfl (by decide) q158 (fun _ h => h) rfl hin2 rfl g1 g2 rfl rfl rfl dX1_init_23 ?_
  refine y_aload_n C 0 rfl rfl dX1_init_26 ?_
  refine y_iconst C 4 dX1_init_27 lit4 ?_
  obtain ⟨fs11, g1, g2, h⟩ := h
  replace h := h _ rfl
  refine y_put (ci := 1) (k := 2) C in_X1 tyX1_ok nmX1 rfl (by decide) q162 (fun _ h => h) rfl g1 g2 rfl rfl rfl dX1_init_28 ?_
  refine y_aload_n C 0 rfl rfl dX1_init_31 ?_
  refine y_iconst C 3 dX1_init_32 lit3 ?_
  obtain ⟨fs13, g1, g2, h⟩ := h
  replace h := h _ rfl
  refine y_put (ci := 1) (k := 3) C in_X1 tyX1_ok nmX1 rfl (by decide) q164 (fun _ h => h) rfl g1 g2 rfl rfl rfl dX1_init_33 ?_
  refine y_aload_n C 0 rfl rfl dX1_init_36 ?_
  refine y_bipush C 16 dX1_init_37 y_b16 ?_
  obtain ⟨g1, g2, g3, g4, h⟩ := h
  refine y_anew C q152 q153 g1 g2 g3 g4 dX1_init_39 (fun q15 g5 => ?_)
  replace h := h q15 g5 _ rfl
  obtain ⟨fs17, g1, g2, h⟩ := h
  replace h := h _ rfl
  refine y_putF (ci := 1) (k := 6) C in_X1 tyX1_ok nmX1 rfl (by decide) q168 (fun _ h => h) rfl hin2 rfl g1 g2 rfl rfl rfl dX1_init_42 ?_
  exact y_vret C hr rfl rfl h dX1_init_45
theorem kdX0_init : yX0_init.cls = RX0 ∧ yX0_init.cls ≠ "java/lang/invoke/MethodHandle" ∧ yX0_init.cls ≠ "java/lang/invoke/VarHandle" ∧ (parseMethodDescriptor yX0_init.desc).map (fun d => d.parameters.length) = some 0 := by decide +kernel
def wpX0_init (M : yM) (z : Nat → Nat) (mc : Nat) (ms : Nat) (o_ : Nat) (post : yM → Prop) : Prop := 1 ≤ mc ∧ 7 ≤ ms ∧ ∀ q1 : Nat, M q1 = none → ∀ M2 : yM, M2 = yup M q1 (yo 1 [yr none, yr none, yi 0, yi 0, yr none, yr none, yr none]) → ∃ kc3 ks4 : Nat, kc3 ≤ (mc - 1) ∧ ks4 ≤ (ms - 7) ∧ wpX1_init M2 z kc3 ks4 q1 (fun M5 => ∃ fs6 : List yV, M5 o_ = some (yo 0 fs6) ∧ 0 < fs6.length ∧ ∀ M7 : yM, M7 = yup M5 o_ (yo 0 (fs6.set 0 (yr (some q1)))) → ¬ (8 : Int32) < 0 ∧ (Int32.toNatClampNeg 8) ≤ 65536 ∧ 1 ≤ ((mc - 1) - kc3) ∧ (Int32.toNatClampNeg 8) ≤ ((ms - 7) - ks4) ∧ ∀ q8 : Nat, M7 q8 = none → ∀ M9 : yM, M9 = yup M7 q8 (yaq "DimensionLines$Drawing" (Int32.toNatClampNeg 8) (fun _ => none)) → ∃ fs10 : List yV, M9 o_ = some (yo 0 fs10) ∧ 1 < fs10.length ∧ ∀ M11 : yM, M11 = yup M9 o_ (yo 0 (fs10.set 1 (yr (some q8)))) → ¬ (80 : Int32) < 0 ∧ (Int32.toNatClampNeg 80) ≤ 65536 ∧ 1 ≤ (((mc - 1) - kc3) - 1) ∧ (Int32.toNatClampNeg 80) ≤ (((ms - 7) - ks4) - (Int32.toNatClampNeg 8)) ∧ ∀ q12 : Nat, M11 q12 = none → ∀ M13 : yM, M13 = yup M11 q12 (yac (Int32.toNatClampNeg 80) (fun _ => 0)) → ∃ fs14 : List yV, M13 o_ = some (yo 0 fs14) ∧ 3 < fs14.length ∧ ∀ M15 : yM, M15 = yup M13 o_ (yo 0 (fs14.set 3 (yr (some q12)))) → post M15)
theorem metX0_init {l : Launch} {D : va_G} {s0 : State} {a0 : Array Value} (hB : yB D s0 a0) {M : yM} {mc : Nat} {ms : Nat} {o_ : Nat} {post : yM → Prop} (h : wpX0_init M (yz s0 a0) mc ms o_ post) : yMv l yX0_init (ws_ yX0_init cX0_init 1 none) 5 160 mc ms D s0 [yr (some o_)] M post := by
  refine y_metv hB (by decide) rfl (Nat.le_of_ble_eq_true rfl) ?_
  intro p e s m below meth c A hr hnm C
  have hin2 : meth.name = "<init>" := hnm
  rw [wpX0_init] at h
  refine y_aload_n C 0 rfl rfl dX0_init_0 ?_
  refine y_objInit C q117 q118 q119 (Nat.le_of_ble_eq_true rfl) (Nat.le_of_ble_eq_true rfl) (Nat.le_of_ble_eq_true rfl) dX0_init_1 ?_
  refine y_aload_n C 0 rfl rfl dX0_init_4 ?_
  obtain ⟨g1, g2, h⟩ := h
  refine y_new (ci := 1) C in_X1 tyX1_ok rfl q120 q121 q87 [yr none, yr none, yi 0, yi 0, yr none, yr none, yr none] (fun j hj => by rcases (show j = 0 ∨ j = 1 ∨ j = 2 ∨ j = 3 ∨ j = 4 ∨ j = 5 ∨ j = 6 by omega) with rfl | rfl | rfl | rfl | rfl | rfl | rfl <;> rfl) g1 g2 dX0_init_5 (fun q1 g3 => ?_)
  replace h := h q1 g3 _ rfl
  refine y_dup C rfl dX0_init_8 ?_
  obtain ⟨kc3, ks4, g1, g2, h⟩ := h
  refine y_callINv C (metX1_init hB h) ⟨va_cnB 0 C.hts (lw_meth q124) rfl rfl rfl (C.nestM q122) (C.hts _ q87) kdX1_init.2 ⟨Nat.le_of_ble_eq_true rfl, Nat.le_of_ble_eq_true rfl⟩, rfl, C.hts _ q123⟩ rfl rfl (Nat.le_of_ble_eq_true rfl) dX0_init_9 g1 g2 (fun M5 hp => ?_)
  replace h := hp
  obtain ⟨fs6, g1, g2, h⟩ := h
  replace h := h _ rfl
  refine y_put (ci := 0) (k := 0) C in_X0 tyX0_ok nmX0 rfl (by decide) q185 (fun _ h => h) rfl g1 g2 rfl rfl rfl dX0_init_12 ?_
  refine y_aload_n C 0 rfl rfl dX0_init_15 ?_
  refine y_bipush C 8 dX0_init_16 y_b8 ?_
  obtain ⟨g1, g2, g3, g4, h⟩ := h
  refine y_anew C q120 q184 g1 g2 g3 g4 dX0_init_18 (fun q8 g5 => ?_)
  replace h := h q8 g5 _ rfl
  obtain ⟨fs10, g1, g2, h⟩ := h
  replace h := h _ rfl
  refine y_putF (ci := 0) (k := 1) C in_X0 tyX0_ok nmX0 rfl (by decide) q186 (fun _ h => h) rfl hin2 rfl g1 g2 rfl rfl rfl dX0_init_21 ?_
  refine y_aload_n C 0 rfl rfl dX0_init_24 ?_
  refine y_bipush C 80 dX0_init_25 y_b80 ?_
  obtain ⟨g1, g2, g3, g4, h⟩ := h
  refine y_newac C q204 g1 g2 g3 g4 dX0_init_27 (fun q12 g5 => ?_)
  replace h := h q12 g5 _ rfl
  obtain ⟨fs14, g1, g2, h⟩ := h
  replace h := h _ rfl
  refine y_putF (ci := 0) (k := 3) C in_X0 tyX0_ok nmX0 rfl (by decide) q188 (fun _ h => h) rfl hin2 rfl g1 g2 rfl rfl rfl dX0_init_29 ?_
  exact y_vret C hr rfl rfl h dX0_init_32
theorem kdX0_in : yX0_in.cls = RX0 ∧ yX0_in.cls ≠ "java/lang/invoke/MethodHandle" ∧ yX0_in.cls ≠ "java/lang/invoke/VarHandle" ∧ (parseMethodDescriptor yX0_in.desc).map (fun d => d.parameters.length) = some 3 := by decide +kernel
def wpX0_in (M : yM) (a1 : Int32) (a2 : Int32) (a3 : Int32) (post : Int32 → Prop) : Prop := ((a1 < a2 → post 0) ∧ (¬ a1 < a2 → ((a3 < a1 → post 0) ∧ (¬ a3 < a1 → post 1))))
theorem metX0_in {l : Launch} {D : va_G} {s0 : State} {a0 : Array Value} (hB : yB D s0 a0) {M : yM} {a1 : Int32} {a2 : Int32} {a3 : Int32} {post : Int32 → Prop} (h : wpX0_in M a1 a2 a3 post) : yMi l yX0_in (ws_ yX0_in cX0_in 3 (some .boolean)) 1 80 0 0 D s0 [yi a1, yi a2, yi a3] M (fun r M1 => M1 = M ∧ post r) := by
  refine y_meti hB (by decide) rfl (Nat.le_of_ble_eq_true rfl) ?_
  intro p e s m below meth c A hr hnm C
  rw [wpX0_in] at h
  refine y_iload_n C 0 rfl rfl dX0_in_0 ?_
  refine y_iload_n C 1 rfl rfl dX0_in_1 ?_
  refine y_icmp_lt C 14 dX0_in_2 (by decide) (fun c9 => ?_) (fun c9 => ?_)
  · replace h := h.1 c9
    refine y_iconst C 0 dX0_in_14 lit0 ?_
    exact y_iretz C hr rfl rfl (by decide) ⟨rfl, h⟩ dX0_in_15
  · replace h := h.2 c9
    refine y_iload_n C 0 rfl rfl dX0_in_5 ?_
    refine y_iload_n C 2 rfl rfl dX0_in_6 ?_
    refine y_icmp_gt C 14 dX0_in_7 (by decide) (fun c9 => ?_) (fun c9 => ?_)
    · replace h := h.1 c9
      refine y_iconst C 0 dX0_in_14 lit0 ?_
      exact y_iretz C hr rfl rfl (by decide) ⟨rfl, h⟩ dX0_in_15
    · replace h := h.2 c9
      refine y_iconst C 1 dX0_in_10 lit1 ?_
      refine y_goto C 15 dX0_in_11 (by decide) ?_
      exact y_iretz C hr rfl rfl (by decide) ⟨rfl, h⟩ dX0_in_15
theorem kdX0_type : yX0_type.cls = RX0 ∧ yX0_type.cls ≠ "java/lang/invoke/MethodHandle" ∧ yX0_type.cls ≠ "java/lang/invoke/VarHandle" ∧ (parseMethodDescriptor yX0_type.desc).map (fun d => d.parameters.length) = some 1 := by decide +kernel
def wpX0_type (M : yM) (o_ : Nat) (a1 : Int32) (post : Int32 → yM → Prop) : Prop := wpX0_in M a1 32 126 (fun r1 => ((¬ r1 = 0 → ∃ x2 : Int32, yF M o_ 0 4 (yi x2) ∧ ((¬ x2 = 80 → ∃ r3 : Option Nat, yF M o_ 0 3 (yr r3) ∧ ∃ x4 : Int32, yF M o_ 0 4 (yi x4) ∧ ∃ d5 : Nat, r3 = some d5 ∧ ∃ (n6 : Nat) (f7 : Nat → Int32), M d5 = some (yac n6 f7) ∧ vp_in x4 n6 ∧ ∀ M8 : yM, M8 = yup M d5 (yac n6 (upd f7 (Int32.toNatClampNeg x4) (vp_nar .char (((a1).toUInt32 % 65536).toInt32)))) → ∃ x9 : Int32, yF M8 o_ 0 4 (yi x9) ∧ ∃ fs10 : List yV, M8 o_ = some (yo 0 fs10) ∧ 4 < fs10.length ∧ ∀ M11 : yM, M11 = yup M8 o_ (yo 0 (fs10.set 4 (yi (x9 + 1)))) → ∃ x12 : Int32, yF M11 o_ 0 4 (yi x12) ∧ post x12 M11) ∧ (x2 = 80 → post (-3) M))) ∧ (r1 = 0 → post (-1) M)))
theorem metX0_type {l : Launch} {D : va_G} {s0 : State} {a0 : Array Value} (hB : yB D s0 a0) {M : yM} {o_ : Nat} {a1 : Int32} {post : Int32 → yM → Prop} (h : wpX0_type M o_ a1 post) : yMi l yX0_type (ws_ yX0_type cX0_type 2 (some .int)) 2 102 0 0 D s0 [yr (some o_), yi a1] M post := by
  refine y_meti hB (by decide) rfl (Nat.le_of_ble_eq_true rfl) ?_
  intro p e s m below meth c A hr hnm C
  rw [wpX0_type] at h
  refine y_iload_n C 1 rfl rfl dX0_type_0 ?_
  refine y_bipush C 32 dX0_type_1 y_b32 ?_
  refine y_bipush C 126 dX0_type_3 y_b126 ?_
  refine y_callSi0 C (metX0_in hB h) (va_cwS 3 C.hts (lw_S q209 q210 q86 q211) rfl rfl rfl kdX0_in.2 ⟨Nat.le_of_ble_eq_true rfl, Nat.le_of_ble_eq_true rfl⟩) rfl rfl (Nat.le_of_ble_eq_true rfl) dX0_type_5 (fun r1 M1 hp => ?_)
  clear h
  obtain ⟨rfl, h⟩ := hp
  refine y_if_ne C 13 dX0_type_8 (by decide) (fun c9 => ?_) (fun c9 => ?_)
  · replace h := h.1 c9
    refine y_aload_n C 0 rfl rfl dX0_type_13 ?_
    obtain ⟨x2, ⟨fs9, g1, g2⟩, h⟩ := h
    refine y_get (ci := 0) (k := 4) C in_X0 rfl (by decide) q189 (fun _ h => h) g1 g2 dX0_type_14 ?_
    refine y_bipush C 80 dX0_type_17 y_b80 ?_
    refine y_icmp_ne C 25 dX0_type_19 (by decide) (fun c9 => ?_) (fun c9 => ?_)
    · replace h := h.1 c9
      refine y_aload_n C 0 rfl rfl dX0_type_25 ?_
      obtain ⟨r3, ⟨fs9, g1, g2⟩, h⟩ := h
      refine y_get (ci := 0) (k := 3) C in_X0 rfl (by decide) q188 (fun _ h => h) g1 g2 dX0_type_26 ?_
      refine y_aload_n C 0 rfl rfl dX0_type_29 ?_
      obtain ⟨x4, ⟨fs9, g1, g2⟩, h⟩ := h
      refine y_get (ci := 0) (k := 4) C in_X0 rfl (by decide) q189 (fun _ h => h) g1 g2 dX0_type_30 ?_
      refine y_iload_n C 1 rfl rfl dX0_type_33 ?_
      refine y_i2c C dX0_type_34 ?_
      obtain ⟨d5, rfl, h⟩ := h
      obtain ⟨n6, f7, g1, g2, h⟩ := h
      replace h := h _ rfl
      refine y_cast C g1 g2 rfl dX0_type_35 ?_
      refine y_aload_n C 0 rfl rfl dX0_type_36 ?_
      refine y_dup C rfl dX0_type_37 ?_
      obtain ⟨x9, ⟨fs9, g1, g2⟩, h⟩ := h
      refine y_get (ci := 0) (k := 4) C in_X0 rfl (by decide) q189 (fun _ h => h) g1 g2 dX0_type_38 ?_
      refine y_iconst C 1 dX0_type_41 lit1 ?_
      refine y_iadd C dX0_type_42 ?_
      obtain ⟨fs10, g1, g2, h⟩ := h
      replace h := h _ rfl
      refine y_put (ci := 0) (k := 4) C in_X0 tyX0_ok nmX0 rfl (by decide) q189 (fun _ h => h) rfl g1 g2 rfl rfl rfl dX0_type_43 ?_
      refine y_aload_n C 0 rfl rfl dX0_type_46 ?_
      obtain ⟨x12, ⟨fs9, g1, g2⟩, h⟩ := h
      refine y_get (ci := 0) (k := 4) C in_X0 rfl (by decide) q189 (fun _ h => h) g1 g2 dX0_type_47 ?_
      exact y_ireti C hr rfl rfl h dX0_type_50
    · replace h := h.2 c9
      refine y_bipush C (-3) dX0_type_22 y_bm3 ?_
      exact y_ireti C hr rfl rfl h dX0_type_24
  · replace h := h.2 c9
    refine y_iconst C (-1) dX0_type_11 litm1 ?_
    exact y_ireti C hr rfl rfl h dX0_type_12
theorem kdX0_clearText : yX0_clearText.cls = RX0 ∧ yX0_clearText.cls ≠ "java/lang/invoke/MethodHandle" ∧ yX0_clearText.cls ≠ "java/lang/invoke/VarHandle" ∧ (parseMethodDescriptor yX0_clearText.desc).map (fun d => d.parameters.length) = some 0 := by decide +kernel
def wpX0_clearText (M : yM) (o_ : Nat) (post : Int32 → yM → Prop) : Prop := ∃ x1 : Int32, yF M o_ 0 4 (yi x1) ∧ ∃ fs2 : List yV, M o_ = some (yo 0 fs2) ∧ 4 < fs2.length ∧ ∀ M3 : yM, M3 = yup M o_ (yo 0 (fs2.set 4 (yi 0))) → post x1 M3
theorem metX0_clearText {l : Launch} {D : va_G} {s0 : State} {a0 : Array Value} (hB : yB D s0 a0) {M : yM} {o_ : Nat} {post : Int32 → yM → Prop} (h : wpX0_clearText M o_ post) : yMi l yX0_clearText (ws_ yX0_clearText cX0_clearText 2 (some .int)) 1 80 0 0 D s0 [yr (some o_)] M post := by
  refine y_meti hB (by decide) rfl (Nat.le_of_ble_eq_true rfl) ?_
  intro p e s m below meth c A hr hnm C
  rw [wpX0_clearText] at h
  refine y_aload_n C 0 rfl rfl dX0_clearText_0 ?_
  obtain ⟨x1, ⟨fs9, g1, g2⟩, h⟩ := h
  refine y_get (ci := 0) (k := 4) C in_X0 rfl (by decide) q189 (fun _ h => h) g1 g2 dX0_clearText_1 ?_
  refine y_istore_n C 1 rfl (by decide) dX0_clearText_4 ?_
  refine y_aload_n C 0 rfl rfl dX0_clearText_5 ?_
  refine y_iconst C 0 dX0_clearText_6 lit0 ?_
  obtain ⟨fs2, g1, g2, h⟩ := h
  replace h := h _ rfl
  refine y_put (ci := 0) (k := 4) C in_X0 tyX0_ok nmX0 rfl (by decide) q189 (fun _ h => h) rfl g1 g2 rfl rfl rfl dX0_clearText_7 ?_
  refine y_iload_n C 1 rfl rfl dX0_clearText_10 ?_
  exact y_ireti C hr rfl rfl h dX0_clearText_11
theorem kdX0_become : yX0_become.cls = RX0 ∧ yX0_become.cls ≠ "java/lang/invoke/MethodHandle" ∧ yX0_become.cls ≠ "java/lang/invoke/VarHandle" ∧ (parseMethodDescriptor yX0_become.desc).map (fun d => d.parameters.length) = some 1 := by decide +kernel
section sX0_become
variable {p : Program} {l : Launch} {e : Env} {s : State} {m : MethodId} {args : Array Value} {below : List Frame} {meth : Method} {c : Code} {D : va_G} {s0 : State} {a0 : Array Value} {A : Nat → Prop}
def wpX0_become_b34 (o_ : Nat) (post : yM → Prop) (M : yM) (v1 : Option Nat) : Prop := ∃ r2 : Option Nat, yF M o_ 0 1 (yr r2) ∧ ∃ x3 : Int32, yF M o_ 0 2 (yi x3) ∧ ∃ r4 : Option Nat, yF M o_ 0 0 (yr r4) ∧ ∃ d5 : Nat, r2 = some d5 ∧ ∃ (E8 : String) (n6 : Nat) (f7 : Nat → Option Nat), M d5 = some (yaq E8 n6 f7) ∧ vp_in x3 n6 ∧ (∀ v, r4 = some v → ∃ ci vs, M v = some (yo ci vs) ∧ yAsg E8 ci) ∧ ∀ M9 : yM, M9 = yup M d5 (yaq E8 n6 (va_up f7 (Int32.toNatClampNeg x3) r4)) → ∃ x10 : Int32, yF M9 o_ 0 2 (yi x10) ∧ ∃ fs11 : List yV, M9 o_ = some (yo 0 fs11) ∧ 2 < fs11.length ∧ ∀ M12 : yM, M12 = yup M9 o_ (yo 0 (fs11.set 2 (yi (x10 + 1)))) → ∃ fs13 : List yV, M12 o_ = some (yo 0 fs13) ∧ 0 < fs13.length ∧ ∀ M14 : yM, M14 = yup M12 o_ (yo 0 (fs13.set 0 (yr v1))) → post M14
theorem okX0_become_b34 (C : yC p { frames := 1, cells := 0, slots := 0, locals := 80 } s m args meth c cX0_become 2 RX0 D s0 a0 A) (hB : yB D s0 a0) (hr : meth.sig.returnType = none) {o_ : Nat} {post : yM → Prop}  : ∀ (M : yM) (v1 : Option Nat), wpX0_become_b34 o_ post M v1 → Y p l e { frames := 1, cells := 0, slots := 0, locals := 80 } s m args below meth c (MQ below (yQv D s0 A post) args s 0 0 A) D s0 A 2 M 0 0 [some (yr (some o_)), some (yr v1)] 34 [] := by
  intro M v1 h
  rw [wpX0_become_b34] at h
  refine y_aload_n C 0 rfl rfl dX0_become_34 ?_
  obtain ⟨r2, ⟨fs9, g1, g2⟩, h⟩ := h
  refine y_get (ci := 0) (k := 1) C in_X0 rfl (by decide) q186 (fun _ h => h) g1 g2 dX0_become_35 ?_
  refine y_aload_n C 0 rfl rfl dX0_become_38 ?_
  obtain ⟨x3, ⟨fs9, g1, g2⟩, h⟩ := h
  refine y_get (ci := 0) (k := 2) C in_X0 rfl (by decide) q187 (fun _ h => h) g1 g2 dX0_become_39 ?_
  refine y_aload_n C 0 rfl rfl dX0_become_42 ?_
  obtain ⟨r4, ⟨fs9, g1, g2⟩, h⟩ := h
  refine y_get (ci := 0) (k := 0) C in_X0 rfl (by decide) q185 (fun _ h => h) g1 g2 dX0_become_43 ?_
  obtain ⟨d5, rfl, h⟩ := h
  obtain ⟨E8, n6, f7, g1, g2, g3, h⟩ := h
  replace h := h _ rfl
  refine y_aast C g1 g2 g3 rfl dX0_become_46 ?_
  refine y_aload_n C 0 rfl rfl dX0_become_47 ?_
  refine y_dup C rfl dX0_become_48 ?_
  obtain ⟨x10, ⟨fs9, g1, g2⟩, h⟩ := h
  refine y_get (ci := 0) (k := 2) C in_X0 rfl (by decide) q187 (fun _ h => h) g1 g2 dX0_become_49 ?_
  refine y_iconst C 1 dX0_become_52 lit1 ?_
  refine y_iadd C dX0_become_53 ?_
  obtain ⟨fs11, g1, g2, h⟩ := h
  replace h := h _ rfl
  refine y_put (ci := 0) (k := 2) C in_X0 tyX0_ok nmX0 rfl (by decide) q187 (fun _ h => h) rfl g1 g2 rfl rfl rfl dX0_become_54 ?_
  refine y_aload_n C 0 rfl rfl dX0_become_57 ?_
  refine y_aload_n C 1 rfl rfl dX0_become_58 ?_
  obtain ⟨fs13, g1, g2, h⟩ := h
  replace h := h _ rfl
  refine y_put (ci := 0) (k := 0) C in_X0 tyX0_ok nmX0 rfl (by decide) q185 (fun _ h => h) rfl g1 g2 (y_nmr _ v1) (y_ftr _ v1) rfl dX0_become_59 ?_
  exact y_vret C hr rfl rfl h dX0_become_62
end sX0_become
def wpX0_become (M : yM) (o_ : Nat) (a1 : Option Nat) (post : yM → Prop) : Prop := ∃ x1 : Int32, yF M o_ 0 2 (yi x1) ∧ ((¬ x1 = 8 → wpX0_become_b34 o_ post M a1) ∧ (x1 = 8 → ∃ r15 : Option Nat, yF M o_ 0 1 (yr r15) ∧ ∃ r16 : Option Nat, yF M o_ 0 1 (yr r16) ∧ ∃ d17 : Nat, r15 = some d17 ∧ ∃ d18 : Nat, r16 = some d18 ∧ ∃ (E23 E24 : String) (n19 n20 : Nat) (f21 f22 : Nat → Option Nat), M d17 = some (yaq E23 n19 f21) ∧ M d18 = some (yaq E24 n20 f22) ∧ 0 < n19 ∧ 0 < n20 ∧ ¬ (1 : Int32) < 0 ∧ ¬ (0 : Int32) < 0 ∧ ¬ (7 : Int32) < 0 ∧ (Int32.toNatClampNeg 1) + (Int32.toNatClampNeg 7) ≤ n19 ∧ (Int32.toNatClampNeg 0) + (Int32.toNatClampNeg 7) ≤ n20 ∧ (∀ i : Nat, i < (Int32.toNatClampNeg 7) → ∀ v : Nat, f21 ((Int32.toNatClampNeg 1) + i) = some v → ∃ ci vs, M v = some (yo ci vs) ∧ yAsg E24 ci) ∧ ∀ M25 : yM, M25 = yup M d18 (yaq E24 n20 (va_cpy f21 f22 (Int32.toNatClampNeg 1) (Int32.toNatClampNeg 0) (Int32.toNatClampNeg 7))) → ∃ x26 : Int32, yF M25 o_ 0 2 (yi x26) ∧ ∃ fs27 : List yV, M25 o_ = some (yo 0 fs27) ∧ 2 < fs27.length ∧ ∀ M28 : yM, M28 = yup M25 o_ (yo 0 (fs27.set 2 (yi (x26 - 1)))) → wpX0_become_b34 o_ post M28 a1))
theorem metX0_become {l : Launch} {D : va_G} {s0 : State} {a0 : Array Value} (hB : yB D s0 a0) {M : yM} {o_ : Nat} {a1 : Option Nat} {post : yM → Prop} (h : wpX0_become M o_ a1 post) : yMv l yX0_become (ws_ yX0_become cX0_become 2 none) 1 80 0 0 D s0 [yr (some o_), yr a1] M post := by
  refine y_metv hB (by decide) rfl (Nat.le_of_ble_eq_true rfl) ?_
  intro p e s m below meth c A hr hnm C
  rw [wpX0_become] at h
  refine y_aload_n C 0 rfl rfl dX0_become_0 ?_
  obtain ⟨x1, ⟨fs9, g1, g2⟩, h⟩ := h
  refine y_get (ci := 0) (k := 2) C in_X0 rfl (by decide) q187 (fun _ h => h) g1 g2 dX0_become_1 ?_
  refine y_bipush C 8 dX0_become_4 y_b8 ?_
  refine y_icmp_ne C 34 dX0_become_6 (by decide) (fun c9 => ?_) (fun c9 => ?_)
  · replace h := h.1 c9
    refine y_to C _ ?_ (okX0_become_b34 C hB hr  _ _ h)
    exact (And.intro rfl (And.intro rfl trivial))
  · replace h := h.2 c9
    refine y_aload_n C 0 rfl rfl dX0_become_9 ?_
    obtain ⟨r15, ⟨fs9, g1, g2⟩, h⟩ := h
    refine y_get (ci := 0) (k := 1) C in_X0 rfl (by decide) q186 (fun _ h => h) g1 g2 dX0_become_10 ?_
    refine y_iconst C 1 dX0_become_13 lit1 ?_
    refine y_aload_n C 0 rfl rfl dX0_become_14 ?_
    obtain ⟨r16, ⟨fs9, g1, g2⟩, h⟩ := h
    refine y_get (ci := 0) (k := 1) C in_X0 rfl (by decide) q186 (fun _ h => h) g1 g2 dX0_become_15 ?_
    refine y_iconst C 0 dX0_become_18 lit0 ?_
    refine y_bipush C 7 dX0_become_19 y_b7 ?_
    obtain ⟨d17, rfl, h⟩ := h
    obtain ⟨d18, rfl, h⟩ := h
    obtain ⟨E23, E24, n19, n20, f21, f22, g1, g2, g3, g4, g5, g6, g7, g8, g9, g0, h⟩ := h
    replace h := h _ rfl
    refine y_copyq C q644 q300 q299 q101 g1 g2 g3 g4 g5 g6 g7 g8 g9 g0 (Nat.le_of_ble_eq_true rfl) (Nat.le_of_ble_eq_true rfl) (Nat.le_of_ble_eq_true rfl) dX0_become_21 ?_
    refine y_aload_n C 0 rfl rfl dX0_become_24 ?_
    refine y_dup C rfl dX0_become_25 ?_
    obtain ⟨x26, ⟨fs9, g1, g2⟩, h⟩ := h
    refine y_get (ci := 0) (k := 2) C in_X0 rfl (by decide) q187 (fun _ h => h) g1 g2 dX0_become_26 ?_
    refine y_iconst C 1 dX0_become_29 lit1 ?_
    refine y_isub C dX0_become_30 ?_
    obtain ⟨fs27, g1, g2, h⟩ := h
    replace h := h _ rfl
    refine y_put (ci := 0) (k := 2) C in_X0 tyX0_ok nmX0 rfl (by decide) q187 (fun _ h => h) rfl g1 g2 rfl rfl rfl dX0_become_31 ?_
    refine y_to C _ ?_ (okX0_become_b34 C hB hr  _ _ h)
    exact (And.intro rfl (And.intro rfl trivial))
theorem kdX0_faultKind : yX0_faultKind.cls = RX0 ∧ yX0_faultKind.cls ≠ "java/lang/invoke/MethodHandle" ∧ yX0_faultKind.cls ≠ "java/lang/invoke/VarHandle" ∧ (parseMethodDescriptor yX0_faultKind.desc).map (fun d => d.parameters.length) = some 0 := by decide +kernel
def wpX0_faultKind (M : yM) (o_ : Nat) (post : Int32 → Prop) : Prop := ∃ x1 : Int32, yF M o_ 0 5 (yi x1) ∧ post x1
theorem metX0_faultKind {l : Launch} {D : va_G} {s0 : State} {a0 : Array Value} (hB : yB D s0 a0) {M : yM} {o_ : Nat} {post : Int32 → Prop} (h : wpX0_faultKind M o_ post) : yMi l yX0_faultKind (ws_ yX0_faultKind cX0_faultKind 1 (some .int)) 1 80 0 0 D s0 [yr (some o_)] M (fun r M1 => M1 = M ∧ post r) := by
  refine y_meti hB (by decide) rfl (Nat.le_of_ble_eq_true rfl) ?_
  intro p e s m below meth c A hr hnm C
  rw [wpX0_faultKind] at h
  refine y_aload_n C 0 rfl rfl dX0_faultKind_0 ?_
  obtain ⟨x1, ⟨fs9, g1, g2⟩, h⟩ := h
  refine y_get (ci := 0) (k := 5) C in_X0 rfl (by decide) q190 (fun _ h => h) g1 g2 dX0_faultKind_1 ?_
  exact y_ireti C hr rfl rfl ⟨rfl, h⟩ dX0_faultKind_4
theorem kdJ2_size : yJ2_size.cls = RJ2 ∧ yJ2_size.cls ≠ "java/lang/invoke/MethodHandle" ∧ yJ2_size.cls ≠ "java/lang/invoke/VarHandle" ∧ (parseMethodDescriptor yJ2_size.desc).map (fun d => d.parameters.length) = some 0 := by decide +kernel
def wpJ2_size (M : yM) (o_ : Nat) (post : Int32 → Prop) : Prop := ∃ x1 : Int32, yF M o_ 9 2 (yi x1) ∧ post x1
theorem metJ2_size {l : Launch} {D : va_G} {s0 : State} {a0 : Array Value} (hB : yB D s0 a0) {M : yM} {o_ : Nat} {post : Int32 → Prop} (h : wpJ2_size M o_ post) : yMi l yJ2_size (ws_ yJ2_size cJ2_size 1 (some .int)) 1 80 0 0 D s0 [yr (some o_)] M (fun r M1 => M1 = M ∧ post r) := by
  refine y_meti hB (by decide) rfl (Nat.le_of_ble_eq_true rfl) ?_
  intro p e s m below meth c A hr hnm C
  rw [wpJ2_size] at h
  refine y_aload_n C 0 rfl rfl dJ2_size_0 ?_
  obtain ⟨x1, ⟨fs9, g1, g2⟩, h⟩ := h
  refine y_get (ci := 9) (k := 2) C in_J2 rfl (by decide) q141 (fun _ h => h) g1 g2 dJ2_size_1 ?_
  exact y_ireti C hr rfl rfl ⟨rfl, h⟩ dJ2_size_4
theorem kdJ7_checkIndex : yJ7_checkIndex.cls = RJ7 ∧ yJ7_checkIndex.cls ≠ "java/lang/invoke/MethodHandle" ∧ yJ7_checkIndex.cls ≠ "java/lang/invoke/VarHandle" ∧ (parseMethodDescriptor yJ7_checkIndex.desc).map (fun d => d.parameters.length) = some 3 := by decide +kernel
section sJ7_checkIndex
variable {p : Program} {l : Launch} {e : Env} {s : State} {m : MethodId} {args : Array Value} {below : List Frame} {meth : Method} {c : Code} {D : va_G} {s0 : State} {a0 : Array Value} {A : Nat → Prop}
def wpJ7_checkIndex_b9 (M : yM) (post : Int32 → Prop) (v0 : Int32) (v1 : Int32) (v2 : Option Nat) : Prop := False
theorem okJ7_checkIndex_b9 (C : yC p { frames := 1, cells := 0, slots := 0, locals := 80 } s m args meth c cJ7_checkIndex 3 RJ7 D s0 a0 A) (hB : yB D s0 a0) (hr : meth.sig.returnType = (some .int)) {M : yM} {post : Int32 → Prop}  : ∀ (v0 : Int32) (v1 : Int32) (v2 : Option Nat), wpJ7_checkIndex_b9 M post v0 v1 v2 → Y p l e { frames := 1, cells := 0, slots := 0, locals := 80 } s m args below meth c (MQ below (yQi D s0 A (fun r M1 => M1 = M ∧ post r)) args s 0 0 A) D s0 A 3 M 0 0 [some (yi v0), some (yi v1), some (yr v2)] 9 [] := by
  intro v0 v1 v2 h
  rw [wpJ7_checkIndex_b9] at h
  refine y_aload_n C 2 rfl rfl dJ7_checkIndex_9 ?_
  refine y_iload_n C 0 rfl rfl dJ7_checkIndex_10 ?_
  refine y_iload_n C 1 rfl rfl dJ7_checkIndex_11 ?_
  exact h.elim
end sJ7_checkIndex
def wpJ7_checkIndex (M : yM) (a1 : Int32) (a2 : Int32) (a3 : Option Nat) (post : Int32 → Prop) : Prop := ((a1 < 0 → wpJ7_checkIndex_b9 M post a1 a2 a3) ∧ (¬ a1 < 0 → ((a1 < a2 → post a1) ∧ (¬ a1 < a2 → wpJ7_checkIndex_b9 M post a1 a2 a3))))
theorem metJ7_checkIndex {l : Launch} {D : va_G} {s0 : State} {a0 : Array Value} (hB : yB D s0 a0) {M : yM} {a1 : Int32} {a2 : Int32} {a3 : Option Nat} {post : Int32 → Prop} (h : wpJ7_checkIndex M a1 a2 a3 post) : yMi l yJ7_checkIndex (ws_ yJ7_checkIndex cJ7_checkIndex 3 (some .int)) 1 80 0 0 D s0 [yi a1, yi a2, yr a3] M (fun r M1 => M1 = M ∧ post r) := by
  refine y_meti hB (by decide) rfl (Nat.le_of_ble_eq_true rfl) ?_
  intro p e s m below meth c A hr hnm C
  rw [wpJ7_checkIndex] at h
  refine y_iload_n C 0 rfl rfl dJ7_checkIndex_0 ?_
  refine y_if_lt C 9 dJ7_checkIndex_1 (by decide) (fun c9 => ?_) (fun c9 => ?_)
  · replace h := h.1 c9
    refine y_to C _ ?_ (okJ7_checkIndex_b9 C hB hr  _ _ _ h)
    exact (And.intro rfl (And.intro rfl (And.intro rfl trivial)))
  · replace h := h.2 c9
    refine y_iload_n C 0 rfl rfl dJ7_checkIndex_4 ?_
    refine y_iload_n C 1 rfl rfl dJ7_checkIndex_5 ?_
    refine y_icmp_lt C 16 dJ7_checkIndex_6 (by decide) (fun c9 => ?_) (fun c9 => ?_)
    · replace h := h.1 c9
      refine y_iload_n C 0 rfl rfl dJ7_checkIndex_16 ?_
      exact y_ireti C hr rfl rfl ⟨rfl, h⟩ dJ7_checkIndex_17
    · replace h := h.2 c9
      refine y_to C _ ?_ (okJ7_checkIndex_b9 C hB hr  _ _ _ h)
      exact (And.intro rfl (And.intro rfl (And.intro rfl trivial)))
theorem kdJ14_checkIndex : yJ14_checkIndex.cls = RJ14 ∧ yJ14_checkIndex.cls ≠ "java/lang/invoke/MethodHandle" ∧ yJ14_checkIndex.cls ≠ "java/lang/invoke/VarHandle" ∧ (parseMethodDescriptor yJ14_checkIndex.desc).map (fun d => d.parameters.length) = some 2 := by decide +kernel
def wpJ14_checkIndex (M : yM) (a1 : Int32) (a2 : Int32) (post : Int32 → Prop) : Prop := wpJ7_checkIndex M a1 a2 none (fun r1 => post r1)
theorem metJ14_checkIndex {l : Launch} {D : va_G} {s0 : State} {a0 : Array Value} (hB : yB D s0 a0) {M : yM} {a1 : Int32} {a2 : Int32} {post : Int32 → Prop} (h : wpJ14_checkIndex M a1 a2 post) : yMi l yJ14_checkIndex (ws_ yJ14_checkIndex cJ14_checkIndex 2 (some .int)) 2 102 0 0 D s0 [yi a1, yi a2] M (fun r M1 => M1 = M ∧ post r) := by
  refine y_meti hB (by decide) rfl (Nat.le_of_ble_eq_true rfl) ?_
  intro p e s m below meth c A hr hnm C
  rw [wpJ14_checkIndex] at h
  refine y_iload_n C 0 rfl rfl dJ14_checkIndex_0 ?_
  refine y_iload_n C 1 rfl rfl dJ14_checkIndex_1 ?_
  refine y_null C dJ14_checkIndex_2 ?_
  refine y_callSi0 C (metJ7_checkIndex hB h) (va_cwS 3 C.hts (lw_S q577 q417 q97 q418) rfl rfl rfl kdJ7_checkIndex.2 ⟨Nat.le_of_ble_eq_true rfl, Nat.le_of_ble_eq_true rfl⟩) rfl rfl (Nat.le_of_ble_eq_true rfl) dJ14_checkIndex_3 (fun r1 M1 hp => ?_)
  clear h
  obtain ⟨rfl, h⟩ := hp
  exact y_ireti C hr rfl rfl ⟨rfl, h⟩ dJ14_checkIndex_6
theorem kdJ2_elementData : yJ2_elementData.cls = RJ2 ∧ yJ2_elementData.cls ≠ "java/lang/invoke/MethodHandle" ∧ yJ2_elementData.cls ≠ "java/lang/invoke/VarHandle" ∧ (parseMethodDescriptor yJ2_elementData.desc).map (fun d => d.parameters.length) = some 1 := by decide +kernel
def wpJ2_elementData (M : yM) (o_ : Nat) (a1 : Int32) (post : Option Nat → Prop) : Prop := ∃ r1 : Option Nat, yF M o_ 9 1 (yr r1) ∧ ∃ d2 : Nat, r1 = some d2 ∧ ∃ (E5 : String) (n3 : Nat) (f4 : Nat → Option Nat), M d2 = some (yaq E5 n3 f4) ∧ vp_in a1 n3 ∧ ∃ r6 : Option Nat, f4 (Int32.toNatClampNeg a1) = r6 ∧ post r6
theorem metJ2_elementData {l : Launch} {D : va_G} {s0 : State} {a0 : Array Value} (hB : yB D s0 a0) {M : yM} {o_ : Nat} {a1 : Int32} {post : Option Nat → Prop} (h : wpJ2_elementData M o_ a1 post) : yMq l yJ2_elementData (ws_ yJ2_elementData cJ2_elementData 2 (some (.object "java/lang/Object"))) 1 80 0 0 D s0 [yr (some o_), yi a1] M (fun r M1 => M1 = M ∧ post r) := by
  refine y_metq hB (by decide) rfl (Nat.le_of_ble_eq_true rfl) ?_
  intro p e s m below meth c A hr hnm C
  rw [wpJ2_elementData] at h
  refine y_aload_n C 0 rfl rfl dJ2_elementData_0 ?_
  obtain ⟨r1, ⟨fs9, g1, g2⟩, h⟩ := h
  refine y_get (ci := 9) (k := 1) C in_J2 rfl (by decide) q140 (fun _ h => h) g1 g2 dJ2_elementData_1 ?_
  refine y_iload_n C 1 rfl rfl dJ2_elementData_4 ?_
  obtain ⟨d2, rfl, h⟩ := h
  obtain ⟨E5, n3, f4, g1, g2, r6, g3, h⟩ := h
  refine y_aald2 C g1 g2 g3 dJ2_elementData_5 ?_
  exact y_aretq C hr (Or.inl ⟨_, rfl⟩) rfl rfl ⟨rfl, h⟩ dJ2_elementData_6
theorem kdJ2_get : yJ2_get.cls = RJ2 ∧ yJ2_get.cls ≠ "java/lang/invoke/MethodHandle" ∧ yJ2_get.cls ≠ "java/lang/invoke/VarHandle" ∧ (parseMethodDescriptor yJ2_get.desc).map (fun d => d.parameters.length) = some 1 := by decide +kernel
def wpJ2_get (M : yM) (o_ : Nat) (a1 : Int32) (post : Option Nat → Prop) : Prop := ∃ x1 : Int32, yF M o_ 9 2 (yi x1) ∧ wpJ14_checkIndex M a1 x1 (fun r2 => (∃ vs, M o_ = some (yo 9 vs)) ∧ wpJ2_elementData M o_ a1 (fun r3 => post r3))
theorem metJ2_get {l : Launch} {D : va_G} {s0 : State} {a0 : Array Value} (hB : yB D s0 a0) {M : yM} {o_ : Nat} {a1 : Int32} {post : Option Nat → Prop} (h : wpJ2_get M o_ a1 post) : yMq l yJ2_get (ws_ yJ2_get cJ2_get 2 (some (.object "java/lang/Object"))) 3 123 0 0 D s0 [yr (some o_), yi a1] M (fun r M1 => M1 = M ∧ post r) := by
  refine y_metq hB (by decide) rfl (Nat.le_of_ble_eq_true rfl) ?_
  intro p e s m below meth c A hr hnm C
  rw [wpJ2_get] at h
  refine y_iload_n C 1 rfl rfl dJ2_get_0 ?_
  refine y_aload_n C 0 rfl rfl dJ2_get_1 ?_
  obtain ⟨x1, ⟨fs9, g1, g2⟩, h⟩ := h
  refine y_get (ci := 9) (k := 2) C in_J2 rfl (by decide) q141 (fun _ h => h) g1 g2 dJ2_get_2 ?_
  refine y_callSi0 C (metJ14_checkIndex hB h) (va_cwS 2 C.hts (lw_S q574 q575 q108 q576) rfl rfl rfl kdJ14_checkIndex.2 ⟨Nat.le_of_ble_eq_true rfl, Nat.le_of_ble_eq_true rfl⟩) rfl rfl (Nat.le_of_ble_eq_true rfl) dJ2_get_5 (fun r2 M1 hp => ?_)
  clear h
  obtain ⟨rfl, h⟩ := hp
  refine y_pop C rfl dJ2_get_8 ?_
  refine y_aload_n C 0 rfl rfl dJ2_get_9 ?_
  refine y_iload_n C 1 rfl rfl dJ2_get_10 ?_
  obtain ⟨⟨vs9, g0⟩, h⟩ := h
  refine y_callVq0 C (metJ2_elementData hB h) (cwV 1 C.hts (lw_V q578 q579 q580 q90 q581) rfl rfl rfl kdJ2_elementData ⟨Nat.le_of_ble_eq_true rfl, Nat.le_of_ble_eq_true rfl⟩) g0 rfl rfl rfl (Nat.le_of_ble_eq_true rfl) dJ2_get_11 (fun r3 M1 hp => ?_)
  clear h
  obtain ⟨rfl, h⟩ := hp
  exact y_aretq C hr (Or.inl ⟨_, rfl⟩) rfl rfl ⟨rfl, h⟩ dJ2_get_14
theorem kdX1_pointAt : yX1_pointAt.cls = RX1 ∧ yX1_pointAt.cls ≠ "java/lang/invoke/MethodHandle" ∧ yX1_pointAt.cls ≠ "java/lang/invoke/VarHandle" ∧ (parseMethodDescriptor yX1_pointAt.desc).map (fun d => d.parameters.length) = some 1 := by decide +kernel
section sX1_pointAt
variable {p : Program} {l : Launch} {e : Env} {s : State} {m : MethodId} {args : Array Value} {below : List Frame} {meth : Method} {c : Code} {D : va_G} {s0 : State} {a0 : Array Value} {A : Nat → Prop}
def wpX1_pointAt_b2 (M : yM) (o_ : Nat) (post : Int32 → Prop) : Nat → Int32 → Int32 → Prop
  | 0, _, _ => False
  | nn + 1, v1, v2 => ∃ r1 : Option Nat, yF M o_ 1 0 (yr r1) ∧ ∃ d2 : Nat, r1 = some d2 ∧ (∃ vs, M d2 = some (yo 9 vs)) ∧ wpJ2_size M d2 (fun r3 => ((r3 ≤ v2 → post (-999)) ∧ (¬ r3 ≤ v2 → ∃ r4 : Option Nat, yF M o_ 1 0 (yr r4) ∧ ∃ d5 : Nat, r4 = some d5 ∧ (∃ vs, M d5 = some (yo 9 vs)) ∧ wpJ2_get M d5 v2 (fun r6 => (∀ v, r6 = some v → ∃ vs, M v = some (yo 5 vs)) ∧ ∃ d7 : Nat, r6 = some d7 ∧ ∃ x8 : Int32, yF M d7 5 0 (yi x8) ∧ ((¬ x8 = v1 → ∀ x9 : Int32, x9 = v2 + 1 → wpX1_pointAt_b2 M o_ post nn v1 x9) ∧ (x8 = v1 → post v2))))))
theorem okX1_pointAt_b2 (C : yC p { frames := 4, cells := 0, slots := 0, locals := 144 } s m args meth c cX1_pointAt 3 RX1 D s0 a0 A) (hB : yB D s0 a0) (hr : meth.sig.returnType = (some .int)) {M : yM} {o_ : Nat} {post : Int32 → Prop}  : ∀ (nn : Nat) (v1 : Int32) (v2 : Int32), wpX1_pointAt_b2 M o_ post nn v1 v2 → Y p l e { frames := 4, cells := 0, slots := 0, locals := 144 } s m args below meth c (MQ below (yQi D s0 A (fun r M1 => M1 = M ∧ post r)) args s 0 0 A) D s0 A 3 M 0 0 [some (yr (some o_)), some (yi v1), some (yi v2)] 2 [] := by
  intro nn
  induction nn with
  | zero => intro v1 v2 h; exact absurd h (by rw [wpX1_pointAt_b2]; exact id)
  | succ nn ih =>
    intro v1 v2 h
    rw [wpX1_pointAt_b2] at h
    refine y_iload_n C 2 rfl rfl dX1_pointAt_2 ?_
    refine y_aload_n C 0 rfl rfl dX1_pointAt_3 ?_
    obtain ⟨r1, ⟨fs9, g1, g2⟩, h⟩ := h
    refine y_get (ci := 1) (k := 0) C in_X1 rfl (by decide) q155 (fun _ h => h) g1 g2 dX1_pointAt_4 ?_
    obtain ⟨d2, rfl, h⟩ := h
    obtain ⟨⟨vs9, g0⟩, h⟩ := h
    refine y_callVi0 C (metJ2_size hB h) (cwV 0 C.hts (lw_V q658 q494 q495 q90 q496) rfl rfl rfl kdJ2_size ⟨Nat.le_of_ble_eq_true rfl, Nat.le_of_ble_eq_true rfl⟩) g0 rfl rfl rfl (Nat.le_of_ble_eq_true rfl) dX1_pointAt_7 (fun r3 M1 hp => ?_)
    clear h
    obtain ⟨rfl, h⟩ := hp
    refine y_icmp_ge C 39 dX1_pointAt_10 (by decide) (fun c9 => ?_) (fun c9 => ?_)
    · replace h := h.1 c9
      refine y_sipush C (-999) dX1_pointAt_39 y_sm999 ?_
      exact y_ireti C hr rfl rfl ⟨rfl, h⟩ dX1_pointAt_42
    · replace h := h.2 c9
      refine y_aload_n C 0 rfl rfl dX1_pointAt_13 ?_
      obtain ⟨r4, ⟨fs9, g1, g2⟩, h⟩ := h
      refine y_get (ci := 1) (k := 0) C in_X1 rfl (by decide) q155 (fun _ h => h) g1 g2 dX1_pointAt_14 ?_
      refine y_iload_n C 2 rfl rfl dX1_pointAt_17 ?_
      obtain ⟨d5, rfl, h⟩ := h
      obtain ⟨⟨vs9, g0⟩, h⟩ := h
      refine y_callVq0 C (metJ2_get hB h) (cwV 1 C.hts (lw_V q659 q571 q572 q90 q573) rfl rfl rfl kdJ2_get ⟨Nat.le_of_ble_eq_true rfl, Nat.le_of_ble_eq_true rfl⟩) g0 rfl rfl rfl (Nat.le_of_ble_eq_true rfl) dX1_pointAt_18 (fun r6 M1 hp => ?_)
      clear h
      obtain ⟨rfl, h⟩ := hp
      obtain ⟨g1, h⟩ := h
      refine y_ckc (ci := 5) C q660 rfl g1 dX1_pointAt_21 ?_
      obtain ⟨d7, rfl, h⟩ := h
      obtain ⟨x8, ⟨fs9, g1, g2⟩, h⟩ := h
      refine y_getN (ci := 5) (k := 0) C in_X5 rfl (by decide) q515 (fun _ h => h) g1 g2 dX1_pointAt_24 ?_
      refine y_iload_n C 1 rfl rfl dX1_pointAt_27 ?_
      refine y_icmp_ne C 33 dX1_pointAt_28 (by decide) (fun c9 => ?_) (fun c9 => ?_)
      · replace h := h.1 c9
        replace h := h _ rfl
        refine y_iinc C 2 _ rfl (y_inc1 _) (by decide) dX1_pointAt_33 ?_
        refine y_goto C 2 dX1_pointAt_36 (by decide) ?_
        refine y_to C _ ?_ (ih _ _ h)
        exact (And.intro rfl (And.intro rfl (And.intro rfl trivial)))
      · replace h := h.2 c9
        refine y_iload_n C 2 rfl rfl dX1_pointAt_31 ?_
        exact y_ireti C hr rfl rfl ⟨rfl, h⟩ dX1_pointAt_32
end sX1_pointAt
def wpX1_pointAt (M : yM) (o_ : Nat) (a1 : Int32) (post : Int32 → Prop) : Prop := ∃ nf9 : Nat, wpX1_pointAt_b2 M o_ post nf9 a1 0
theorem metX1_pointAt {l : Launch} {D : va_G} {s0 : State} {a0 : Array Value} (hB : yB D s0 a0) {M : yM} {o_ : Nat} {a1 : Int32} {post : Int32 → Prop} (h : wpX1_pointAt M o_ a1 post) : yMi l yX1_pointAt (ws_ yX1_pointAt cX1_pointAt 3 (some .int)) 4 144 0 0 D s0 [yr (some o_), yi a1] M (fun r M1 => M1 = M ∧ post r) := by
  refine y_meti hB (by decide) rfl (Nat.le_of_ble_eq_true rfl) ?_
  intro p e s m below meth c A hr hnm C
  rw [wpX1_pointAt] at h
  refine y_iconst C 0 dX1_pointAt_0 lit0 ?_
  refine y_istore_n C 2 rfl (by decide) dX1_pointAt_1 ?_
  obtain ⟨nf9, h⟩ := h
  refine y_to C _ ?_ (okX1_pointAt_b2 C hB hr  nf9 _ _ h)
  exact (And.intro rfl (And.intro rfl (And.intro rfl trivial)))
theorem kdX5_init : yX5_init.cls = RX5 ∧ yX5_init.cls ≠ "java/lang/invoke/MethodHandle" ∧ yX5_init.cls ≠ "java/lang/invoke/VarHandle" ∧ (parseMethodDescriptor yX5_init.desc).map (fun d => d.parameters.length) = some 1 := by decide +kernel
def wpX5_init (M : yM) (o_ : Nat) (a1 : Int32) (post : yM → Prop) : Prop := ∃ fs1 : List yV, M o_ = some (yo 5 fs1) ∧ 0 < fs1.length ∧ ∀ M2 : yM, M2 = yup M o_ (yo 5 (fs1.set 0 (yi a1))) → post M2
theorem metX5_init {l : Launch} {D : va_G} {s0 : State} {a0 : Array Value} (hB : yB D s0 a0) {M : yM} {o_ : Nat} {a1 : Int32} {post : yM → Prop} (h : wpX5_init M o_ a1 post) : yMv l yX5_init (ws_ yX5_init cX5_init 2 none) 1 80 0 0 D s0 [yr (some o_), yi a1] M post := by
  refine y_metv hB (by decide) rfl (Nat.le_of_ble_eq_true rfl) ?_
  intro p e s m below meth c A hr hnm C
  have hin2 : meth.name = "<init>" := hnm
  rw [wpX5_init] at h
  refine y_aload_n C 0 rfl rfl dX5_init_0 ?_
  refine y_objInit C q511 q118 q119 (Nat.le_of_ble_eq_true rfl) (Nat.le_of_ble_eq_true rfl) (Nat.le_of_ble_eq_true rfl) dX5_init_1 ?_
  refine y_aload_n C 0 rfl rfl dX5_init_4 ?_
  refine y_iload_n C 1 rfl rfl dX5_init_5 ?_
  obtain ⟨fs1, g1, g2, h⟩ := h
  replace h := h _ rfl
  refine y_put (ci := 5) (k := 0) C in_X5 tyX5_ok nmX5 rfl (by decide) q512 (fun _ h => h) rfl g1 g2 rfl rfl rfl dX5_init_6 ?_
  exact y_vret C hr rfl rfl h dX5_init_9
theorem kdJ8_newLength : yJ8_newLength.cls = RJ8 ∧ yJ8_newLength.cls ≠ "java/lang/invoke/MethodHandle" ∧ yJ8_newLength.cls ≠ "java/lang/invoke/VarHandle" ∧ (parseMethodDescriptor yJ8_newLength.desc).map (fun d => d.parameters.length) = some 3 := by decide +kernel
section sJ8_newLength
variable {p : Program} {l : Launch} {e : Env} {s : State} {m : MethodId} {args : Array Value} {below : List Frame} {meth : Method} {c : Code} {D : va_G} {s0 : State} {a0 : Array Value} {A : Nat → Prop}
def wpJ8_newLength_b21 (M : yM) (post : Int32 → Prop) (v0 : Int32) (v1 : Int32) : Prop := False
theorem okJ8_newLength_b21 (C : yC p { frames := 1, cells := 0, slots := 0, locals := 80 } s m args meth c cJ8_newLength 4 RJ8 D s0 a0 A) (hB : yB D s0 a0) (hr : meth.sig.returnType = (some .int)) {M : yM} {post : Int32 → Prop}  : ∀ (v0 : Int32) (v1 : Int32), wpJ8_newLength_b21 M post v0 v1 → Y p l e { frames := 1, cells := 0, slots := 0, locals := 80 } s m args below meth c (MQ below (yQi D s0 A (fun r M1 => M1 = M ∧ post r)) args s 0 0 A) D s0 A 4 M 0 0 [some (yi v0), some (yi v1), none, none] 21 [] := by
  intro v0 v1 h
  rw [wpJ8_newLength_b21] at h
  refine y_iload_n C 0 rfl rfl dJ8_newLength_21 ?_
  refine y_iload_n C 1 rfl rfl dJ8_newLength_22 ?_
  exact h.elim
end sJ8_newLength
def wpJ8_newLength (M : yM) (a1 : Int32) (a2 : Int32) (a3 : Int32) (post : Int32 → Prop) : Prop := ∀ x1 : Int32, x1 = (a1 + (if a2 < a3 then a3 else a2)) → ((x1 ≤ (0 : Int32) → wpJ8_newLength_b21 M post a1 a2) ∧ (¬ x1 ≤ (0 : Int32) → ((2147483639 < x1 → wpJ8_newLength_b21 M post a1 a2) ∧ (¬ 2147483639 < x1 → post x1))))
theorem metJ8_newLength {l : Launch} {D : va_G} {s0 : State} {a0 : Array Value} (hB : yB D s0 a0) {M : yM} {a1 : Int32} {a2 : Int32} {a3 : Int32} {post : Int32 → Prop} (h : wpJ8_newLength M a1 a2 a3 post) : yMi l yJ8_newLength (ws_ yJ8_newLength cJ8_newLength 4 (some .int)) 1 80 0 0 D s0 [yi a1, yi a2, yi a3] M (fun r M1 => M1 = M ∧ post r) := by
  refine y_meti hB (by decide) rfl (Nat.le_of_ble_eq_true rfl) ?_
  intro p e s m below meth c A hr hnm C
  rw [wpJ8_newLength] at h
  refine y_iload_n C 0 rfl rfl dJ8_newLength_0 ?_
  refine y_iload_n C 1 rfl rfl dJ8_newLength_1 ?_
  refine y_iload_n C 2 rfl rfl dJ8_newLength_2 ?_
  refine y_mmax C q277 q278 q99 q279 (Nat.le_of_ble_eq_true rfl) (Nat.le_of_ble_eq_true rfl) (Nat.le_of_ble_eq_true rfl) dJ8_newLength_3 ?_
  refine y_iadd C dJ8_newLength_6 ?_
  replace h := h _ rfl
  refine y_istore_n C 3 rfl (by decide) dJ8_newLength_7 ?_
  refine y_iconst C 0 dJ8_newLength_8 lit0 ?_
  refine y_iload_n C 3 rfl rfl dJ8_newLength_9 ?_
  refine y_icmp_ge C 21 dJ8_newLength_10 (by decide) (fun c9 => ?_) (fun c9 => ?_)
  · replace h := h.1 c9
    refine y_to C _ ?_ (okJ8_newLength_b21 C hB hr  _ _ h)
    exact (And.intro rfl (And.intro rfl trivial))
  · replace h := h.2 c9
    refine y_iload_n C 3 rfl rfl dJ8_newLength_13 ?_
    refine y_ldc C 2147483639 q280 dJ8_newLength_14 ?_
    refine y_icmp_gt C 21 dJ8_newLength_16 (by decide) (fun c9 => ?_) (fun c9 => ?_)
    · replace h := h.1 c9
      refine y_to C _ ?_ (okJ8_newLength_b21 C hB hr  _ _ h)
      exact (And.intro rfl (And.intro rfl trivial))
    · replace h := h.2 c9
      refine y_iload_n C 3 rfl rfl dJ8_newLength_19 ?_
      exact y_ireti C hr rfl rfl ⟨rfl, h⟩ dJ8_newLength_20
theorem kdJ10_copyOf_3 : yJ10_copyOf_3.cls = RJ10 ∧ yJ10_copyOf_3.cls ≠ "java/lang/invoke/MethodHandle" ∧ yJ10_copyOf_3.cls ≠ "java/lang/invoke/VarHandle" ∧ (parseMethodDescriptor yJ10_copyOf_3.desc).map (fun d => d.parameters.length) = some 3 := by decide +kernel
section sJ10_copyOf_3
variable {p : Program} {l : Launch} {e : Env} {s : State} {m : MethodId} {args : Array Value} {below : List Frame} {meth : Method} {c : Code} {D : va_G} {s0 : State} {a0 : Array Value} {A : Nat → Prop} {mc ms : Nat}
def wpJ10_copyOf_3_b24 (z : Nat → Nat) (post : Option Nat → yM → Prop) (M : yM) (rc : Nat) (rs : Nat) (v0 : Option Nat) (v1 : Int32) (u0 : Option Nat) : Prop := ∃ d3 : Nat, v0 = some d3 ∧ ∃ e4 : FieldType × vp_A, M d3 = some (.inl e4) ∧ ∃ d5 : Nat, u0 = some d5 ∧ ∃ (E10 E11 : String) (n6 n7 : Nat) (f8 f9 : Nat → Option Nat), M d3 = some (yaq E10 n6 f8) ∧ M d5 = some (yaq E11 n7 f9) ∧ 0 < n6 ∧ 0 < n7 ∧ ¬ (0 : Int32) < 0 ∧ ¬ (0 : Int32) < 0 ∧ ¬ ((if v1 < (Int32.ofNat e4.2.1) then v1 else (Int32.ofNat e4.2.1)) : Int32) < 0 ∧ (Int32.toNatClampNeg 0) + (Int32.toNatClampNeg (if v1 < (Int32.ofNat e4.2.1) then v1 else (Int32.ofNat e4.2.1))) ≤ n6 ∧ (Int32.toNatClampNeg 0) + (Int32.toNatClampNeg (if v1 < (Int32.ofNat e4.2.1) then v1 else (Int32.ofNat e4.2.1))) ≤ n7 ∧ (∀ i : Nat, i < (Int32.toNatClampNeg (if v1 < (Int32.ofNat e4.2.1) then v1 else (Int32.ofNat e4.2.1))) → ∀ v : Nat, f8 ((Int32.toNatClampNeg 0) + i) = some v → ∃ ci vs, M v = some (yo ci vs) ∧ yAsg E11 ci) ∧ ∀ M12 : yM, M12 = yup M d5 (yaq E11 n7 (va_cpy f8 f9 (Int32.toNatClampNeg 0) (Int32.toNatClampNeg 0) (Int32.toNatClampNeg (if v1 < (Int32.ofNat e4.2.1) then v1 else (Int32.ofNat e4.2.1))))) → post (some d5) M12
theorem okJ10_copyOf_3_b24 (C : yC p { frames := 1, cells := mc, slots := ms, locals := 80 } s m args meth c cJ10_copyOf_3 4 RJ10 D s0 a0 A) (hB : yB D s0 a0) (hr : meth.sig.returnType = (some (.array (.object "java/lang/Object")))) {post : Option Nat → yM → Prop}  : ∀ (M : yM) (rc : Nat) (rs : Nat) (v0 : Option Nat) (v1 : Int32) (u0 : Option Nat), wpJ10_copyOf_3_b24 (yz s0 a0) post M rc rs v0 v1 u0 → Y p l e { frames := 1, cells := mc, slots := ms, locals := 80 } s m args below meth c (MQ below (yQq D s0 A post) args s mc ms A) D s0 A 4 M rc rs [some (yr v0), some (yi v1), none, none] 24 [yr u0] := by
  intro M rc rs v0 v1 u0 h
  rw [wpJ10_copyOf_3_b24] at h
  refine y_astore_n C 3 rfl (by decide) dJ10_copyOf_3_24 ?_
  refine y_aload_n C 0 rfl rfl dJ10_copyOf_3_25 ?_
  refine y_iconst C 0 dJ10_copyOf_3_26 lit0 ?_
  refine y_aload_n C 3 rfl rfl dJ10_copyOf_3_27 ?_
  refine y_iconst C 0 dJ10_copyOf_3_28 lit0 ?_
  refine y_aload_n C 0 rfl rfl dJ10_copyOf_3_29 ?_
  obtain ⟨d3, rfl, h⟩ := h
  obtain ⟨e4, g1, h⟩ := h
  refine y_alen C g1 dJ10_copyOf_3_30 ?_
  refine y_iload_n C 1 rfl rfl dJ10_copyOf_3_31 ?_
  refine y_mmin C q295 q296 q99 q297 (Nat.le_of_ble_eq_true rfl) (Nat.le_of_ble_eq_true rfl) (Nat.le_of_ble_eq_true rfl) dJ10_copyOf_3_32 ?_
  obtain ⟨d5, rfl, h⟩ := h
  obtain ⟨E10, E11, n6, n7, f8, f9, g1, g2, g3, g4, g5, g6, g7, g8, g9, g0, h⟩ := h
  replace h := h _ rfl
  refine y_copyq C q298 q300 q299 q101 g1 g2 g3 g4 g5 g6 g7 g8 g9 g0 (Nat.le_of_ble_eq_true rfl) (Nat.le_of_ble_eq_true rfl) (Nat.le_of_ble_eq_true rfl) dJ10_copyOf_3_35 ?_
  refine y_aload_n C 3 rfl rfl dJ10_copyOf_3_38 ?_
  exact y_aretq C hr (Or.inr ⟨_, rfl⟩) rfl rfl h dJ10_copyOf_3_39
end sJ10_copyOf_3
def wpJ10_copyOf_3 (M : yM) (z : Nat → Nat) (mc : Nat) (ms : Nat) (a1 : Option Nat) (a2 : Int32) (a3 : Option Nat) (post : Option Nat → yM → Prop) : Prop := ((¬ a3 = (some (z 3)) → False) ∧ (a3 = (some (z 3)) → ¬ (a2 : Int32) < 0 ∧ (Int32.toNatClampNeg a2) ≤ 65536 ∧ 1 ≤ mc ∧ (Int32.toNatClampNeg a2) ≤ ms ∧ ∀ q1 : Nat, M q1 = none → ∀ M2 : yM, M2 = yup M q1 (yaq "java/lang/Object" (Int32.toNatClampNeg a2) (fun _ => none)) → wpJ10_copyOf_3_b24 z post M2 (mc - 1) (ms - (Int32.toNatClampNeg a2)) a1 a2 (some q1)))
theorem metJ10_copyOf_3 {l : Launch} {D : va_G} {s0 : State} {a0 : Array Value} (hB : yB D s0 a0) {M : yM} {mc : Nat} {ms : Nat} {a1 : Option Nat} {a2 : Int32} {a3 : Option Nat} {post : Option Nat → yM → Prop} (h : wpJ10_copyOf_3 M (yz s0 a0) mc ms a1 a2 a3 post) : yMq l yJ10_copyOf_3 (ws_ yJ10_copyOf_3 cJ10_copyOf_3 4 (some (.array (.object "java/lang/Object")))) 1 80 mc ms D s0 [yr a1, yi a2, yr a3] M post := by
  refine y_metq hB (by decide) rfl (Nat.le_of_ble_eq_true rfl) ?_
  intro p e s m below meth c A hr hnm C
  rw [wpJ10_copyOf_3] at h
  refine y_aload_n C 2 rfl rfl dJ10_copyOf_3_0 ?_
  refine y_ldcM3 C q558 dJ10_copyOf_3_1 ?_
  refine y_acmp_ne C 13 dJ10_copyOf_3_3 (by decide) (fun c9 => ?_) (fun c9 => ?_)
  · replace h := h.1 c9
    refine y_aload_n C 2 rfl rfl dJ10_copyOf_3_13 ?_
    exact h.elim
  · replace h := h.2 c9
    refine y_iload_n C 1 rfl rfl dJ10_copyOf_3_6 ?_
    obtain ⟨g1, g2, g3, g4, h⟩ := h
    refine y_anew C q560 q559 g1 g2 g3 g4 dJ10_copyOf_3_7 (fun q1 g5 => ?_)
    replace h := h q1 g5 _ rfl
    refine y_goto C 24 dJ10_copyOf_3_10 (by decide) ?_
    refine y_to C _ ?_ (okJ10_copyOf_3_b24 C hB hr  _ _ _ _ _ _ h)
    exact (And.intro rfl (And.intro rfl trivial))
theorem kdJ10_copyOf_2 : yJ10_copyOf_2.cls = RJ10 ∧ yJ10_copyOf_2.cls ≠ "java/lang/invoke/MethodHandle" ∧ yJ10_copyOf_2.cls ≠ "java/lang/invoke/VarHandle" ∧ (parseMethodDescriptor yJ10_copyOf_2.desc).map (fun d => d.parameters.length) = some 2 := by decide +kernel
def wpJ10_copyOf_2 (M : yM) (z : Nat → Nat) (mc : Nat) (ms : Nat) (a1 : Option Nat) (a2 : Int32) (post : Option Nat → yM → Prop) : Prop := ∃ d1 : Nat, a1 = some d1 ∧ (∃ (n2 : Nat) (f3 : Nat → Option Nat), M d1 = some (yaq "java/lang/Object" n2 f3)) ∧ ∃ kc4 ks5 : Nat, kc4 ≤ mc ∧ ks5 ≤ ms ∧ wpJ10_copyOf_3 M z kc4 ks5 (some d1) a2 (some (z 3)) (fun r7 M6 => post r7 M6)
theorem metJ10_copyOf_2 {l : Launch} {D : va_G} {s0 : State} {a0 : Array Value} (hB : yB D s0 a0) {M : yM} {mc : Nat} {ms : Nat} {a1 : Option Nat} {a2 : Int32} {post : Option Nat → yM → Prop} (h : wpJ10_copyOf_2 M (yz s0 a0) mc ms a1 a2 post) : yMq l yJ10_copyOf_2 (ws_ yJ10_copyOf_2 cJ10_copyOf_2 2 (some (.array (.object "java/lang/Object")))) 2 103 mc ms D s0 [yr a1, yi a2] M post := by
  refine y_metq hB (by decide) rfl (Nat.le_of_ble_eq_true rfl) ?_
  intro p e s m below meth c A hr hnm C
  rw [wpJ10_copyOf_2] at h
  refine y_aload_n C 0 rfl rfl dJ10_copyOf_2_0 ?_
  refine y_iload_n C 1 rfl rfl dJ10_copyOf_2_1 ?_
  refine y_aload_n C 0 rfl rfl dJ10_copyOf_2_2 ?_
  obtain ⟨d1, rfl, h⟩ := h
  obtain ⟨⟨n2, f3, g1⟩, h⟩ := h
  refine y_getCA C q540 g1 (Nat.le_of_ble_eq_true rfl) (Nat.le_of_ble_eq_true rfl) (Nat.le_of_ble_eq_true rfl) dJ10_copyOf_2_3 ?_
  obtain ⟨kc4, ks5, g1, g2, h⟩ := h
  refine y_callSq C (metJ10_copyOf_3 hB h) (va_cwS 3 C.hts (lw_S q555 q556 q100 q557) rfl rfl rfl kdJ10_copyOf_3.2 ⟨Nat.le_of_ble_eq_true rfl, Nat.le_of_ble_eq_true rfl⟩) rfl rfl (Nat.le_of_ble_eq_true rfl) dJ10_copyOf_2_6 g1 g2 (fun r7 M6 hp => ?_)
  replace h := hp
  exact y_aretq C hr (Or.inr ⟨_, rfl⟩) rfl rfl h dJ10_copyOf_2_9
theorem kdJ2_grow_2 : yJ2_grow_2.cls = RJ2 ∧ yJ2_grow_2.cls ≠ "java/lang/invoke/MethodHandle" ∧ yJ2_grow_2.cls ≠ "java/lang/invoke/VarHandle" ∧ (parseMethodDescriptor yJ2_grow_2.desc).map (fun d => d.parameters.length) = some 1 := by decide +kernel
section sJ2_grow_2
variable {p : Program} {l : Launch} {e : Env} {s : State} {m : MethodId} {args : Array Value} {below : List Frame} {meth : Method} {c : Code} {D : va_G} {s0 : State} {a0 : Array Value} {A : Nat → Prop} {mc ms : Nat}
def wpJ2_grow_2_b20 (z : Nat → Nat) (o_ : Nat) (post : Option Nat → yM → Prop) (M : yM) (rc : Nat) (rs : Nat) (v1 : Int32) (v2 : Int32) : Prop := wpJ8_newLength M v2 (v1 - v2) (v2 >>> (1 &&& 31)) (fun r5 => ∃ r6 : Option Nat, yF M o_ 9 1 (yr r6) ∧ ∃ kc7 ks8 : Nat, kc7 ≤ rc ∧ ks8 ≤ rs ∧ wpJ10_copyOf_2 M z kc7 ks8 r6 r5 (fun r10 M9 => ∃ fs11 : List yV, M9 o_ = some (yo 9 fs11) ∧ 1 < fs11.length ∧ ∀ M12 : yM, M12 = yup M9 o_ (yo 9 (fs11.set 1 (yr r10))) → post r10 M12))
theorem okJ2_grow_2_b20 (C : yC p { frames := 3, cells := mc, slots := ms, locals := 124 } s m args meth c cJ2_grow_2 4 RJ2 D s0 a0 A) (hB : yB D s0 a0) (hr : meth.sig.returnType = (some (.array (.object "java/lang/Object")))) {o_ : Nat} {post : Option Nat → yM → Prop}  : ∀ (M : yM) (rc : Nat) (rs : Nat) (v1 : Int32) (v2 : Int32), wpJ2_grow_2_b20 (yz s0 a0) o_ post M rc rs v1 v2 → Y p l e { frames := 3, cells := mc, slots := ms, locals := 124 } s m args below meth c (MQ below (yQq D s0 A post) args s mc ms A) D s0 A 4 M rc rs [some (yr (some o_)), some (yi v1), some (yi v2), none] 20 [] := by
  intro M rc rs v1 v2 h
  rw [wpJ2_grow_2_b20] at h
  refine y_iload_n C 2 rfl rfl dJ2_grow_2_20 ?_
  refine y_iload_n C 1 rfl rfl dJ2_grow_2_21 ?_
  refine y_iload_n C 2 rfl rfl dJ2_grow_2_22 ?_
  refine y_isub C dJ2_grow_2_23 ?_
  refine y_iload_n C 2 rfl rfl dJ2_grow_2_24 ?_
  refine y_iconst C 1 dJ2_grow_2_25 lit1 ?_
  refine y_ishr C dJ2_grow_2_26 ?_
  refine y_callSi0 C (metJ8_newLength hB h) (va_cwS 3 C.hts (lw_S q536 q275 q98 q276) rfl rfl rfl kdJ8_newLength.2 ⟨Nat.le_of_ble_eq_true rfl, Nat.le_of_ble_eq_true rfl⟩) rfl rfl (Nat.le_of_ble_eq_true rfl) dJ2_grow_2_27 (fun r5 M1 hp => ?_)
  clear h
  obtain ⟨rfl, h⟩ := hp
  refine y_istore_n C 3 rfl (by decide) dJ2_grow_2_30 ?_
  refine y_aload_n C 0 rfl rfl dJ2_grow_2_31 ?_
  refine y_aload_n C 0 rfl rfl dJ2_grow_2_32 ?_
  obtain ⟨r6, ⟨fs9, g1, g2⟩, h⟩ := h
  refine y_get (ci := 9) (k := 1) C in_J2 rfl (by decide) q140 (fun _ h => h) g1 g2 dJ2_grow_2_33 ?_
  refine y_iload_n C 3 rfl rfl dJ2_grow_2_36 ?_
  obtain ⟨kc7, ks8, g1, g2, h⟩ := h
  refine y_callSq C (metJ10_copyOf_2 hB h) (va_cwS 2 C.hts (lw_S q537 q538 q100 q539) rfl rfl rfl kdJ10_copyOf_2.2 ⟨Nat.le_of_ble_eq_true rfl, Nat.le_of_ble_eq_true rfl⟩) rfl rfl (Nat.le_of_ble_eq_true rfl) dJ2_grow_2_37 g1 g2 (fun r10 M9 hp => ?_)
  replace h := hp
  refine y_dup_x1 C rfl rfl dJ2_grow_2_40 ?_
  obtain ⟨fs11, g1, g2, h⟩ := h
  replace h := h _ rfl
  refine y_put (ci := 9) (k := 1) C in_J2 tyJ2_ok nmJ2 rfl (by decide) q140 (fun _ h => h) rfl g1 g2 (y_nma _ r10) (y_fta _ r10) rfl dJ2_grow_2_41 ?_
  exact y_aretq C hr (Or.inr ⟨_, rfl⟩) rfl rfl h dJ2_grow_2_44
end sJ2_grow_2
def wpJ2_grow_2 (M : yM) (z : Nat → Nat) (mc : Nat) (ms : Nat) (o_ : Nat) (a1 : Int32) (post : Option Nat → yM → Prop) : Prop := ∃ r1 : Option Nat, yF M o_ 9 1 (yr r1) ∧ ∃ d2 : Nat, r1 = some d2 ∧ ∃ e3 : FieldType × vp_A, M d2 = some (.inl e3) ∧ ∀ x4 : Int32, x4 = (Int32.ofNat e3.2.1) → ((0 < x4 → wpJ2_grow_2_b20 z o_ post M mc ms a1 x4) ∧ (¬ 0 < x4 → ∃ r13 : Option Nat, yF M o_ 9 1 (yr r13) ∧ ((r13 = (some (z 0)) → ¬ ((if 10 < a1 then a1 else 10) : Int32) < 0 ∧ (Int32.toNatClampNeg (if 10 < a1 then a1 else 10)) ≤ 65536 ∧ 1 ≤ mc ∧ (Int32.toNatClampNeg (if 10 < a1 then a1 else 10)) ≤ ms ∧ ∀ q14 : Nat, M q14 = none → ∀ M15 : yM, M15 = yup M q14 (yaq "java/lang/Object" (Int32.toNatClampNeg (if 10 < a1 then a1 else 10)) (fun _ => none)) → ∃ fs16 : List yV, M15 o_ = some (yo 9 fs16) ∧ 1 < fs16.length ∧ ∀ M17 : yM, M17 = yup M15 o_ (yo 9 (fs16.set 1 (yr (some q14)))) → post (some q14) M17) ∧ (¬ r13 = (some (z 0)) → wpJ2_grow_2_b20 z o_ post M mc ms a1 x4))))
theorem metJ2_grow_2 {l : Launch} {D : va_G} {s0 : State} {a0 : Array Value} (hB : yB D s0 a0) {M : yM} {mc : Nat} {ms : Nat} {o_ : Nat} {a1 : Int32} {post : Option Nat → yM → Prop} (h : wpJ2_grow_2 M (yz s0 a0) mc ms o_ a1 post) : yMq l yJ2_grow_2 (ws_ yJ2_grow_2 cJ2_grow_2 4 (some (.array (.object "java/lang/Object")))) 3 124 mc ms D s0 [yr (some o_), yi a1] M post := by
  refine y_metq hB (by decide) rfl (Nat.le_of_ble_eq_true rfl) ?_
  intro p e s m below meth c A hr hnm C
  rw [wpJ2_grow_2] at h
  refine y_aload_n C 0 rfl rfl dJ2_grow_2_0 ?_
  obtain ⟨r1, ⟨fs9, g1, g2⟩, h⟩ := h
  refine y_get (ci := 9) (k := 1) C in_J2 rfl (by decide) q140 (fun _ h => h) g1 g2 dJ2_grow_2_1 ?_
  obtain ⟨d2, rfl, h⟩ := h
  obtain ⟨e3, g1, h⟩ := h
  refine y_alen C g1 dJ2_grow_2_4 ?_
  replace h := h _ rfl
  refine y_istore_n C 2 rfl (by decide) dJ2_grow_2_5 ?_
  refine y_iload_n C 2 rfl rfl dJ2_grow_2_6 ?_
  refine y_if_gt C 20 dJ2_grow_2_7 (by decide) (fun c9 => ?_) (fun c9 => ?_)
  · replace h := h.1 c9
    refine y_to C _ ?_ (okJ2_grow_2_b20 C hB hr  _ _ _ _ _ h)
    exact (And.intro rfl (And.intro rfl (And.intro rfl trivial)))
  · replace h := h.2 c9
    refine y_aload_n C 0 rfl rfl dJ2_grow_2_10 ?_
    obtain ⟨r13, ⟨fs9, g1, g2⟩, h⟩ := h
    refine y_get (ci := 9) (k := 1) C in_J2 rfl (by decide) q140 (fun _ h => h) g1 g2 dJ2_grow_2_11 ?_
    refine y_stat_z0 C q138 dJ2_grow_2_14 ?_
    refine y_acmp_eq C 45 dJ2_grow_2_17 (by decide) (fun c9 => ?_) (fun c9 => ?_)
    · replace h := h.1 c9
      refine y_aload_n C 0 rfl rfl dJ2_grow_2_45 ?_
      refine y_bipush C 10 dJ2_grow_2_46 y_b10 ?_
      refine y_iload_n C 1 rfl rfl dJ2_grow_2_48 ?_
      refine y_mmax C q561 q278 q99 q279 (Nat.le_of_ble_eq_true rfl) (Nat.le_of_ble_eq_true rfl) (Nat.le_of_ble_eq_true rfl) dJ2_grow_2_49 ?_
      obtain ⟨g1, g2, g3, g4, h⟩ := h
      refine y_anew C q562 q559 g1 g2 g3 g4 dJ2_grow_2_52 (fun q14 g5 => ?_)
      replace h := h q14 g5 _ rfl
      refine y_dup_x1 C rfl rfl dJ2_grow_2_55 ?_
      obtain ⟨fs16, g1, g2, h⟩ := h
      replace h := h _ rfl
      refine y_put (ci := 9) (k := 1) C in_J2 tyJ2_ok nmJ2 rfl (by decide) q140 (fun _ h => h) rfl g1 g2 rfl rfl rfl dJ2_grow_2_56 ?_
      exact y_aretq C hr (Or.inr ⟨_, rfl⟩) rfl rfl h dJ2_grow_2_59
    · replace h := h.2 c9
      refine y_to C _ ?_ (okJ2_grow_2_b20 C hB hr  _ _ _ _ _ h)
      exact (And.intro rfl (And.intro rfl (And.intro rfl trivial)))
theorem kdJ2_grow : yJ2_grow.cls = RJ2 ∧ yJ2_grow.cls ≠ "java/lang/invoke/MethodHandle" ∧ yJ2_grow.cls ≠ "java/lang/invoke/VarHandle" ∧ (parseMethodDescriptor yJ2_grow.desc).map (fun d => d.parameters.length) = some 0 := by decide +kernel
def wpJ2_grow (M : yM) (z : Nat → Nat) (mc : Nat) (ms : Nat) (o_ : Nat) (post : Option Nat → yM → Prop) : Prop := ∃ x1 : Int32, yF M o_ 9 2 (yi x1) ∧ ∃ kc2 ks3 : Nat, kc2 ≤ mc ∧ ks3 ≤ ms ∧ (∃ vs, M o_ = some (yo 9 vs)) ∧ wpJ2_grow_2 M z kc2 ks3 o_ (x1 + 1) (fun r5 M4 => post r5 M4)
theorem metJ2_grow {l : Launch} {D : va_G} {s0 : State} {a0 : Array Value} (hB : yB D s0 a0) {M : yM} {mc : Nat} {ms : Nat} {o_ : Nat} {post : Option Nat → yM → Prop} (h : wpJ2_grow M (yz s0 a0) mc ms o_ post) : yMq l yJ2_grow (ws_ yJ2_grow cJ2_grow 1 (some (.array (.object "java/lang/Object")))) 4 147 mc ms D s0 [yr (some o_)] M post := by
  refine y_metq hB (by decide) rfl (Nat.le_of_ble_eq_true rfl) ?_
  intro p e s m below meth c A hr hnm C
  rw [wpJ2_grow] at h
  refine y_aload_n C 0 rfl rfl dJ2_grow_0 ?_
  refine y_aload_n C 0 rfl rfl dJ2_grow_1 ?_
  obtain ⟨x1, ⟨fs9, g1, g2⟩, h⟩ := h
  refine y_get (ci := 9) (k := 2) C in_J2 rfl (by decide) q141 (fun _ h => h) g1 g2 dJ2_grow_2 ?_
  refine y_iconst C 1 dJ2_grow_5 lit1 ?_
  refine y_iadd C dJ2_grow_6 ?_
  obtain ⟨kc2, ks3, g1, g2, h⟩ := h
  obtain ⟨⟨vs9, g0⟩, h⟩ := h
  refine y_callVq C (metJ2_grow_2 hB h) (cwV 1 C.hts (lw_V q532 q534 qs8 q90 q535) rfl rfl rfl kdJ2_grow_2 ⟨Nat.le_of_ble_eq_true rfl, Nat.le_of_ble_eq_true rfl⟩) g0 rfl rfl rfl (Nat.le_of_ble_eq_true rfl) dJ2_grow_7 g1 g2 (fun r5 M4 hp => ?_)
  replace h := hp
  exact y_aretq C hr (Or.inr ⟨_, rfl⟩) rfl rfl h dJ2_grow_10
theorem kdJ2_add_2 : yJ2_add_2.cls = RJ2 ∧ yJ2_add_2.cls ≠ "java/lang/invoke/MethodHandle" ∧ yJ2_add_2.cls ≠ "java/lang/invoke/VarHandle" ∧ (parseMethodDescriptor yJ2_add_2.desc).map (fun d => d.parameters.length) = some 3 := by decide +kernel
section sJ2_add_2
variable {p : Program} {l : Launch} {e : Env} {s : State} {m : MethodId} {args : Array Value} {below : List Frame} {meth : Method} {c : Code} {D : va_G} {s0 : State} {a0 : Array Value} {A : Nat → Prop} {mc ms : Nat}
def wpJ2_add_2_b11 (z : Nat → Nat) (o_ : Nat) (post : yM → Prop) (M : yM) (rc : Nat) (rs : Nat) (v1 : Option Nat) (v2 : Option Nat) (v3 : Int32) : Prop := ∃ d3 : Nat, v2 = some d3 ∧ ∃ (E6 : String) (n4 : Nat) (f5 : Nat → Option Nat), M d3 = some (yaq E6 n4 f5) ∧ vp_in v3 n4 ∧ (∀ v, v1 = some v → ∃ ci vs, M v = some (yo ci vs) ∧ yAsg E6 ci) ∧ ∀ M7 : yM, M7 = yup M d3 (yaq E6 n4 (va_up f5 (Int32.toNatClampNeg v3) v1)) → ∃ fs8 : List yV, M7 o_ = some (yo 9 fs8) ∧ 2 < fs8.length ∧ ∀ M9 : yM, M9 = yup M7 o_ (yo 9 (fs8.set 2 (yi (v3 + 1)))) → post M9
theorem okJ2_add_2_b11 (C : yC p { frames := 5, cells := mc, slots := ms, locals := 167 } s m args meth c cJ2_add_2 4 RJ2 D s0 a0 A) (hB : yB D s0 a0) (hr : meth.sig.returnType = none) {o_ : Nat} {post : yM → Prop}  : ∀ (M : yM) (rc : Nat) (rs : Nat) (v1 : Option Nat) (v2 : Option Nat) (v3 : Int32), wpJ2_add_2_b11 (yz s0 a0) o_ post M rc rs v1 v2 v3 → Y p l e { frames := 5, cells := mc, slots := ms, locals := 167 } s m args below meth c (MQ below (yQv D s0 A post) args s mc ms A) D s0 A 4 M rc rs [some (yr (some o_)), some (yr v1), some (yr v2), some (yi v3)] 11 [] := by
  intro M rc rs v1 v2 v3 h
  rw [wpJ2_add_2_b11] at h
  refine y_aload_n C 2 rfl rfl dJ2_add_2_11 ?_
  refine y_iload_n C 3 rfl rfl dJ2_add_2_12 ?_
  refine y_aload_n C 1 rfl rfl dJ2_add_2_13 ?_
  obtain ⟨d3, rfl, h⟩ := h
  obtain ⟨E6, n4, f5, g1, g2, g3, h⟩ := h
  replace h := h _ rfl
  refine y_aast C g1 g2 g3 rfl dJ2_add_2_14 ?_
  refine y_aload_n C 0 rfl rfl dJ2_add_2_15 ?_
  refine y_iload_n C 3 rfl rfl dJ2_add_2_16 ?_
  refine y_iconst C 1 dJ2_add_2_17 lit1 ?_
  refine y_iadd C dJ2_add_2_18 ?_
  obtain ⟨fs8, g1, g2, h⟩ := h
  replace h := h _ rfl
  refine y_put (ci := 9) (k := 2) C in_J2 tyJ2_ok nmJ2 rfl (by decide) q141 (fun _ h => h) rfl g1 g2 rfl rfl rfl dJ2_add_2_19 ?_
  exact y_vret C hr rfl rfl h dJ2_add_2_22
end sJ2_add_2
def wpJ2_add_2 (M : yM) (z : Nat → Nat) (mc : Nat) (ms : Nat) (o_ : Nat) (a1 : Option Nat) (a2 : Option Nat) (a3 : Int32) (post : yM → Prop) : Prop := ∃ d1 : Nat, a2 = some d1 ∧ ∃ e2 : FieldType × vp_A, M d1 = some (.inl e2) ∧ ((¬ a3 = (Int32.ofNat e2.2.1) → wpJ2_add_2_b11 z o_ post M mc ms a1 (some d1) a3) ∧ (a3 = (Int32.ofNat e2.2.1) → ∃ kc10 ks11 : Nat, kc10 ≤ mc ∧ ks11 ≤ ms ∧ (∃ vs, M o_ = some (yo 9 vs)) ∧ wpJ2_grow M z kc10 ks11 o_ (fun r13 M12 => wpJ2_add_2_b11 z o_ post M12 (mc - kc10) (ms - ks11) a1 r13 a3)))
theorem metJ2_add_2 {l : Launch} {D : va_G} {s0 : State} {a0 : Array Value} (hB : yB D s0 a0) {M : yM} {mc : Nat} {ms : Nat} {o_ : Nat} {a1 : Option Nat} {a2 : Option Nat} {a3 : Int32} {post : yM → Prop} (h : wpJ2_add_2 M (yz s0 a0) mc ms o_ a1 a2 a3 post) : yMv l yJ2_add_2 (ws_ yJ2_add_2 cJ2_add_2 4 none) 5 167 mc ms D s0 [yr (some o_), yr a1, yr a2, yi a3] M post := by
  refine y_metv hB (by decide) rfl (Nat.le_of_ble_eq_true rfl) ?_
  intro p e s m below meth c A hr hnm C
  rw [wpJ2_add_2] at h
  refine y_iload_n C 3 rfl rfl dJ2_add_2_0 ?_
  refine y_aload_n C 2 rfl rfl dJ2_add_2_1 ?_
  obtain ⟨d1, rfl, h⟩ := h
  obtain ⟨e2, g1, h⟩ := h
  refine y_alen C g1 dJ2_add_2_2 ?_
  refine y_icmp_ne C 11 dJ2_add_2_3 (by decide) (fun c9 => ?_) (fun c9 => ?_)
  · replace h := h.1 c9
    refine y_to C _ ?_ (okJ2_add_2_b11 C hB hr  _ _ _ _ _ _ h)
    exact (And.intro rfl (And.intro rfl (And.intro rfl (And.intro rfl trivial))))
  · replace h := h.2 c9
    refine y_aload_n C 0 rfl rfl dJ2_add_2_6 ?_
    obtain ⟨kc10, ks11, g1, g2, h⟩ := h
    obtain ⟨⟨vs9, g0⟩, h⟩ := h
    refine y_callVq C (metJ2_grow hB h) (cwV 0 C.hts (lw_V q528 q530 qs7 q90 q531) rfl rfl rfl kdJ2_grow ⟨Nat.le_of_ble_eq_true rfl, Nat.le_of_ble_eq_true rfl⟩) g0 rfl rfl rfl (Nat.le_of_ble_eq_true rfl) dJ2_add_2_7 g1 g2 (fun r13 M12 hp => ?_)
    replace h := hp
    refine y_astore_n C 2 rfl (by decide) dJ2_add_2_10 ?_
    refine y_to C _ ?_ (okJ2_add_2_b11 C hB hr  _ _ _ _ _ _ h)
    exact (And.intro rfl (And.intro rfl (And.intro rfl (And.intro rfl trivial))))
theorem kdJ2_add : yJ2_add.cls = RJ2 ∧ yJ2_add.cls ≠ "java/lang/invoke/MethodHandle" ∧ yJ2_add.cls ≠ "java/lang/invoke/VarHandle" ∧ (parseMethodDescriptor yJ2_add.desc).map (fun d => d.parameters.length) = some 1 := by decide +kernel
def wpJ2_add (M : yM) (z : Nat → Nat) (mc : Nat) (ms : Nat) (o_ : Nat) (a1 : Option Nat) (post : Int32 → yM → Prop) : Prop := ∃ x1 : Int32, yF M o_ 9 0 (yi x1) ∧ ∃ fs2 : List yV, M o_ = some (yo 9 fs2) ∧ 0 < fs2.length ∧ ∀ M3 : yM, M3 = yup M o_ (yo 9 (fs2.set 0 (yi (x1 + 1)))) → ∃ r4 : Option Nat, yF M3 o_ 9 1 (yr r4) ∧ ∃ x5 : Int32, yF M3 o_ 9 2 (yi x5) ∧ ∃ kc6 ks7 : Nat, kc6 ≤ mc ∧ ks7 ≤ ms ∧ (∃ vs, M3 o_ = some (yo 9 vs)) ∧ wpJ2_add_2 M3 z kc6 ks7 o_ a1 r4 x5 (fun M8 => post 1 M8)
theorem metJ2_add {l : Launch} {D : va_G} {s0 : State} {a0 : Array Value} (hB : yB D s0 a0) {M : yM} {mc : Nat} {ms : Nat} {o_ : Nat} {a1 : Option Nat} {post : Int32 → yM → Prop} (h : wpJ2_add M (yz s0 a0) mc ms o_ a1 post) : yMi l yJ2_add (ws_ yJ2_add cJ2_add 2 (some .boolean)) 6 190 mc ms D s0 [yr (some o_), yr a1] M post := by
  refine y_meti hB (by decide) rfl (Nat.le_of_ble_eq_true rfl) ?_
  intro p e s m below meth c A hr hnm C
  rw [wpJ2_add] at h
  refine y_aload_n C 0 rfl rfl dJ2_add_0 ?_
  refine y_dup C rfl dJ2_add_1 ?_
  obtain ⟨x1, ⟨fs9, g1, g2⟩, h⟩ := h
  refine y_get (ci := 9) (k := 0) C in_J2 rfl (by decide) q143 (fun x h => u_same (C.hts _ q144) x h) g1 g2 dJ2_add_2 ?_
  refine y_iconst C 1 dJ2_add_5 lit1 ?_
  refine y_iadd C dJ2_add_6 ?_
  obtain ⟨fs2, g1, g2, h⟩ := h
  replace h := h _ rfl
  refine y_put (ci := 9) (k := 0) C in_J2 tyJ2_ok nmJ2 rfl (by decide) q143 (fun x h => u_same (C.hts _ q144) x h) rfl g1 g2 rfl rfl rfl dJ2_add_7 ?_
  refine y_aload_n C 0 rfl rfl dJ2_add_10 ?_
  refine y_aload_n C 1 rfl rfl dJ2_add_11 ?_
  refine y_aload_n C 0 rfl rfl dJ2_add_12 ?_
  obtain ⟨r4, ⟨fs9, g1, g2⟩, h⟩ := h
  refine y_get (ci := 9) (k := 1) C in_J2 rfl (by decide) q140 (fun _ h => h) g1 g2 dJ2_add_13 ?_
  refine y_aload_n C 0 rfl rfl dJ2_add_16 ?_
  obtain ⟨x5, ⟨fs9, g1, g2⟩, h⟩ := h
  refine y_get (ci := 9) (k := 2) C in_J2 rfl (by decide) q141 (fun _ h => h) g1 g2 dJ2_add_17 ?_
  obtain ⟨kc6, ks7, g1, g2, h⟩ := h
  obtain ⟨⟨vs9, g0⟩, h⟩ := h
  refine y_callVv C (metJ2_add_2 hB h) (cwV 3 C.hts (lw_V q524 q526 qs6 q90 q527) rfl rfl rfl kdJ2_add_2 ⟨Nat.le_of_ble_eq_true rfl, Nat.le_of_ble_eq_true rfl⟩) g0 rfl rfl rfl (Nat.le_of_ble_eq_true rfl) dJ2_add_20 g1 g2 (fun M8 hp => ?_)
  replace h := hp
  refine y_iconst C 1 dJ2_add_23 lit1 ?_
  exact y_iretz C hr rfl rfl (by decide) h dJ2_add_24
theorem kdJ2_indexOfRange : yJ2_indexOfRange.cls = RJ2 ∧ yJ2_indexOfRange.cls ≠ "java/lang/invoke/MethodHandle" ∧ yJ2_indexOfRange.cls ≠ "java/lang/invoke/VarHandle" ∧ (parseMethodDescriptor yJ2_indexOfRange.desc).map (fun d => d.parameters.length) = some 3 := by decide +kernel
section sJ2_indexOfRange
variable {p : Program} {l : Launch} {e : Env} {s : State} {m : MethodId} {args : Array Value} {below : List Frame} {meth : Method} {c : Code} {D : va_G} {s0 : State} {a0 : Array Value} {A : Nat → Prop}
def wpJ2_indexOfRange_b42 (M : yM) (o_ : Nat) (post : Int32 → Prop) : Nat → Option Nat → Int32 → Option Nat → Int32 → Prop
  | 0, _, _, _, _ => False
  | nn + 1, v1, v3, v4, v5 => ((v3 ≤ v5 → post (-1)) ∧ (¬ v3 ≤ v5 → ∃ d2 : Nat, v4 = some d2 ∧ ∃ (E5 : String) (n3 : Nat) (f4 : Nat → Option Nat), M d2 = some (yaq E5 n3 f4) ∧ vp_in v5 n3 ∧ ∃ r6 : Option Nat, f4 (Int32.toNatClampNeg v5) = r6 ∧ ∃ d7 : Nat, v1 = some d7 ∧ (∃ ci vs, M d7 = some (yo ci vs) ∧ (ci = 5 ∨ ci = 6 ∨ ci = 7)) ∧ ∀ r8 : Int32, r8 = (if some d7 = r6 then 1 else 0) → ((r8 = 0 → ∀ x9 : Int32, x9 = v5 + 1 → wpJ2_indexOfRange_b42 M o_ post nn (some d7) v3 (some d2) x9) ∧ (¬ r8 = 0 → post v5))))
theorem okJ2_indexOfRange_b42 (C : yC p { frames := 2, cells := 0, slots := 0, locals := 101 } s m args meth c cJ2_indexOfRange 6 RJ2 D s0 a0 A) (hB : yB D s0 a0) (hr : meth.sig.returnType = (some .int)) {M : yM} {o_ : Nat} {post : Int32 → Prop}  : ∀ (nn : Nat) (v1 : Option Nat) (v3 : Int32) (v4 : Option Nat) (v5 : Int32), wpJ2_indexOfRange_b42 M o_ post nn v1 v3 v4 v5 → Y p l e { frames := 2, cells := 0, slots := 0, locals := 101 } s m args below meth c (MQ below (yQi D s0 A (fun r M1 => M1 = M ∧ post r)) args s 0 0 A) D s0 A 6 M 0 0 [none, some (yr v1), none, some (yi v3), some (yr v4), some (yi v5)] 42 [] := by
  intro nn
  induction nn with
  | zero => intro v1 v3 v4 v5 h; exact absurd h (by rw [wpJ2_indexOfRange_b42]; exact id)
  | succ nn ih =>
    intro v1 v3 v4 v5 h
    rw [wpJ2_indexOfRange_b42] at h
    refine y_iload C 5 rfl dJ2_indexOfRange_42 ?_
    refine y_iload_n C 3 rfl rfl dJ2_indexOfRange_44 ?_
    refine y_icmp_ge C 69 dJ2_indexOfRange_45 (by decide) (fun c9 => ?_) (fun c9 => ?_)
    · replace h := h.1 c9
      refine y_iconst C (-1) dJ2_indexOfRange_69 litm1 ?_
      exact y_ireti C hr rfl rfl ⟨rfl, h⟩ dJ2_indexOfRange_70
    · replace h := h.2 c9
      refine y_aload_n C 1 rfl rfl dJ2_indexOfRange_48 ?_
      refine y_aload C 4 rfl dJ2_indexOfRange_49 ?_
      refine y_iload C 5 rfl dJ2_indexOfRange_51 ?_
      obtain ⟨d2, rfl, h⟩ := h
      obtain ⟨E5, n3, f4, g1, g2, r6, g3, h⟩ := h
      refine y_aald2 C g1 g2 g3 dJ2_indexOfRange_53 ?_
      obtain ⟨d7, rfl, h⟩ := h
      obtain ⟨⟨ci9, vs9, g0, g1⟩, h⟩ := h
      replace h := h _ rfl
      refine y_equals C hB q683 g0 g1 (Nat.le_of_ble_eq_true rfl) (Nat.le_of_ble_eq_true rfl) (Nat.le_of_ble_eq_true rfl) dJ2_indexOfRange_54 ?_
      refine y_if_eq C 63 dJ2_indexOfRange_57 (by decide) (fun c9 => ?_) (fun c9 => ?_)
      · replace h := h.1 c9
        replace h := h _ rfl
        refine y_iinc C 5 _ rfl (y_inc1 _) (by decide) dJ2_indexOfRange_63 ?_
        refine y_goto C 42 dJ2_indexOfRange_66 (by decide) ?_
        refine y_to C _ ?_ (ih _ _ _ _ h)
        exact (And.intro rfl (And.intro rfl (And.intro rfl (And.intro rfl trivial))))
      · replace h := h.2 c9
        refine y_iload C 5 rfl dJ2_indexOfRange_60 ?_
        exact y_ireti C hr rfl rfl ⟨rfl, h⟩ dJ2_indexOfRange_62
def wpJ2_indexOfRange_b13 (M : yM) (o_ : Nat) (post : Int32 → Prop) : Nat → Int32 → Option Nat → Int32 → Prop
  | 0, _, _, _ => False
  | nn + 1, v3, v4, v5 => ((v3 ≤ v5 → post (-1)) ∧ (¬ v3 ≤ v5 → ∃ d10 : Nat, v4 = some d10 ∧ ∃ (E13 : String) (n11 : Nat) (f12 : Nat → Option Nat), M d10 = some (yaq E13 n11 f12) ∧ vp_in v5 n11 ∧ ∃ r14 : Option Nat, f12 (Int32.toNatClampNeg v5) = r14 ∧ ((¬ r14 = none → ∀ x15 : Int32, x15 = v5 + 1 → wpJ2_indexOfRange_b13 M o_ post nn v3 (some d10) x15) ∧ (r14 = none → post v5))))
theorem okJ2_indexOfRange_b13 (C : yC p { frames := 2, cells := 0, slots := 0, locals := 101 } s m args meth c cJ2_indexOfRange 6 RJ2 D s0 a0 A) (hB : yB D s0 a0) (hr : meth.sig.returnType = (some .int)) {M : yM} {o_ : Nat} {post : Int32 → Prop}  : ∀ (nn : Nat) (v3 : Int32) (v4 : Option Nat) (v5 : Int32), wpJ2_indexOfRange_b13 M o_ post nn v3 v4 v5 → Y p l e { frames := 2, cells := 0, slots := 0, locals := 101 } s m args below meth c (MQ below (yQi D s0 A (fun r M1 => M1 = M ∧ post r)) args s 0 0 A) D s0 A 6 M 0 0 [none, none, none, some (yi v3), some (yr v4), some (yi v5)] 13 [] := by
  intro nn
  induction nn with
  | zero => intro v3 v4 v5 h; exact absurd h (by rw [wpJ2_indexOfRange_b13]; exact id)
  | succ nn ih =>
    intro v3 v4 v5 h
    rw [wpJ2_indexOfRange_b13] at h
    refine y_iload C 5 rfl dJ2_indexOfRange_13 ?_
    refine y_iload_n C 3 rfl rfl dJ2_indexOfRange_15 ?_
    refine y_icmp_ge C 36 dJ2_indexOfRange_16 (by decide) (fun c9 => ?_) (fun c9 => ?_)
    · replace h := h.1 c9
      refine y_goto C 69 dJ2_indexOfRange_36 (by decide) ?_
      refine y_iconst C (-1) dJ2_indexOfRange_69 litm1 ?_
      exact y_ireti C hr rfl rfl ⟨rfl, h⟩ dJ2_indexOfRange_70
    · replace h := h.2 c9
      refine y_aload C 4 rfl dJ2_indexOfRange_19 ?_
      refine y_iload C 5 rfl dJ2_indexOfRange_21 ?_
      obtain ⟨d10, rfl, h⟩ := h
      obtain ⟨E13, n11, f12, g1, g2, r14, g3, h⟩ := h
      refine y_aald2 C g1 g2 g3 dJ2_indexOfRange_23 ?_
      refine y_ifnonnull C 30 dJ2_indexOfRange_24 (by decide) (fun c9 => ?_) (fun c9 => ?_)
      · replace h := h.1 c9
        replace h := h _ rfl
        refine y_iinc C 5 _ rfl (y_inc1 _) (by decide) dJ2_indexOfRange_30 ?_
        refine y_goto C 13 dJ2_indexOfRange_33 (by decide) ?_
        refine y_to C _ ?_ (ih _ _ _ h)
        exact (And.intro rfl (And.intro rfl (And.intro rfl trivial)))
      · replace h := h.2 c9
        refine y_iload C 5 rfl dJ2_indexOfRange_27 ?_
        exact y_ireti C hr rfl rfl ⟨rfl, h⟩ dJ2_indexOfRange_29
end sJ2_indexOfRange
def wpJ2_indexOfRange (M : yM) (o_ : Nat) (a1 : Option Nat) (a2 : Int32) (a3 : Int32) (post : Int32 → Prop) : Prop := ∃ r1 : Option Nat, yF M o_ 9 1 (yr r1) ∧ ((¬ a1 = none → ∃ nf9 : Nat, wpJ2_indexOfRange_b42 M o_ post nf9 a1 a3 r1 a2) ∧ (a1 = none → ∃ nf9 : Nat, wpJ2_indexOfRange_b13 M o_ post nf9 a3 r1 a2))
theorem metJ2_indexOfRange {l : Launch} {D : va_G} {s0 : State} {a0 : Array Value} (hB : yB D s0 a0) {M : yM} {o_ : Nat} {a1 : Option Nat} {a2 : Int32} {a3 : Int32} {post : Int32 → Prop} (h : wpJ2_indexOfRange M o_ a1 a2 a3 post) : yMi l yJ2_indexOfRange (ws_ yJ2_indexOfRange cJ2_indexOfRange 6 (some .int)) 2 101 0 0 D s0 [yr (some o_), yr a1, yi a2, yi a3] M (fun r M1 => M1 = M ∧ post r) := by
  refine y_meti hB (by decide) rfl (Nat.le_of_ble_eq_true rfl) ?_
  intro p e s m below meth c A hr hnm C
  rw [wpJ2_indexOfRange] at h
  refine y_aload_n C 0 rfl rfl dJ2_indexOfRange_0 ?_
  obtain ⟨r1, ⟨fs9, g1, g2⟩, h⟩ := h
  refine y_get (ci := 9) (k := 1) C in_J2 rfl (by decide) q140 (fun _ h => h) g1 g2 dJ2_indexOfRange_1 ?_
  refine y_astore C 4 (by decide) dJ2_indexOfRange_4 ?_
  refine y_aload_n C 1 rfl rfl dJ2_indexOfRange_6 ?_
  refine y_ifnonnull C 39 dJ2_indexOfRange_7 (by decide) (fun c9 => ?_) (fun c9 => ?_)
  · replace h := h.1 c9
    refine y_iload_n C 2 rfl rfl dJ2_indexOfRange_39 ?_
    refine y_istore C 5 (by decide) dJ2_indexOfRange_40 ?_
    obtain ⟨nf9, h⟩ := h
    refine y_to C _ ?_ (okJ2_indexOfRange_b42 C hB hr  nf9 _ _ _ _ h)
    exact (And.intro rfl (And.intro rfl (And.intro rfl (And.intro rfl trivial))))
  · replace h := h.2 c9
    refine y_iload_n C 2 rfl rfl dJ2_indexOfRange_10 ?_
    refine y_istore C 5 (by decide) dJ2_indexOfRange_11 ?_
    obtain ⟨nf9, h⟩ := h
    refine y_to C _ ?_ (okJ2_indexOfRange_b13 C hB hr  nf9 _ _ _ h)
    exact (And.intro rfl (And.intro rfl (And.intro rfl trivial)))
theorem kdJ2_indexOf : yJ2_indexOf.cls = RJ2 ∧ yJ2_indexOf.cls ≠ "java/lang/invoke/MethodHandle" ∧ yJ2_indexOf.cls ≠ "java/lang/invoke/VarHandle" ∧ (parseMethodDescriptor yJ2_indexOf.desc).map (fun d => d.parameters.length) = some 1 := by decide +kernel
def wpJ2_indexOf (M : yM) (o_ : Nat) (a1 : Option Nat) (post : Int32 → Prop) : Prop := ∃ x1 : Int32, yF M o_ 9 2 (yi x1) ∧ (∃ vs, M o_ = some (yo 9 vs)) ∧ wpJ2_indexOfRange M o_ a1 0 x1 (fun r2 => post r2)
theorem metJ2_indexOf {l : Launch} {D : va_G} {s0 : State} {a0 : Array Value} (hB : yB D s0 a0) {M : yM} {o_ : Nat} {a1 : Option Nat} {post : Int32 → Prop} (h : wpJ2_indexOf M o_ a1 post) : yMi l yJ2_indexOf (ws_ yJ2_indexOf cJ2_indexOf 2 (some .int)) 3 126 0 0 D s0 [yr (some o_), yr a1] M (fun r M1 => M1 = M ∧ post r) := by
  refine y_meti hB (by decide) rfl (Nat.le_of_ble_eq_true rfl) ?_
  intro p e s m below meth c A hr hnm C
  rw [wpJ2_indexOf] at h
  refine y_aload_n C 0 rfl rfl dJ2_indexOf_0 ?_
  refine y_aload_n C 1 rfl rfl dJ2_indexOf_1 ?_
  refine y_iconst C 0 dJ2_indexOf_2 lit0 ?_
  refine y_aload_n C 0 rfl rfl dJ2_indexOf_3 ?_
  obtain ⟨x1, ⟨fs9, g1, g2⟩, h⟩ := h
  refine y_get (ci := 9) (k := 2) C in_J2 rfl (by decide) q141 (fun _ h => h) g1 g2 dJ2_indexOf_4 ?_
  obtain ⟨⟨vs9, g0⟩, h⟩ := h
  refine y_callVi0 C (metJ2_indexOfRange hB h) (cwV 3 C.hts (lw_V q678 q679 q680 q90 q681) rfl rfl rfl kdJ2_indexOfRange ⟨Nat.le_of_ble_eq_true rfl, Nat.le_of_ble_eq_true rfl⟩) g0 rfl rfl rfl (Nat.le_of_ble_eq_true rfl) dJ2_indexOf_7 (fun r2 M1 hp => ?_)
  clear h
  obtain ⟨rfl, h⟩ := hp
  exact y_ireti C hr rfl rfl ⟨rfl, h⟩ dJ2_indexOf_10
theorem kdX6_init : yX6_init.cls = RX6 ∧ yX6_init.cls ≠ "java/lang/invoke/MethodHandle" ∧ yX6_init.cls ≠ "java/lang/invoke/VarHandle" ∧ (parseMethodDescriptor yX6_init.desc).map (fun d => d.parameters.length) = some 2 := by decide +kernel
def wpX6_init (M : yM) (o_ : Nat) (a1 : Option Nat) (a2 : Option Nat) (post : yM → Prop) : Prop := ∃ fs1 : List yV, M o_ = some (yo 6 fs1) ∧ 0 < fs1.length ∧ ∀ M2 : yM, M2 = yup M o_ (yo 6 (fs1.set 0 (yr a1))) → ∃ fs3 : List yV, M2 o_ = some (yo 6 fs3) ∧ 1 < fs3.length ∧ ∀ M4 : yM, M4 = yup M2 o_ (yo 6 (fs3.set 1 (yr a2))) → post M4
theorem metX6_init {l : Launch} {D : va_G} {s0 : State} {a0 : Array Value} (hB : yB D s0 a0) {M : yM} {o_ : Nat} {a1 : Option Nat} {a2 : Option Nat} {post : yM → Prop} (h : wpX6_init M o_ a1 a2 post) : yMv l yX6_init (ws_ yX6_init cX6_init 3 none) 1 80 0 0 D s0 [yr (some o_), yr a1, yr a2] M post := by
  refine y_metv hB (by decide) rfl (Nat.le_of_ble_eq_true rfl) ?_
  intro p e s m below meth c A hr hnm C
  have hin2 : meth.name = "<init>" := hnm
  rw [wpX6_init] at h
  refine y_aload_n C 0 rfl rfl dX6_init_0 ?_
  refine y_objInit C q585 q118 q119 (Nat.le_of_ble_eq_true rfl) (Nat.le_of_ble_eq_true rfl) (Nat.le_of_ble_eq_true rfl) dX6_init_1 ?_
  refine y_aload_n C 0 rfl rfl dX6_init_4 ?_
  refine y_aload_n C 1 rfl rfl dX6_init_5 ?_
  obtain ⟨fs1, g1, g2, h⟩ := h
  replace h := h _ rfl
  refine y_put (ci := 6) (k := 0) C in_X6 tyX6_ok nmX6 rfl (by decide) q586 (fun _ h => h) rfl g1 g2 (y_nmr _ a1) (y_ftr _ a1) rfl dX6_init_6 ?_
  refine y_aload_n C 0 rfl rfl dX6_init_9 ?_
  refine y_aload_n C 2 rfl rfl dX6_init_10 ?_
  obtain ⟨fs3, g1, g2, h⟩ := h
  replace h := h _ rfl
  refine y_put (ci := 6) (k := 1) C in_X6 tyX6_ok nmX6 rfl (by decide) q591 (fun _ h => h) rfl g1 g2 (y_nmr _ a2) (y_ftr _ a2) rfl dX6_init_11 ?_
  exact y_vret C hr rfl rfl h dX6_init_14
theorem kdX1_copy : yX1_copy.cls = RX1 ∧ yX1_copy.cls ≠ "java/lang/invoke/MethodHandle" ∧ yX1_copy.cls ≠ "java/lang/invoke/VarHandle" ∧ (parseMethodDescriptor yX1_copy.desc).map (fun d => d.parameters.length) = some 0 := by decide +kernel
section sX1_copy
variable {p : Program} {l : Launch} {e : Env} {s : State} {m : MethodId} {args : Array Value} {below : List Frame} {meth : Method} {c : Code} {D : va_G} {s0 : State} {a0 : Array Value} {A : Nat → Prop} {mc ms : Nat}
def wpX1_copy_b74 (z : Nat → Nat) (o_ : Nat) (post : Option Nat → yM → Prop) : Nat → yM → Nat → Nat → Option Nat → Int32 → Prop
  | 0, _, _, _, _, _ => False
  | nn + 1, M, rc, rs, v1, v2 => ∃ r15 : Option Nat, yF M o_ 1 1 (yr r15) ∧ ∃ d16 : Nat, r15 = some d16 ∧ (∃ vs, M d16 = some (yo 9 vs)) ∧ wpJ2_size M d16 (fun r17 => ((r17 ≤ v2 → post v1 M) ∧ (¬ r17 ≤ v2 → ∃ r18 : Option Nat, yF M o_ 1 1 (yr r18) ∧ ∃ d19 : Nat, r18 = some d19 ∧ (∃ vs, M d19 = some (yo 9 vs)) ∧ wpJ2_get M d19 v2 (fun r20 => (∀ v, r20 = some v → ∃ vs, M v = some (yo 6 vs)) ∧ 1 ≤ rc ∧ 10 ≤ rs ∧ ∀ q21 : Nat, M q21 = none → ∀ M22 : yM, M22 = yup M q21 (yo 6 [yr none, yr none, yi 0, yi 0, yi 0, yi 0, yi 0, yi 0, yi 0, yi 0]) → ∃ d23 : Nat, v1 = some d23 ∧ ∃ r24 : Option Nat, yF M22 d23 1 0 (yr r24) ∧ ∃ r25 : Option Nat, yF M22 o_ 1 0 (yr r25) ∧ ∃ d26 : Nat, r20 = some d26 ∧ ∃ r27 : Option Nat, yF M22 d26 6 0 (yr r27) ∧ ∃ d28 : Nat, r25 = some d28 ∧ (∃ vs, M22 d28 = some (yo 9 vs)) ∧ wpJ2_indexOf M22 d28 r27 (fun r29 => ∃ d30 : Nat, r24 = some d30 ∧ (∃ vs, M22 d30 = some (yo 9 vs)) ∧ wpJ2_get M22 d30 r29 (fun r31 => (∀ v, r31 = some v → ∃ vs, M22 v = some (yo 5 vs)) ∧ ∃ r32 : Option Nat, yF M22 d23 1 0 (yr r32) ∧ ∃ r33 : Option Nat, yF M22 o_ 1 0 (yr r33) ∧ ∃ r34 : Option Nat, yF M22 d26 6 1 (yr r34) ∧ ∃ d35 : Nat, r33 = some d35 ∧ (∃ vs, M22 d35 = some (yo 9 vs)) ∧ wpJ2_indexOf M22 d35 r34 (fun r36 => ∃ d37 : Nat, r32 = some d37 ∧ (∃ vs, M22 d37 = some (yo 9 vs)) ∧ wpJ2_get M22 d37 r36 (fun r38 => (∀ v, r38 = some v → ∃ vs, M22 v = some (yo 5 vs)) ∧ wpX6_init M22 q21 r31 r38 (fun M39 => ∃ x40 : Int32, yF M39 d26 6 2 (yi x40) ∧ ∃ fs41 : List yV, M39 q21 = some (yo 6 fs41) ∧ 2 < fs41.length ∧ ∀ M42 : yM, M42 = yup M39 q21 (yo 6 (fs41.set 2 (yi x40))) → ∃ x43 : Int32, yF M42 d26 6 3 (yi x43) ∧ ∃ fs44 : List yV, M42 q21 = some (yo 6 fs44) ∧ 3 < fs44.length ∧ ∀ M45 : yM, M45 = yup M42 q21 (yo 6 (fs44.set 3 (yi x43))) → ∃ x46 : Int32, yF M45 d26 6 4 (yi x46) ∧ ∃ fs47 : List yV, M45 q21 = some (yo 6 fs47) ∧ 4 < fs47.length ∧ ∀ M48 : yM, M48 = yup M45 q21 (yo 6 (fs47.set 4 (yi x46))) → ∃ x49 : Int32, yF M48 d26 6 5 (yi x49) ∧ ∃ fs50 : List yV, M48 q21 = some (yo 6 fs50) ∧ 5 < fs50.length ∧ ∀ M51 : yM, M51 = yup M48 q21 (yo 6 (fs50.set 5 (yi x49))) → ∃ r52 : Option Nat, yF M51 d23 1 1 (yr r52) ∧ ∃ d53 : Nat, r52 = some d53 ∧ ∃ kc54 ks55 : Nat, kc54 ≤ (rc - 1) ∧ ks55 ≤ (rs - 10) ∧ (∃ vs, M51 d53 = some (yo 9 vs)) ∧ wpJ2_add M51 z kc54 ks55 d53 (some q21) (fun r57 M56 => ∀ x58 : Int32, x58 = v2 + 1 → wpX1_copy_b74 z o_ post nn M56 ((rc - 1) - kc54) ((rs - 10) - ks55) (some d23) x58))))))))))
theorem okX1_copy_b74 (C : yC p { frames := 7, cells := mc, slots := ms, locals := 211 } s m args meth c cX1_copy 5 RX1 D s0 a0 A) (hB : yB D s0 a0) (hr : meth.sig.returnType = (some (.object "DimensionLines$Drawing"))) {o_ : Nat} {post : Option Nat → yM → Prop}  : ∀ (nn : Nat) (M : yM) (rc : Nat) (rs : Nat) (v1 : Option Nat) (v2 : Int32), wpX1_copy_b74 (yz s0 a0) o_ post nn M rc rs v1 v2 → Y p l e { frames := 7, cells := mc, slots := ms, locals := 211 } s m args below meth c (MQ below (yQq D s0 A post) args s mc ms A) D s0 A 5 M rc rs [some (yr (some o_)), some (yr v1), some (yi v2), none, none] 74 [] := by
  intro nn
  induction nn with
  | zero => intro M rc rs v1 v2 h; exact absurd h (by rw [wpX1_copy_b74]; exact id)
  | succ nn ih =>
    intro M rc rs v1 v2 h
    rw [wpX1_copy_b74] at h
    refine y_iload_n C 2 rfl rfl dX1_copy_74 ?_
    refine y_aload_n C 0 rfl rfl dX1_copy_75 ?_
    obtain ⟨r15, ⟨fs9, g1, g2⟩, h⟩ := h
    refine y_get (ci := 1) (k := 1) C in_X1 rfl (by decide) q158 (fun _ h => h) g1 g2 dX1_copy_76 ?_
    obtain ⟨d16, rfl, h⟩ := h
    obtain ⟨⟨vs9, g0⟩, h⟩ := h
    refine y_callVi0 C (metJ2_size hB h) (cwV 0 C.hts (lw_V q658 q494 q495 q90 q496) rfl rfl rfl kdJ2_size ⟨Nat.le_of_ble_eq_true rfl, Nat.le_of_ble_eq_true rfl⟩) g0 rfl rfl rfl (Nat.le_of_ble_eq_true rfl) dX1_copy_79 (fun r17 M1 hp => ?_)
    clear h
    obtain ⟨rfl, h⟩ := hp
    refine y_icmp_ge C 200 dX1_copy_82 (by decide) (fun c9 => ?_) (fun c9 => ?_)
    · replace h := h.1 c9
      refine y_aload_n C 1 rfl rfl dX1_copy_200 ?_
      exact y_aretq C hr (Or.inl ⟨_, rfl⟩) rfl rfl h dX1_copy_201
    · replace h := h.2 c9
      refine y_aload_n C 0 rfl rfl dX1_copy_85 ?_
      obtain ⟨r18, ⟨fs9, g1, g2⟩, h⟩ := h
      refine y_get (ci := 1) (k := 1) C in_X1 rfl (by decide) q158 (fun _ h => h) g1 g2 dX1_copy_86 ?_
      refine y_iload_n C 2 rfl rfl dX1_copy_89 ?_
      obtain ⟨d19, rfl, h⟩ := h
      obtain ⟨⟨vs9, g0⟩, h⟩ := h
      refine y_callVq0 C (metJ2_get hB h) (cwV 1 C.hts (lw_V q659 q571 q572 q90 q573) rfl rfl rfl kdJ2_get ⟨Nat.le_of_ble_eq_true rfl, Nat.le_of_ble_eq_true rfl⟩) g0 rfl rfl rfl (Nat.le_of_ble_eq_true rfl) dX1_copy_90 (fun r20 M1 hp => ?_)
      clear h
      obtain ⟨rfl, h⟩ := hp
      obtain ⟨g1, h⟩ := h
      refine y_ckc (ci := 6) C q673 rfl g1 dX1_copy_93 ?_
      refine y_astore_n C 3 rfl (by decide) dX1_copy_96 ?_
      obtain ⟨g1, g2, h⟩ := h
      refine y_new (ci := 6) C in_X6 tyX6_ok rfl q673 q569 q107 [yr none, yr none, yi 0, yi 0, yi 0, yi 0, yi 0, yi 0, yi 0, yi 0] (fun j hj => by rcases (show j = 0 ∨ j = 1 ∨ j = 2 ∨ j = 3 ∨ j = 4 ∨ j = 5 ∨ j = 6 ∨ j = 7 ∨ j = 8 ∨ j = 9 by omega) with rfl | rfl | rfl | rfl | rfl | rfl | rfl | rfl | rfl | rfl <;> rfl) g1 g2 dX1_copy_97 (fun q21 g3 => ?_)
      replace h := h q21 g3 _ rfl
      refine y_dup C rfl dX1_copy_100 ?_
      refine y_aload_n C 1 rfl rfl dX1_copy_101 ?_
      obtain ⟨d23, rfl, h⟩ := h
      obtain ⟨r24, ⟨fs9, g1, g2⟩, h⟩ := h
      refine y_get (ci := 1) (k := 0) C in_X1 rfl (by decide) q155 (fun _ h => h) g1 g2 dX1_copy_102 ?_
      refine y_aload_n C 0 rfl rfl dX1_copy_105 ?_
      obtain ⟨r25, ⟨fs9, g1, g2⟩, h⟩ := h
      refine y_get (ci := 1) (k := 0) C in_X1 rfl (by decide) q155 (fun _ h => h) g1 g2 dX1_copy_106 ?_
      refine y_aload_n C 3 rfl rfl dX1_copy_109 ?_
      obtain ⟨d26, rfl, h⟩ := h
      obtain ⟨r27, ⟨fs9, g1, g2⟩, h⟩ := h
      refine y_getN (ci := 6) (k := 0) C in_X6 rfl (by decide) q589 (fun _ h => h) g1 g2 dX1_copy_110 ?_
      obtain ⟨d28, rfl, h⟩ := h
      obtain ⟨⟨vs9, g0⟩, h⟩ := h
      refine y_callVi0 C (metJ2_indexOf hB h) (cwV 1 C.hts (lw_V q674 q675 q676 q90 q677) rfl rfl rfl kdJ2_indexOf ⟨Nat.le_of_ble_eq_true rfl, Nat.le_of_ble_eq_true rfl⟩) g0 rfl rfl rfl (Nat.le_of_ble_eq_true rfl) dX1_copy_113 (fun r29 M1 hp => ?_)
      clear h
      obtain ⟨rfl, h⟩ := hp
      obtain ⟨d30, rfl, h⟩ := h
      obtain ⟨⟨vs9, g0⟩, h⟩ := h
      refine y_callVq0 C (metJ2_get hB h) (cwV 1 C.hts (lw_V q659 q571 q572 q90 q573) rfl rfl rfl kdJ2_get ⟨Nat.le_of_ble_eq_true rfl, Nat.le_of_ble_eq_true rfl⟩) g0 rfl rfl rfl (Nat.le_of_ble_eq_true rfl) dX1_copy_116 (fun r31 M1 hp => ?_)
      clear h
      obtain ⟨rfl, h⟩ := hp
      obtain ⟨g1, h⟩ := h
      refine y_ckc (ci := 5) C q660 rfl g1 dX1_copy_119 ?_
      refine y_aload_n C 1 rfl rfl dX1_copy_122 ?_
      obtain ⟨r32, ⟨fs9, g1, g2⟩, h⟩ := h
      refine y_get (ci := 1) (k := 0) C in_X1 rfl (by decide) q155 (fun _ h => h) g1 g2 dX1_copy_123 ?_
      refine y_aload_n C 0 rfl rfl dX1_copy_126 ?_
      obtain ⟨r33, ⟨fs9, g1, g2⟩, h⟩ := h
      refine y_get (ci := 1) (k := 0) C in_X1 rfl (by decide) q155 (fun _ h => h) g1 g2 dX1_copy_127 ?_
      refine y_aload_n C 3 rfl rfl dX1_copy_130 ?_
      obtain ⟨r34, ⟨fs9, g1, g2⟩, h⟩ := h
      refine y_getN (ci := 6) (k := 1) C in_X6 rfl (by decide) q594 (fun _ h => h) g1 g2 dX1_copy_131 ?_
      obtain ⟨d35, rfl, h⟩ := h
      obtain ⟨⟨vs9, g0⟩, h⟩ := h
      refine y_callVi0 C (metJ2_indexOf hB h) (cwV 1 C.hts (lw_V q674 q675 q676 q90 q677) rfl rfl rfl kdJ2_indexOf ⟨Nat.le_of_ble_eq_true rfl, Nat.le_of_ble_eq_true rfl⟩) g0 rfl rfl rfl (Nat.le_of_ble_eq_true rfl) dX1_copy_134 (fun r36 M1 hp => ?_)
      clear h
      obtain ⟨rfl, h⟩ := hp
      obtain ⟨d37, rfl, h⟩ := h
      obtain ⟨⟨vs9, g0⟩, h⟩ := h
      refine y_callVq0 C (metJ2_get hB h) (cwV 1 C.hts (lw_V q659 q571 q572 q90 q573) rfl rfl rfl kdJ2_get ⟨Nat.le_of_ble_eq_true rfl, Nat.le_of_ble_eq_true rfl⟩) g0 rfl rfl rfl (Nat.le_of_ble_eq_true rfl) dX1_copy_137 (fun r38 M1 hp => ?_)
      clear h
      obtain ⟨rfl, h⟩ := hp
      obtain ⟨g1, h⟩ := h
      refine y_ckc (ci := 5) C q660 rfl g1 dX1_copy_140 ?_
      refine y_callIv0 C (metX6_init hB h) (cwI 2 C.hts (lw_meth q584) rfl rfl rfl (C.hts _ q107) (C.hts _ q697) (C.hts _ q583) rfl kdX6_init.2 ⟨Nat.le_of_ble_eq_true rfl, Nat.le_of_ble_eq_true rfl⟩) rfl rfl (Nat.le_of_ble_eq_true rfl) dX1_copy_143 (fun M39 hp => ?_)
      replace h := hp
      refine y_astore C 4 (by decide) dX1_copy_146 ?_
      refine y_aload C 4 rfl dX1_copy_148 ?_
      refine y_aload_n C 3 rfl rfl dX1_copy_150 ?_
      obtain ⟨x40, ⟨fs9, g1, g2⟩, h⟩ := h
      refine y_getN (ci := 6) (k := 2) C in_X6 rfl (by decide) q597 (fun _ h => h) g1 g2 dX1_copy_151 ?_
      obtain ⟨fs41, g1, g2, h⟩ := h
      replace h := h _ rfl
      refine y_putN (ci := 6) (k := 2) C in_X6 tyX6_ok nmX6 rfl (by decide) q597 (fun _ h => h) rfl g1 g2 rfl rfl rfl dX1_copy_154 ?_
      refine y_aload C 4 rfl dX1_copy_157 ?_
      refine y_aload_n C 3 rfl rfl dX1_copy_159 ?_
      obtain ⟨x43, ⟨fs9, g1, g2⟩, h⟩ := h
      refine y_getN (ci := 6) (k := 3) C in_X6 rfl (by decide) q601 (fun _ h => h) g1 g2 dX1_copy_160 ?_
      obtain ⟨fs44, g1, g2, h⟩ := h
      replace h := h _ rfl
      refine y_putN (ci := 6) (k := 3) C in_X6 tyX6_ok nmX6 rfl (by decide) q601 (fun _ h => h) rfl g1 g2 rfl rfl rfl dX1_copy_163 ?_
      refine y_aload C 4 rfl dX1_copy_166 ?_
      refine y_aload_n C 3 rfl rfl dX1_copy_168 ?_
      obtain ⟨x46, ⟨fs9, g1, g2⟩, h⟩ := h
      refine y_getN (ci := 6) (k := 4) C in_X6 rfl (by decide) q604 (fun _ h => h) g1 g2 dX1_copy_169 ?_
      obtain ⟨fs47, g1, g2, h⟩ := h
      replace h := h _ rfl
      refine y_putN (ci := 6) (k := 4) C in_X6 tyX6_ok nmX6 rfl (by decide) q604 (fun _ h => h) rfl g1 g2 rfl rfl rfl dX1_copy_172 ?_
      refine y_aload C 4 rfl dX1_copy_175 ?_
      refine y_aload_n C 3 rfl rfl dX1_copy_177 ?_
      obtain ⟨x49, ⟨fs9, g1, g2⟩, h⟩ := h
      refine y_getN (ci := 6) (k := 5) C in_X6 rfl (by decide) q608 (fun _ h => h) g1 g2 dX1_copy_178 ?_
      obtain ⟨fs50, g1, g2, h⟩ := h
      replace h := h _ rfl
      refine y_putN (ci := 6) (k := 5) C in_X6 tyX6_ok nmX6 rfl (by decide) q608 (fun _ h => h) rfl g1 g2 rfl rfl rfl dX1_copy_181 ?_
      refine y_aload_n C 1 rfl rfl dX1_copy_184 ?_
      obtain ⟨r52, ⟨fs9, g1, g2⟩, h⟩ := h
      refine y_get (ci := 1) (k := 1) C in_X1 rfl (by decide) q158 (fun _ h => h) g1 g2 dX1_copy_185 ?_
      refine y_aload C 4 rfl dX1_copy_188 ?_
      obtain ⟨d53, rfl, h⟩ := h
      obtain ⟨kc54, ks55, g1, g2, h⟩ := h
      obtain ⟨⟨vs9, g0⟩, h⟩ := h
      refine y_callVi C (metJ2_add hB h) (cwV 1 C.hts (lw_V q672 q521 q522 q90 q523) rfl rfl rfl kdJ2_add ⟨Nat.le_of_ble_eq_true rfl, Nat.le_of_ble_eq_true rfl⟩) g0 rfl rfl rfl (Nat.le_of_ble_eq_true rfl) dX1_copy_190 g1 g2 (fun r57 M56 hp => ?_)
      replace h := hp
      refine y_pop C rfl dX1_copy_193 ?_
      replace h := h _ rfl
      refine y_iinc C 2 _ rfl (y_inc1 _) (by decide) dX1_copy_194 ?_
      refine y_goto C 74 dX1_copy_197 (by decide) ?_
      refine y_to C _ ?_ (ih _ _ _ _ _ h)
      exact (And.intro rfl (And.intro rfl (And.intro rfl trivial)))
def wpX1_copy_b26 (z : Nat → Nat) (o_ : Nat) (post : Option Nat → yM → Prop) : Nat → yM → Nat → Nat → Option Nat → Int32 → Prop
  | 0, _, _, _, _, _ => False
  | nn + 1, M, rc, rs, v1, v2 => ∃ r12 : Option Nat, yF M o_ 1 0 (yr r12) ∧ ∃ d13 : Nat, r12 = some d13 ∧ (∃ vs, M d13 = some (yo 9 vs)) ∧ wpJ2_size M d13 (fun r14 => ((r14 ≤ v2 → ∃ nf9 : Nat, wpX1_copy_b74 z o_ post nf9 M rc rs v1 0) ∧ (¬ r14 ≤ v2 → ∃ d59 : Nat, v1 = some d59 ∧ ∃ r60 : Option Nat, yF M d59 1 0 (yr r60) ∧ 1 ≤ rc ∧ 1 ≤ rs ∧ ∀ q61 : Nat, M q61 = none → ∀ M62 : yM, M62 = yup M q61 (yo 5 [yi 0]) → ∃ r63 : Option Nat, yF M62 o_ 1 0 (yr r63) ∧ ∃ d64 : Nat, r63 = some d64 ∧ (∃ vs, M62 d64 = some (yo 9 vs)) ∧ wpJ2_get M62 d64 v2 (fun r65 => (∀ v, r65 = some v → ∃ vs, M62 v = some (yo 5 vs)) ∧ ∃ d66 : Nat, r65 = some d66 ∧ ∃ x67 : Int32, yF M62 d66 5 0 (yi x67) ∧ wpX5_init M62 q61 x67 (fun M68 => ∃ d69 : Nat, r60 = some d69 ∧ ∃ kc70 ks71 : Nat, kc70 ≤ (rc - 1) ∧ ks71 ≤ (rs - 1) ∧ (∃ vs, M68 d69 = some (yo 9 vs)) ∧ wpJ2_add M68 z kc70 ks71 d69 (some q61) (fun r73 M72 => ∀ x74 : Int32, x74 = v2 + 1 → wpX1_copy_b26 z o_ post nn M72 ((rc - 1) - kc70) ((rs - 1) - ks71) (some d59) x74))))))
theorem okX1_copy_b26 (C : yC p { frames := 7, cells := mc, slots := ms, locals := 211 } s m args meth c cX1_copy 5 RX1 D s0 a0 A) (hB : yB D s0 a0) (hr : meth.sig.returnType = (some (.object "DimensionLines$Drawing"))) {o_ : Nat} {post : Option Nat → yM → Prop}  : ∀ (nn : Nat) (M : yM) (rc : Nat) (rs : Nat) (v1 : Option Nat) (v2 : Int32), wpX1_copy_b26 (yz s0 a0) o_ post nn M rc rs v1 v2 → Y p l e { frames := 7, cells := mc, slots := ms, locals := 211 } s m args below meth c (MQ below (yQq D s0 A post) args s mc ms A) D s0 A 5 M rc rs [some (yr (some o_)), some (yr v1), some (yi v2), none, none] 26 [] := by
  intro nn
  induction nn with
  | zero => intro M rc rs v1 v2 h; exact absurd h (by rw [wpX1_copy_b26]; exact id)
  | succ nn ih =>
    intro M rc rs v1 v2 h
    rw [wpX1_copy_b26] at h
    refine y_iload_n C 2 rfl rfl dX1_copy_26 ?_
    refine y_aload_n C 0 rfl rfl dX1_copy_27 ?_
    obtain ⟨r12, ⟨fs9, g1, g2⟩, h⟩ := h
    refine y_get (ci := 1) (k := 0) C in_X1 rfl (by decide) q155 (fun _ h => h) g1 g2 dX1_copy_28 ?_
    obtain ⟨d13, rfl, h⟩ := h
    obtain ⟨⟨vs9, g0⟩, h⟩ := h
    refine y_callVi0 C (metJ2_size hB h) (cwV 0 C.hts (lw_V q658 q494 q495 q90 q496) rfl rfl rfl kdJ2_size ⟨Nat.le_of_ble_eq_true rfl, Nat.le_of_ble_eq_true rfl⟩) g0 rfl rfl rfl (Nat.le_of_ble_eq_true rfl) dX1_copy_31 (fun r14 M1 hp => ?_)
    clear h
    obtain ⟨rfl, h⟩ := hp
    refine y_icmp_ge C 72 dX1_copy_34 (by decide) (fun c9 => ?_) (fun c9 => ?_)
    · replace h := h.1 c9
      refine y_iconst C 0 dX1_copy_72 lit0 ?_
      refine y_istore_n C 2 rfl (by decide) dX1_copy_73 ?_
      obtain ⟨nf9, h⟩ := h
      refine y_to C _ ?_ (okX1_copy_b74 C hB hr  nf9 _ _ _ _ _ h)
      exact (And.intro rfl (And.intro rfl (And.intro rfl trivial)))
    · replace h := h.2 c9
      refine y_aload_n C 1 rfl rfl dX1_copy_37 ?_
      obtain ⟨d59, rfl, h⟩ := h
      obtain ⟨r60, ⟨fs9, g1, g2⟩, h⟩ := h
      refine y_get (ci := 1) (k := 0) C in_X1 rfl (by decide) q155 (fun _ h => h) g1 g2 dX1_copy_38 ?_
      obtain ⟨g1, g2, h⟩ := h
      refine y_new (ci := 5) C in_X5 tyX5_ok rfl q660 q507 q106 [yi 0] (fun j hj => by rcases (show j = 0 by omega) with rfl <;> rfl) g1 g2 dX1_copy_41 (fun q61 g3 => ?_)
      replace h := h q61 g3 _ rfl
      refine y_dup C rfl dX1_copy_44 ?_
      refine y_aload_n C 0 rfl rfl dX1_copy_45 ?_
      obtain ⟨r63, ⟨fs9, g1, g2⟩, h⟩ := h
      refine y_get (ci := 1) (k := 0) C in_X1 rfl (by decide) q155 (fun _ h => h) g1 g2 dX1_copy_46 ?_
      refine y_iload_n C 2 rfl rfl dX1_copy_49 ?_
      obtain ⟨d64, rfl, h⟩ := h
      obtain ⟨⟨vs9, g0⟩, h⟩ := h
      refine y_callVq0 C (metJ2_get hB h) (cwV 1 C.hts (lw_V q659 q571 q572 q90 q573) rfl rfl rfl kdJ2_get ⟨Nat.le_of_ble_eq_true rfl, Nat.le_of_ble_eq_true rfl⟩) g0 rfl rfl rfl (Nat.le_of_ble_eq_true rfl) dX1_copy_50 (fun r65 M1 hp => ?_)
      clear h
      obtain ⟨rfl, h⟩ := hp
      obtain ⟨g1, h⟩ := h
      refine y_ckc (ci := 5) C q660 rfl g1 dX1_copy_53 ?_
      obtain ⟨d66, rfl, h⟩ := h
      obtain ⟨x67, ⟨fs9, g1, g2⟩, h⟩ := h
      refine y_getN (ci := 5) (k := 0) C in_X5 rfl (by decide) q515 (fun _ h => h) g1 g2 dX1_copy_56 ?_
      refine y_callIv0 C (metX5_init hB h) (cwI 1 C.hts (lw_meth q510) rfl rfl rfl (C.hts _ q106) (C.hts _ q671) (C.hts _ q509) rfl kdX5_init.2 ⟨Nat.le_of_ble_eq_true rfl, Nat.le_of_ble_eq_true rfl⟩) rfl rfl (Nat.le_of_ble_eq_true rfl) dX1_copy_59 (fun M68 hp => ?_)
      replace h := hp
      obtain ⟨d69, rfl, h⟩ := h
      obtain ⟨kc70, ks71, g1, g2, h⟩ := h
      obtain ⟨⟨vs9, g0⟩, h⟩ := h
      refine y_callVi C (metJ2_add hB h) (cwV 1 C.hts (lw_V q672 q521 q522 q90 q523) rfl rfl rfl kdJ2_add ⟨Nat.le_of_ble_eq_true rfl, Nat.le_of_ble_eq_true rfl⟩) g0 rfl rfl rfl (Nat.le_of_ble_eq_true rfl) dX1_copy_62 g1 g2 (fun r73 M72 hp => ?_)
      replace h := hp
      refine y_pop C rfl dX1_copy_65 ?_
      replace h := h _ rfl
      refine y_iinc C 2 _ rfl (y_inc1 _) (by decide) dX1_copy_66 ?_
      refine y_goto C 26 dX1_copy_69 (by decide) ?_
      refine y_to C _ ?_ (ih _ _ _ _ _ h)
      exact (And.intro rfl (And.intro rfl (And.intro rfl trivial)))
end sX1_copy
def wpX1_copy (M : yM) (z : Nat → Nat) (mc : Nat) (ms : Nat) (o_ : Nat) (post : Option Nat → yM → Prop) : Prop := 1 ≤ mc ∧ 7 ≤ ms ∧ ∀ q1 : Nat, M q1 = none → ∀ M2 : yM, M2 = yup M q1 (yo 1 [yr none, yr none, yi 0, yi 0, yr none, yr none, yr none]) → ∃ kc3 ks4 : Nat, kc3 ≤ (mc - 1) ∧ ks4 ≤ (ms - 7) ∧ wpX1_init M2 z kc3 ks4 q1 (fun M5 => ∃ x6 : Int32, yF M5 o_ 1 2 (yi x6) ∧ ∃ fs7 : List yV, M5 q1 = some (yo 1 fs7) ∧ 2 < fs7.length ∧ ∀ M8 : yM, M8 = yup M5 q1 (yo 1 (fs7.set 2 (yi x6))) → ∃ x9 : Int32, yF M8 o_ 1 3 (yi x9) ∧ ∃ fs10 : List yV, M8 q1 = some (yo 1 fs10) ∧ 3 < fs10.length ∧ ∀ M11 : yM, M11 = yup M8 q1 (yo 1 (fs10.set 3 (yi x9))) → ∃ nf9 : Nat, wpX1_copy_b26 z o_ post nf9 M11 ((mc - 1) - kc3) ((ms - 7) - ks4) (some q1) 0)
theorem metX1_copy {l : Launch} {D : va_G} {s0 : State} {a0 : Array Value} (hB : yB D s0 a0) {M : yM} {mc : Nat} {ms : Nat} {o_ : Nat} {post : Option Nat → yM → Prop} (h : wpX1_copy M (yz s0 a0) mc ms o_ post) : yMq l yX1_copy (ws_ yX1_copy cX1_copy 5 (some (.object "DimensionLines$Drawing"))) 7 211 mc ms D s0 [yr (some o_)] M post := by
  refine y_metq hB (by decide) rfl (Nat.le_of_ble_eq_true rfl) ?_
  intro p e s m below meth c A hr hnm C
  rw [wpX1_copy] at h
  obtain ⟨g1, g2, h⟩ := h
  refine y_new (ci := 1) C in_X1 tyX1_ok rfl q669 q121 q87 [yr none, yr none, yi 0, yi 0, yr none, yr none, yr none] (fun j hj => by rcases (show j = 0 ∨ j = 1 ∨ j = 2 ∨ j = 3 ∨ j = 4 ∨ j = 5 ∨ j = 6 by omega) with rfl | rfl | rfl | rfl | rfl | rfl | rfl <;> rfl) g1 g2 dX1_copy_0 (fun q1 g3 => ?_)
  replace h := h q1 g3 _ rfl
  refine y_dup C rfl dX1_copy_3 ?_
  obtain ⟨kc3, ks4, g1, g2, h⟩ := h
  refine y_callIv C (metX1_init hB h) (cwI 0 C.hts (lw_meth q124) rfl rfl rfl (C.hts _ q87) (C.hts _ q670) (C.hts _ q123) rfl kdX1_init.2 ⟨Nat.le_of_ble_eq_true rfl, Nat.le_of_ble_eq_true rfl⟩) rfl rfl (Nat.le_of_ble_eq_true rfl) dX1_copy_4 g1 g2 (fun M5 hp => ?_)
  replace h := hp
  refine y_astore_n C 1 rfl (by decide) dX1_copy_7 ?_
  refine y_aload_n C 1 rfl rfl dX1_copy_8 ?_
  refine y_aload_n C 0 rfl rfl dX1_copy_9 ?_
  obtain ⟨x6, ⟨fs9, g1, g2⟩, h⟩ := h
  refine y_get (ci := 1) (k := 2) C in_X1 rfl (by decide) q162 (fun _ h => h) g1 g2 dX1_copy_10 ?_
  obtain ⟨fs7, g1, g2, h⟩ := h
  replace h := h _ rfl
  refine y_put (ci := 1) (k := 2) C in_X1 tyX1_ok nmX1 rfl (by decide) q162 (fun _ h => h) rfl g1 g2 rfl rfl rfl dX1_copy_13 ?_
  refine y_aload_n C 1 rfl rfl dX1_copy_16 ?_
  refine y_aload_n C 0 rfl rfl dX1_copy_17 ?_
  obtain ⟨x9, ⟨fs9, g1, g2⟩, h⟩ := h
  refine y_get (ci := 1) (k := 3) C in_X1 rfl (by decide) q164 (fun _ h => h) g1 g2 dX1_copy_18 ?_
  obtain ⟨fs10, g1, g2, h⟩ := h
  replace h := h _ rfl
  refine y_put (ci := 1) (k := 3) C in_X1 tyX1_ok nmX1 rfl (by decide) q164 (fun _ h => h) rfl g1 g2 rfl rfl rfl dX1_copy_21 ?_
  refine y_iconst C 0 dX1_copy_24 lit0 ?_
  refine y_istore_n C 2 rfl (by decide) dX1_copy_25 ?_
  obtain ⟨nf9, h⟩ := h
  refine y_to C _ ?_ (okX1_copy_b26 C hB hr  nf9 _ _ _ _ _ h)
  exact (And.intro rfl (And.intro rfl (And.intro rfl trivial)))

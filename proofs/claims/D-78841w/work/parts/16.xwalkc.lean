set_option maxRecDepth 100000
theorem kdX0_setTolerance : yX0_setTolerance.cls = RX0 ∧ yX0_setTolerance.cls ≠ "java/lang/invoke/MethodHandle" ∧ yX0_setTolerance.cls ≠ "java/lang/invoke/VarHandle" ∧ (parseMethodDescriptor yX0_setTolerance.desc).map (fun d => d.parameters.length) = some 3 := by decide +kernel
def wpX0_setTolerance (M : yM) (z : Nat → Nat) (mc : Nat) (ms : Nat) (o_ : Nat) (a1 : Int32) (a2 : Int32) (a3 : Int32) (post : Int32 → yM → Prop) : Prop := (∃ vs, M o_ = some (yo 0 vs)) ∧ wpX0_isDimension M o_ a1 (fun r1 => ((r1 = 0 → post (-1) M) ∧ (¬ r1 = 0 → wpX0_in M a2 0 20 (fun r2 => ((r2 = 0 → post (-1) M) ∧ (¬ r2 = 0 → wpX0_in M a3 0 20 (fun r3 => ((¬ r3 = 0 → ∃ kc4 ks5 : Nat, kc4 ≤ mc ∧ ks5 ≤ ms ∧ (∃ vs, M o_ = some (yo 0 vs)) ∧ wpX0_begin M z kc4 ks5 o_ (fun r7 M6 => ∃ d8 : Nat, r7 = some d8 ∧ ∃ r9 : Option Nat, yF M6 d8 1 1 (yr r9) ∧ ∃ d10 : Nat, r9 = some d10 ∧ (∃ vs, M6 d10 = some (yo 9 vs)) ∧ wpJ2_get M6 d10 a1 (fun r11 => (∀ v, r11 = some v → ∃ vs, M6 v = some (yo 6 vs)) ∧ ∃ d12 : Nat, r11 = some d12 ∧ ∃ x13 : Int32, yF M6 d12 6 2 (yi x13) ∧ ∃ x14 : Int32, yF M6 d12 6 3 (yi x14) ∧ ∀ x15 : Int32, x15 = ((100 * x13) + x14) → ∃ fs16 : List yV, M6 d12 = some (yo 6 fs16) ∧ 2 < fs16.length ∧ ∀ M17 : yM, M17 = yup M6 d12 (yo 6 (fs16.set 2 (yi a2))) → ∃ fs18 : List yV, M17 d12 = some (yo 6 fs18) ∧ 3 < fs18.length ∧ ∀ M19 : yM, M19 = yup M17 d12 (yo 6 (fs18.set 3 (yi a3))) → post x15 M19))) ∧ (r3 = 0 → post (-1) M)))))))))
theorem metX0_setTolerance {l : Launch} {D : va_G} {s0 : State} {a0 : Array Value} (hB : yB D s0 a0) {M : yM} {mc : Nat} {ms : Nat} {o_ : Nat} {a1 : Int32} {a2 : Int32} {a3 : Int32} {post : Int32 → yM → Prop} (h : wpX0_setTolerance M (yz s0 a0) mc ms o_ a1 a2 a3 post) : yMi l yX0_setTolerance (ws_ yX0_setTolerance cX0_setTolerance 6 (some .int)) 9 255 mc ms D s0 [yr (some o_), yi a1, yi a2, yi a3] M post := by
  refine y_meti hB (by decide) rfl (Nat.le_of_ble_eq_true rfl) ?_
  intro p e s m below meth c A hr hnm C
  rw [wpX0_setTolerance] at h
  refine y_aload_n C 0 rfl rfl dX0_setTolerance_0 ?_
  refine y_iload_n C 1 rfl rfl dX0_setTolerance_1 ?_
  obtain ⟨⟨vs9, g0⟩, h⟩ := h
  refine y_callVi0 C (metX0_isDimension hB h) (cwV 1 C.hts (lw_V q763 q765 qs16 q86 q766) rfl rfl rfl kdX0_isDimension ⟨Nat.le_of_ble_eq_true rfl, Nat.le_of_ble_eq_true rfl⟩) g0 rfl rfl rfl (Nat.le_of_ble_eq_true rfl) dX0_setTolerance_2 (fun r1 M1 hp => ?_)
  clear h
  obtain ⟨rfl, h⟩ := hp
  refine y_if_eq C 28 dX0_setTolerance_5 (by decide) (fun c9 => ?_) (fun c9 => ?_)
  · replace h := h.1 c9
    refine y_iconst C (-1) dX0_setTolerance_28 litm1 ?_
    exact y_ireti C hr rfl rfl h dX0_setTolerance_29
  · replace h := h.2 c9
    refine y_iload_n C 2 rfl rfl dX0_setTolerance_8 ?_
    refine y_iconst C 0 dX0_setTolerance_9 lit0 ?_
    refine y_bipush C 20 dX0_setTolerance_10 y_b20 ?_
    refine y_callSi0 C (metX0_in hB h) (va_cwS 3 C.hts (lw_S q209 q210 q86 q211) rfl rfl rfl kdX0_in.2 ⟨Nat.le_of_ble_eq_true rfl, Nat.le_of_ble_eq_true rfl⟩) rfl rfl (Nat.le_of_ble_eq_true rfl) dX0_setTolerance_12 (fun r2 M1 hp => ?_)
    clear h
    obtain ⟨rfl, h⟩ := hp
    refine y_if_eq C 28 dX0_setTolerance_15 (by decide) (fun c9 => ?_) (fun c9 => ?_)
    · replace h := h.1 c9
      refine y_iconst C (-1) dX0_setTolerance_28 litm1 ?_
      exact y_ireti C hr rfl rfl h dX0_setTolerance_29
    · replace h := h.2 c9
      refine y_iload_n C 3 rfl rfl dX0_setTolerance_18 ?_
      refine y_iconst C 0 dX0_setTolerance_19 lit0 ?_
      refine y_bipush C 20 dX0_setTolerance_20 y_b20 ?_
      refine y_callSi0 C (metX0_in hB h) (va_cwS 3 C.hts (lw_S q209 q210 q86 q211) rfl rfl rfl kdX0_in.2 ⟨Nat.le_of_ble_eq_true rfl, Nat.le_of_ble_eq_true rfl⟩) rfl rfl (Nat.le_of_ble_eq_true rfl) dX0_setTolerance_22 (fun r3 M1 hp => ?_)
      clear h
      obtain ⟨rfl, h⟩ := hp
      refine y_if_ne C 30 dX0_setTolerance_25 (by decide) (fun c9 => ?_) (fun c9 => ?_)
      · replace h := h.1 c9
        refine y_aload_n C 0 rfl rfl dX0_setTolerance_30 ?_
        obtain ⟨kc4, ks5, g1, g2, h⟩ := h
        obtain ⟨⟨vs9, g0⟩, h⟩ := h
        refine y_callVq C (metX0_begin hB h) (cwV 0 C.hts (lw_V q661 q663 qs11 q86 q664) rfl rfl rfl kdX0_begin ⟨Nat.le_of_ble_eq_true rfl, Nat.le_of_ble_eq_true rfl⟩) g0 rfl rfl rfl (Nat.le_of_ble_eq_true rfl) dX0_setTolerance_31 g1 g2 (fun r7 M6 hp => ?_)
        replace h := hp
        obtain ⟨d8, rfl, h⟩ := h
        obtain ⟨r9, ⟨fs9, g1, g2⟩, h⟩ := h
        refine y_getN (ci := 1) (k := 1) C in_X1 rfl (by decide) q160 (fun _ h => h) g1 g2 dX0_setTolerance_34 ?_
        refine y_iload_n C 1 rfl rfl dX0_setTolerance_37 ?_
        obtain ⟨d10, rfl, h⟩ := h
        obtain ⟨⟨vs9, g0⟩, h⟩ := h
        refine y_callVq0 C (metJ2_get hB h) (cwV 1 C.hts (lw_V q729 q571 q572 q90 q573) rfl rfl rfl kdJ2_get ⟨Nat.le_of_ble_eq_true rfl, Nat.le_of_ble_eq_true rfl⟩) g0 rfl rfl rfl (Nat.le_of_ble_eq_true rfl) dX0_setTolerance_38 (fun r11 M1 hp => ?_)
        clear h
        obtain ⟨rfl, h⟩ := hp
        obtain ⟨g1, h⟩ := h
        refine y_ckc (ci := 6) C q730 rfl g1 dX0_setTolerance_41 ?_
        refine y_astore C 4 (by decide) dX0_setTolerance_44 ?_
        refine y_bipush C 100 dX0_setTolerance_46 y_b100 ?_
        refine y_aload C 4 rfl dX0_setTolerance_48 ?_
        obtain ⟨d12, rfl, h⟩ := h
        obtain ⟨x13, ⟨fs9, g1, g2⟩, h⟩ := h
        refine y_getN (ci := 6) (k := 2) C in_X6 rfl (by decide) q599 (fun _ h => h) g1 g2 dX0_setTolerance_50 ?_
        refine y_imul C dX0_setTolerance_53 ?_
        refine y_aload C 4 rfl dX0_setTolerance_54 ?_
        obtain ⟨x14, ⟨fs9, g1, g2⟩, h⟩ := h
        refine y_getN (ci := 6) (k := 3) C in_X6 rfl (by decide) q603 (fun _ h => h) g1 g2 dX0_setTolerance_56 ?_
        refine y_iadd C dX0_setTolerance_59 ?_
        replace h := h _ rfl
        refine y_istore C 5 (by decide) dX0_setTolerance_60 ?_
        refine y_aload C 4 rfl dX0_setTolerance_62 ?_
        refine y_iload_n C 2 rfl rfl dX0_setTolerance_64 ?_
        obtain ⟨fs16, g1, g2, h⟩ := h
        replace h := h _ rfl
        refine y_putN (ci := 6) (k := 2) C in_X6 tyX6_ok nmX6 rfl (by decide) q599 (fun _ h => h) rfl g1 g2 rfl rfl rfl dX0_setTolerance_65 ?_
        refine y_aload C 4 rfl dX0_setTolerance_68 ?_
        refine y_iload_n C 3 rfl rfl dX0_setTolerance_70 ?_
        obtain ⟨fs18, g1, g2, h⟩ := h
        replace h := h _ rfl
        refine y_putN (ci := 6) (k := 3) C in_X6 tyX6_ok nmX6 rfl (by decide) q603 (fun _ h => h) rfl g1 g2 rfl rfl rfl dX0_setTolerance_71 ?_
        refine y_iload C 5 rfl dX0_setTolerance_74 ?_
        exact y_ireti C hr rfl rfl h dX0_setTolerance_76
      · replace h := h.2 c9
        refine y_iconst C (-1) dX0_setTolerance_28 litm1 ?_
        exact y_ireti C hr rfl rfl h dX0_setTolerance_29
theorem kdX0_setChain : yX0_setChain.cls = RX0 ∧ yX0_setChain.cls ≠ "java/lang/invoke/MethodHandle" ∧ yX0_setChain.cls ≠ "java/lang/invoke/VarHandle" ∧ (parseMethodDescriptor yX0_setChain.desc).map (fun d => d.parameters.length) = some 2 := by decide +kernel
def wpX0_setChain (M : yM) (z : Nat → Nat) (mc : Nat) (ms : Nat) (o_ : Nat) (a1 : Int32) (a2 : Int32) (post : Int32 → yM → Prop) : Prop := (∃ vs, M o_ = some (yo 0 vs)) ∧ wpX0_isDimension M o_ a1 (fun r1 => ((r1 = 0 → post (-1) M) ∧ (¬ r1 = 0 → wpX0_in M a2 0 5 (fun r2 => ((¬ r2 = 0 → ∃ kc3 ks4 : Nat, kc3 ≤ mc ∧ ks4 ≤ ms ∧ (∃ vs, M o_ = some (yo 0 vs)) ∧ wpX0_begin M z kc3 ks4 o_ (fun r6 M5 => ∃ d7 : Nat, r6 = some d7 ∧ ∃ r8 : Option Nat, yF M5 d7 1 1 (yr r8) ∧ ∃ d9 : Nat, r8 = some d9 ∧ (∃ vs, M5 d9 = some (yo 9 vs)) ∧ wpJ2_get M5 d9 a1 (fun r10 => (∀ v, r10 = some v → ∃ vs, M5 v = some (yo 6 vs)) ∧ ∃ d11 : Nat, r10 = some d11 ∧ ∃ x12 : Int32, yF M5 d11 6 4 (yi x12) ∧ ∃ fs13 : List yV, M5 d11 = some (yo 6 fs13) ∧ 4 < fs13.length ∧ ∀ M14 : yM, M14 = yup M5 d11 (yo 6 (fs13.set 4 (yi a2))) → post x12 M14))) ∧ (r2 = 0 → post (-1) M))))))
theorem metX0_setChain {l : Launch} {D : va_G} {s0 : State} {a0 : Array Value} (hB : yB D s0 a0) {M : yM} {mc : Nat} {ms : Nat} {o_ : Nat} {a1 : Int32} {a2 : Int32} {post : Int32 → yM → Prop} (h : wpX0_setChain M (yz s0 a0) mc ms o_ a1 a2 post) : yMi l yX0_setChain (ws_ yX0_setChain cX0_setChain 5 (some .int)) 9 255 mc ms D s0 [yr (some o_), yi a1, yi a2] M post := by
  refine y_meti hB (by decide) rfl (Nat.le_of_ble_eq_true rfl) ?_
  intro p e s m below meth c A hr hnm C
  rw [wpX0_setChain] at h
  refine y_aload_n C 0 rfl rfl dX0_setChain_0 ?_
  refine y_iload_n C 1 rfl rfl dX0_setChain_1 ?_
  obtain ⟨⟨vs9, g0⟩, h⟩ := h
  refine y_callVi0 C (metX0_isDimension hB h) (cwV 1 C.hts (lw_V q763 q765 qs16 q86 q766) rfl rfl rfl kdX0_isDimension ⟨Nat.le_of_ble_eq_true rfl, Nat.le_of_ble_eq_true rfl⟩) g0 rfl rfl rfl (Nat.le_of_ble_eq_true rfl) dX0_setChain_2 (fun r1 M1 hp => ?_)
  clear h
  obtain ⟨rfl, h⟩ := hp
  refine y_if_eq C 17 dX0_setChain_5 (by decide) (fun c9 => ?_) (fun c9 => ?_)
  · replace h := h.1 c9
    refine y_iconst C (-1) dX0_setChain_17 litm1 ?_
    exact y_ireti C hr rfl rfl h dX0_setChain_18
  · replace h := h.2 c9
    refine y_iload_n C 2 rfl rfl dX0_setChain_8 ?_
    refine y_iconst C 0 dX0_setChain_9 lit0 ?_
    refine y_iconst C 5 dX0_setChain_10 lit5 ?_
    refine y_callSi0 C (metX0_in hB h) (va_cwS 3 C.hts (lw_S q209 q210 q86 q211) rfl rfl rfl kdX0_in.2 ⟨Nat.le_of_ble_eq_true rfl, Nat.le_of_ble_eq_true rfl⟩) rfl rfl (Nat.le_of_ble_eq_true rfl) dX0_setChain_11 (fun r2 M1 hp => ?_)
    clear h
    obtain ⟨rfl, h⟩ := hp
    refine y_if_ne C 19 dX0_setChain_14 (by decide) (fun c9 => ?_) (fun c9 => ?_)
    · replace h := h.1 c9
      refine y_aload_n C 0 rfl rfl dX0_setChain_19 ?_
      obtain ⟨kc3, ks4, g1, g2, h⟩ := h
      obtain ⟨⟨vs9, g0⟩, h⟩ := h
      refine y_callVq C (metX0_begin hB h) (cwV 0 C.hts (lw_V q661 q663 qs11 q86 q664) rfl rfl rfl kdX0_begin ⟨Nat.le_of_ble_eq_true rfl, Nat.le_of_ble_eq_true rfl⟩) g0 rfl rfl rfl (Nat.le_of_ble_eq_true rfl) dX0_setChain_20 g1 g2 (fun r6 M5 hp => ?_)
      replace h := hp
      obtain ⟨d7, rfl, h⟩ := h
      obtain ⟨r8, ⟨fs9, g1, g2⟩, h⟩ := h
      refine y_getN (ci := 1) (k := 1) C in_X1 rfl (by decide) q160 (fun _ h => h) g1 g2 dX0_setChain_23 ?_
      refine y_iload_n C 1 rfl rfl dX0_setChain_26 ?_
      obtain ⟨d9, rfl, h⟩ := h
      obtain ⟨⟨vs9, g0⟩, h⟩ := h
      refine y_callVq0 C (metJ2_get hB h) (cwV 1 C.hts (lw_V q729 q571 q572 q90 q573) rfl rfl rfl kdJ2_get ⟨Nat.le_of_ble_eq_true rfl, Nat.le_of_ble_eq_true rfl⟩) g0 rfl rfl rfl (Nat.le_of_ble_eq_true rfl) dX0_setChain_27 (fun r10 M1 hp => ?_)
      clear h
      obtain ⟨rfl, h⟩ := hp
      obtain ⟨g1, h⟩ := h
      refine y_ckc (ci := 6) C q730 rfl g1 dX0_setChain_30 ?_
      refine y_astore_n C 3 rfl (by decide) dX0_setChain_33 ?_
      refine y_aload_n C 3 rfl rfl dX0_setChain_34 ?_
      obtain ⟨d11, rfl, h⟩ := h
      obtain ⟨x12, ⟨fs9, g1, g2⟩, h⟩ := h
      refine y_getN (ci := 6) (k := 4) C in_X6 rfl (by decide) q606 (fun _ h => h) g1 g2 dX0_setChain_35 ?_
      refine y_istore C 4 (by decide) dX0_setChain_38 ?_
      refine y_aload_n C 3 rfl rfl dX0_setChain_40 ?_
      refine y_iload_n C 2 rfl rfl dX0_setChain_41 ?_
      obtain ⟨fs13, g1, g2, h⟩ := h
      replace h := h _ rfl
      refine y_putN (ci := 6) (k := 4) C in_X6 tyX6_ok nmX6 rfl (by decide) q606 (fun _ h => h) rfl g1 g2 rfl rfl rfl dX0_setChain_42 ?_
      refine y_iload C 4 rfl dX0_setChain_45 ?_
      exact y_ireti C hr rfl rfl h dX0_setChain_47
    · replace h := h.2 c9
      refine y_iconst C (-1) dX0_setChain_17 litm1 ?_
      exact y_ireti C hr rfl rfl h dX0_setChain_18
theorem kdX0_setLeast : yX0_setLeast.cls = RX0 ∧ yX0_setLeast.cls ≠ "java/lang/invoke/MethodHandle" ∧ yX0_setLeast.cls ≠ "java/lang/invoke/VarHandle" ∧ (parseMethodDescriptor yX0_setLeast.desc).map (fun d => d.parameters.length) = some 2 := by decide +kernel
def wpX0_setLeast (M : yM) (z : Nat → Nat) (mc : Nat) (ms : Nat) (o_ : Nat) (a1 : Int32) (a2 : Int32) (post : Int32 → yM → Prop) : Prop := (∃ vs, M o_ = some (yo 0 vs)) ∧ wpX0_isDimension M o_ a1 (fun r1 => ((r1 = 0 → post (-1) M) ∧ (¬ r1 = 0 → wpX0_in M a2 0 9 (fun r2 => ((¬ r2 = 0 → ∃ kc3 ks4 : Nat, kc3 ≤ mc ∧ ks4 ≤ ms ∧ (∃ vs, M o_ = some (yo 0 vs)) ∧ wpX0_begin M z kc3 ks4 o_ (fun r6 M5 => ∃ d7 : Nat, r6 = some d7 ∧ ∃ r8 : Option Nat, yF M5 d7 1 1 (yr r8) ∧ ∃ d9 : Nat, r8 = some d9 ∧ (∃ vs, M5 d9 = some (yo 9 vs)) ∧ wpJ2_get M5 d9 a1 (fun r10 => (∀ v, r10 = some v → ∃ vs, M5 v = some (yo 6 vs)) ∧ ∃ d11 : Nat, r10 = some d11 ∧ ∃ x12 : Int32, yF M5 d11 6 5 (yi x12) ∧ ∃ fs13 : List yV, M5 d11 = some (yo 6 fs13) ∧ 5 < fs13.length ∧ ∀ M14 : yM, M14 = yup M5 d11 (yo 6 (fs13.set 5 (yi a2))) → post x12 M14))) ∧ (r2 = 0 → post (-1) M))))))
theorem metX0_setLeast {l : Launch} {D : va_G} {s0 : State} {a0 : Array Value} (hB : yB D s0 a0) {M : yM} {mc : Nat} {ms : Nat} {o_ : Nat} {a1 : Int32} {a2 : Int32} {post : Int32 → yM → Prop} (h : wpX0_setLeast M (yz s0 a0) mc ms o_ a1 a2 post) : yMi l yX0_setLeast (ws_ yX0_setLeast cX0_setLeast 5 (some .int)) 9 255 mc ms D s0 [yr (some o_), yi a1, yi a2] M post := by
  refine y_meti hB (by decide) rfl (Nat.le_of_ble_eq_true rfl) ?_
  intro p e s m below meth c A hr hnm C
  rw [wpX0_setLeast] at h
  refine y_aload_n C 0 rfl rfl dX0_setLeast_0 ?_
  refine y_iload_n C 1 rfl rfl dX0_setLeast_1 ?_
  obtain ⟨⟨vs9, g0⟩, h⟩ := h
  refine y_callVi0 C (metX0_isDimension hB h) (cwV 1 C.hts (lw_V q763 q765 qs16 q86 q766) rfl rfl rfl kdX0_isDimension ⟨Nat.le_of_ble_eq_true rfl, Nat.le_of_ble_eq_true rfl⟩) g0 rfl rfl rfl (Nat.le_of_ble_eq_true rfl) dX0_setLeast_2 (fun r1 M1 hp => ?_)
  clear h
  obtain ⟨rfl, h⟩ := hp
  refine y_if_eq C 18 dX0_setLeast_5 (by decide) (fun c9 => ?_) (fun c9 => ?_)
  · replace h := h.1 c9
    refine y_iconst C (-1) dX0_setLeast_18 litm1 ?_
    exact y_ireti C hr rfl rfl h dX0_setLeast_19
  · replace h := h.2 c9
    refine y_iload_n C 2 rfl rfl dX0_setLeast_8 ?_
    refine y_iconst C 0 dX0_setLeast_9 lit0 ?_
    refine y_bipush C 9 dX0_setLeast_10 y_b9 ?_
    refine y_callSi0 C (metX0_in hB h) (va_cwS 3 C.hts (lw_S q209 q210 q86 q211) rfl rfl rfl kdX0_in.2 ⟨Nat.le_of_ble_eq_true rfl, Nat.le_of_ble_eq_true rfl⟩) rfl rfl (Nat.le_of_ble_eq_true rfl) dX0_setLeast_12 (fun r2 M1 hp => ?_)
    clear h
    obtain ⟨rfl, h⟩ := hp
    refine y_if_ne C 20 dX0_setLeast_15 (by decide) (fun c9 => ?_) (fun c9 => ?_)
    · replace h := h.1 c9
      refine y_aload_n C 0 rfl rfl dX0_setLeast_20 ?_
      obtain ⟨kc3, ks4, g1, g2, h⟩ := h
      obtain ⟨⟨vs9, g0⟩, h⟩ := h
      refine y_callVq C (metX0_begin hB h) (cwV 0 C.hts (lw_V q661 q663 qs11 q86 q664) rfl rfl rfl kdX0_begin ⟨Nat.le_of_ble_eq_true rfl, Nat.le_of_ble_eq_true rfl⟩) g0 rfl rfl rfl (Nat.le_of_ble_eq_true rfl) dX0_setLeast_21 g1 g2 (fun r6 M5 hp => ?_)
      replace h := hp
      obtain ⟨d7, rfl, h⟩ := h
      obtain ⟨r8, ⟨fs9, g1, g2⟩, h⟩ := h
      refine y_getN (ci := 1) (k := 1) C in_X1 rfl (by decide) q160 (fun _ h => h) g1 g2 dX0_setLeast_24 ?_
      refine y_iload_n C 1 rfl rfl dX0_setLeast_27 ?_
      obtain ⟨d9, rfl, h⟩ := h
      obtain ⟨⟨vs9, g0⟩, h⟩ := h
      refine y_callVq0 C (metJ2_get hB h) (cwV 1 C.hts (lw_V q729 q571 q572 q90 q573) rfl rfl rfl kdJ2_get ⟨Nat.le_of_ble_eq_true rfl, Nat.le_of_ble_eq_true rfl⟩) g0 rfl rfl rfl (Nat.le_of_ble_eq_true rfl) dX0_setLeast_28 (fun r10 M1 hp => ?_)
      clear h
      obtain ⟨rfl, h⟩ := hp
      obtain ⟨g1, h⟩ := h
      refine y_ckc (ci := 6) C q730 rfl g1 dX0_setLeast_31 ?_
      refine y_astore_n C 3 rfl (by decide) dX0_setLeast_34 ?_
      refine y_aload_n C 3 rfl rfl dX0_setLeast_35 ?_
      obtain ⟨d11, rfl, h⟩ := h
      obtain ⟨x12, ⟨fs9, g1, g2⟩, h⟩ := h
      refine y_getN (ci := 6) (k := 5) C in_X6 rfl (by decide) q609 (fun _ h => h) g1 g2 dX0_setLeast_36 ?_
      refine y_istore C 4 (by decide) dX0_setLeast_39 ?_
      refine y_aload_n C 3 rfl rfl dX0_setLeast_41 ?_
      refine y_iload_n C 2 rfl rfl dX0_setLeast_42 ?_
      obtain ⟨fs13, g1, g2, h⟩ := h
      replace h := h _ rfl
      refine y_putN (ci := 6) (k := 5) C in_X6 tyX6_ok nmX6 rfl (by decide) q609 (fun _ h => h) rfl g1 g2 rfl rfl rfl dX0_setLeast_43 ?_
      refine y_iload C 4 rfl dX0_setLeast_46 ?_
      exact y_ireti C hr rfl rfl h dX0_setLeast_48
    · replace h := h.2 c9
      refine y_iconst C (-1) dX0_setLeast_18 litm1 ?_
      exact y_ireti C hr rfl rfl h dX0_setLeast_19
theorem kdX0_setLetter : yX0_setLetter.cls = RX0 ∧ yX0_setLetter.cls ≠ "java/lang/invoke/MethodHandle" ∧ yX0_setLetter.cls ≠ "java/lang/invoke/VarHandle" ∧ (parseMethodDescriptor yX0_setLetter.desc).map (fun d => d.parameters.length) = some 1 := by decide +kernel
def wpX0_setLetter (M : yM) (z : Nat → Nat) (mc : Nat) (ms : Nat) (o_ : Nat) (a1 : Int32) (post : Int32 → yM → Prop) : Prop := wpX0_in M a1 1 9 (fun r1 => ((¬ r1 = 0 → ∃ r2 : Option Nat, yF M o_ 0 0 (yr r2) ∧ ∃ d3 : Nat, r2 = some d3 ∧ ∃ x4 : Int32, yF M d3 1 2 (yi x4) ∧ ∃ kc5 ks6 : Nat, kc5 ≤ mc ∧ ks6 ≤ ms ∧ (∃ vs, M o_ = some (yo 0 vs)) ∧ wpX0_begin M z kc5 ks6 o_ (fun r8 M7 => ∃ d9 : Nat, r8 = some d9 ∧ ∃ fs10 : List yV, M7 d9 = some (yo 1 fs10) ∧ 2 < fs10.length ∧ ∀ M11 : yM, M11 = yup M7 d9 (yo 1 (fs10.set 2 (yi a1))) → post x4 M11)) ∧ (r1 = 0 → post (-1) M)))
theorem metX0_setLetter {l : Launch} {D : va_G} {s0 : State} {a0 : Array Value} (hB : yB D s0 a0) {M : yM} {mc : Nat} {ms : Nat} {o_ : Nat} {a1 : Int32} {post : Int32 → yM → Prop} (h : wpX0_setLetter M (yz s0 a0) mc ms o_ a1 post) : yMi l yX0_setLetter (ws_ yX0_setLetter cX0_setLetter 3 (some .int)) 9 255 mc ms D s0 [yr (some o_), yi a1] M post := by
  refine y_meti hB (by decide) rfl (Nat.le_of_ble_eq_true rfl) ?_
  intro p e s m below meth c A hr hnm C
  rw [wpX0_setLetter] at h
  refine y_iload_n C 1 rfl rfl dX0_setLetter_0 ?_
  refine y_iconst C 1 dX0_setLetter_1 lit1 ?_
  refine y_bipush C 9 dX0_setLetter_2 y_b9 ?_
  refine y_callSi0 C (metX0_in hB h) (va_cwS 3 C.hts (lw_S q209 q210 q86 q211) rfl rfl rfl kdX0_in.2 ⟨Nat.le_of_ble_eq_true rfl, Nat.le_of_ble_eq_true rfl⟩) rfl rfl (Nat.le_of_ble_eq_true rfl) dX0_setLetter_4 (fun r1 M1 hp => ?_)
  clear h
  obtain ⟨rfl, h⟩ := hp
  refine y_if_ne C 12 dX0_setLetter_7 (by decide) (fun c9 => ?_) (fun c9 => ?_)
  · replace h := h.1 c9
    refine y_aload_n C 0 rfl rfl dX0_setLetter_12 ?_
    obtain ⟨r2, ⟨fs9, g1, g2⟩, h⟩ := h
    refine y_get (ci := 0) (k := 0) C in_X0 rfl (by decide) q185 (fun _ h => h) g1 g2 dX0_setLetter_13 ?_
    obtain ⟨d3, rfl, h⟩ := h
    obtain ⟨x4, ⟨fs9, g1, g2⟩, h⟩ := h
    refine y_getN (ci := 1) (k := 2) C in_X1 rfl (by decide) q163 (fun _ h => h) g1 g2 dX0_setLetter_16 ?_
    refine y_istore_n C 2 rfl (by decide) dX0_setLetter_19 ?_
    refine y_aload_n C 0 rfl rfl dX0_setLetter_20 ?_
    obtain ⟨kc5, ks6, g1, g2, h⟩ := h
    obtain ⟨⟨vs9, g0⟩, h⟩ := h
    refine y_callVq C (metX0_begin hB h) (cwV 0 C.hts (lw_V q661 q663 qs11 q86 q664) rfl rfl rfl kdX0_begin ⟨Nat.le_of_ble_eq_true rfl, Nat.le_of_ble_eq_true rfl⟩) g0 rfl rfl rfl (Nat.le_of_ble_eq_true rfl) dX0_setLetter_21 g1 g2 (fun r8 M7 hp => ?_)
    replace h := hp
    refine y_iload_n C 1 rfl rfl dX0_setLetter_24 ?_
    obtain ⟨d9, rfl, h⟩ := h
    obtain ⟨fs10, g1, g2, h⟩ := h
    replace h := h _ rfl
    refine y_putN (ci := 1) (k := 2) C in_X1 tyX1_ok nmX1 rfl (by decide) q163 (fun _ h => h) rfl g1 g2 rfl rfl rfl dX0_setLetter_25 ?_
    refine y_iload_n C 2 rfl rfl dX0_setLetter_28 ?_
    exact y_ireti C hr rfl rfl h dX0_setLetter_29
  · replace h := h.2 c9
    refine y_iconst C (-1) dX0_setLetter_10 litm1 ?_
    exact y_ireti C hr rfl rfl h dX0_setLetter_11
theorem kdX0_setArrow : yX0_setArrow.cls = RX0 ∧ yX0_setArrow.cls ≠ "java/lang/invoke/MethodHandle" ∧ yX0_setArrow.cls ≠ "java/lang/invoke/VarHandle" ∧ (parseMethodDescriptor yX0_setArrow.desc).map (fun d => d.parameters.length) = some 1 := by decide +kernel
def wpX0_setArrow (M : yM) (z : Nat → Nat) (mc : Nat) (ms : Nat) (o_ : Nat) (a1 : Int32) (post : Int32 → yM → Prop) : Prop := wpX0_in M a1 1 9 (fun r1 => ((¬ r1 = 0 → ∃ r2 : Option Nat, yF M o_ 0 0 (yr r2) ∧ ∃ d3 : Nat, r2 = some d3 ∧ ∃ x4 : Int32, yF M d3 1 3 (yi x4) ∧ ∃ kc5 ks6 : Nat, kc5 ≤ mc ∧ ks6 ≤ ms ∧ (∃ vs, M o_ = some (yo 0 vs)) ∧ wpX0_begin M z kc5 ks6 o_ (fun r8 M7 => ∃ d9 : Nat, r8 = some d9 ∧ ∃ fs10 : List yV, M7 d9 = some (yo 1 fs10) ∧ 3 < fs10.length ∧ ∀ M11 : yM, M11 = yup M7 d9 (yo 1 (fs10.set 3 (yi a1))) → post x4 M11)) ∧ (r1 = 0 → post (-1) M)))
theorem metX0_setArrow {l : Launch} {D : va_G} {s0 : State} {a0 : Array Value} (hB : yB D s0 a0) {M : yM} {mc : Nat} {ms : Nat} {o_ : Nat} {a1 : Int32} {post : Int32 → yM → Prop} (h : wpX0_setArrow M (yz s0 a0) mc ms o_ a1 post) : yMi l yX0_setArrow (ws_ yX0_setArrow cX0_setArrow 3 (some .int)) 9 255 mc ms D s0 [yr (some o_), yi a1] M post := by
  refine y_meti hB (by decide) rfl (Nat.le_of_ble_eq_true rfl) ?_
  intro p e s m below meth c A hr hnm C
  rw [wpX0_setArrow] at h
  refine y_iload_n C 1 rfl rfl dX0_setArrow_0 ?_
  refine y_iconst C 1 dX0_setArrow_1 lit1 ?_
  refine y_bipush C 9 dX0_setArrow_2 y_b9 ?_
  refine y_callSi0 C (metX0_in hB h) (va_cwS 3 C.hts (lw_S q209 q210 q86 q211) rfl rfl rfl kdX0_in.2 ⟨Nat.le_of_ble_eq_true rfl, Nat.le_of_ble_eq_true rfl⟩) rfl rfl (Nat.le_of_ble_eq_true rfl) dX0_setArrow_4 (fun r1 M1 hp => ?_)
  clear h
  obtain ⟨rfl, h⟩ := hp
  refine y_if_ne C 12 dX0_setArrow_7 (by decide) (fun c9 => ?_) (fun c9 => ?_)
  · replace h := h.1 c9
    refine y_aload_n C 0 rfl rfl dX0_setArrow_12 ?_
    obtain ⟨r2, ⟨fs9, g1, g2⟩, h⟩ := h
    refine y_get (ci := 0) (k := 0) C in_X0 rfl (by decide) q185 (fun _ h => h) g1 g2 dX0_setArrow_13 ?_
    obtain ⟨d3, rfl, h⟩ := h
    obtain ⟨x4, ⟨fs9, g1, g2⟩, h⟩ := h
    refine y_getN (ci := 1) (k := 3) C in_X1 rfl (by decide) q165 (fun _ h => h) g1 g2 dX0_setArrow_16 ?_
    refine y_istore_n C 2 rfl (by decide) dX0_setArrow_19 ?_
    refine y_aload_n C 0 rfl rfl dX0_setArrow_20 ?_
    obtain ⟨kc5, ks6, g1, g2, h⟩ := h
    obtain ⟨⟨vs9, g0⟩, h⟩ := h
    refine y_callVq C (metX0_begin hB h) (cwV 0 C.hts (lw_V q661 q663 qs11 q86 q664) rfl rfl rfl kdX0_begin ⟨Nat.le_of_ble_eq_true rfl, Nat.le_of_ble_eq_true rfl⟩) g0 rfl rfl rfl (Nat.le_of_ble_eq_true rfl) dX0_setArrow_21 g1 g2 (fun r8 M7 hp => ?_)
    replace h := hp
    refine y_iload_n C 1 rfl rfl dX0_setArrow_24 ?_
    obtain ⟨d9, rfl, h⟩ := h
    obtain ⟨fs10, g1, g2, h⟩ := h
    replace h := h _ rfl
    refine y_putN (ci := 1) (k := 3) C in_X1 tyX1_ok nmX1 rfl (by decide) q165 (fun _ h => h) rfl g1 g2 rfl rfl rfl dX0_setArrow_25 ?_
    refine y_iload_n C 2 rfl rfl dX0_setArrow_28 ?_
    exact y_ireti C hr rfl rfl h dX0_setArrow_29
  · replace h := h.2 c9
    refine y_iconst C (-1) dX0_setArrow_10 litm1 ?_
    exact y_ireti C hr rfl rfl h dX0_setArrow_11
theorem kdX6_digits : yX6_digits.cls = RX6 ∧ yX6_digits.cls ≠ "java/lang/invoke/MethodHandle" ∧ yX6_digits.cls ≠ "java/lang/invoke/VarHandle" ∧ (parseMethodDescriptor yX6_digits.desc).map (fun d => d.parameters.length) = some 1 := by decide +kernel
def wpX6_digits (M : yM) (a1 : Int32) (post : Int32 → Prop) : Prop := ((a1 ≤ 99 → ((a1 ≤ 9 → post 1) ∧ (¬ a1 ≤ 9 → post 2))) ∧ (¬ a1 ≤ 99 → post 3))
theorem metX6_digits {l : Launch} {D : va_G} {s0 : State} {a0 : Array Value} (hB : yB D s0 a0) {M : yM} {a1 : Int32} {post : Int32 → Prop} (h : wpX6_digits M a1 post) : yMi l yX6_digits (ws_ yX6_digits cX6_digits 1 (some .int)) 1 80 0 0 D s0 [yi a1] M (fun r M1 => M1 = M ∧ post r) := by
  refine y_meti hB (by decide) rfl (Nat.le_of_ble_eq_true rfl) ?_
  intro p e s m below meth c A hr hnm C
  rw [wpX6_digits] at h
  refine y_iload_n C 0 rfl rfl dX6_digits_0 ?_
  refine y_bipush C 99 dX6_digits_1 y_b99 ?_
  refine y_icmp_le C 10 dX6_digits_3 (by decide) (fun c9 => ?_) (fun c9 => ?_)
  · replace h := h.1 c9
    refine y_iload_n C 0 rfl rfl dX6_digits_10 ?_
    refine y_bipush C 9 dX6_digits_11 y_b9 ?_
    refine y_icmp_le C 20 dX6_digits_13 (by decide) (fun c9 => ?_) (fun c9 => ?_)
    · replace h := h.1 c9
      refine y_iconst C 1 dX6_digits_20 lit1 ?_
      exact y_ireti C hr rfl rfl ⟨rfl, h⟩ dX6_digits_21
    · replace h := h.2 c9
      refine y_iconst C 2 dX6_digits_16 lit2 ?_
      refine y_goto C 21 dX6_digits_17 (by decide) ?_
      exact y_ireti C hr rfl rfl ⟨rfl, h⟩ dX6_digits_21
  · replace h := h.2 c9
    refine y_iconst C 3 dX6_digits_6 lit3 ?_
    refine y_goto C 21 dX6_digits_7 (by decide) ?_
    exact y_ireti C hr rfl rfl ⟨rfl, h⟩ dX6_digits_21
theorem kdX6_fit : yX6_fit.cls = RX6 ∧ yX6_fit.cls ≠ "java/lang/invoke/MethodHandle" ∧ yX6_fit.cls ≠ "java/lang/invoke/VarHandle" ∧ (parseMethodDescriptor yX6_fit.desc).map (fun d => d.parameters.length) = some 2 := by decide +kernel
section sX6_fit
variable {p : Program} {l : Launch} {e : Env} {s : State} {m : MethodId} {args : Array Value} {below : List Frame} {meth : Method} {c : Code} {D : va_G} {s0 : State} {a0 : Array Value} {A : Nat → Prop}
def wpX6_fit_b101 (o_ : Nat) (post : yM → Prop) (M : yM) (u1 : Int32) (u2 : Int32) : Prop := ∃ fs19 : List yV, M o_ = some (yo 6 fs19) ∧ 8 < fs19.length ∧ ∀ M20 : yM, M20 = yup M o_ (yo 6 (fs19.set 8 (yi (u1 + u2)))) → post M20
theorem okX6_fit_b101 (C : yC p { frames := 2, cells := 0, slots := 0, locals := 100 } s m args meth c cX6_fit 4 RX6 D s0 a0 A) (hB : yB D s0 a0) (hr : meth.sig.returnType = none) {o_ : Nat} {post : yM → Prop}  : ∀ (M : yM) (u1 : Int32) (u2 : Int32), wpX6_fit_b101 o_ post M u1 u2 → Y p l e { frames := 2, cells := 0, slots := 0, locals := 100 } s m args below meth c (MQ below (yQv D s0 A post) args s 0 0 A) D s0 A 4 M 0 0 [none, none, none, none] 101 [yi u2, yi u1, yr (some o_)] := by
  intro M u1 u2 h
  rw [wpX6_fit_b101] at h
  refine y_iadd C dX6_fit_101 ?_
  obtain ⟨fs19, g1, g2, h⟩ := h
  replace h := h _ rfl
  refine y_put (ci := 6) (k := 8) C in_X6 tyX6_ok nmX6 rfl (by decide) q614 (fun _ h => h) rfl g1 g2 rfl rfl rfl dX6_fit_102 ?_
  exact y_vret C hr rfl rfl h dX6_fit_105
def wpX6_fit_b87 (o_ : Nat) (post : yM → Prop) (M : yM) (v3 : Int32) (u1 : Int32) (u2 : Int32) : Prop := ∃ x18 : Int32, yF M o_ 6 6 (yi x18) ∧ ((¬ x18 = 2 → wpX6_fit_b101 o_ post M (u1 + u2) 0) ∧ (x18 = 2 → wpX6_fit_b101 o_ post M (u1 + u2) v3))
theorem okX6_fit_b87 (C : yC p { frames := 2, cells := 0, slots := 0, locals := 100 } s m args meth c cX6_fit 4 RX6 D s0 a0 A) (hB : yB D s0 a0) (hr : meth.sig.returnType = none) {o_ : Nat} {post : yM → Prop}  : ∀ (M : yM) (v3 : Int32) (u1 : Int32) (u2 : Int32), wpX6_fit_b87 o_ post M v3 u1 u2 → Y p l e { frames := 2, cells := 0, slots := 0, locals := 100 } s m args below meth c (MQ below (yQv D s0 A post) args s 0 0 A) D s0 A 4 M 0 0 [some (yr (some o_)), none, none, some (yi v3)] 87 [yi u2, yi u1, yr (some o_)] := by
  intro M v3 u1 u2 h
  rw [wpX6_fit_b87] at h
  refine y_iadd C dX6_fit_87 ?_
  refine y_aload_n C 0 rfl rfl dX6_fit_88 ?_
  obtain ⟨x18, ⟨fs9, g1, g2⟩, h⟩ := h
  refine y_get (ci := 6) (k := 6) C in_X6 rfl (by decide) q610 (fun _ h => h) g1 g2 dX6_fit_89 ?_
  refine y_iconst C 2 dX6_fit_92 lit2 ?_
  refine y_icmp_ne C 100 dX6_fit_93 (by decide) (fun c9 => ?_) (fun c9 => ?_)
  · replace h := h.1 c9
    refine y_iconst C 0 dX6_fit_100 lit0 ?_
    refine y_to C _ ?_ (okX6_fit_b101 C hB hr  _ _ _ h)
    exact trivial
  · replace h := h.2 c9
    refine y_iload_n C 3 rfl rfl dX6_fit_96 ?_
    refine y_goto C 101 dX6_fit_97 (by decide) ?_
    refine y_to C _ ?_ (okX6_fit_b101 C hB hr  _ _ _ h)
    exact trivial
def wpX6_fit_b63 (o_ : Nat) (post : yM → Prop) (M : yM) (v2 : Int32) (v3 : Int32) (u1 : Int32) (u2 : Int32) : Prop := ∃ fs12 : List yV, M o_ = some (yo 6 fs12) ∧ 7 < fs12.length ∧ ∀ M13 : yM, M13 = yup M o_ (yo 6 (fs12.set 7 (yi (u1 - u2)))) → ∃ r14 : Option Nat, yF M13 o_ 6 1 (yr r14) ∧ ∃ d15 : Nat, r14 = some d15 ∧ ∃ x16 : Int32, yF M13 d15 5 0 (yi x16) ∧ ∃ x17 : Int32, yF M13 o_ 6 6 (yi x17) ∧ ((¬ x17 = 0 → wpX6_fit_b87 o_ post M13 v3 x16 v2) ∧ (x17 = 0 → wpX6_fit_b87 o_ post M13 v3 x16 0))
theorem okX6_fit_b63 (C : yC p { frames := 2, cells := 0, slots := 0, locals := 100 } s m args meth c cX6_fit 4 RX6 D s0 a0 A) (hB : yB D s0 a0) (hr : meth.sig.returnType = none) {o_ : Nat} {post : yM → Prop}  : ∀ (M : yM) (v2 : Int32) (v3 : Int32) (u1 : Int32) (u2 : Int32), wpX6_fit_b63 o_ post M v2 v3 u1 u2 → Y p l e { frames := 2, cells := 0, slots := 0, locals := 100 } s m args below meth c (MQ below (yQv D s0 A post) args s 0 0 A) D s0 A 4 M 0 0 [some (yr (some o_)), none, some (yi v2), some (yi v3)] 63 [yi u2, yi u1, yr (some o_)] := by
  intro M v2 v3 u1 u2 h
  rw [wpX6_fit_b63] at h
  refine y_isub C dX6_fit_63 ?_
  obtain ⟨fs12, g1, g2, h⟩ := h
  replace h := h _ rfl
  refine y_put (ci := 6) (k := 7) C in_X6 tyX6_ok nmX6 rfl (by decide) q612 (fun _ h => h) rfl g1 g2 rfl rfl rfl dX6_fit_64 ?_
  refine y_aload_n C 0 rfl rfl dX6_fit_67 ?_
  refine y_aload_n C 0 rfl rfl dX6_fit_68 ?_
  obtain ⟨r14, ⟨fs9, g1, g2⟩, h⟩ := h
  refine y_get (ci := 6) (k := 1) C in_X6 rfl (by decide) q591 (fun _ h => h) g1 g2 dX6_fit_69 ?_
  obtain ⟨d15, rfl, h⟩ := h
  obtain ⟨x16, ⟨fs9, g1, g2⟩, h⟩ := h
  refine y_getN (ci := 5) (k := 0) C in_X5 rfl (by decide) q513 (fun _ h => h) g1 g2 dX6_fit_72 ?_
  refine y_aload_n C 0 rfl rfl dX6_fit_75 ?_
  obtain ⟨x17, ⟨fs9, g1, g2⟩, h⟩ := h
  refine y_get (ci := 6) (k := 6) C in_X6 rfl (by decide) q610 (fun _ h => h) g1 g2 dX6_fit_76 ?_
  refine y_if_ne C 86 dX6_fit_79 (by decide) (fun c9 => ?_) (fun c9 => ?_)
  · replace h := h.1 c9
    refine y_iload_n C 2 rfl rfl dX6_fit_86 ?_
    refine y_to C _ ?_ (okX6_fit_b87 C hB hr  _ _ _ _ h)
    exact (And.intro rfl (And.intro rfl trivial))
  · replace h := h.2 c9
    refine y_iconst C 0 dX6_fit_82 lit0 ?_
    refine y_goto C 87 dX6_fit_83 (by decide) ?_
    refine y_to C _ ?_ (okX6_fit_b87 C hB hr  _ _ _ _ h)
    exact (And.intro rfl (And.intro rfl trivial))
def wpX6_fit_b40 (o_ : Nat) (post : yM → Prop) (M : yM) (v2 : Int32) (v3 : Int32) (u1 : Int32) : Prop := ∃ fs6 : List yV, M o_ = some (yo 6 fs6) ∧ 6 < fs6.length ∧ ∀ M7 : yM, M7 = yup M o_ (yo 6 (fs6.set 6 (yi u1))) → ∃ r8 : Option Nat, yF M7 o_ 6 0 (yr r8) ∧ ∃ d9 : Nat, r8 = some d9 ∧ ∃ x10 : Int32, yF M7 d9 5 0 (yi x10) ∧ ∃ x11 : Int32, yF M7 o_ 6 6 (yi x11) ∧ ((¬ x11 = 0 → wpX6_fit_b63 o_ post M7 v2 v3 x10 v2) ∧ (x11 = 0 → wpX6_fit_b63 o_ post M7 v2 v3 x10 0))
theorem okX6_fit_b40 (C : yC p { frames := 2, cells := 0, slots := 0, locals := 100 } s m args meth c cX6_fit 4 RX6 D s0 a0 A) (hB : yB D s0 a0) (hr : meth.sig.returnType = none) {o_ : Nat} {post : yM → Prop}  : ∀ (M : yM) (v2 : Int32) (v3 : Int32) (u1 : Int32), wpX6_fit_b40 o_ post M v2 v3 u1 → Y p l e { frames := 2, cells := 0, slots := 0, locals := 100 } s m args below meth c (MQ below (yQv D s0 A post) args s 0 0 A) D s0 A 4 M 0 0 [some (yr (some o_)), none, some (yi v2), some (yi v3)] 40 [yi u1, yr (some o_)] := by
  intro M v2 v3 u1 h
  rw [wpX6_fit_b40] at h
  obtain ⟨fs6, g1, g2, h⟩ := h
  replace h := h _ rfl
  refine y_put (ci := 6) (k := 6) C in_X6 tyX6_ok nmX6 rfl (by decide) q610 (fun _ h => h) rfl g1 g2 rfl rfl rfl dX6_fit_40 ?_
  refine y_aload_n C 0 rfl rfl dX6_fit_43 ?_
  refine y_aload_n C 0 rfl rfl dX6_fit_44 ?_
  obtain ⟨r8, ⟨fs9, g1, g2⟩, h⟩ := h
  refine y_get (ci := 6) (k := 0) C in_X6 rfl (by decide) q586 (fun _ h => h) g1 g2 dX6_fit_45 ?_
  obtain ⟨d9, rfl, h⟩ := h
  obtain ⟨x10, ⟨fs9, g1, g2⟩, h⟩ := h
  refine y_getN (ci := 5) (k := 0) C in_X5 rfl (by decide) q513 (fun _ h => h) g1 g2 dX6_fit_48 ?_
  refine y_aload_n C 0 rfl rfl dX6_fit_51 ?_
  obtain ⟨x11, ⟨fs9, g1, g2⟩, h⟩ := h
  refine y_get (ci := 6) (k := 6) C in_X6 rfl (by decide) q610 (fun _ h => h) g1 g2 dX6_fit_52 ?_
  refine y_if_ne C 62 dX6_fit_55 (by decide) (fun c9 => ?_) (fun c9 => ?_)
  · replace h := h.1 c9
    refine y_iload_n C 2 rfl rfl dX6_fit_62 ?_
    refine y_to C _ ?_ (okX6_fit_b63 C hB hr  _ _ _ _ _ h)
    exact (And.intro rfl (And.intro rfl (And.intro rfl trivial)))
  · replace h := h.2 c9
    refine y_iconst C 0 dX6_fit_58 lit0 ?_
    refine y_goto C 63 dX6_fit_59 (by decide) ?_
    refine y_to C _ ?_ (okX6_fit_b63 C hB hr  _ _ _ _ _ h)
    exact (And.intro rfl (And.intro rfl (And.intro rfl trivial)))
end sX6_fit
def wpX6_fit (M : yM) (o_ : Nat) (a1 : Int32) (a2 : Int32) (post : yM → Prop) : Prop := (∃ vs, M o_ = some (yo 6 vs)) ∧ wpX6_value M o_ (fun r1 => wpX6_digits M r1 (fun r2 => ∀ x3 : Int32, x3 = (a1 * r2) → (∃ vs, M o_ = some (yo 6 vs)) ∧ wpX6_value M o_ (fun r4 => ((r4 < (x3 + (2 * a2)) → (∃ vs, M o_ = some (yo 6 vs)) ∧ wpX6_value M o_ (fun r5 => ((r5 < x3 → wpX6_fit_b40 o_ post M a2 x3 2) ∧ (¬ r5 < x3 → wpX6_fit_b40 o_ post M a2 x3 1)))) ∧ (¬ r4 < (x3 + (2 * a2)) → wpX6_fit_b40 o_ post M a2 x3 0)))))
theorem metX6_fit {l : Launch} {D : va_G} {s0 : State} {a0 : Array Value} (hB : yB D s0 a0) {M : yM} {o_ : Nat} {a1 : Int32} {a2 : Int32} {post : yM → Prop} (h : wpX6_fit M o_ a1 a2 post) : yMv l yX6_fit (ws_ yX6_fit cX6_fit 4 none) 2 100 0 0 D s0 [yr (some o_), yi a1, yi a2] M post := by
  refine y_metv hB (by decide) rfl (Nat.le_of_ble_eq_true rfl) ?_
  intro p e s m below meth c A hr hnm C
  rw [wpX6_fit] at h
  refine y_iload_n C 1 rfl rfl dX6_fit_0 ?_
  refine y_aload_n C 0 rfl rfl dX6_fit_1 ?_
  obtain ⟨⟨vs9, g0⟩, h⟩ := h
  refine y_callVi0 C (metX6_value hB h) (cwV 0 C.hts (lw_V q809 q732 q733 q107 q734) rfl rfl rfl kdX6_value ⟨Nat.le_of_ble_eq_true rfl, Nat.le_of_ble_eq_true rfl⟩) g0 rfl rfl rfl (Nat.le_of_ble_eq_true rfl) dX6_fit_2 (fun r1 M1 hp => ?_)
  clear h
  obtain ⟨rfl, h⟩ := hp
  refine y_callSi0 C (metX6_digits hB h) (va_cwS 1 C.hts (lw_S q810 q811 q107 q812) rfl rfl rfl kdX6_digits.2 ⟨Nat.le_of_ble_eq_true rfl, Nat.le_of_ble_eq_true rfl⟩) rfl rfl (Nat.le_of_ble_eq_true rfl) dX6_fit_5 (fun r2 M1 hp => ?_)
  clear h
  obtain ⟨rfl, h⟩ := hp
  refine y_imul C dX6_fit_8 ?_
  replace h := h _ rfl
  refine y_istore_n C 3 rfl (by decide) dX6_fit_9 ?_
  refine y_aload_n C 0 rfl rfl dX6_fit_10 ?_
  refine y_aload_n C 0 rfl rfl dX6_fit_11 ?_
  obtain ⟨⟨vs9, g0⟩, h⟩ := h
  refine y_callVi0 C (metX6_value hB h) (cwV 0 C.hts (lw_V q809 q732 q733 q107 q734) rfl rfl rfl kdX6_value ⟨Nat.le_of_ble_eq_true rfl, Nat.le_of_ble_eq_true rfl⟩) g0 rfl rfl rfl (Nat.le_of_ble_eq_true rfl) dX6_fit_12 (fun r4 M1 hp => ?_)
  clear h
  obtain ⟨rfl, h⟩ := hp
  refine y_iload_n C 3 rfl rfl dX6_fit_15 ?_
  refine y_iconst C 2 dX6_fit_16 lit2 ?_
  refine y_iload_n C 2 rfl rfl dX6_fit_17 ?_
  refine y_imul C dX6_fit_18 ?_
  refine y_iadd C dX6_fit_19 ?_
  refine y_icmp_lt C 27 dX6_fit_20 (by decide) (fun c9 => ?_) (fun c9 => ?_)
  · replace h := h.1 c9
    refine y_aload_n C 0 rfl rfl dX6_fit_27 ?_
    obtain ⟨⟨vs9, g0⟩, h⟩ := h
    refine y_callVi0 C (metX6_value hB h) (cwV 0 C.hts (lw_V q809 q732 q733 q107 q734) rfl rfl rfl kdX6_value ⟨Nat.le_of_ble_eq_true rfl, Nat.le_of_ble_eq_true rfl⟩) g0 rfl rfl rfl (Nat.le_of_ble_eq_true rfl) dX6_fit_28 (fun r5 M1 hp => ?_)
    clear h
    obtain ⟨rfl, h⟩ := hp
    refine y_iload_n C 3 rfl rfl dX6_fit_31 ?_
    refine y_icmp_lt C 39 dX6_fit_32 (by decide) (fun c9 => ?_) (fun c9 => ?_)
    · replace h := h.1 c9
      refine y_iconst C 2 dX6_fit_39 lit2 ?_
      refine y_to C _ ?_ (okX6_fit_b40 C hB hr  _ _ _ _ h)
      exact (And.intro rfl (And.intro rfl (And.intro rfl trivial)))
    · replace h := h.2 c9
      refine y_iconst C 1 dX6_fit_35 lit1 ?_
      refine y_goto C 40 dX6_fit_36 (by decide) ?_
      refine y_to C _ ?_ (okX6_fit_b40 C hB hr  _ _ _ _ h)
      exact (And.intro rfl (And.intro rfl (And.intro rfl trivial)))
  · replace h := h.2 c9
    refine y_iconst C 0 dX6_fit_23 lit0 ?_
    refine y_goto C 40 dX6_fit_24 (by decide) ?_
    refine y_to C _ ?_ (okX6_fit_b40 C hB hr  _ _ _ _ h)
    exact (And.intro rfl (And.intro rfl (And.intro rfl trivial)))
theorem kdX7_init : yX7_init.cls = RX7 ∧ yX7_init.cls ≠ "java/lang/invoke/MethodHandle" ∧ yX7_init.cls ≠ "java/lang/invoke/VarHandle" ∧ (parseMethodDescriptor yX7_init.desc).map (fun d => d.parameters.length) = some 0 := by decide +kernel
def wpX7_init (M : yM) (z : Nat → Nat) (mc : Nat) (ms : Nat) (o_ : Nat) (post : yM → Prop) : Prop := 1 ≤ mc ∧ 3 ≤ ms ∧ ∀ q1 : Nat, M q1 = none → ∀ M2 : yM, M2 = yup M q1 (yo 9 [yi 0, yr none, yi 0]) → wpJ2_init M2 z q1 (fun M3 => ∃ fs4 : List yV, M3 o_ = some (yo 7 fs4) ∧ 0 < fs4.length ∧ ∀ M5 : yM, M5 = yup M3 o_ (yo 7 (fs4.set 0 (yr (some q1)))) → ∃ fs6 : List yV, M5 o_ = some (yo 7 fs6) ∧ 2 < fs6.length ∧ ∀ M7 : yM, M7 = yup M5 o_ (yo 7 (fs6.set 2 (yi 300))) → ∃ fs8 : List yV, M7 o_ = some (yo 7 fs8) ∧ 4 < fs8.length ∧ ∀ M9 : yM, M9 = yup M7 o_ (yo 7 (fs8.set 4 (yi (-999)))) → post M9)
theorem metX7_init {l : Launch} {D : va_G} {s0 : State} {a0 : Array Value} (hB : yB D s0 a0) {M : yM} {mc : Nat} {ms : Nat} {o_ : Nat} {post : yM → Prop} (h : wpX7_init M (yz s0 a0) mc ms o_ post) : yMv l yX7_init (ws_ yX7_init cX7_init 1 none) 4 140 mc ms D s0 [yr (some o_)] M post := by
  refine y_metv hB (by decide) rfl (Nat.le_of_ble_eq_true rfl) ?_
  intro p e s m below meth c A hr hnm C
  have hin2 : meth.name = "<init>" := hnm
  rw [wpX7_init] at h
  refine y_aload_n C 0 rfl rfl dX7_init_0 ?_
  refine y_objInit C q817 q118 q119 (Nat.le_of_ble_eq_true rfl) (Nat.le_of_ble_eq_true rfl) (Nat.le_of_ble_eq_true rfl) dX7_init_1 ?_
  refine y_aload_n C 0 rfl rfl dX7_init_4 ?_
  obtain ⟨g1, g2, h⟩ := h
  refine y_new (ci := 9) C in_J2 tyJ2_ok rfl q818 q127 q90 [yi 0, yr none, yi 0] (fun j hj => by rcases (show j = 0 ∨ j = 1 ∨ j = 2 by omega) with rfl | rfl | rfl <;> rfl) g1 g2 dX7_init_5 (fun q1 g3 => ?_)
  replace h := h q1 g3 _ rfl
  refine y_dup C rfl dX7_init_8 ?_
  refine y_callIv0 C (metJ2_init hB h) (cwI 0 C.hts (lw_meth q130) rfl rfl rfl (C.hts _ q90) (C.hts _ q819) (C.hts _ q129) rfl kdJ2_init.2 ⟨Nat.le_of_ble_eq_true rfl, Nat.le_of_ble_eq_true rfl⟩) rfl rfl (Nat.le_of_ble_eq_true rfl) dX7_init_9 (fun M3 hp => ?_)
  replace h := hp
  obtain ⟨fs4, g1, g2, h⟩ := h
  replace h := h _ rfl
  refine y_putF (ci := 7) (k := 0) C in_X7 tyX7_ok nmX7 rfl (by decide) q820 (fun _ h => h) rfl hin2 rfl g1 g2 rfl rfl rfl dX7_init_12 ?_
  refine y_aload_n C 0 rfl rfl dX7_init_15 ?_
  refine y_sipush C 300 dX7_init_16 y_s300 ?_
  obtain ⟨fs6, g1, g2, h⟩ := h
  replace h := h _ rfl
  refine y_put (ci := 7) (k := 2) C in_X7 tyX7_ok nmX7 rfl (by decide) q824 (fun _ h => h) rfl g1 g2 rfl rfl rfl dX7_init_19 ?_
  refine y_aload_n C 0 rfl rfl dX7_init_22 ?_
  refine y_sipush C (-999) dX7_init_23 y_sm999 ?_
  obtain ⟨fs8, g1, g2, h⟩ := h
  replace h := h _ rfl
  refine y_put (ci := 7) (k := 4) C in_X7 tyX7_ok nmX7 rfl (by decide) q830 (fun _ h => h) rfl g1 g2 rfl rfl rfl dX7_init_26 ?_
  exact y_vret C hr rfl rfl h dX7_init_29
theorem kdX7_add : yX7_add.cls = RX7 ∧ yX7_add.cls ≠ "java/lang/invoke/MethodHandle" ∧ yX7_add.cls ≠ "java/lang/invoke/VarHandle" ∧ (parseMethodDescriptor yX7_add.desc).map (fun d => d.parameters.length) = some 1 := by decide +kernel
def wpX7_add (M : yM) (z : Nat → Nat) (mc : Nat) (ms : Nat) (o_ : Nat) (a1 : Option Nat) (post : yM → Prop) : Prop := ∃ r1 : Option Nat, yF M o_ 7 0 (yr r1) ∧ ∃ d2 : Nat, r1 = some d2 ∧ ∃ kc3 ks4 : Nat, kc3 ≤ mc ∧ ks4 ≤ ms ∧ (∃ vs, M d2 = some (yo 9 vs)) ∧ wpJ2_add M z kc3 ks4 d2 a1 (fun r6 M5 => ∃ x7 : Int32, yF M5 o_ 7 1 (yi x7) ∧ ∃ d8 : Nat, a1 = some d8 ∧ ∃ x9 : Int32, yF M5 d8 6 5 (yi x9) ∧ ∃ fs10 : List yV, M5 o_ = some (yo 7 fs10) ∧ 1 < fs10.length ∧ ∀ M11 : yM, M11 = yup M5 o_ (yo 7 (fs10.set 1 (yi (if x7 < x9 then x9 else x7)))) → ∃ x12 : Int32, yF M11 o_ 7 2 (yi x12) ∧ ∃ r13 : Option Nat, yF M11 d8 6 0 (yr r13) ∧ ∃ d14 : Nat, r13 = some d14 ∧ ∃ x15 : Int32, yF M11 d14 5 0 (yi x15) ∧ ∃ fs16 : List yV, M11 o_ = some (yo 7 fs16) ∧ 2 < fs16.length ∧ ∀ M17 : yM, M17 = yup M11 o_ (yo 7 (fs16.set 2 (yi (if x15 < x12 then x15 else x12)))) → ∃ x18 : Int32, yF M17 o_ 7 3 (yi x18) ∧ ∃ r19 : Option Nat, yF M17 d8 6 1 (yr r19) ∧ ∃ d20 : Nat, r19 = some d20 ∧ ∃ x21 : Int32, yF M17 d20 5 0 (yi x21) ∧ ∃ fs22 : List yV, M17 o_ = some (yo 7 fs22) ∧ 3 < fs22.length ∧ ∀ M23 : yM, M23 = yup M17 o_ (yo 7 (fs22.set 3 (yi (if x18 < x21 then x21 else x18)))) → post M23)
theorem metX7_add {l : Launch} {D : va_G} {s0 : State} {a0 : Array Value} (hB : yB D s0 a0) {M : yM} {mc : Nat} {ms : Nat} {o_ : Nat} {a1 : Option Nat} {post : yM → Prop} (h : wpX7_add M (yz s0 a0) mc ms o_ a1 post) : yMv l yX7_add (ws_ yX7_add cX7_add 2 none) 7 211 mc ms D s0 [yr (some o_), yr a1] M post := by
  refine y_metv hB (by decide) rfl (Nat.le_of_ble_eq_true rfl) ?_
  intro p e s m below meth c A hr hnm C
  rw [wpX7_add] at h
  refine y_aload_n C 0 rfl rfl dX7_add_0 ?_
  obtain ⟨r1, ⟨fs9, g1, g2⟩, h⟩ := h
  refine y_get (ci := 7) (k := 0) C in_X7 rfl (by decide) q820 (fun _ h => h) g1 g2 dX7_add_1 ?_
  refine y_aload_n C 1 rfl rfl dX7_add_4 ?_
  obtain ⟨d2, rfl, h⟩ := h
  obtain ⟨kc3, ks4, g1, g2, h⟩ := h
  obtain ⟨⟨vs9, g0⟩, h⟩ := h
  refine y_callVi C (metJ2_add hB h) (cwV 1 C.hts (lw_V q847 q521 q522 q90 q523) rfl rfl rfl kdJ2_add ⟨Nat.le_of_ble_eq_true rfl, Nat.le_of_ble_eq_true rfl⟩) g0 rfl rfl rfl (Nat.le_of_ble_eq_true rfl) dX7_add_5 g1 g2 (fun r6 M5 hp => ?_)
  replace h := hp
  refine y_pop C rfl dX7_add_8 ?_
  refine y_aload_n C 0 rfl rfl dX7_add_9 ?_
  refine y_aload_n C 0 rfl rfl dX7_add_10 ?_
  obtain ⟨x7, ⟨fs9, g1, g2⟩, h⟩ := h
  refine y_get (ci := 7) (k := 1) C in_X7 rfl (by decide) q822 (fun _ h => h) g1 g2 dX7_add_11 ?_
  refine y_aload_n C 1 rfl rfl dX7_add_14 ?_
  obtain ⟨d8, rfl, h⟩ := h
  obtain ⟨x9, ⟨fs9, g1, g2⟩, h⟩ := h
  refine y_getN (ci := 6) (k := 5) C in_X6 rfl (by decide) q607 (fun _ h => h) g1 g2 dX7_add_15 ?_
  refine y_mmax C q848 q278 q99 q279 (Nat.le_of_ble_eq_true rfl) (Nat.le_of_ble_eq_true rfl) (Nat.le_of_ble_eq_true rfl) dX7_add_18 ?_
  obtain ⟨fs10, g1, g2, h⟩ := h
  replace h := h _ rfl
  refine y_put (ci := 7) (k := 1) C in_X7 tyX7_ok nmX7 rfl (by decide) q822 (fun _ h => h) rfl g1 g2 rfl rfl rfl dX7_add_21 ?_
  refine y_aload_n C 0 rfl rfl dX7_add_24 ?_
  refine y_aload_n C 0 rfl rfl dX7_add_25 ?_
  obtain ⟨x12, ⟨fs9, g1, g2⟩, h⟩ := h
  refine y_get (ci := 7) (k := 2) C in_X7 rfl (by decide) q824 (fun _ h => h) g1 g2 dX7_add_26 ?_
  refine y_aload_n C 1 rfl rfl dX7_add_29 ?_
  obtain ⟨r13, ⟨fs9, g1, g2⟩, h⟩ := h
  refine y_getN (ci := 6) (k := 0) C in_X6 rfl (by decide) q588 (fun _ h => h) g1 g2 dX7_add_30 ?_
  obtain ⟨d14, rfl, h⟩ := h
  obtain ⟨x15, ⟨fs9, g1, g2⟩, h⟩ := h
  refine y_getN (ci := 5) (k := 0) C in_X5 rfl (by decide) q514 (fun _ h => h) g1 g2 dX7_add_33 ?_
  refine y_mmin C q849 q296 q99 q297 (Nat.le_of_ble_eq_true rfl) (Nat.le_of_ble_eq_true rfl) (Nat.le_of_ble_eq_true rfl) dX7_add_36 ?_
  obtain ⟨fs16, g1, g2, h⟩ := h
  replace h := h _ rfl
  refine y_put (ci := 7) (k := 2) C in_X7 tyX7_ok nmX7 rfl (by decide) q824 (fun _ h => h) rfl g1 g2 rfl rfl rfl dX7_add_39 ?_
  refine y_aload_n C 0 rfl rfl dX7_add_42 ?_
  refine y_aload_n C 0 rfl rfl dX7_add_43 ?_
  obtain ⟨x18, ⟨fs9, g1, g2⟩, h⟩ := h
  refine y_get (ci := 7) (k := 3) C in_X7 rfl (by decide) q827 (fun _ h => h) g1 g2 dX7_add_44 ?_
  refine y_aload_n C 1 rfl rfl dX7_add_47 ?_
  obtain ⟨r19, ⟨fs9, g1, g2⟩, h⟩ := h
  refine y_getN (ci := 6) (k := 1) C in_X6 rfl (by decide) q593 (fun _ h => h) g1 g2 dX7_add_48 ?_
  obtain ⟨d20, rfl, h⟩ := h
  obtain ⟨x21, ⟨fs9, g1, g2⟩, h⟩ := h
  refine y_getN (ci := 5) (k := 0) C in_X5 rfl (by decide) q514 (fun _ h => h) g1 g2 dX7_add_51 ?_
  refine y_mmax C q848 q278 q99 q279 (Nat.le_of_ble_eq_true rfl) (Nat.le_of_ble_eq_true rfl) (Nat.le_of_ble_eq_true rfl) dX7_add_54 ?_
  obtain ⟨fs22, g1, g2, h⟩ := h
  replace h := h _ rfl
  refine y_put (ci := 7) (k := 3) C in_X7 tyX7_ok nmX7 rfl (by decide) q827 (fun _ h => h) rfl g1 g2 rfl rfl rfl dX7_add_57 ?_
  exact y_vret C hr rfl rfl h dX7_add_60
theorem kdX1_gathered : yX1_gathered.cls = RX1 ∧ yX1_gathered.cls ≠ "java/lang/invoke/MethodHandle" ∧ yX1_gathered.cls ≠ "java/lang/invoke/VarHandle" ∧ (parseMethodDescriptor yX1_gathered.desc).map (fun d => d.parameters.length) = some 0 := by decide +kernel
section sX1_gathered
variable {p : Program} {l : Launch} {e : Env} {s : State} {m : MethodId} {args : Array Value} {below : List Frame} {meth : Method} {c : Code} {D : va_G} {s0 : State} {a0 : Array Value} {A : Nat → Prop} {mc ms : Nat}
def wpX1_gathered_b95 (z : Nat → Nat) (o_ : Nat) (post : Option Nat → yM → Prop) (k16 : yM → Nat → Nat → Option Nat → Option Nat → Int32 → Prop) (M : yM) (rc : Nat) (rs : Nat) (v1 : Option Nat) (v2 : Option Nat) (v3 : Int32) (v4 : Option Nat) (v5 : Option Nat) : Prop := ∃ d23 : Nat, v4 = some d23 ∧ ∃ x24 : Int32, yF M d23 6 4 (yi x24) ∧ ∃ d25 : Nat, v2 = some d25 ∧ ∃ (E28 : String) (n26 : Nat) (f27 : Nat → Option Nat), M d25 = some (yaq E28 n26 f27) ∧ vp_in x24 n26 ∧ (∀ v, v5 = some v → ∃ ci vs, M v = some (yo ci vs) ∧ yAsg E28 ci) ∧ ∀ M29 : yM, M29 = yup M d25 (yaq E28 n26 (va_up f27 (Int32.toNatClampNeg x24) v5)) → ∃ d30 : Nat, v5 = some d30 ∧ ∃ kc31 ks32 : Nat, kc31 ≤ rc ∧ ks32 ≤ rs ∧ (∃ vs, M29 d30 = some (yo 7 vs)) ∧ wpX7_add M29 z kc31 ks32 d30 (some d23) (fun M33 => ∀ x34 : Int32, x34 = v3 + 1 → k16 M33 (rc - kc31) (rs - ks32) v1 (some d25) x34)
theorem okX1_gathered_b95 (C : yC p { frames := 8, cells := mc, slots := ms, locals := 232 } s m args meth c cX1_gathered 6 RX1 D s0 a0 A) (hB : yB D s0 a0) (hr : meth.sig.returnType = (some (.object "java/util/ArrayList"))) {o_ : Nat} {post : Option Nat → yM → Prop} {k16 : yM → Nat → Nat → Option Nat → Option Nat → Int32 → Prop} (hk16 : ∀ (M : yM) (rc : Nat) (rs : Nat) (v1 : Option Nat) (v2 : Option Nat) (v3 : Int32), k16 M rc rs v1 v2 v3 → Y p l e { frames := 8, cells := mc, slots := ms, locals := 232 } s m args below meth c (MQ below (yQq D s0 A post) args s mc ms A) D s0 A 6 M rc rs [some (yr (some o_)), some (yr v1), some (yr v2), some (yi v3), none, none] 16 []) : ∀ (M : yM) (rc : Nat) (rs : Nat) (v1 : Option Nat) (v2 : Option Nat) (v3 : Int32) (v4 : Option Nat) (v5 : Option Nat), wpX1_gathered_b95 (yz s0 a0) o_ post k16 M rc rs v1 v2 v3 v4 v5 → Y p l e { frames := 8, cells := mc, slots := ms, locals := 232 } s m args below meth c (MQ below (yQq D s0 A post) args s mc ms A) D s0 A 6 M rc rs [some (yr (some o_)), some (yr v1), some (yr v2), some (yi v3), some (yr v4), some (yr v5)] 95 [] := by
  intro M rc rs v1 v2 v3 v4 v5 h
  rw [wpX1_gathered_b95] at h
  refine y_aload_n C 2 rfl rfl dX1_gathered_95 ?_
  refine y_aload C 4 rfl dX1_gathered_96 ?_
  obtain ⟨d23, rfl, h⟩ := h
  obtain ⟨x24, ⟨fs9, g1, g2⟩, h⟩ := h
  refine y_getN (ci := 6) (k := 4) C in_X6 rfl (by decide) q604 (fun _ h => h) g1 g2 dX1_gathered_98 ?_
  refine y_aload C 5 rfl dX1_gathered_101 ?_
  obtain ⟨d25, rfl, h⟩ := h
  obtain ⟨E28, n26, f27, g1, g2, g3, h⟩ := h
  replace h := h _ rfl
  refine y_aast C g1 g2 g3 rfl dX1_gathered_103 ?_
  refine y_aload C 5 rfl dX1_gathered_104 ?_
  refine y_aload C 4 rfl dX1_gathered_106 ?_
  obtain ⟨d30, rfl, h⟩ := h
  obtain ⟨kc31, ks32, g1, g2, h⟩ := h
  obtain ⟨⟨vs9, g0⟩, h⟩ := h
  refine y_callVv C (metX7_add hB h) (cwV 1 C.hts (lw_V q843 q844 q845 q109 q846) rfl rfl rfl kdX7_add ⟨Nat.le_of_ble_eq_true rfl, Nat.le_of_ble_eq_true rfl⟩) g0 rfl rfl rfl (Nat.le_of_ble_eq_true rfl) dX1_gathered_108 g1 g2 (fun M33 hp => ?_)
  replace h := hp
  replace h := h _ rfl
  refine y_iinc C 3 _ rfl (y_inc1 _) (by decide) dX1_gathered_111 ?_
  refine y_goto C 16 dX1_gathered_114 (by decide) ?_
  refine y_to C _ ?_ (hk16 _ _ _ _ _ _ h)
  exact (And.intro rfl (And.intro rfl (And.intro rfl (And.intro rfl trivial))))
def wpX1_gathered_b72 (z : Nat → Nat) (o_ : Nat) (post : Option Nat → yM → Prop) (k16 : yM → Nat → Nat → Option Nat → Option Nat → Int32 → Prop) (M : yM) (rc : Nat) (rs : Nat) (v1 : Option Nat) (v2 : Option Nat) (v3 : Int32) (v4 : Option Nat) (u0 : Option Nat) : Prop := ((¬ u0 = none → wpX1_gathered_b95 z o_ post k16 M rc rs v1 v2 v3 v4 u0) ∧ (u0 = none → 1 ≤ rc ∧ 5 ≤ rs ∧ ∀ q35 : Nat, M q35 = none → ∀ M36 : yM, M36 = yup M q35 (yo 7 [yr none, yi 0, yi 0, yi 0, yi 0]) → ∃ kc37 ks38 : Nat, kc37 ≤ (rc - 1) ∧ ks38 ≤ (rs - 5) ∧ wpX7_init M36 z kc37 ks38 q35 (fun M39 => ∃ d40 : Nat, v1 = some d40 ∧ ∃ kc41 ks42 : Nat, kc41 ≤ ((rc - 1) - kc37) ∧ ks42 ≤ ((rs - 5) - ks38) ∧ (∃ vs, M39 d40 = some (yo 9 vs)) ∧ wpJ2_add M39 z kc41 ks42 d40 (some q35) (fun r44 M43 => wpX1_gathered_b95 z o_ post k16 M43 (((rc - 1) - kc37) - kc41) (((rs - 5) - ks38) - ks42) (some d40) v2 v3 v4 (some q35)))))
theorem okX1_gathered_b72 (C : yC p { frames := 8, cells := mc, slots := ms, locals := 232 } s m args meth c cX1_gathered 6 RX1 D s0 a0 A) (hB : yB D s0 a0) (hr : meth.sig.returnType = (some (.object "java/util/ArrayList"))) {o_ : Nat} {post : Option Nat → yM → Prop} {k16 : yM → Nat → Nat → Option Nat → Option Nat → Int32 → Prop} (hk16 : ∀ (M : yM) (rc : Nat) (rs : Nat) (v1 : Option Nat) (v2 : Option Nat) (v3 : Int32), k16 M rc rs v1 v2 v3 → Y p l e { frames := 8, cells := mc, slots := ms, locals := 232 } s m args below meth c (MQ below (yQq D s0 A post) args s mc ms A) D s0 A 6 M rc rs [some (yr (some o_)), some (yr v1), some (yr v2), some (yi v3), none, none] 16 []) : ∀ (M : yM) (rc : Nat) (rs : Nat) (v1 : Option Nat) (v2 : Option Nat) (v3 : Int32) (v4 : Option Nat) (u0 : Option Nat), wpX1_gathered_b72 (yz s0 a0) o_ post k16 M rc rs v1 v2 v3 v4 u0 → Y p l e { frames := 8, cells := mc, slots := ms, locals := 232 } s m args below meth c (MQ below (yQq D s0 A post) args s mc ms A) D s0 A 6 M rc rs [some (yr (some o_)), some (yr v1), some (yr v2), some (yi v3), some (yr v4), none] 72 [yr u0] := by
  intro M rc rs v1 v2 v3 v4 u0 h
  rw [wpX1_gathered_b72] at h
  refine y_astore C 5 (by decide) dX1_gathered_72 ?_
  refine y_aload C 5 rfl dX1_gathered_74 ?_
  refine y_ifnonnull C 95 dX1_gathered_76 (by decide) (fun c9 => ?_) (fun c9 => ?_)
  · replace h := h.1 c9
    refine y_to C _ ?_ (okX1_gathered_b95 C hB hr hk16 _ _ _ _ _ _ _ _ h)
    exact (And.intro rfl (And.intro rfl (And.intro rfl (And.intro rfl (And.intro rfl (And.intro rfl trivial))))))
  · replace h := h.2 c9
    obtain ⟨g1, g2, h⟩ := h
    refine y_new (ci := 7) C in_X7 tyX7_ok rfl q803 q813 q109 [yr none, yi 0, yi 0, yi 0, yi 0] (fun j hj => by rcases (show j = 0 ∨ j = 1 ∨ j = 2 ∨ j = 3 ∨ j = 4 by omega) with rfl | rfl | rfl | rfl | rfl <;> rfl) g1 g2 dX1_gathered_79 (fun q35 g3 => ?_)
    replace h := h q35 g3 _ rfl
    refine y_dup C rfl dX1_gathered_82 ?_
    obtain ⟨kc37, ks38, g1, g2, h⟩ := h
    refine y_callINv C (metX7_init hB h) ⟨va_cnB 0 C.hts (lw_meth q816) rfl rfl rfl (C.nestM q814) (C.hts _ q109) kdX7_init.2 ⟨Nat.le_of_ble_eq_true rfl, Nat.le_of_ble_eq_true rfl⟩, rfl, C.hts _ q815⟩ rfl rfl (Nat.le_of_ble_eq_true rfl) dX1_gathered_83 g1 g2 (fun M39 hp => ?_)
    replace h := hp
    refine y_astore C 5 (by decide) dX1_gathered_86 ?_
    refine y_aload_n C 1 rfl rfl dX1_gathered_88 ?_
    refine y_aload C 5 rfl dX1_gathered_89 ?_
    obtain ⟨d40, rfl, h⟩ := h
    obtain ⟨kc41, ks42, g1, g2, h⟩ := h
    obtain ⟨⟨vs9, g0⟩, h⟩ := h
    refine y_callVi C (metJ2_add hB h) (cwV 1 C.hts (lw_V q672 q521 q522 q90 q523) rfl rfl rfl kdJ2_add ⟨Nat.le_of_ble_eq_true rfl, Nat.le_of_ble_eq_true rfl⟩) g0 rfl rfl rfl (Nat.le_of_ble_eq_true rfl) dX1_gathered_91 g1 g2 (fun r44 M43 hp => ?_)
    replace h := hp
    refine y_pop C rfl dX1_gathered_94 ?_
    refine y_to C _ ?_ (okX1_gathered_b95 C hB hr hk16 _ _ _ _ _ _ _ _ h)
    exact (And.intro rfl (And.intro rfl (And.intro rfl (And.intro rfl (And.intro rfl (And.intro rfl trivial))))))
def wpX1_gathered_b16 (z : Nat → Nat) (o_ : Nat) (post : Option Nat → yM → Prop) : Nat → yM → Nat → Nat → Option Nat → Option Nat → Int32 → Prop
  | 0, _, _, _, _, _, _ => False
  | nn + 1, M, rc, rs, v1, v2, v3 => ∃ r6 : Option Nat, yF M o_ 1 1 (yr r6) ∧ ∃ d7 : Nat, r6 = some d7 ∧ (∃ vs, M d7 = some (yo 9 vs)) ∧ wpJ2_size M d7 (fun r8 => ((r8 ≤ v3 → post v1 M) ∧ (¬ r8 ≤ v3 → ∃ r9 : Option Nat, yF M o_ 1 1 (yr r9) ∧ ∃ d10 : Nat, r9 = some d10 ∧ (∃ vs, M d10 = some (yo 9 vs)) ∧ wpJ2_get M d10 v3 (fun r11 => (∀ v, r11 = some v → ∃ vs, M v = some (yo 6 vs)) ∧ ∃ x12 : Int32, yF M o_ 1 2 (yi x12) ∧ ∃ x13 : Int32, yF M o_ 1 3 (yi x13) ∧ ∃ d14 : Nat, r11 = some d14 ∧ (∃ vs, M d14 = some (yo 6 vs)) ∧ wpX6_fit M d14 x12 x13 (fun M15 => ∃ x16 : Int32, yF M15 d14 6 4 (yi x16) ∧ ((¬ x16 = 0 → ∃ x17 : Int32, yF M15 d14 6 4 (yi x17) ∧ ∃ d18 : Nat, v2 = some d18 ∧ ∃ (E21 : String) (n19 : Nat) (f20 : Nat → Option Nat), M15 d18 = some (yaq E21 n19 f20) ∧ vp_in x17 n19 ∧ ∃ r22 : Option Nat, f20 (Int32.toNatClampNeg x17) = r22 ∧ wpX1_gathered_b72 z o_ post (fun M rc rs v1 v2 v3 => wpX1_gathered_b16 z o_ post nn M rc rs v1 v2 v3) M15 rc rs v1 (some d18) v3 (some d14) r22) ∧ (x16 = 0 → wpX1_gathered_b72 z o_ post (fun M rc rs v1 v2 v3 => wpX1_gathered_b16 z o_ post nn M rc rs v1 v2 v3) M15 rc rs v1 v2 v3 (some d14) none)))))))
theorem okX1_gathered_b16 (C : yC p { frames := 8, cells := mc, slots := ms, locals := 232 } s m args meth c cX1_gathered 6 RX1 D s0 a0 A) (hB : yB D s0 a0) (hr : meth.sig.returnType = (some (.object "java/util/ArrayList"))) {o_ : Nat} {post : Option Nat → yM → Prop}  : ∀ (nn : Nat) (M : yM) (rc : Nat) (rs : Nat) (v1 : Option Nat) (v2 : Option Nat) (v3 : Int32), wpX1_gathered_b16 (yz s0 a0) o_ post nn M rc rs v1 v2 v3 → Y p l e { frames := 8, cells := mc, slots := ms, locals := 232 } s m args below meth c (MQ below (yQq D s0 A post) args s mc ms A) D s0 A 6 M rc rs [some (yr (some o_)), some (yr v1), some (yr v2), some (yi v3), none, none] 16 [] := by
  intro nn
  induction nn with
  | zero => intro M rc rs v1 v2 v3 h; exact absurd h (by rw [wpX1_gathered_b16]; exact id)
  | succ nn ih =>
    intro M rc rs v1 v2 v3 h
    rw [wpX1_gathered_b16] at h
    refine y_iload_n C 3 rfl rfl dX1_gathered_16 ?_
    refine y_aload_n C 0 rfl rfl dX1_gathered_17 ?_
    obtain ⟨r6, ⟨fs9, g1, g2⟩, h⟩ := h
    refine y_get (ci := 1) (k := 1) C in_X1 rfl (by decide) q158 (fun _ h => h) g1 g2 dX1_gathered_18 ?_
    obtain ⟨d7, rfl, h⟩ := h
    obtain ⟨⟨vs9, g0⟩, h⟩ := h
    refine y_callVi0 C (metJ2_size hB h) (cwV 0 C.hts (lw_V q658 q494 q495 q90 q496) rfl rfl rfl kdJ2_size ⟨Nat.le_of_ble_eq_true rfl, Nat.le_of_ble_eq_true rfl⟩) g0 rfl rfl rfl (Nat.le_of_ble_eq_true rfl) dX1_gathered_21 (fun r8 M1 hp => ?_)
    clear h
    obtain ⟨rfl, h⟩ := hp
    refine y_icmp_ge C 117 dX1_gathered_24 (by decide) (fun c9 => ?_) (fun c9 => ?_)
    · replace h := h.1 c9
      refine y_aload_n C 1 rfl rfl dX1_gathered_117 ?_
      exact y_aretq C hr (Or.inl ⟨_, rfl⟩) rfl rfl h dX1_gathered_118
    · replace h := h.2 c9
      refine y_aload_n C 0 rfl rfl dX1_gathered_27 ?_
      obtain ⟨r9, ⟨fs9, g1, g2⟩, h⟩ := h
      refine y_get (ci := 1) (k := 1) C in_X1 rfl (by decide) q158 (fun _ h => h) g1 g2 dX1_gathered_28 ?_
      refine y_iload_n C 3 rfl rfl dX1_gathered_31 ?_
      obtain ⟨d10, rfl, h⟩ := h
      obtain ⟨⟨vs9, g0⟩, h⟩ := h
      refine y_callVq0 C (metJ2_get hB h) (cwV 1 C.hts (lw_V q659 q571 q572 q90 q573) rfl rfl rfl kdJ2_get ⟨Nat.le_of_ble_eq_true rfl, Nat.le_of_ble_eq_true rfl⟩) g0 rfl rfl rfl (Nat.le_of_ble_eq_true rfl) dX1_gathered_32 (fun r11 M1 hp => ?_)
      clear h
      obtain ⟨rfl, h⟩ := hp
      obtain ⟨g1, h⟩ := h
      refine y_ckc (ci := 6) C q673 rfl g1 dX1_gathered_35 ?_
      refine y_astore C 4 (by decide) dX1_gathered_38 ?_
      refine y_aload C 4 rfl dX1_gathered_40 ?_
      refine y_aload_n C 0 rfl rfl dX1_gathered_42 ?_
      obtain ⟨x12, ⟨fs9, g1, g2⟩, h⟩ := h
      refine y_get (ci := 1) (k := 2) C in_X1 rfl (by decide) q162 (fun _ h => h) g1 g2 dX1_gathered_43 ?_
      refine y_aload_n C 0 rfl rfl dX1_gathered_46 ?_
      obtain ⟨x13, ⟨fs9, g1, g2⟩, h⟩ := h
      refine y_get (ci := 1) (k := 3) C in_X1 rfl (by decide) q164 (fun _ h => h) g1 g2 dX1_gathered_47 ?_
      obtain ⟨d14, rfl, h⟩ := h
      obtain ⟨⟨vs9, g0⟩, h⟩ := h
      refine y_callVv0 C (metX6_fit hB h) (cwV 2 C.hts (lw_V q805 q806 q807 q107 q808) rfl rfl rfl kdX6_fit ⟨Nat.le_of_ble_eq_true rfl, Nat.le_of_ble_eq_true rfl⟩) g0 rfl rfl rfl (Nat.le_of_ble_eq_true rfl) dX1_gathered_50 (fun M15 hp => ?_)
      replace h := hp
      refine y_aload C 4 rfl dX1_gathered_53 ?_
      obtain ⟨x16, ⟨fs9, g1, g2⟩, h⟩ := h
      refine y_getN (ci := 6) (k := 4) C in_X6 rfl (by decide) q604 (fun _ h => h) g1 g2 dX1_gathered_55 ?_
      refine y_if_ne C 65 dX1_gathered_58 (by decide) (fun c9 => ?_) (fun c9 => ?_)
      · replace h := h.1 c9
        refine y_aload_n C 2 rfl rfl dX1_gathered_65 ?_
        refine y_aload C 4 rfl dX1_gathered_66 ?_
        obtain ⟨x17, ⟨fs9, g1, g2⟩, h⟩ := h
        refine y_getN (ci := 6) (k := 4) C in_X6 rfl (by decide) q604 (fun _ h => h) g1 g2 dX1_gathered_68 ?_
        obtain ⟨d18, rfl, h⟩ := h
        obtain ⟨E21, n19, f20, g1, g2, r22, g3, h⟩ := h
        refine y_aald2 C g1 g2 g3 dX1_gathered_71 ?_
        refine y_to C _ ?_ (okX1_gathered_b72 C hB hr ih _ _ _ _ _ _ _ _ h)
        exact (And.intro rfl (And.intro rfl (And.intro rfl (And.intro rfl (And.intro rfl trivial)))))
      · replace h := h.2 c9
        refine y_null C dX1_gathered_61 ?_
        refine y_goto C 72 dX1_gathered_62 (by decide) ?_
        refine y_to C _ ?_ (okX1_gathered_b72 C hB hr ih _ _ _ _ _ _ _ _ h)
        exact (And.intro rfl (And.intro rfl (And.intro rfl (And.intro rfl (And.intro rfl trivial)))))
end sX1_gathered
def wpX1_gathered (M : yM) (z : Nat → Nat) (mc : Nat) (ms : Nat) (o_ : Nat) (post : Option Nat → yM → Prop) : Prop := 1 ≤ mc ∧ 3 ≤ ms ∧ ∀ q1 : Nat, M q1 = none → ∀ M2 : yM, M2 = yup M q1 (yo 9 [yi 0, yr none, yi 0]) → wpJ2_init M2 z q1 (fun M3 => ¬ (6 : Int32) < 0 ∧ (Int32.toNatClampNeg 6) ≤ 65536 ∧ 1 ≤ (mc - 1) ∧ (Int32.toNatClampNeg 6) ≤ (ms - 3) ∧ ∀ q4 : Nat, M3 q4 = none → ∀ M5 : yM, M5 = yup M3 q4 (yaq "DimensionLines$Unit" (Int32.toNatClampNeg 6) (fun _ => none)) → ∃ nf9 : Nat, wpX1_gathered_b16 z o_ post nf9 M5 ((mc - 1) - 1) ((ms - 3) - (Int32.toNatClampNeg 6)) (some q1) (some q4) 0)
theorem metX1_gathered {l : Launch} {D : va_G} {s0 : State} {a0 : Array Value} (hB : yB D s0 a0) {M : yM} {mc : Nat} {ms : Nat} {o_ : Nat} {post : Option Nat → yM → Prop} (h : wpX1_gathered M (yz s0 a0) mc ms o_ post) : yMq l yX1_gathered (ws_ yX1_gathered cX1_gathered 6 (some (.object "java/util/ArrayList"))) 8 232 mc ms D s0 [yr (some o_)] M post := by
  refine y_metq hB (by decide) rfl (Nat.le_of_ble_eq_true rfl) ?_
  intro p e s m below meth c A hr hnm C
  rw [wpX1_gathered] at h
  obtain ⟨g1, g2, h⟩ := h
  refine y_new (ci := 9) C in_J2 tyJ2_ok rfl q126 q127 q90 [yi 0, yr none, yi 0] (fun j hj => by rcases (show j = 0 ∨ j = 1 ∨ j = 2 by omega) with rfl | rfl | rfl <;> rfl) g1 g2 dX1_gathered_0 (fun q1 g3 => ?_)
  replace h := h q1 g3 _ rfl
  refine y_dup C rfl dX1_gathered_3 ?_
  refine y_callIv0 C (metJ2_init hB h) (cwI 0 C.hts (lw_meth q130) rfl rfl rfl (C.hts _ q90) (C.hts _ q128) (C.hts _ q129) rfl kdJ2_init.2 ⟨Nat.le_of_ble_eq_true rfl, Nat.le_of_ble_eq_true rfl⟩) rfl rfl (Nat.le_of_ble_eq_true rfl) dX1_gathered_4 (fun M3 hp => ?_)
  replace h := hp
  refine y_astore_n C 1 rfl (by decide) dX1_gathered_7 ?_
  refine y_bipush C 6 dX1_gathered_8 y_b6 ?_
  obtain ⟨g1, g2, g3, g4, h⟩ := h
  refine y_anew C q803 q804 g1 g2 g3 g4 dX1_gathered_10 (fun q4 g5 => ?_)
  replace h := h q4 g5 _ rfl
  refine y_astore_n C 2 rfl (by decide) dX1_gathered_13 ?_
  refine y_iconst C 0 dX1_gathered_14 lit0 ?_
  refine y_istore_n C 3 rfl (by decide) dX1_gathered_15 ?_
  obtain ⟨nf9, h⟩ := h
  refine y_to C _ ?_ (okX1_gathered_b16 C hB hr  nf9 _ _ _ _ _ _ h)
  exact (And.intro rfl (And.intro rfl (And.intro rfl (And.intro rfl trivial))))
theorem kdJ2_isEmpty : yJ2_isEmpty.cls = RJ2 ∧ yJ2_isEmpty.cls ≠ "java/lang/invoke/MethodHandle" ∧ yJ2_isEmpty.cls ≠ "java/lang/invoke/VarHandle" ∧ (parseMethodDescriptor yJ2_isEmpty.desc).map (fun d => d.parameters.length) = some 0 := by decide +kernel
def wpJ2_isEmpty (M : yM) (o_ : Nat) (post : Int32 → Prop) : Prop := ∃ x1 : Int32, yF M o_ 9 2 (yi x1) ∧ ((¬ x1 = 0 → post 0) ∧ (x1 = 0 → post 1))
theorem metJ2_isEmpty {l : Launch} {D : va_G} {s0 : State} {a0 : Array Value} (hB : yB D s0 a0) {M : yM} {o_ : Nat} {post : Int32 → Prop} (h : wpJ2_isEmpty M o_ post) : yMi l yJ2_isEmpty (ws_ yJ2_isEmpty cJ2_isEmpty 1 (some .boolean)) 1 80 0 0 D s0 [yr (some o_)] M (fun r M1 => M1 = M ∧ post r) := by
  refine y_meti hB (by decide) rfl (Nat.le_of_ble_eq_true rfl) ?_
  intro p e s m below meth c A hr hnm C
  rw [wpJ2_isEmpty] at h
  refine y_aload_n C 0 rfl rfl dJ2_isEmpty_0 ?_
  obtain ⟨x1, ⟨fs9, g1, g2⟩, h⟩ := h
  refine y_get (ci := 9) (k := 2) C in_J2 rfl (by decide) q141 (fun _ h => h) g1 g2 dJ2_isEmpty_1 ?_
  refine y_if_ne C 11 dJ2_isEmpty_4 (by decide) (fun c9 => ?_) (fun c9 => ?_)
  · replace h := h.1 c9
    refine y_iconst C 0 dJ2_isEmpty_11 lit0 ?_
    exact y_iretz C hr rfl rfl (by decide) ⟨rfl, h⟩ dJ2_isEmpty_12
  · replace h := h.2 c9
    refine y_iconst C 1 dJ2_isEmpty_7 lit1 ?_
    refine y_goto C 12 dJ2_isEmpty_8 (by decide) ?_
    exact y_iretz C hr rfl rfl (by decide) ⟨rfl, h⟩ dJ2_isEmpty_12
theorem kdX0_least : yX0_least.cls = RX0 ∧ yX0_least.cls ≠ "java/lang/invoke/MethodHandle" ∧ yX0_least.cls ≠ "java/lang/invoke/VarHandle" ∧ (parseMethodDescriptor yX0_least.desc).map (fun d => d.parameters.length) = some 2 := by decide +kernel
section sX0_least
variable {p : Program} {l : Launch} {e : Env} {s : State} {m : MethodId} {args : Array Value} {below : List Frame} {meth : Method} {c : Code} {D : va_G} {s0 : State} {a0 : Array Value} {A : Nat → Prop}
def wpX0_least_b51 (M : yM) (post : Option Nat → Prop) (k4 : Option Nat → Option Nat → Option Nat → Int32 → Prop) (v0 : Option Nat) (v1 : Option Nat) (v3 : Int32) (u0 : Option Nat) : Prop := ∀ x4 : Int32, x4 = v3 + 1 → k4 v0 v1 u0 x4
theorem okX0_least_b51 (C : yC p { frames := 4, cells := 0, slots := 0, locals := 144 } s m args meth c cX0_least 5 RX0 D s0 a0 A) (hB : yB D s0 a0) (hr : meth.sig.returnType = (some (.object "java/lang/Object"))) {M : yM} {post : Option Nat → Prop} {k4 : Option Nat → Option Nat → Option Nat → Int32 → Prop} (hk4 : ∀ (v0 : Option Nat) (v1 : Option Nat) (v2 : Option Nat) (v3 : Int32), k4 v0 v1 v2 v3 → Y p l e { frames := 4, cells := 0, slots := 0, locals := 144 } s m args below meth c (MQ below (yQq D s0 A (fun r M1 => M1 = M ∧ post r)) args s 0 0 A) D s0 A 5 M 0 0 [some (yr v0), some (yr v1), some (yr v2), some (yi v3), none] 4 []) : ∀ (v0 : Option Nat) (v1 : Option Nat) (v3 : Int32) (u0 : Option Nat), wpX0_least_b51 M post k4 v0 v1 v3 u0 → Y p l e { frames := 4, cells := 0, slots := 0, locals := 144 } s m args below meth c (MQ below (yQq D s0 A (fun r M1 => M1 = M ∧ post r)) args s 0 0 A) D s0 A 5 M 0 0 [some (yr v0), some (yr v1), none, some (yi v3), none] 51 [yr u0] := by
  intro v0 v1 v3 u0 h
  rw [wpX0_least_b51] at h
  refine y_astore_n C 2 rfl (by decide) dX0_least_51 ?_
  replace h := h _ rfl
  refine y_iinc C 3 _ rfl (y_inc1 _) (by decide) dX0_least_52 ?_
  refine y_goto C 4 dX0_least_55 (by decide) ?_
  refine y_to C _ ?_ (hk4 _ _ _ _ h)
  exact (And.intro rfl (And.intro rfl (And.intro rfl (And.intro rfl trivial))))
def wpX0_least_b45 (M : yM) (post : Option Nat → Prop) (k4 : Option Nat → Option Nat → Option Nat → Int32 → Prop) (v0 : Option Nat) (v1 : Option Nat) (v3 : Int32) (v4 : Option Nat) : Prop := wpX0_least_b51 M post k4 v0 v1 v3 v4
theorem okX0_least_b45 (C : yC p { frames := 4, cells := 0, slots := 0, locals := 144 } s m args meth c cX0_least 5 RX0 D s0 a0 A) (hB : yB D s0 a0) (hr : meth.sig.returnType = (some (.object "java/lang/Object"))) {M : yM} {post : Option Nat → Prop} {k4 : Option Nat → Option Nat → Option Nat → Int32 → Prop} (hk4 : ∀ (v0 : Option Nat) (v1 : Option Nat) (v2 : Option Nat) (v3 : Int32), k4 v0 v1 v2 v3 → Y p l e { frames := 4, cells := 0, slots := 0, locals := 144 } s m args below meth c (MQ below (yQq D s0 A (fun r M1 => M1 = M ∧ post r)) args s 0 0 A) D s0 A 5 M 0 0 [some (yr v0), some (yr v1), some (yr v2), some (yi v3), none] 4 []) : ∀ (v0 : Option Nat) (v1 : Option Nat) (v3 : Int32) (v4 : Option Nat), wpX0_least_b45 M post k4 v0 v1 v3 v4 → Y p l e { frames := 4, cells := 0, slots := 0, locals := 144 } s m args below meth c (MQ below (yQq D s0 A (fun r M1 => M1 = M ∧ post r)) args s 0 0 A) D s0 A 5 M 0 0 [some (yr v0), some (yr v1), none, some (yi v3), some (yr v4)] 45 [] := by
  intro v0 v1 v3 v4 h
  rw [wpX0_least_b45] at h
  refine y_aload C 4 rfl dX0_least_45 ?_
  refine y_goto C 51 dX0_least_47 (by decide) ?_
  refine y_to C _ ?_ (okX0_least_b51 C hB hr hk4 _ _ _ _ h)
  exact (And.intro rfl (And.intro rfl (And.intro rfl trivial)))
def wpX0_least_b4 (M : yM) (post : Option Nat → Prop) : Nat → Option Nat → Option Nat → Option Nat → Int32 → Prop
  | 0, _, _, _, _ => False
  | nn + 1, v0, v1, v2, v3 => ∃ d1 : Nat, v0 = some d1 ∧ (∃ vs, M d1 = some (yo 9 vs)) ∧ wpJ2_size M d1 (fun r2 => ((r2 ≤ v3 → post v2) ∧ (¬ r2 ≤ v3 → (∃ vs, M d1 = some (yo 9 vs)) ∧ wpJ2_get M d1 v3 (fun r3 => ((v2 = none → wpX0_least_b45 M post (fun v0 v1 v2 v3 => wpX0_least_b4 M post nn v0 v1 v2 v3) (some d1) v1 v3 r3) ∧ (¬ v2 = none → False))))))
theorem okX0_least_b4 (C : yC p { frames := 4, cells := 0, slots := 0, locals := 144 } s m args meth c cX0_least 5 RX0 D s0 a0 A) (hB : yB D s0 a0) (hr : meth.sig.returnType = (some (.object "java/lang/Object"))) {M : yM} {post : Option Nat → Prop}  : ∀ (nn : Nat) (v0 : Option Nat) (v1 : Option Nat) (v2 : Option Nat) (v3 : Int32), wpX0_least_b4 M post nn v0 v1 v2 v3 → Y p l e { frames := 4, cells := 0, slots := 0, locals := 144 } s m args below meth c (MQ below (yQq D s0 A (fun r M1 => M1 = M ∧ post r)) args s 0 0 A) D s0 A 5 M 0 0 [some (yr v0), some (yr v1), some (yr v2), some (yi v3), none] 4 [] := by
  intro nn
  induction nn with
  | zero => intro v0 v1 v2 v3 h; exact absurd h (by rw [wpX0_least_b4]; exact id)
  | succ nn ih =>
    intro v0 v1 v2 v3 h
    rw [wpX0_least_b4] at h
    refine y_iload_n C 3 rfl rfl dX0_least_4 ?_
    refine y_aload_n C 0 rfl rfl dX0_least_5 ?_
    obtain ⟨d1, rfl, h⟩ := h
    obtain ⟨⟨vs9, g0⟩, h⟩ := h
    refine y_callFi0 C (metJ2_size hB h) (va_cwF 0 C.hts (lw_F q896 q900 q494 q90 q496) rfl rfl rfl (y_Fw C q898 q897 q902 q901 q899 (by decide +kernel)) (by decide +kernel) ⟨Nat.le_of_ble_eq_true rfl, Nat.le_of_ble_eq_true rfl⟩) g0 rfl rfl rfl (Nat.le_of_ble_eq_true rfl) dX0_least_6 (fun r2 M1 hp => ?_)
    clear h
    obtain ⟨rfl, h⟩ := hp
    refine y_icmp_ge C 58 dX0_least_11 (by decide) (fun c9 => ?_) (fun c9 => ?_)
    · replace h := h.1 c9
      refine y_aload_n C 2 rfl rfl dX0_least_58 ?_
      exact y_aretq C hr (Or.inl ⟨_, rfl⟩) rfl rfl ⟨rfl, h⟩ dX0_least_59
    · replace h := h.2 c9
      refine y_aload_n C 0 rfl rfl dX0_least_14 ?_
      refine y_iload_n C 3 rfl rfl dX0_least_15 ?_
      obtain ⟨⟨vs9, g0⟩, h⟩ := h
      refine y_callFq0 C (metJ2_get hB h) (va_cwF 1 C.hts (lw_F q904 q907 q571 q90 q573) rfl rfl rfl (y_Fw C q906 q905 q909 q908 q899 (by decide +kernel)) (by decide +kernel) ⟨Nat.le_of_ble_eq_true rfl, Nat.le_of_ble_eq_true rfl⟩) g0 rfl rfl rfl (Nat.le_of_ble_eq_true rfl) dX0_least_16 (fun r3 M1 hp => ?_)
      clear h
      obtain ⟨rfl, h⟩ := hp
      refine y_astore C 4 (by decide) dX0_least_21 ?_
      refine y_aload_n C 2 rfl rfl dX0_least_23 ?_
      refine y_ifnull C 45 dX0_least_24 (by decide) (fun c9 => ?_) (fun c9 => ?_)
      · replace h := h.1 c9
        refine y_to C _ ?_ (okX0_least_b45 C hB hr ih _ _ _ _ h)
        exact (And.intro rfl (And.intro rfl (And.intro rfl (And.intro rfl trivial))))
      · replace h := h.2 c9
        refine y_aload_n C 1 rfl rfl dX0_least_27 ?_
        refine y_aload C 4 rfl dX0_least_28 ?_
        exact h.elim
end sX0_least
def wpX0_least (M : yM) (a1 : Option Nat) (a2 : Option Nat) (post : Option Nat → Prop) : Prop := ∃ nf9 : Nat, wpX0_least_b4 M post nf9 a1 a2 none 0
theorem metX0_least {l : Launch} {D : va_G} {s0 : State} {a0 : Array Value} (hB : yB D s0 a0) {M : yM} {a1 : Option Nat} {a2 : Option Nat} {post : Option Nat → Prop} (h : wpX0_least M a1 a2 post) : yMq l yX0_least (ws_ yX0_least cX0_least 5 (some (.object "java/lang/Object"))) 4 144 0 0 D s0 [yr a1, yr a2] M (fun r M1 => M1 = M ∧ post r) := by
  refine y_metq hB (by decide) rfl (Nat.le_of_ble_eq_true rfl) ?_
  intro p e s m below meth c A hr hnm C
  rw [wpX0_least] at h
  refine y_null C dX0_least_0 ?_
  refine y_astore_n C 2 rfl (by decide) dX0_least_1 ?_
  refine y_iconst C 0 dX0_least_2 lit0 ?_
  refine y_istore_n C 3 rfl (by decide) dX0_least_3 ?_
  obtain ⟨nf9, h⟩ := h
  refine y_to C _ ?_ (okX0_least_b4 C hB hr  nf9 _ _ _ _ h)
  exact (And.intro rfl (And.intro rfl (And.intro rfl (And.intro rfl trivial))))
theorem kdJ2_remove_2 : yJ2_remove_2.cls = RJ2 ∧ yJ2_remove_2.cls ≠ "java/lang/invoke/MethodHandle" ∧ yJ2_remove_2.cls ≠ "java/lang/invoke/VarHandle" ∧ (parseMethodDescriptor yJ2_remove_2.desc).map (fun d => d.parameters.length) = some 1 := by decide +kernel
section sJ2_remove_2
variable {p : Program} {l : Launch} {e : Env} {s : State} {m : MethodId} {args : Array Value} {below : List Frame} {meth : Method} {c : Code} {D : va_G} {s0 : State} {a0 : Array Value} {A : Nat → Prop}
def wpJ2_remove_2_b67 (o_ : Nat) (post : Int32 → yM → Prop) (M : yM) (v2 : Option Nat) (v4 : Int32) : Prop := (∃ vs, M o_ = some (yo 9 vs)) ∧ wpJ2_fastRemove M o_ v2 v4 (fun M11 => post 1 M11)
theorem okJ2_remove_2_b67 (C : yC p { frames := 2, cells := 0, slots := 0, locals := 103 } s m args meth c cJ2_remove_2 5 RJ2 D s0 a0 A) (hB : yB D s0 a0) (hr : meth.sig.returnType = (some .boolean)) {o_ : Nat} {post : Int32 → yM → Prop}  : ∀ (M : yM) (v2 : Option Nat) (v4 : Int32), wpJ2_remove_2_b67 o_ post M v2 v4 → Y p l e { frames := 2, cells := 0, slots := 0, locals := 103 } s m args below meth c (MQ below (yQi D s0 A post) args s 0 0 A) D s0 A 5 M 0 0 [some (yr (some o_)), none, some (yr v2), none, some (yi v4)] 67 [] := by
  intro M v2 v4 h
  rw [wpJ2_remove_2_b67] at h
  refine y_aload_n C 0 rfl rfl dJ2_remove_2_67 ?_
  refine y_aload_n C 2 rfl rfl dJ2_remove_2_68 ?_
  refine y_iload C 4 rfl dJ2_remove_2_69 ?_
  obtain ⟨⟨vs9, g0⟩, h⟩ := h
  refine y_callVv0 C (metJ2_fastRemove hB h) (cwV 2 C.hts (lw_V q725 q727 qs14 q90 q728) rfl rfl rfl kdJ2_fastRemove ⟨Nat.le_of_ble_eq_true rfl, Nat.le_of_ble_eq_true rfl⟩) g0 rfl rfl rfl (Nat.le_of_ble_eq_true rfl) dJ2_remove_2_71 (fun M11 hp => ?_)
  replace h := hp
  refine y_iconst C 1 dJ2_remove_2_74 lit1 ?_
  exact y_iretz C hr rfl rfl (by decide) h dJ2_remove_2_75
def wpJ2_remove_2_b39 (o_ : Nat) (post : Int32 → yM → Prop) : Nat → yM → Option Nat → Option Nat → Int32 → Int32 → Prop
  | 0, _, _, _, _, _ => False
  | nn + 1, M, v1, v2, v3, v4 => ((v3 ≤ v4 → post 0 M) ∧ (¬ v3 ≤ v4 → ∃ d3 : Nat, v2 = some d3 ∧ ∃ (E6 : String) (n4 : Nat) (f5 : Nat → Option Nat), M d3 = some (yaq E6 n4 f5) ∧ vp_in v4 n4 ∧ ∃ r7 : Option Nat, f5 (Int32.toNatClampNeg v4) = r7 ∧ ∃ d8 : Nat, v1 = some d8 ∧ (∃ ci vs, M d8 = some (yo ci vs) ∧ (ci = 5 ∨ ci = 6 ∨ ci = 7)) ∧ ∀ r9 : Int32, r9 = (if some d8 = r7 then 1 else 0) → ((r9 = 0 → ∀ x10 : Int32, x10 = v4 + 1 → wpJ2_remove_2_b39 o_ post nn M (some d8) (some d3) v3 x10) ∧ (¬ r9 = 0 → wpJ2_remove_2_b67 o_ post M (some d3) v4))))
theorem okJ2_remove_2_b39 (C : yC p { frames := 2, cells := 0, slots := 0, locals := 103 } s m args meth c cJ2_remove_2 5 RJ2 D s0 a0 A) (hB : yB D s0 a0) (hr : meth.sig.returnType = (some .boolean)) {o_ : Nat} {post : Int32 → yM → Prop}  : ∀ (nn : Nat) (M : yM) (v1 : Option Nat) (v2 : Option Nat) (v3 : Int32) (v4 : Int32), wpJ2_remove_2_b39 o_ post nn M v1 v2 v3 v4 → Y p l e { frames := 2, cells := 0, slots := 0, locals := 103 } s m args below meth c (MQ below (yQi D s0 A post) args s 0 0 A) D s0 A 5 M 0 0 [some (yr (some o_)), some (yr v1), some (yr v2), some (yi v3), some (yi v4)] 39 [] := by
  intro nn
  induction nn with
  | zero => intro M v1 v2 v3 v4 h; exact absurd h (by rw [wpJ2_remove_2_b39]; exact id)
  | succ nn ih =>
    intro M v1 v2 v3 v4 h
    rw [wpJ2_remove_2_b39] at h
    refine y_iload C 4 rfl dJ2_remove_2_39 ?_
    refine y_iload_n C 3 rfl rfl dJ2_remove_2_41 ?_
    refine y_icmp_ge C 65 dJ2_remove_2_42 (by decide) (fun c9 => ?_) (fun c9 => ?_)
    · replace h := h.1 c9
      refine y_iconst C 0 dJ2_remove_2_65 lit0 ?_
      exact y_iretz C hr rfl rfl (by decide) h dJ2_remove_2_66
    · replace h := h.2 c9
      refine y_aload_n C 1 rfl rfl dJ2_remove_2_45 ?_
      refine y_aload_n C 2 rfl rfl dJ2_remove_2_46 ?_
      refine y_iload C 4 rfl dJ2_remove_2_47 ?_
      obtain ⟨d3, rfl, h⟩ := h
      obtain ⟨E6, n4, f5, g1, g2, r7, g3, h⟩ := h
      refine y_aald2 C g1 g2 g3 dJ2_remove_2_49 ?_
      obtain ⟨d8, rfl, h⟩ := h
      obtain ⟨⟨ci9, vs9, g0, g1⟩, h⟩ := h
      replace h := h _ rfl
      refine y_equals C hB q683 g0 g1 (Nat.le_of_ble_eq_true rfl) (Nat.le_of_ble_eq_true rfl) (Nat.le_of_ble_eq_true rfl) dJ2_remove_2_50 ?_
      refine y_if_eq C 59 dJ2_remove_2_53 (by decide) (fun c9 => ?_) (fun c9 => ?_)
      · replace h := h.1 c9
        replace h := h _ rfl
        refine y_iinc C 4 _ rfl (y_inc1 _) (by decide) dJ2_remove_2_59 ?_
        refine y_goto C 39 dJ2_remove_2_62 (by decide) ?_
        refine y_to C _ ?_ (ih _ _ _ _ _ h)
        exact (And.intro rfl (And.intro rfl (And.intro rfl (And.intro rfl (And.intro rfl trivial)))))
      · replace h := h.2 c9
        refine y_goto C 67 dJ2_remove_2_56 (by decide) ?_
        refine y_to C _ ?_ (okJ2_remove_2_b67 C hB hr  _ _ _ h)
        exact (And.intro rfl (And.intro rfl (And.intro rfl trivial)))
def wpJ2_remove_2_b17 (o_ : Nat) (post : Int32 → yM → Prop) : Nat → yM → Option Nat → Int32 → Int32 → Prop
  | 0, _, _, _, _ => False
  | nn + 1, M, v2, v3, v4 => ((v3 ≤ v4 → post 0 M) ∧ (¬ v3 ≤ v4 → ∃ d12 : Nat, v2 = some d12 ∧ ∃ (E15 : String) (n13 : Nat) (f14 : Nat → Option Nat), M d12 = some (yaq E15 n13 f14) ∧ vp_in v4 n13 ∧ ∃ r16 : Option Nat, f14 (Int32.toNatClampNeg v4) = r16 ∧ ((¬ r16 = none → ∀ x17 : Int32, x17 = v4 + 1 → wpJ2_remove_2_b17 o_ post nn M (some d12) v3 x17) ∧ (r16 = none → wpJ2_remove_2_b67 o_ post M (some d12) v4))))
theorem okJ2_remove_2_b17 (C : yC p { frames := 2, cells := 0, slots := 0, locals := 103 } s m args meth c cJ2_remove_2 5 RJ2 D s0 a0 A) (hB : yB D s0 a0) (hr : meth.sig.returnType = (some .boolean)) {o_ : Nat} {post : Int32 → yM → Prop}  : ∀ (nn : Nat) (M : yM) (v2 : Option Nat) (v3 : Int32) (v4 : Int32), wpJ2_remove_2_b17 o_ post nn M v2 v3 v4 → Y p l e { frames := 2, cells := 0, slots := 0, locals := 103 } s m args below meth c (MQ below (yQi D s0 A post) args s 0 0 A) D s0 A 5 M 0 0 [some (yr (some o_)), none, some (yr v2), some (yi v3), some (yi v4)] 17 [] := by
  intro nn
  induction nn with
  | zero => intro M v2 v3 v4 h; exact absurd h (by rw [wpJ2_remove_2_b17]; exact id)
  | succ nn ih =>
    intro M v2 v3 v4 h
    rw [wpJ2_remove_2_b17] at h
    refine y_iload C 4 rfl dJ2_remove_2_17 ?_
    refine y_iload_n C 3 rfl rfl dJ2_remove_2_19 ?_
    refine y_icmp_ge C 65 dJ2_remove_2_20 (by decide) (fun c9 => ?_) (fun c9 => ?_)
    · replace h := h.1 c9
      refine y_iconst C 0 dJ2_remove_2_65 lit0 ?_
      exact y_iretz C hr rfl rfl (by decide) h dJ2_remove_2_66
    · replace h := h.2 c9
      refine y_aload_n C 2 rfl rfl dJ2_remove_2_23 ?_
      refine y_iload C 4 rfl dJ2_remove_2_24 ?_
      obtain ⟨d12, rfl, h⟩ := h
      obtain ⟨E15, n13, f14, g1, g2, r16, g3, h⟩ := h
      refine y_aald2 C g1 g2 g3 dJ2_remove_2_26 ?_
      refine y_ifnonnull C 33 dJ2_remove_2_27 (by decide) (fun c9 => ?_) (fun c9 => ?_)
      · replace h := h.1 c9
        replace h := h _ rfl
        refine y_iinc C 4 _ rfl (y_inc1 _) (by decide) dJ2_remove_2_33 ?_
        refine y_goto C 17 dJ2_remove_2_36 (by decide) ?_
        refine y_to C _ ?_ (ih _ _ _ _ h)
        exact (And.intro rfl (And.intro rfl (And.intro rfl (And.intro rfl trivial))))
      · replace h := h.2 c9
        refine y_goto C 67 dJ2_remove_2_30 (by decide) ?_
        refine y_to C _ ?_ (okJ2_remove_2_b67 C hB hr  _ _ _ h)
        exact (And.intro rfl (And.intro rfl (And.intro rfl trivial)))
end sJ2_remove_2
def wpJ2_remove_2 (M : yM) (o_ : Nat) (a1 : Option Nat) (post : Int32 → yM → Prop) : Prop := ∃ r1 : Option Nat, yF M o_ 9 1 (yr r1) ∧ ∃ x2 : Int32, yF M o_ 9 2 (yi x2) ∧ ((¬ a1 = none → ∃ nf9 : Nat, wpJ2_remove_2_b39 o_ post nf9 M a1 r1 x2 0) ∧ (a1 = none → ∃ nf9 : Nat, wpJ2_remove_2_b17 o_ post nf9 M r1 x2 0))
theorem metJ2_remove_2 {l : Launch} {D : va_G} {s0 : State} {a0 : Array Value} (hB : yB D s0 a0) {M : yM} {o_ : Nat} {a1 : Option Nat} {post : Int32 → yM → Prop} (h : wpJ2_remove_2 M o_ a1 post) : yMi l yJ2_remove_2 (ws_ yJ2_remove_2 cJ2_remove_2 5 (some .boolean)) 2 103 0 0 D s0 [yr (some o_), yr a1] M post := by
  refine y_meti hB (by decide) rfl (Nat.le_of_ble_eq_true rfl) ?_
  intro p e s m below meth c A hr hnm C
  rw [wpJ2_remove_2] at h
  refine y_aload_n C 0 rfl rfl dJ2_remove_2_0 ?_
  obtain ⟨r1, ⟨fs9, g1, g2⟩, h⟩ := h
  refine y_get (ci := 9) (k := 1) C in_J2 rfl (by decide) q140 (fun _ h => h) g1 g2 dJ2_remove_2_1 ?_
  refine y_astore_n C 2 rfl (by decide) dJ2_remove_2_4 ?_
  refine y_aload_n C 0 rfl rfl dJ2_remove_2_5 ?_
  obtain ⟨x2, ⟨fs9, g1, g2⟩, h⟩ := h
  refine y_get (ci := 9) (k := 2) C in_J2 rfl (by decide) q141 (fun _ h => h) g1 g2 dJ2_remove_2_6 ?_
  refine y_istore_n C 3 rfl (by decide) dJ2_remove_2_9 ?_
  refine y_iconst C 0 dJ2_remove_2_10 lit0 ?_
  refine y_istore C 4 (by decide) dJ2_remove_2_11 ?_
  refine y_aload_n C 1 rfl rfl dJ2_remove_2_13 ?_
  refine y_ifnonnull C 39 dJ2_remove_2_14 (by decide) (fun c9 => ?_) (fun c9 => ?_)
  · replace h := h.1 c9
    obtain ⟨nf9, h⟩ := h
    refine y_to C _ ?_ (okJ2_remove_2_b39 C hB hr  nf9 _ _ _ _ _ h)
    exact (And.intro rfl (And.intro rfl (And.intro rfl (And.intro rfl (And.intro rfl trivial)))))
  · replace h := h.2 c9
    obtain ⟨nf9, h⟩ := h
    refine y_to C _ ?_ (okJ2_remove_2_b17 C hB hr  nf9 _ _ _ _ h)
    exact (And.intro rfl (And.intro rfl (And.intro rfl (And.intro rfl trivial))))
theorem kdX7_begin : yX7_begin.cls = RX7 ∧ yX7_begin.cls ≠ "java/lang/invoke/MethodHandle" ∧ yX7_begin.cls ≠ "java/lang/invoke/VarHandle" ∧ (parseMethodDescriptor yX7_begin.desc).map (fun d => d.parameters.length) = some 0 := by decide +kernel
def wpX7_begin (M : yM) (o_ : Nat) (post : Int32 → Prop) : Prop := ∃ x1 : Int32, yF M o_ 7 2 (yi x1) ∧ post x1
theorem metX7_begin {l : Launch} {D : va_G} {s0 : State} {a0 : Array Value} (hB : yB D s0 a0) {M : yM} {o_ : Nat} {post : Int32 → Prop} (h : wpX7_begin M o_ post) : yMi l yX7_begin (ws_ yX7_begin cX7_begin 1 (some .int)) 1 80 0 0 D s0 [yr (some o_)] M (fun r M1 => M1 = M ∧ post r) := by
  refine y_meti hB (by decide) rfl (Nat.le_of_ble_eq_true rfl) ?_
  intro p e s m below meth c A hr hnm C
  rw [wpX7_begin] at h
  refine y_aload_n C 0 rfl rfl dX7_begin_0 ?_
  obtain ⟨x1, ⟨fs9, g1, g2⟩, h⟩ := h
  refine y_get (ci := 7) (k := 2) C in_X7 rfl (by decide) q824 (fun _ h => h) g1 g2 dX7_begin_1 ?_
  exact y_ireti C hr rfl rfl ⟨rfl, h⟩ dX7_begin_4
theorem kdX7_end : yX7_end.cls = RX7 ∧ yX7_end.cls ≠ "java/lang/invoke/MethodHandle" ∧ yX7_end.cls ≠ "java/lang/invoke/VarHandle" ∧ (parseMethodDescriptor yX7_end.desc).map (fun d => d.parameters.length) = some 0 := by decide +kernel
def wpX7_end (M : yM) (o_ : Nat) (post : Int32 → Prop) : Prop := ∃ x1 : Int32, yF M o_ 7 3 (yi x1) ∧ post x1
theorem metX7_end {l : Launch} {D : va_G} {s0 : State} {a0 : Array Value} (hB : yB D s0 a0) {M : yM} {o_ : Nat} {post : Int32 → Prop} (h : wpX7_end M o_ post) : yMi l yX7_end (ws_ yX7_end cX7_end 1 (some .int)) 1 80 0 0 D s0 [yr (some o_)] M (fun r M1 => M1 = M ∧ post r) := by
  refine y_meti hB (by decide) rfl (Nat.le_of_ble_eq_true rfl) ?_
  intro p e s m below meth c A hr hnm C
  rw [wpX7_end] at h
  refine y_aload_n C 0 rfl rfl dX7_end_0 ?_
  obtain ⟨x1, ⟨fs9, g1, g2⟩, h⟩ := h
  refine y_get (ci := 7) (k := 3) C in_X7 rfl (by decide) q827 (fun _ h => h) g1 g2 dX7_end_1 ?_
  exact y_ireti C hr rfl rfl ⟨rfl, h⟩ dX7_end_4
theorem kdX8_covers : yX8_covers.cls = RX8 ∧ yX8_covers.cls ≠ "java/lang/invoke/MethodHandle" ∧ yX8_covers.cls ≠ "java/lang/invoke/VarHandle" ∧ (parseMethodDescriptor yX8_covers.desc).map (fun d => d.parameters.length) = some 1 := by decide +kernel
def wpX8_covers (M : yM) (o_ : Nat) (a1 : Option Nat) (post : Int32 → Prop) : Prop := (∃ vs, M o_ = some (yo 7 vs)) ∧ wpX7_begin M o_ (fun r1 => ∃ d2 : Nat, a1 = some d2 ∧ (∃ vs, M d2 = some (yo 7 vs)) ∧ wpX7_begin M d2 (fun r3 => ((r3 < r1 → post 0) ∧ (¬ r3 < r1 → (∃ vs, M o_ = some (yo 7 vs)) ∧ wpX7_end M o_ (fun r4 => (∃ vs, M d2 = some (yo 7 vs)) ∧ wpX7_end M d2 (fun r5 => ((r4 < r5 → post 0) ∧ (¬ r4 < r5 → post 1))))))))
theorem metX8_covers {l : Launch} {D : va_G} {s0 : State} {a0 : Array Value} (hB : yB D s0 a0) {M : yM} {o_ : Nat} {a1 : Option Nat} {post : Int32 → Prop} (h : wpX8_covers M o_ a1 post) : yMi l yX8_covers (ws_ yX8_covers cX8_covers 2 (some .boolean)) 2 100 0 0 D s0 [yr (some o_), yr a1] M (fun r M1 => M1 = M ∧ post r) := by
  refine y_meti hB (by decide) rfl (Nat.le_of_ble_eq_true rfl) ?_
  intro p e s m below meth c A hr hnm C
  rw [wpX8_covers] at h
  refine y_aload_n C 0 rfl rfl dX8_covers_0 ?_
  obtain ⟨⟨vs9, g0⟩, h⟩ := h
  refine y_callFi0 C (metX7_begin hB h) (va_cwF 0 C.hts (lw_F q878 q886 q888 q109 q890) rfl rfl rfl (y_Fw C q880 q879 q889 q887 q871 (by decide +kernel)) (by decide +kernel) ⟨Nat.le_of_ble_eq_true rfl, Nat.le_of_ble_eq_true rfl⟩) g0 rfl rfl rfl (Nat.le_of_ble_eq_true rfl) dX8_covers_1 (fun r1 M1 hp => ?_)
  clear h
  obtain ⟨rfl, h⟩ := hp
  refine y_aload_n C 1 rfl rfl dX8_covers_6 ?_
  obtain ⟨d2, rfl, h⟩ := h
  obtain ⟨⟨vs9, g0⟩, h⟩ := h
  refine y_callFi0 C (metX7_begin hB h) (va_cwF 0 C.hts (lw_F q878 q886 q888 q109 q890) rfl rfl rfl (y_Fw C q880 q879 q889 q887 q871 (by decide +kernel)) (by decide +kernel) ⟨Nat.le_of_ble_eq_true rfl, Nat.le_of_ble_eq_true rfl⟩) g0 rfl rfl rfl (Nat.le_of_ble_eq_true rfl) dX8_covers_7 (fun r3 M1 hp => ?_)
  clear h
  obtain ⟨rfl, h⟩ := hp
  refine y_icmp_gt C 34 dX8_covers_12 (by decide) (fun c9 => ?_) (fun c9 => ?_)
  · replace h := h.1 c9
    refine y_iconst C 0 dX8_covers_34 lit0 ?_
    exact y_iretz C hr rfl rfl (by decide) ⟨rfl, h⟩ dX8_covers_35
  · replace h := h.2 c9
    refine y_aload_n C 0 rfl rfl dX8_covers_15 ?_
    obtain ⟨⟨vs9, g0⟩, h⟩ := h
    refine y_callFi0 C (metX7_end hB h) (va_cwF 0 C.hts (lw_F q862 q872 q874 q109 q876) rfl rfl rfl (y_Fw C q864 q863 q875 q873 q871 (by decide +kernel)) (by decide +kernel) ⟨Nat.le_of_ble_eq_true rfl, Nat.le_of_ble_eq_true rfl⟩) g0 rfl rfl rfl (Nat.le_of_ble_eq_true rfl) dX8_covers_16 (fun r4 M1 hp => ?_)
    clear h
    obtain ⟨rfl, h⟩ := hp
    refine y_aload_n C 1 rfl rfl dX8_covers_21 ?_
    obtain ⟨⟨vs9, g0⟩, h⟩ := h
    refine y_callFi0 C (metX7_end hB h) (va_cwF 0 C.hts (lw_F q862 q872 q874 q109 q876) rfl rfl rfl (y_Fw C q864 q863 q875 q873 q871 (by decide +kernel)) (by decide +kernel) ⟨Nat.le_of_ble_eq_true rfl, Nat.le_of_ble_eq_true rfl⟩) g0 rfl rfl rfl (Nat.le_of_ble_eq_true rfl) dX8_covers_22 (fun r5 M1 hp => ?_)
    clear h
    obtain ⟨rfl, h⟩ := hp
    refine y_icmp_lt C 34 dX8_covers_27 (by decide) (fun c9 => ?_) (fun c9 => ?_)
    · replace h := h.1 c9
      refine y_iconst C 0 dX8_covers_34 lit0 ?_
      exact y_iretz C hr rfl rfl (by decide) ⟨rfl, h⟩ dX8_covers_35
    · replace h := h.2 c9
      refine y_iconst C 1 dX8_covers_30 lit1 ?_
      refine y_goto C 35 dX8_covers_31 (by decide) ?_
      exact y_iretz C hr rfl rfl (by decide) ⟨rfl, h⟩ dX8_covers_35
theorem kdX6_begin : yX6_begin.cls = RX6 ∧ yX6_begin.cls ≠ "java/lang/invoke/MethodHandle" ∧ yX6_begin.cls ≠ "java/lang/invoke/VarHandle" ∧ (parseMethodDescriptor yX6_begin.desc).map (fun d => d.parameters.length) = some 0 := by decide +kernel
def wpX6_begin (M : yM) (o_ : Nat) (post : Int32 → Prop) : Prop := ∃ x1 : Int32, yF M o_ 6 7 (yi x1) ∧ post x1
theorem metX6_begin {l : Launch} {D : va_G} {s0 : State} {a0 : Array Value} (hB : yB D s0 a0) {M : yM} {o_ : Nat} {post : Int32 → Prop} (h : wpX6_begin M o_ post) : yMi l yX6_begin (ws_ yX6_begin cX6_begin 1 (some .int)) 1 80 0 0 D s0 [yr (some o_)] M (fun r M1 => M1 = M ∧ post r) := by
  refine y_meti hB (by decide) rfl (Nat.le_of_ble_eq_true rfl) ?_
  intro p e s m below meth c A hr hnm C
  rw [wpX6_begin] at h
  refine y_aload_n C 0 rfl rfl dX6_begin_0 ?_
  obtain ⟨x1, ⟨fs9, g1, g2⟩, h⟩ := h
  refine y_get (ci := 6) (k := 7) C in_X6 rfl (by decide) q612 (fun _ h => h) g1 g2 dX6_begin_1 ?_
  exact y_ireti C hr rfl rfl ⟨rfl, h⟩ dX6_begin_4
theorem kdX6_end : yX6_end.cls = RX6 ∧ yX6_end.cls ≠ "java/lang/invoke/MethodHandle" ∧ yX6_end.cls ≠ "java/lang/invoke/VarHandle" ∧ (parseMethodDescriptor yX6_end.desc).map (fun d => d.parameters.length) = some 0 := by decide +kernel
def wpX6_end (M : yM) (o_ : Nat) (post : Int32 → Prop) : Prop := ∃ x1 : Int32, yF M o_ 6 8 (yi x1) ∧ post x1
theorem metX6_end {l : Launch} {D : va_G} {s0 : State} {a0 : Array Value} (hB : yB D s0 a0) {M : yM} {o_ : Nat} {post : Int32 → Prop} (h : wpX6_end M o_ post) : yMi l yX6_end (ws_ yX6_end cX6_end 1 (some .int)) 1 80 0 0 D s0 [yr (some o_)] M (fun r M1 => M1 = M ∧ post r) := by
  refine y_meti hB (by decide) rfl (Nat.le_of_ble_eq_true rfl) ?_
  intro p e s m below meth c A hr hnm C
  rw [wpX6_end] at h
  refine y_aload_n C 0 rfl rfl dX6_end_0 ?_
  obtain ⟨x1, ⟨fs9, g1, g2⟩, h⟩ := h
  refine y_get (ci := 6) (k := 8) C in_X6 rfl (by decide) q614 (fun _ h => h) g1 g2 dX6_end_1 ?_
  exact y_ireti C hr rfl rfl ⟨rfl, h⟩ dX6_end_4
theorem kdX8_meet : yX8_meet.cls = RX8 ∧ yX8_meet.cls ≠ "java/lang/invoke/MethodHandle" ∧ yX8_meet.cls ≠ "java/lang/invoke/VarHandle" ∧ (parseMethodDescriptor yX8_meet.desc).map (fun d => d.parameters.length) = some 2 := by decide +kernel
def wpX8_meet (M : yM) (a1 : Option Nat) (a2 : Option Nat) (post : Int32 → Prop) : Prop := ∃ d1 : Nat, a1 = some d1 ∧ (∃ vs, M d1 = some (yo 6 vs)) ∧ wpX6_begin M d1 (fun r2 => ∃ d3 : Nat, a2 = some d3 ∧ (∃ vs, M d3 = some (yo 6 vs)) ∧ wpX6_end M d3 (fun r4 => ((r4 < r2 → post 0) ∧ (¬ r4 < r2 → (∃ vs, M d3 = some (yo 6 vs)) ∧ wpX6_begin M d3 (fun r5 => (∃ vs, M d1 = some (yo 6 vs)) ∧ wpX6_end M d1 (fun r6 => ((r6 < r5 → post 0) ∧ (¬ r6 < r5 → post 1))))))))
theorem metX8_meet {l : Launch} {D : va_G} {s0 : State} {a0 : Array Value} (hB : yB D s0 a0) {M : yM} {a1 : Option Nat} {a2 : Option Nat} {post : Int32 → Prop} (h : wpX8_meet M a1 a2 post) : yMi l yX8_meet (ws_ yX8_meet cX8_meet 2 (some .boolean)) 2 100 0 0 D s0 [yr a1, yr a2] M (fun r M1 => M1 = M ∧ post r) := by
  refine y_meti hB (by decide) rfl (Nat.le_of_ble_eq_true rfl) ?_
  intro p e s m below meth c A hr hnm C
  rw [wpX8_meet] at h
  refine y_aload_n C 0 rfl rfl dX8_meet_0 ?_
  obtain ⟨d1, rfl, h⟩ := h
  obtain ⟨⟨vs9, g0⟩, h⟩ := h
  refine y_callFi0 C (metX6_begin hB h) (va_cwF 0 C.hts (lw_F q878 q881 q883 q107 q885) rfl rfl rfl (y_Fw C q880 q879 q884 q882 q865 (by decide +kernel)) (by decide +kernel) ⟨Nat.le_of_ble_eq_true rfl, Nat.le_of_ble_eq_true rfl⟩) g0 rfl rfl rfl (Nat.le_of_ble_eq_true rfl) dX8_meet_1 (fun r2 M1 hp => ?_)
  clear h
  obtain ⟨rfl, h⟩ := hp
  refine y_aload_n C 1 rfl rfl dX8_meet_6 ?_
  obtain ⟨d3, rfl, h⟩ := h
  obtain ⟨⟨vs9, g0⟩, h⟩ := h
  refine y_callFi0 C (metX6_end hB h) (va_cwF 0 C.hts (lw_F q862 q866 q868 q107 q870) rfl rfl rfl (y_Fw C q864 q863 q869 q867 q865 (by decide +kernel)) (by decide +kernel) ⟨Nat.le_of_ble_eq_true rfl, Nat.le_of_ble_eq_true rfl⟩) g0 rfl rfl rfl (Nat.le_of_ble_eq_true rfl) dX8_meet_7 (fun r4 M1 hp => ?_)
  clear h
  obtain ⟨rfl, h⟩ := hp
  refine y_icmp_gt C 34 dX8_meet_12 (by decide) (fun c9 => ?_) (fun c9 => ?_)
  · replace h := h.1 c9
    refine y_iconst C 0 dX8_meet_34 lit0 ?_
    exact y_iretz C hr rfl rfl (by decide) ⟨rfl, h⟩ dX8_meet_35
  · replace h := h.2 c9
    refine y_aload_n C 1 rfl rfl dX8_meet_15 ?_
    obtain ⟨⟨vs9, g0⟩, h⟩ := h
    refine y_callFi0 C (metX6_begin hB h) (va_cwF 0 C.hts (lw_F q878 q881 q883 q107 q885) rfl rfl rfl (y_Fw C q880 q879 q884 q882 q865 (by decide +kernel)) (by decide +kernel) ⟨Nat.le_of_ble_eq_true rfl, Nat.le_of_ble_eq_true rfl⟩) g0 rfl rfl rfl (Nat.le_of_ble_eq_true rfl) dX8_meet_16 (fun r5 M1 hp => ?_)
    clear h
    obtain ⟨rfl, h⟩ := hp
    refine y_aload_n C 0 rfl rfl dX8_meet_21 ?_
    obtain ⟨⟨vs9, g0⟩, h⟩ := h
    refine y_callFi0 C (metX6_end hB h) (va_cwF 0 C.hts (lw_F q862 q866 q868 q107 q870) rfl rfl rfl (y_Fw C q864 q863 q869 q867 q865 (by decide +kernel)) (by decide +kernel) ⟨Nat.le_of_ble_eq_true rfl, Nat.le_of_ble_eq_true rfl⟩) g0 rfl rfl rfl (Nat.le_of_ble_eq_true rfl) dX8_meet_22 (fun r6 M1 hp => ?_)
    clear h
    obtain ⟨rfl, h⟩ := hp
    refine y_icmp_gt C 34 dX8_meet_27 (by decide) (fun c9 => ?_) (fun c9 => ?_)
    · replace h := h.1 c9
      refine y_iconst C 0 dX8_meet_34 lit0 ?_
      exact y_iretz C hr rfl rfl (by decide) ⟨rfl, h⟩ dX8_meet_35
    · replace h := h.2 c9
      refine y_iconst C 1 dX8_meet_30 lit1 ?_
      refine y_goto C 35 dX8_meet_31 (by decide) ?_
      exact y_iretz C hr rfl rfl (by decide) ⟨rfl, h⟩ dX8_meet_35
theorem kdX7_isInTheWayOf : yX7_isInTheWayOf.cls = RX7 ∧ yX7_isInTheWayOf.cls ≠ "java/lang/invoke/MethodHandle" ∧ yX7_isInTheWayOf.cls ≠ "java/lang/invoke/VarHandle" ∧ (parseMethodDescriptor yX7_isInTheWayOf.desc).map (fun d => d.parameters.length) = some 1 := by decide +kernel
section sX7_isInTheWayOf
variable {p : Program} {l : Launch} {e : Env} {s : State} {m : MethodId} {args : Array Value} {below : List Frame} {meth : Method} {c : Code} {D : va_G} {s0 : State} {a0 : Array Value} {A : Nat → Prop}
def wpX7_isInTheWayOf_b15 (M : yM) (o_ : Nat) (post : Int32 → Prop) (k2 : Option Nat → Int32 → Prop) : Nat → Option Nat → Int32 → Int32 → Prop
  | 0, _, _, _ => False
  | nn + 1, v1, v2, v3 => ∃ d4 : Nat, v1 = some d4 ∧ ∃ r5 : Option Nat, yF M d4 7 0 (yr r5) ∧ ∃ d6 : Nat, r5 = some d6 ∧ (∃ vs, M d6 = some (yo 9 vs)) ∧ wpJ2_size M d6 (fun r7 => ((r7 ≤ v3 → ∀ x8 : Int32, x8 = v2 + 1 → k2 (some d4) x8) ∧ (¬ r7 ≤ v3 → ∃ r9 : Option Nat, yF M o_ 7 0 (yr r9) ∧ ∃ d10 : Nat, r9 = some d10 ∧ (∃ vs, M d10 = some (yo 9 vs)) ∧ wpJ2_get M d10 v2 (fun r11 => ∃ d12 : Nat, r11 = some d12 ∧ (∃ vs, M d12 = some (yo 6 vs)) ∧ ∃ r13 : Option Nat, yF M d4 7 0 (yr r13) ∧ ∃ d14 : Nat, r13 = some d14 ∧ (∃ vs, M d14 = some (yo 9 vs)) ∧ wpJ2_get M d14 v3 (fun r15 => ∃ d16 : Nat, r15 = some d16 ∧ (∃ vs, M d16 = some (yo 6 vs)) ∧ wpX8_meet M (some d12) (some d16) (fun r17 => ((r17 = 0 → ∀ x18 : Int32, x18 = v3 + 1 → wpX7_isInTheWayOf_b15 M o_ post k2 nn (some d4) v2 x18) ∧ (¬ r17 = 0 → post 1))))))))
theorem okX7_isInTheWayOf_b15 (C : yC p { frames := 4, cells := 0, slots := 0, locals := 144 } s m args meth c cX7_isInTheWayOf 4 RX7 D s0 a0 A) (hB : yB D s0 a0) (hr : meth.sig.returnType = (some .boolean)) {M : yM} {o_ : Nat} {post : Int32 → Prop} {k2 : Option Nat → Int32 → Prop} (hk2 : ∀ (v1 : Option Nat) (v2 : Int32), k2 v1 v2 → Y p l e { frames := 4, cells := 0, slots := 0, locals := 144 } s m args below meth c (MQ below (yQi D s0 A (fun r M1 => M1 = M ∧ post r)) args s 0 0 A) D s0 A 4 M 0 0 [some (yr (some o_)), some (yr v1), some (yi v2), none] 2 []) : ∀ (nn : Nat) (v1 : Option Nat) (v2 : Int32) (v3 : Int32), wpX7_isInTheWayOf_b15 M o_ post k2 nn v1 v2 v3 → Y p l e { frames := 4, cells := 0, slots := 0, locals := 144 } s m args below meth c (MQ below (yQi D s0 A (fun r M1 => M1 = M ∧ post r)) args s 0 0 A) D s0 A 4 M 0 0 [some (yr (some o_)), some (yr v1), some (yi v2), some (yi v3)] 15 [] := by
  intro nn
  induction nn with
  | zero => intro v1 v2 v3 h; exact absurd h (by rw [wpX7_isInTheWayOf_b15]; exact id)
  | succ nn ih =>
    intro v1 v2 v3 h
    rw [wpX7_isInTheWayOf_b15] at h
    refine y_iload_n C 3 rfl rfl dX7_isInTheWayOf_15 ?_
    refine y_aload_n C 1 rfl rfl dX7_isInTheWayOf_16 ?_
    obtain ⟨d4, rfl, h⟩ := h
    obtain ⟨r5, ⟨fs9, g1, g2⟩, h⟩ := h
    refine y_get (ci := 7) (k := 0) C in_X7 rfl (by decide) q820 (fun _ h => h) g1 g2 dX7_isInTheWayOf_17 ?_
    obtain ⟨d6, rfl, h⟩ := h
    obtain ⟨⟨vs9, g0⟩, h⟩ := h
    refine y_callVi0 C (metJ2_size hB h) (cwV 0 C.hts (lw_V q937 q494 q495 q90 q496) rfl rfl rfl kdJ2_size ⟨Nat.le_of_ble_eq_true rfl, Nat.le_of_ble_eq_true rfl⟩) g0 rfl rfl rfl (Nat.le_of_ble_eq_true rfl) dX7_isInTheWayOf_20 (fun r7 M1 hp => ?_)
    clear h
    obtain ⟨rfl, h⟩ := hp
    refine y_icmp_ge C 62 dX7_isInTheWayOf_23 (by decide) (fun c9 => ?_) (fun c9 => ?_)
    · replace h := h.1 c9
      replace h := h _ rfl
      refine y_iinc C 2 _ rfl (y_inc1 _) (by decide) dX7_isInTheWayOf_62 ?_
      refine y_goto C 2 dX7_isInTheWayOf_65 (by decide) ?_
      refine y_to C _ ?_ (hk2 _ _ h)
      exact (And.intro rfl (And.intro rfl (And.intro rfl trivial)))
    · replace h := h.2 c9
      refine y_aload_n C 0 rfl rfl dX7_isInTheWayOf_26 ?_
      obtain ⟨r9, ⟨fs9, g1, g2⟩, h⟩ := h
      refine y_get (ci := 7) (k := 0) C in_X7 rfl (by decide) q820 (fun _ h => h) g1 g2 dX7_isInTheWayOf_27 ?_
      refine y_iload_n C 2 rfl rfl dX7_isInTheWayOf_30 ?_
      obtain ⟨d10, rfl, h⟩ := h
      obtain ⟨⟨vs9, g0⟩, h⟩ := h
      refine y_callVq0 C (metJ2_get hB h) (cwV 1 C.hts (lw_V q938 q571 q572 q90 q573) rfl rfl rfl kdJ2_get ⟨Nat.le_of_ble_eq_true rfl, Nat.le_of_ble_eq_true rfl⟩) g0 rfl rfl rfl (Nat.le_of_ble_eq_true rfl) dX7_isInTheWayOf_31 (fun r11 M1 hp => ?_)
      clear h
      obtain ⟨rfl, h⟩ := hp
      obtain ⟨d12, rfl, h⟩ := h
      obtain ⟨⟨vs9, g1⟩, h⟩ := h
      refine y_castY (ci := 6) C q939 q865 rfl g1 dX7_isInTheWayOf_34 ?_
      refine y_aload_n C 1 rfl rfl dX7_isInTheWayOf_37 ?_
      obtain ⟨r13, ⟨fs9, g1, g2⟩, h⟩ := h
      refine y_get (ci := 7) (k := 0) C in_X7 rfl (by decide) q820 (fun _ h => h) g1 g2 dX7_isInTheWayOf_38 ?_
      refine y_iload_n C 3 rfl rfl dX7_isInTheWayOf_41 ?_
      obtain ⟨d14, rfl, h⟩ := h
      obtain ⟨⟨vs9, g0⟩, h⟩ := h
      refine y_callVq0 C (metJ2_get hB h) (cwV 1 C.hts (lw_V q938 q571 q572 q90 q573) rfl rfl rfl kdJ2_get ⟨Nat.le_of_ble_eq_true rfl, Nat.le_of_ble_eq_true rfl⟩) g0 rfl rfl rfl (Nat.le_of_ble_eq_true rfl) dX7_isInTheWayOf_42 (fun r15 M1 hp => ?_)
      clear h
      obtain ⟨rfl, h⟩ := hp
      obtain ⟨d16, rfl, h⟩ := h
      obtain ⟨⟨vs9, g1⟩, h⟩ := h
      refine y_castY (ci := 6) C q939 q865 rfl g1 dX7_isInTheWayOf_45 ?_
      refine y_callSi0 C (metX8_meet hB h) (va_cwS 2 C.hts (lw_S q940 q941 q110 q942) rfl rfl rfl kdX8_meet.2 ⟨Nat.le_of_ble_eq_true rfl, Nat.le_of_ble_eq_true rfl⟩) rfl rfl (Nat.le_of_ble_eq_true rfl) dX7_isInTheWayOf_48 (fun r17 M1 hp => ?_)
      clear h
      obtain ⟨rfl, h⟩ := hp
      refine y_if_eq C 56 dX7_isInTheWayOf_51 (by decide) (fun c9 => ?_) (fun c9 => ?_)
      · replace h := h.1 c9
        replace h := h _ rfl
        refine y_iinc C 3 _ rfl (y_inc1 _) (by decide) dX7_isInTheWayOf_56 ?_
        refine y_goto C 15 dX7_isInTheWayOf_59 (by decide) ?_
        refine y_to C _ ?_ (ih _ _ _ h)
        exact (And.intro rfl (And.intro rfl (And.intro rfl (And.intro rfl trivial))))
      · replace h := h.2 c9
        refine y_iconst C 1 dX7_isInTheWayOf_54 lit1 ?_
        exact y_iretz C hr rfl rfl (by decide) ⟨rfl, h⟩ dX7_isInTheWayOf_55
def wpX7_isInTheWayOf_b2 (M : yM) (o_ : Nat) (post : Int32 → Prop) : Nat → Option Nat → Int32 → Prop
  | 0, _, _ => False
  | nn + 1, v1, v2 => ∃ r1 : Option Nat, yF M o_ 7 0 (yr r1) ∧ ∃ d2 : Nat, r1 = some d2 ∧ (∃ vs, M d2 = some (yo 9 vs)) ∧ wpJ2_size M d2 (fun r3 => ((r3 ≤ v2 → post 0) ∧ (¬ r3 ≤ v2 → ∃ nf9 : Nat, wpX7_isInTheWayOf_b15 M o_ post (fun v1 v2 => wpX7_isInTheWayOf_b2 M o_ post nn v1 v2) nf9 v1 v2 0)))
theorem okX7_isInTheWayOf_b2 (C : yC p { frames := 4, cells := 0, slots := 0, locals := 144 } s m args meth c cX7_isInTheWayOf 4 RX7 D s0 a0 A) (hB : yB D s0 a0) (hr : meth.sig.returnType = (some .boolean)) {M : yM} {o_ : Nat} {post : Int32 → Prop}  : ∀ (nn : Nat) (v1 : Option Nat) (v2 : Int32), wpX7_isInTheWayOf_b2 M o_ post nn v1 v2 → Y p l e { frames := 4, cells := 0, slots := 0, locals := 144 } s m args below meth c (MQ below (yQi D s0 A (fun r M1 => M1 = M ∧ post r)) args s 0 0 A) D s0 A 4 M 0 0 [some (yr (some o_)), some (yr v1), some (yi v2), none] 2 [] := by
  intro nn
  induction nn with
  | zero => intro v1 v2 h; exact absurd h (by rw [wpX7_isInTheWayOf_b2]; exact id)
  | succ nn ih =>
    intro v1 v2 h
    rw [wpX7_isInTheWayOf_b2] at h
    refine y_iload_n C 2 rfl rfl dX7_isInTheWayOf_2 ?_
    refine y_aload_n C 0 rfl rfl dX7_isInTheWayOf_3 ?_
    obtain ⟨r1, ⟨fs9, g1, g2⟩, h⟩ := h
    refine y_get (ci := 7) (k := 0) C in_X7 rfl (by decide) q820 (fun _ h => h) g1 g2 dX7_isInTheWayOf_4 ?_
    obtain ⟨d2, rfl, h⟩ := h
    obtain ⟨⟨vs9, g0⟩, h⟩ := h
    refine y_callVi0 C (metJ2_size hB h) (cwV 0 C.hts (lw_V q937 q494 q495 q90 q496) rfl rfl rfl kdJ2_size ⟨Nat.le_of_ble_eq_true rfl, Nat.le_of_ble_eq_true rfl⟩) g0 rfl rfl rfl (Nat.le_of_ble_eq_true rfl) dX7_isInTheWayOf_7 (fun r3 M1 hp => ?_)
    clear h
    obtain ⟨rfl, h⟩ := hp
    refine y_icmp_ge C 68 dX7_isInTheWayOf_10 (by decide) (fun c9 => ?_) (fun c9 => ?_)
    · replace h := h.1 c9
      refine y_iconst C 0 dX7_isInTheWayOf_68 lit0 ?_
      exact y_iretz C hr rfl rfl (by decide) ⟨rfl, h⟩ dX7_isInTheWayOf_69
    · replace h := h.2 c9
      refine y_iconst C 0 dX7_isInTheWayOf_13 lit0 ?_
      refine y_istore_n C 3 rfl (by decide) dX7_isInTheWayOf_14 ?_
      obtain ⟨nf9, h⟩ := h
      refine y_to C _ ?_ (okX7_isInTheWayOf_b15 C hB hr ih nf9 _ _ _ h)
      exact (And.intro rfl (And.intro rfl (And.intro rfl (And.intro rfl trivial))))
end sX7_isInTheWayOf
def wpX7_isInTheWayOf (M : yM) (o_ : Nat) (a1 : Option Nat) (post : Int32 → Prop) : Prop := ∃ nf9 : Nat, wpX7_isInTheWayOf_b2 M o_ post nf9 a1 0
theorem metX7_isInTheWayOf {l : Launch} {D : va_G} {s0 : State} {a0 : Array Value} (hB : yB D s0 a0) {M : yM} {o_ : Nat} {a1 : Option Nat} {post : Int32 → Prop} (h : wpX7_isInTheWayOf M o_ a1 post) : yMi l yX7_isInTheWayOf (ws_ yX7_isInTheWayOf cX7_isInTheWayOf 4 (some .boolean)) 4 144 0 0 D s0 [yr (some o_), yr a1] M (fun r M1 => M1 = M ∧ post r) := by
  refine y_meti hB (by decide) rfl (Nat.le_of_ble_eq_true rfl) ?_
  intro p e s m below meth c A hr hnm C
  rw [wpX7_isInTheWayOf] at h
  refine y_iconst C 0 dX7_isInTheWayOf_0 lit0 ?_
  refine y_istore_n C 2 rfl (by decide) dX7_isInTheWayOf_1 ?_
  obtain ⟨nf9, h⟩ := h
  refine y_to C _ ?_ (okX7_isInTheWayOf_b2 C hB hr  nf9 _ _ h)
  exact (And.intro rfl (And.intro rfl (And.intro rfl trivial)))

set_option maxRecDepth 100000
theorem kdX1_group : yX1_group.cls = RX1 ∧ yX1_group.cls ≠ "java/lang/invoke/MethodHandle" ∧ yX1_group.cls ≠ "java/lang/invoke/VarHandle" ∧ (parseMethodDescriptor yX1_group.desc).map (fun d => d.parameters.length) = some 1 := by decide +kernel
section sX1_group
variable {p : Program} {l : Launch} {e : Env} {s : State} {m : MethodId} {args : Array Value} {below : List Frame} {meth : Method} {c : Code} {D : va_G} {s0 : State} {a0 : Array Value} {A : Nat → Prop} {mc ms : Nat}
def wpX1_group_b41 (o_ : Nat) (post : Int32 → yM → Prop) (k4 : yM → Nat → Nat → Int32 → Int32 → Int32 → Prop) (M : yM) (rc : Nat) (rs : Nat) (v1 : Int32) (v3 : Int32) (u0 : Int32) (u1 : Int32) : Prop := ∀ x11 : Int32, x11 = (u0 + u1) → ∀ x12 : Int32, x12 = v3 + 1 → k4 M rc rs v1 x11 x12
theorem okX1_group_b41 (C : yC p { frames := 8, cells := mc, slots := ms, locals := 240 } s m args meth c cX1_group 4 RX1 D s0 a0 A) (hB : yB D s0 a0) (hr : meth.sig.returnType = (some .int)) {o_ : Nat} {post : Int32 → yM → Prop} {k4 : yM → Nat → Nat → Int32 → Int32 → Int32 → Prop} (hk4 : ∀ (M : yM) (rc : Nat) (rs : Nat) (v1 : Int32) (v2 : Int32) (v3 : Int32), k4 M rc rs v1 v2 v3 → Y p l e { frames := 8, cells := mc, slots := ms, locals := 240 } s m args below meth c (MQ below (yQi D s0 A post) args s mc ms A) D s0 A 4 M rc rs [some (yr (some o_)), some (yi v1), some (yi v2), some (yi v3)] 4 []) : ∀ (M : yM) (rc : Nat) (rs : Nat) (v1 : Int32) (v3 : Int32) (u0 : Int32) (u1 : Int32), wpX1_group_b41 o_ post k4 M rc rs v1 v3 u0 u1 → Y p l e { frames := 8, cells := mc, slots := ms, locals := 240 } s m args below meth c (MQ below (yQi D s0 A post) args s mc ms A) D s0 A 4 M rc rs [some (yr (some o_)), some (yi v1), none, some (yi v3)] 41 [yi u1, yi u0] := by
  intro M rc rs v1 v3 u0 u1 h
  rw [wpX1_group_b41] at h
  refine y_iadd C dX1_group_41 ?_
  replace h := h _ rfl
  refine y_istore_n C 2 rfl (by decide) dX1_group_42 ?_
  replace h := h _ rfl
  refine y_iinc C 3 _ rfl (y_inc1 _) (by decide) dX1_group_43 ?_
  refine y_goto C 4 dX1_group_46 (by decide) ?_
  refine y_to C _ ?_ (hk4 _ _ _ _ _ _ h)
  exact (And.intro rfl (And.intro rfl (And.intro rfl (And.intro rfl trivial))))
def wpX1_group_b4 (o_ : Nat) (post : Int32 → yM → Prop) : Nat → yM → Nat → Nat → Int32 → Int32 → Int32 → Prop
  | 0, _, _, _, _, _, _ => False
  | nn + 1, M, rc, rs, v1, v2, v3 => ((v1 ≤ v3 → post v2 M) ∧ (¬ v1 ≤ v3 → ∃ kc1 ks2 : Nat, kc1 ≤ rc ∧ ks2 ≤ rs ∧ (∃ vs, M o_ = some (yo 1 vs)) ∧ wpX1_bounds M kc1 ks2 o_ (fun r4 M3 => ∃ d5 : Nat, r4 = some d5 ∧ (∃ vs, M3 d5 = some (yo 8 vs)) ∧ wpX9_areBound M3 d5 v3 v1 (fun r6 => ((r6 = 0 → ∃ kc7 ks8 : Nat, kc7 ≤ (rc - kc1) ∧ ks8 ≤ (rs - ks2) ∧ (∃ vs, M3 o_ = some (yo 1 vs)) ∧ wpX1_isFirst M3 kc7 ks8 o_ v3 (fun r10 M9 => ((r10 = 0 → wpX1_group_b41 o_ post (fun M rc rs v1 v2 v3 => wpX1_group_b4 o_ post nn M rc rs v1 v2 v3) M9 ((rc - kc1) - kc7) ((rs - ks2) - ks8) v1 v3 v2 0) ∧ (¬ r10 = 0 → wpX1_group_b41 o_ post (fun M rc rs v1 v2 v3 => wpX1_group_b4 o_ post nn M rc rs v1 v2 v3) M9 ((rc - kc1) - kc7) ((rs - ks2) - ks8) v1 v3 v2 1)))) ∧ (¬ r6 = 0 → ∃ kc13 ks14 : Nat, kc13 ≤ (rc - kc1) ∧ ks14 ≤ (rs - ks2) ∧ (∃ vs, M3 o_ = some (yo 1 vs)) ∧ wpX1_group0 M3 kc13 ks14 o_ v3 (fun r16 M15 => post r16 M15)))))))
theorem okX1_group_b4 (C : yC p { frames := 8, cells := mc, slots := ms, locals := 240 } s m args meth c cX1_group 4 RX1 D s0 a0 A) (hB : yB D s0 a0) (hr : meth.sig.returnType = (some .int)) {o_ : Nat} {post : Int32 → yM → Prop}  : ∀ (nn : Nat) (M : yM) (rc : Nat) (rs : Nat) (v1 : Int32) (v2 : Int32) (v3 : Int32), wpX1_group_b4 o_ post nn M rc rs v1 v2 v3 → Y p l e { frames := 8, cells := mc, slots := ms, locals := 240 } s m args below meth c (MQ below (yQi D s0 A post) args s mc ms A) D s0 A 4 M rc rs [some (yr (some o_)), some (yi v1), some (yi v2), some (yi v3)] 4 [] := by
  intro nn
  induction nn with
  | zero => intro M rc rs v1 v2 v3 h; exact absurd h (by rw [wpX1_group_b4]; exact id)
  | succ nn ih =>
    intro M rc rs v1 v2 v3 h
    rw [wpX1_group_b4] at h
    refine y_iload_n C 3 rfl rfl dX1_group_4 ?_
    refine y_iload_n C 1 rfl rfl dX1_group_5 ?_
    refine y_icmp_ge C 49 dX1_group_6 (by decide) (fun c9 => ?_) (fun c9 => ?_)
    · replace h := h.1 c9
      refine y_iload_n C 2 rfl rfl dX1_group_49 ?_
      exact y_ireti C hr rfl rfl h dX1_group_50
    · replace h := h.2 c9
      refine y_aload_n C 0 rfl rfl dX1_group_9 ?_
      obtain ⟨kc1, ks2, g1, g2, h⟩ := h
      obtain ⟨⟨vs9, g0⟩, h⟩ := h
      refine y_callVq C (metX1_bounds hB h) (cwV 0 C.hts (lw_V q965 q966 q967 q87 q968) rfl rfl rfl kdX1_bounds ⟨Nat.le_of_ble_eq_true rfl, Nat.le_of_ble_eq_true rfl⟩) g0 rfl rfl rfl (Nat.le_of_ble_eq_true rfl) dX1_group_10 g1 g2 (fun r4 M3 hp => ?_)
      replace h := hp
      refine y_iload_n C 3 rfl rfl dX1_group_13 ?_
      refine y_iload_n C 1 rfl rfl dX1_group_14 ?_
      obtain ⟨d5, rfl, h⟩ := h
      obtain ⟨⟨vs9, g0⟩, h⟩ := h
      refine y_callVi0 C (metX9_areBound hB h) (cwV 2 C.hts (lw_V q993 q994 q995 q111 q996) rfl rfl rfl kdX9_areBound ⟨Nat.le_of_ble_eq_true rfl, Nat.le_of_ble_eq_true rfl⟩) g0 rfl rfl rfl (Nat.le_of_ble_eq_true rfl) dX1_group_15 (fun r6 M1 hp => ?_)
      clear h
      obtain ⟨rfl, h⟩ := hp
      refine y_if_eq C 27 dX1_group_18 (by decide) (fun c9 => ?_) (fun c9 => ?_)
      · replace h := h.1 c9
        refine y_iload_n C 2 rfl rfl dX1_group_27 ?_
        refine y_aload_n C 0 rfl rfl dX1_group_28 ?_
        refine y_iload_n C 3 rfl rfl dX1_group_29 ?_
        obtain ⟨kc7, ks8, g1, g2, h⟩ := h
        obtain ⟨⟨vs9, g0⟩, h⟩ := h
        refine y_callVi C (metX1_isFirst hB h) (cwV 1 C.hts (lw_V q998 q1000 qs21 q87 q1001) rfl rfl rfl kdX1_isFirst ⟨Nat.le_of_ble_eq_true rfl, Nat.le_of_ble_eq_true rfl⟩) g0 rfl rfl rfl (Nat.le_of_ble_eq_true rfl) dX1_group_30 g1 g2 (fun r10 M9 hp => ?_)
        replace h := hp
        refine y_if_eq C 40 dX1_group_33 (by decide) (fun c9 => ?_) (fun c9 => ?_)
        · replace h := h.1 c9
          refine y_iconst C 0 dX1_group_40 lit0 ?_
          refine y_to C _ ?_ (okX1_group_b41 C hB hr ih _ _ _ _ _ _ _ h)
          exact (And.intro rfl (And.intro rfl (And.intro rfl trivial)))
        · replace h := h.2 c9
          refine y_iconst C 1 dX1_group_36 lit1 ?_
          refine y_goto C 41 dX1_group_37 (by decide) ?_
          refine y_to C _ ?_ (okX1_group_b41 C hB hr ih _ _ _ _ _ _ _ h)
          exact (And.intro rfl (And.intro rfl (And.intro rfl trivial)))
      · replace h := h.2 c9
        refine y_aload_n C 0 rfl rfl dX1_group_21 ?_
        refine y_iload_n C 3 rfl rfl dX1_group_22 ?_
        obtain ⟨kc13, ks14, g1, g2, h⟩ := h
        obtain ⟨⟨vs9, g0⟩, h⟩ := h
        refine y_callVi C (metX1_group0 hB h) (cwV 1 C.hts (lw_V q997 q962 q963 q87 q964) rfl rfl rfl kdX1_group ⟨Nat.le_of_ble_eq_true rfl, Nat.le_of_ble_eq_true rfl⟩) g0 rfl rfl rfl (Nat.le_of_ble_eq_true rfl) dX1_group_23 g1 g2 (fun r16 M15 hp => ?_)
        replace h := hp
        exact y_ireti C hr rfl rfl h dX1_group_26
end sX1_group
def wpX1_group (M : yM) (mc : Nat) (ms : Nat) (o_ : Nat) (a1 : Int32) (post : Int32 → yM → Prop) : Prop := ∃ nf9 : Nat, wpX1_group_b4 o_ post nf9 M mc ms a1 0 0
theorem metX1_group {l : Launch} {D : va_G} {s0 : State} {a0 : Array Value} (hB : yB D s0 a0) {M : yM} {mc : Nat} {ms : Nat} {o_ : Nat} {a1 : Int32} {post : Int32 → yM → Prop} (h : wpX1_group M mc ms o_ a1 post) : yMi l yX1_group (ws_ yX1_group cX1_group 4 (some .int)) 8 240 mc ms D s0 [yr (some o_), yi a1] M post := by
  refine y_meti hB (by decide) rfl (Nat.le_of_ble_eq_true rfl) ?_
  intro p e s m below meth c A hr hnm C
  rw [wpX1_group] at h
  refine y_iconst C 0 dX1_group_0 lit0 ?_
  refine y_istore_n C 2 rfl (by decide) dX1_group_1 ?_
  refine y_iconst C 0 dX1_group_2 lit0 ?_
  refine y_istore_n C 3 rfl (by decide) dX1_group_3 ?_
  obtain ⟨nf9, h⟩ := h
  refine y_to C _ ?_ (okX1_group_b4 C hB hr  nf9 _ _ _ _ _ _ h)
  exact (And.intro rfl (And.intro rfl (And.intro rfl (And.intro rfl trivial))))
theorem kdX9_greatest : yX9_greatest.cls = RX9 ∧ yX9_greatest.cls ≠ "java/lang/invoke/MethodHandle" ∧ yX9_greatest.cls ≠ "java/lang/invoke/VarHandle" ∧ (parseMethodDescriptor yX9_greatest.desc).map (fun d => d.parameters.length) = some 2 := by decide +kernel
def wpX9_greatest (M : yM) (o_ : Nat) (a1 : Int32) (a2 : Int32) (post : Int32 → Prop) : Prop := ∃ r1 : Option Nat, yF M o_ 8 1 (yr r1) ∧ ∃ x2 : Int32, yF M o_ 8 0 (yi x2) ∧ ∃ d3 : Nat, r1 = some d3 ∧ ∃ (n4 : Nat) (f5 : Nat → Int32), M d3 = some (yai n4 f5) ∧ vp_in ((a1 * x2) + a2) n4 ∧ post (f5 (Int32.toNatClampNeg ((a1 * x2) + a2)))
theorem metX9_greatest {l : Launch} {D : va_G} {s0 : State} {a0 : Array Value} (hB : yB D s0 a0) {M : yM} {o_ : Nat} {a1 : Int32} {a2 : Int32} {post : Int32 → Prop} (h : wpX9_greatest M o_ a1 a2 post) : yMi l yX9_greatest (ws_ yX9_greatest cX9_greatest 3 (some .int)) 1 80 0 0 D s0 [yr (some o_), yi a1, yi a2] M (fun r M1 => M1 = M ∧ post r) := by
  refine y_meti hB (by decide) rfl (Nat.le_of_ble_eq_true rfl) ?_
  intro p e s m below meth c A hr hnm C
  rw [wpX9_greatest] at h
  refine y_aload_n C 0 rfl rfl dX9_greatest_0 ?_
  obtain ⟨r1, ⟨fs9, g1, g2⟩, h⟩ := h
  refine y_get (ci := 8) (k := 1) C in_X9 rfl (by decide) q986 (fun _ h => h) g1 g2 dX9_greatest_1 ?_
  refine y_iload_n C 1 rfl rfl dX9_greatest_4 ?_
  refine y_aload_n C 0 rfl rfl dX9_greatest_5 ?_
  obtain ⟨x2, ⟨fs9, g1, g2⟩, h⟩ := h
  refine y_get (ci := 8) (k := 0) C in_X9 rfl (by decide) q985 (fun _ h => h) g1 g2 dX9_greatest_6 ?_
  refine y_imul C dX9_greatest_9 ?_
  refine y_iload_n C 2 rfl rfl dX9_greatest_10 ?_
  refine y_iadd C dX9_greatest_11 ?_
  obtain ⟨d3, rfl, h⟩ := h
  obtain ⟨n4, f5, g1, g2, h⟩ := h
  refine y_iald C g1 g2 dX9_greatest_12 ?_
  exact y_ireti C hr rfl rfl ⟨rfl, h⟩ dX9_greatest_13
theorem kdX9_least : yX9_least.cls = RX9 ∧ yX9_least.cls ≠ "java/lang/invoke/MethodHandle" ∧ yX9_least.cls ≠ "java/lang/invoke/VarHandle" ∧ (parseMethodDescriptor yX9_least.desc).map (fun d => d.parameters.length) = some 2 := by decide +kernel
def wpX9_least (M : yM) (o_ : Nat) (a1 : Int32) (a2 : Int32) (post : Int32 → Prop) : Prop := ∃ r1 : Option Nat, yF M o_ 8 1 (yr r1) ∧ ∃ x2 : Int32, yF M o_ 8 0 (yi x2) ∧ ∃ d3 : Nat, r1 = some d3 ∧ ∃ (n4 : Nat) (f5 : Nat → Int32), M d3 = some (yai n4 f5) ∧ vp_in ((a2 * x2) + a1) n4 ∧ post (-(f5 (Int32.toNatClampNeg ((a2 * x2) + a1))))
theorem metX9_least {l : Launch} {D : va_G} {s0 : State} {a0 : Array Value} (hB : yB D s0 a0) {M : yM} {o_ : Nat} {a1 : Int32} {a2 : Int32} {post : Int32 → Prop} (h : wpX9_least M o_ a1 a2 post) : yMi l yX9_least (ws_ yX9_least cX9_least 3 (some .int)) 1 80 0 0 D s0 [yr (some o_), yi a1, yi a2] M (fun r M1 => M1 = M ∧ post r) := by
  refine y_meti hB (by decide) rfl (Nat.le_of_ble_eq_true rfl) ?_
  intro p e s m below meth c A hr hnm C
  rw [wpX9_least] at h
  refine y_aload_n C 0 rfl rfl dX9_least_0 ?_
  obtain ⟨r1, ⟨fs9, g1, g2⟩, h⟩ := h
  refine y_get (ci := 8) (k := 1) C in_X9 rfl (by decide) q986 (fun _ h => h) g1 g2 dX9_least_1 ?_
  refine y_iload_n C 2 rfl rfl dX9_least_4 ?_
  refine y_aload_n C 0 rfl rfl dX9_least_5 ?_
  obtain ⟨x2, ⟨fs9, g1, g2⟩, h⟩ := h
  refine y_get (ci := 8) (k := 0) C in_X9 rfl (by decide) q985 (fun _ h => h) g1 g2 dX9_least_6 ?_
  refine y_imul C dX9_least_9 ?_
  refine y_iload_n C 1 rfl rfl dX9_least_10 ?_
  refine y_iadd C dX9_least_11 ?_
  obtain ⟨d3, rfl, h⟩ := h
  obtain ⟨n4, f5, g1, g2, h⟩ := h
  refine y_iald C g1 g2 dX9_least_12 ?_
  refine y_ineg C dX9_least_13 ?_
  exact y_ireti C hr rfl rfl ⟨rfl, h⟩ dX9_least_14
theorem kdX1_isSuperfluous : yX1_isSuperfluous.cls = RX1 ∧ yX1_isSuperfluous.cls ≠ "java/lang/invoke/MethodHandle" ∧ yX1_isSuperfluous.cls ≠ "java/lang/invoke/VarHandle" ∧ (parseMethodDescriptor yX1_isSuperfluous.desc).map (fun d => d.parameters.length) = some 1 := by decide +kernel
def wpX1_isSuperfluous (M : yM) (mc : Nat) (ms : Nat) (o_ : Nat) (a1 : Int32) (post : Int32 → yM → Prop) : Prop := ∃ r1 : Option Nat, yF M o_ 1 1 (yr r1) ∧ ∃ d2 : Nat, r1 = some d2 ∧ (∃ vs, M d2 = some (yo 9 vs)) ∧ wpJ2_get M d2 a1 (fun r3 => (∀ v, r3 = some v → ∃ vs, M v = some (yo 6 vs)) ∧ 1 ≤ mc ∧ 2 ≤ ms ∧ ∀ q4 : Nat, M q4 = none → ∀ M5 : yM, M5 = yup M q4 (yo 8 [yi 0, yr none]) → ∃ kc6 ks7 : Nat, kc6 ≤ (mc - 1) ∧ ks7 ≤ (ms - 2) ∧ wpX9_init M5 kc6 ks7 q4 (some o_) a1 (-999) (fun M8 => ∃ r9 : Option Nat, yF M8 o_ 1 0 (yr r9) ∧ ∃ d10 : Nat, r3 = some d10 ∧ ∃ r11 : Option Nat, yF M8 d10 6 0 (yr r11) ∧ ∃ d12 : Nat, r9 = some d12 ∧ (∃ vs, M8 d12 = some (yo 9 vs)) ∧ wpJ2_indexOf M8 d12 r11 (fun r13 => ∃ r14 : Option Nat, yF M8 o_ 1 0 (yr r14) ∧ ∃ r15 : Option Nat, yF M8 d10 6 1 (yr r15) ∧ ∃ d16 : Nat, r14 = some d16 ∧ (∃ vs, M8 d16 = some (yo 9 vs)) ∧ wpJ2_indexOf M8 d16 r15 (fun r17 => (∃ vs, M8 q4 = some (yo 8 vs)) ∧ wpX9_areBound M8 q4 r13 r17 (fun r18 => ((r18 = 0 → post 0 M8) ∧ (¬ r18 = 0 → (∃ vs, M8 q4 = some (yo 8 vs)) ∧ wpX9_greatest M8 q4 r13 r17 (fun r19 => (∃ vs, M8 d10 = some (yo 6 vs)) ∧ wpX6_value M8 d10 (fun r20 => ∃ x21 : Int32, yF M8 d10 6 3 (yi x21) ∧ (((r20 + x21) < r19 → post 0 M8) ∧ (¬ (r20 + x21) < r19 → (∃ vs, M8 q4 = some (yo 8 vs)) ∧ wpX9_least M8 q4 r13 r17 (fun r22 => (∃ vs, M8 d10 = some (yo 6 vs)) ∧ wpX6_value M8 d10 (fun r23 => ∃ x24 : Int32, yF M8 d10 6 2 (yi x24) ∧ ((r22 < (r23 - x24) → post 0 M8) ∧ (¬ r22 < (r23 - x24) → post 1 M8)))))))))))))))
theorem metX1_isSuperfluous {l : Launch} {D : va_G} {s0 : State} {a0 : Array Value} (hB : yB D s0 a0) {M : yM} {mc : Nat} {ms : Nat} {o_ : Nat} {a1 : Int32} {post : Int32 → yM → Prop} (h : wpX1_isSuperfluous M mc ms o_ a1 post) : yMi l yX1_isSuperfluous (ws_ yX1_isSuperfluous cX1_isSuperfluous 6 (some .boolean)) 5 174 mc ms D s0 [yr (some o_), yi a1] M post := by
  refine y_meti hB (by decide) rfl (Nat.le_of_ble_eq_true rfl) ?_
  intro p e s m below meth c A hr hnm C
  rw [wpX1_isSuperfluous] at h
  refine y_aload_n C 0 rfl rfl dX1_isSuperfluous_0 ?_
  obtain ⟨r1, ⟨fs9, g1, g2⟩, h⟩ := h
  refine y_get (ci := 1) (k := 1) C in_X1 rfl (by decide) q158 (fun _ h => h) g1 g2 dX1_isSuperfluous_1 ?_
  refine y_iload_n C 1 rfl rfl dX1_isSuperfluous_4 ?_
  obtain ⟨d2, rfl, h⟩ := h
  obtain ⟨⟨vs9, g0⟩, h⟩ := h
  refine y_callVq0 C (metJ2_get hB h) (cwV 1 C.hts (lw_V q659 q571 q572 q90 q573) rfl rfl rfl kdJ2_get ⟨Nat.le_of_ble_eq_true rfl, Nat.le_of_ble_eq_true rfl⟩) g0 rfl rfl rfl (Nat.le_of_ble_eq_true rfl) dX1_isSuperfluous_5 (fun r3 M1 hp => ?_)
  clear h
  obtain ⟨rfl, h⟩ := hp
  obtain ⟨g1, h⟩ := h
  refine y_ckc (ci := 6) C q673 rfl g1 dX1_isSuperfluous_8 ?_
  refine y_astore_n C 2 rfl (by decide) dX1_isSuperfluous_11 ?_
  obtain ⟨g1, g2, h⟩ := h
  refine y_new (ci := 8) C in_X9 tyX9_ok rfl q152 q969 q111 [yi 0, yr none] (fun j hj => by rcases (show j = 0 ∨ j = 1 by omega) with rfl | rfl <;> rfl) g1 g2 dX1_isSuperfluous_12 (fun q4 g3 => ?_)
  replace h := h q4 g3 _ rfl
  refine y_dup C rfl dX1_isSuperfluous_15 ?_
  refine y_aload_n C 0 rfl rfl dX1_isSuperfluous_16 ?_
  refine y_iload_n C 1 rfl rfl dX1_isSuperfluous_17 ?_
  refine y_sipush C (-999) dX1_isSuperfluous_18 y_sm999 ?_
  obtain ⟨kc6, ks7, g1, g2, h⟩ := h
  refine y_callIv C (metX9_init hB h) (cwI 3 C.hts (lw_meth q972) rfl rfl rfl (C.hts _ q111) (C.hts _ q970) (C.hts _ q971) rfl kdX9_init.2 ⟨Nat.le_of_ble_eq_true rfl, Nat.le_of_ble_eq_true rfl⟩) rfl rfl (Nat.le_of_ble_eq_true rfl) dX1_isSuperfluous_21 g1 g2 (fun M8 hp => ?_)
  replace h := hp
  refine y_astore_n C 3 rfl (by decide) dX1_isSuperfluous_24 ?_
  refine y_aload_n C 0 rfl rfl dX1_isSuperfluous_25 ?_
  obtain ⟨r9, ⟨fs9, g1, g2⟩, h⟩ := h
  refine y_get (ci := 1) (k := 0) C in_X1 rfl (by decide) q155 (fun _ h => h) g1 g2 dX1_isSuperfluous_26 ?_
  refine y_aload_n C 2 rfl rfl dX1_isSuperfluous_29 ?_
  obtain ⟨d10, rfl, h⟩ := h
  obtain ⟨r11, ⟨fs9, g1, g2⟩, h⟩ := h
  refine y_getN (ci := 6) (k := 0) C in_X6 rfl (by decide) q589 (fun _ h => h) g1 g2 dX1_isSuperfluous_30 ?_
  obtain ⟨d12, rfl, h⟩ := h
  obtain ⟨⟨vs9, g0⟩, h⟩ := h
  refine y_callVi0 C (metJ2_indexOf hB h) (cwV 1 C.hts (lw_V q674 q675 q676 q90 q677) rfl rfl rfl kdJ2_indexOf ⟨Nat.le_of_ble_eq_true rfl, Nat.le_of_ble_eq_true rfl⟩) g0 rfl rfl rfl (Nat.le_of_ble_eq_true rfl) dX1_isSuperfluous_33 (fun r13 M1 hp => ?_)
  clear h
  obtain ⟨rfl, h⟩ := hp
  refine y_istore C 4 (by decide) dX1_isSuperfluous_36 ?_
  refine y_aload_n C 0 rfl rfl dX1_isSuperfluous_38 ?_
  obtain ⟨r14, ⟨fs9, g1, g2⟩, h⟩ := h
  refine y_get (ci := 1) (k := 0) C in_X1 rfl (by decide) q155 (fun _ h => h) g1 g2 dX1_isSuperfluous_39 ?_
  refine y_aload_n C 2 rfl rfl dX1_isSuperfluous_42 ?_
  obtain ⟨r15, ⟨fs9, g1, g2⟩, h⟩ := h
  refine y_getN (ci := 6) (k := 1) C in_X6 rfl (by decide) q594 (fun _ h => h) g1 g2 dX1_isSuperfluous_43 ?_
  obtain ⟨d16, rfl, h⟩ := h
  obtain ⟨⟨vs9, g0⟩, h⟩ := h
  refine y_callVi0 C (metJ2_indexOf hB h) (cwV 1 C.hts (lw_V q674 q675 q676 q90 q677) rfl rfl rfl kdJ2_indexOf ⟨Nat.le_of_ble_eq_true rfl, Nat.le_of_ble_eq_true rfl⟩) g0 rfl rfl rfl (Nat.le_of_ble_eq_true rfl) dX1_isSuperfluous_46 (fun r17 M1 hp => ?_)
  clear h
  obtain ⟨rfl, h⟩ := hp
  refine y_istore C 5 (by decide) dX1_isSuperfluous_49 ?_
  refine y_aload_n C 3 rfl rfl dX1_isSuperfluous_51 ?_
  refine y_iload C 4 rfl dX1_isSuperfluous_52 ?_
  refine y_iload C 5 rfl dX1_isSuperfluous_54 ?_
  obtain ⟨⟨vs9, g0⟩, h⟩ := h
  refine y_callVi0 C (metX9_areBound hB h) (cwV 2 C.hts (lw_V q993 q994 q995 q111 q996) rfl rfl rfl kdX9_areBound ⟨Nat.le_of_ble_eq_true rfl, Nat.le_of_ble_eq_true rfl⟩) g0 rfl rfl rfl (Nat.le_of_ble_eq_true rfl) dX1_isSuperfluous_56 (fun r18 M1 hp => ?_)
  clear h
  obtain ⟨rfl, h⟩ := hp
  refine y_if_eq C 106 dX1_isSuperfluous_59 (by decide) (fun c9 => ?_) (fun c9 => ?_)
  · replace h := h.1 c9
    refine y_iconst C 0 dX1_isSuperfluous_106 lit0 ?_
    exact y_iretz C hr rfl rfl (by decide) h dX1_isSuperfluous_107
  · replace h := h.2 c9
    refine y_aload_n C 3 rfl rfl dX1_isSuperfluous_62 ?_
    refine y_iload C 4 rfl dX1_isSuperfluous_63 ?_
    refine y_iload C 5 rfl dX1_isSuperfluous_65 ?_
    obtain ⟨⟨vs9, g0⟩, h⟩ := h
    refine y_callVi0 C (metX9_greatest hB h) (cwV 2 C.hts (lw_V q1012 q1013 q1014 q111 q1015) rfl rfl rfl kdX9_greatest ⟨Nat.le_of_ble_eq_true rfl, Nat.le_of_ble_eq_true rfl⟩) g0 rfl rfl rfl (Nat.le_of_ble_eq_true rfl) dX1_isSuperfluous_67 (fun r19 M1 hp => ?_)
    clear h
    obtain ⟨rfl, h⟩ := hp
    refine y_aload_n C 2 rfl rfl dX1_isSuperfluous_70 ?_
    obtain ⟨⟨vs9, g0⟩, h⟩ := h
    refine y_callVi0 C (metX6_value hB h) (cwV 0 C.hts (lw_V q1016 q732 q733 q107 q734) rfl rfl rfl kdX6_value ⟨Nat.le_of_ble_eq_true rfl, Nat.le_of_ble_eq_true rfl⟩) g0 rfl rfl rfl (Nat.le_of_ble_eq_true rfl) dX1_isSuperfluous_71 (fun r20 M1 hp => ?_)
    clear h
    obtain ⟨rfl, h⟩ := hp
    refine y_aload_n C 2 rfl rfl dX1_isSuperfluous_74 ?_
    obtain ⟨x21, ⟨fs9, g1, g2⟩, h⟩ := h
    refine y_getN (ci := 6) (k := 3) C in_X6 rfl (by decide) q601 (fun _ h => h) g1 g2 dX1_isSuperfluous_75 ?_
    refine y_iadd C dX1_isSuperfluous_78 ?_
    refine y_icmp_gt C 106 dX1_isSuperfluous_79 (by decide) (fun c9 => ?_) (fun c9 => ?_)
    · replace h := h.1 c9
      refine y_iconst C 0 dX1_isSuperfluous_106 lit0 ?_
      exact y_iretz C hr rfl rfl (by decide) h dX1_isSuperfluous_107
    · replace h := h.2 c9
      refine y_aload_n C 3 rfl rfl dX1_isSuperfluous_82 ?_
      refine y_iload C 4 rfl dX1_isSuperfluous_83 ?_
      refine y_iload C 5 rfl dX1_isSuperfluous_85 ?_
      obtain ⟨⟨vs9, g0⟩, h⟩ := h
      refine y_callVi0 C (metX9_least hB h) (cwV 2 C.hts (lw_V q1017 q1018 q1019 q111 q1020) rfl rfl rfl kdX9_least ⟨Nat.le_of_ble_eq_true rfl, Nat.le_of_ble_eq_true rfl⟩) g0 rfl rfl rfl (Nat.le_of_ble_eq_true rfl) dX1_isSuperfluous_87 (fun r22 M1 hp => ?_)
      clear h
      obtain ⟨rfl, h⟩ := hp
      refine y_aload_n C 2 rfl rfl dX1_isSuperfluous_90 ?_
      obtain ⟨⟨vs9, g0⟩, h⟩ := h
      refine y_callVi0 C (metX6_value hB h) (cwV 0 C.hts (lw_V q1016 q732 q733 q107 q734) rfl rfl rfl kdX6_value ⟨Nat.le_of_ble_eq_true rfl, Nat.le_of_ble_eq_true rfl⟩) g0 rfl rfl rfl (Nat.le_of_ble_eq_true rfl) dX1_isSuperfluous_91 (fun r23 M1 hp => ?_)
      clear h
      obtain ⟨rfl, h⟩ := hp
      refine y_aload_n C 2 rfl rfl dX1_isSuperfluous_94 ?_
      obtain ⟨x24, ⟨fs9, g1, g2⟩, h⟩ := h
      refine y_getN (ci := 6) (k := 2) C in_X6 rfl (by decide) q597 (fun _ h => h) g1 g2 dX1_isSuperfluous_95 ?_
      refine y_isub C dX1_isSuperfluous_98 ?_
      refine y_icmp_lt C 106 dX1_isSuperfluous_99 (by decide) (fun c9 => ?_) (fun c9 => ?_)
      · replace h := h.1 c9
        refine y_iconst C 0 dX1_isSuperfluous_106 lit0 ?_
        exact y_iretz C hr rfl rfl (by decide) h dX1_isSuperfluous_107
      · replace h := h.2 c9
        refine y_iconst C 1 dX1_isSuperfluous_102 lit1 ?_
        refine y_goto C 107 dX1_isSuperfluous_103 (by decide) ?_
        exact y_iretz C hr rfl rfl (by decide) h dX1_isSuperfluous_107
theorem kdX0_distance : yX0_distance.cls = RX0 ∧ yX0_distance.cls ≠ "java/lang/invoke/MethodHandle" ∧ yX0_distance.cls ≠ "java/lang/invoke/VarHandle" ∧ (parseMethodDescriptor yX0_distance.desc).map (fun d => d.parameters.length) = some 3 := by decide +kernel
def wpX0_distance (M : yM) (mc : Nat) (ms : Nat) (o_ : Nat) (a1 : Int32) (a2 : Int32) (a3 : Int32) (post : Int32 → yM → Prop) : Prop := (∃ vs, M o_ = some (yo 0 vs)) ∧ wpX0_arePoints M o_ a1 a2 (fun r1 => ((¬ r1 = 0 → ∃ r2 : Option Nat, yF M o_ 0 0 (yr r2) ∧ ∃ d3 : Nat, r2 = some d3 ∧ ∃ kc4 ks5 : Nat, kc4 ≤ mc ∧ ks5 ≤ ms ∧ (∃ vs, M d3 = some (yo 1 vs)) ∧ wpX1_bounds M kc4 ks5 d3 (fun r7 M6 => ∃ d8 : Nat, r7 = some d8 ∧ (∃ vs, M6 d8 = some (yo 8 vs)) ∧ wpX9_areBound M6 d8 a1 a2 (fun r9 => ((¬ r9 = 0 → ((a3 = 0 → (∃ vs, M6 d8 = some (yo 8 vs)) ∧ wpX9_least M6 d8 a1 a2 (fun r10 => post r10 M6)) ∧ (¬ a3 = 0 → (∃ vs, M6 d8 = some (yo 8 vs)) ∧ wpX9_greatest M6 d8 a1 a2 (fun r11 => post r11 M6)))) ∧ (r9 = 0 → post (-999) M6))))) ∧ (r1 = 0 → post (-1) M)))
theorem metX0_distance {l : Launch} {D : va_G} {s0 : State} {a0 : Array Value} (hB : yB D s0 a0) {M : yM} {mc : Nat} {ms : Nat} {o_ : Nat} {a1 : Int32} {a2 : Int32} {a3 : Int32} {post : Int32 → yM → Prop} (h : wpX0_distance M mc ms o_ a1 a2 a3 post) : yMi l yX0_distance (ws_ yX0_distance cX0_distance 5 (some .int)) 6 194 mc ms D s0 [yr (some o_), yi a1, yi a2, yi a3] M post := by
  refine y_meti hB (by decide) rfl (Nat.le_of_ble_eq_true rfl) ?_
  intro p e s m below meth c A hr hnm C
  rw [wpX0_distance] at h
  refine y_aload_n C 0 rfl rfl dX0_distance_0 ?_
  refine y_iload_n C 1 rfl rfl dX0_distance_1 ?_
  refine y_iload_n C 2 rfl rfl dX0_distance_2 ?_
  obtain ⟨⟨vs9, g0⟩, h⟩ := h
  refine y_callVi0 C (metX0_arePoints hB h) (cwV 2 C.hts (lw_V q751 q753 qs15 q86 q754) rfl rfl rfl kdX0_arePoints ⟨Nat.le_of_ble_eq_true rfl, Nat.le_of_ble_eq_true rfl⟩) g0 rfl rfl rfl (Nat.le_of_ble_eq_true rfl) dX0_distance_3 (fun r1 M1 hp => ?_)
  clear h
  obtain ⟨rfl, h⟩ := hp
  refine y_if_ne C 11 dX0_distance_6 (by decide) (fun c9 => ?_) (fun c9 => ?_)
  · replace h := h.1 c9
    refine y_aload_n C 0 rfl rfl dX0_distance_11 ?_
    obtain ⟨r2, ⟨fs9, g1, g2⟩, h⟩ := h
    refine y_get (ci := 0) (k := 0) C in_X0 rfl (by decide) q185 (fun _ h => h) g1 g2 dX0_distance_12 ?_
    obtain ⟨d3, rfl, h⟩ := h
    obtain ⟨kc4, ks5, g1, g2, h⟩ := h
    obtain ⟨⟨vs9, g0⟩, h⟩ := h
    refine y_callVq C (metX1_bounds hB h) (cwV 0 C.hts (lw_V q1037 q966 q967 q87 q968) rfl rfl rfl kdX1_bounds ⟨Nat.le_of_ble_eq_true rfl, Nat.le_of_ble_eq_true rfl⟩) g0 rfl rfl rfl (Nat.le_of_ble_eq_true rfl) dX0_distance_15 g1 g2 (fun r7 M6 hp => ?_)
    replace h := hp
    refine y_astore C 4 (by decide) dX0_distance_18 ?_
    refine y_aload C 4 rfl dX0_distance_20 ?_
    refine y_iload_n C 1 rfl rfl dX0_distance_22 ?_
    refine y_iload_n C 2 rfl rfl dX0_distance_23 ?_
    obtain ⟨d8, rfl, h⟩ := h
    obtain ⟨⟨vs9, g0⟩, h⟩ := h
    refine y_callVi0 C (metX9_areBound hB h) (cwV 2 C.hts (lw_V q1038 q994 q995 q111 q996) rfl rfl rfl kdX9_areBound ⟨Nat.le_of_ble_eq_true rfl, Nat.le_of_ble_eq_true rfl⟩) g0 rfl rfl rfl (Nat.le_of_ble_eq_true rfl) dX0_distance_24 (fun r9 M1 hp => ?_)
    clear h
    obtain ⟨rfl, h⟩ := hp
    refine y_if_ne C 36 dX0_distance_27 (by decide) (fun c9 => ?_) (fun c9 => ?_)
    · replace h := h.1 c9
      refine y_iload_n C 3 rfl rfl dX0_distance_36 ?_
      refine y_if_eq C 50 dX0_distance_37 (by decide) (fun c9 => ?_) (fun c9 => ?_)
      · replace h := h.1 c9
        refine y_aload C 4 rfl dX0_distance_50 ?_
        refine y_iload_n C 1 rfl rfl dX0_distance_52 ?_
        refine y_iload_n C 2 rfl rfl dX0_distance_53 ?_
        obtain ⟨⟨vs9, g0⟩, h⟩ := h
        refine y_callVi0 C (metX9_least hB h) (cwV 2 C.hts (lw_V q1040 q1018 q1019 q111 q1020) rfl rfl rfl kdX9_least ⟨Nat.le_of_ble_eq_true rfl, Nat.le_of_ble_eq_true rfl⟩) g0 rfl rfl rfl (Nat.le_of_ble_eq_true rfl) dX0_distance_54 (fun r10 M1 hp => ?_)
        clear h
        obtain ⟨rfl, h⟩ := hp
        exact y_ireti C hr rfl rfl h dX0_distance_57
      · replace h := h.2 c9
        refine y_aload C 4 rfl dX0_distance_40 ?_
        refine y_iload_n C 1 rfl rfl dX0_distance_42 ?_
        refine y_iload_n C 2 rfl rfl dX0_distance_43 ?_
        obtain ⟨⟨vs9, g0⟩, h⟩ := h
        refine y_callVi0 C (metX9_greatest hB h) (cwV 2 C.hts (lw_V q1039 q1013 q1014 q111 q1015) rfl rfl rfl kdX9_greatest ⟨Nat.le_of_ble_eq_true rfl, Nat.le_of_ble_eq_true rfl⟩) g0 rfl rfl rfl (Nat.le_of_ble_eq_true rfl) dX0_distance_44 (fun r11 M1 hp => ?_)
        clear h
        obtain ⟨rfl, h⟩ := hp
        refine y_goto C 57 dX0_distance_47 (by decide) ?_
        exact y_ireti C hr rfl rfl h dX0_distance_57
    · replace h := h.2 c9
      refine y_sipush C (-999) dX0_distance_30 y_sm999 ?_
      refine y_goto C 57 dX0_distance_33 (by decide) ?_
      exact y_ireti C hr rfl rfl h dX0_distance_57
  · replace h := h.2 c9
    refine y_iconst C (-1) dX0_distance_9 litm1 ?_
    exact y_ireti C hr rfl rfl h dX0_distance_10
theorem kdX9_range : yX9_range.cls = RX9 ∧ yX9_range.cls ≠ "java/lang/invoke/MethodHandle" ∧ yX9_range.cls ≠ "java/lang/invoke/VarHandle" ∧ (parseMethodDescriptor yX9_range.desc).map (fun d => d.parameters.length) = some 2 := by decide +kernel
def wpX9_range (M : yM) (o_ : Nat) (a1 : Int32) (a2 : Int32) (post : Int32 → Prop) : Prop := (∃ vs, M o_ = some (yo 8 vs)) ∧ wpX9_greatest M o_ a1 a2 (fun r1 => (∃ vs, M o_ = some (yo 8 vs)) ∧ wpX9_least M o_ a1 a2 (fun r2 => post (r1 - r2)))
theorem metX9_range {l : Launch} {D : va_G} {s0 : State} {a0 : Array Value} (hB : yB D s0 a0) {M : yM} {o_ : Nat} {a1 : Int32} {a2 : Int32} {post : Int32 → Prop} (h : wpX9_range M o_ a1 a2 post) : yMi l yX9_range (ws_ yX9_range cX9_range 3 (some .int)) 2 102 0 0 D s0 [yr (some o_), yi a1, yi a2] M (fun r M1 => M1 = M ∧ post r) := by
  refine y_meti hB (by decide) rfl (Nat.le_of_ble_eq_true rfl) ?_
  intro p e s m below meth c A hr hnm C
  rw [wpX9_range] at h
  refine y_aload_n C 0 rfl rfl dX9_range_0 ?_
  refine y_iload_n C 1 rfl rfl dX9_range_1 ?_
  refine y_iload_n C 2 rfl rfl dX9_range_2 ?_
  obtain ⟨⟨vs9, g0⟩, h⟩ := h
  refine y_callVi0 C (metX9_greatest hB h) (cwV 2 C.hts (lw_V q1053 q1013 q1014 q111 q1015) rfl rfl rfl kdX9_greatest ⟨Nat.le_of_ble_eq_true rfl, Nat.le_of_ble_eq_true rfl⟩) g0 rfl rfl rfl (Nat.le_of_ble_eq_true rfl) dX9_range_3 (fun r1 M1 hp => ?_)
  clear h
  obtain ⟨rfl, h⟩ := hp
  refine y_aload_n C 0 rfl rfl dX9_range_6 ?_
  refine y_iload_n C 1 rfl rfl dX9_range_7 ?_
  refine y_iload_n C 2 rfl rfl dX9_range_8 ?_
  obtain ⟨⟨vs9, g0⟩, h⟩ := h
  refine y_callVi0 C (metX9_least hB h) (cwV 2 C.hts (lw_V q1054 q1018 q1019 q111 q1020) rfl rfl rfl kdX9_least ⟨Nat.le_of_ble_eq_true rfl, Nat.le_of_ble_eq_true rfl⟩) g0 rfl rfl rfl (Nat.le_of_ble_eq_true rfl) dX9_range_9 (fun r2 M1 hp => ?_)
  clear h
  obtain ⟨rfl, h⟩ := hp
  refine y_isub C dX9_range_12 ?_
  exact y_ireti C hr rfl rfl ⟨rfl, h⟩ dX9_range_13
theorem kdX1_gain : yX1_gain.cls = RX1 ∧ yX1_gain.cls ≠ "java/lang/invoke/MethodHandle" ∧ yX1_gain.cls ≠ "java/lang/invoke/VarHandle" ∧ (parseMethodDescriptor yX1_gain.desc).map (fun d => d.parameters.length) = some 3 := by decide +kernel
section sX1_gain
variable {p : Program} {l : Launch} {e : Env} {s : State} {m : MethodId} {args : Array Value} {below : List Frame} {meth : Method} {c : Code} {D : va_G} {s0 : State} {a0 : Array Value} {A : Nat → Prop} {mc ms : Nat}
def wpX1_gain_b27 (o_ : Nat) (post : Int32 → yM → Prop) (M : yM) (rc : Nat) (rs : Nat) (v1 : Int32) (v2 : Int32) (v3 : Int32) : Prop := ∃ kc7 ks8 : Nat, kc7 ≤ rc ∧ ks8 ≤ rs ∧ (∃ vs, M o_ = some (yo 1 vs)) ∧ wpX1_bounds M kc7 ks8 o_ (fun r10 M9 => ∃ d11 : Nat, r10 = some d11 ∧ (∃ vs, M9 d11 = some (yo 8 vs)) ∧ wpX9_range M9 d11 v2 v3 (fun r12 => ∃ r13 : Option Nat, yF M9 o_ 1 6 (yr r13) ∧ ∃ d14 : Nat, r13 = some d14 ∧ ∃ (E17 : String) (n15 : Nat) (f16 : Nat → Option Nat), M9 d14 = some (yaq E17 n15 f16) ∧ vp_in v1 n15 ∧ ∃ r18 : Option Nat, f16 (Int32.toNatClampNeg v1) = r18 ∧ ∃ d19 : Nat, r18 = some d19 ∧ (∃ vs, M9 d19 = some (yo 8 vs)) ∧ wpX9_range M9 d19 v2 v3 (fun r20 => post (r12 - r20) M9)))
theorem okX1_gain_b27 (C : yC p { frames := 6, cells := mc, slots := ms, locals := 194 } s m args meth c cX1_gain 4 RX1 D s0 a0 A) (hB : yB D s0 a0) (hr : meth.sig.returnType = (some .int)) {o_ : Nat} {post : Int32 → yM → Prop}  : ∀ (M : yM) (rc : Nat) (rs : Nat) (v1 : Int32) (v2 : Int32) (v3 : Int32), wpX1_gain_b27 o_ post M rc rs v1 v2 v3 → Y p l e { frames := 6, cells := mc, slots := ms, locals := 194 } s m args below meth c (MQ below (yQi D s0 A post) args s mc ms A) D s0 A 4 M rc rs [some (yr (some o_)), some (yi v1), some (yi v2), some (yi v3)] 27 [] := by
  intro M rc rs v1 v2 v3 h
  rw [wpX1_gain_b27] at h
  refine y_aload_n C 0 rfl rfl dX1_gain_27 ?_
  obtain ⟨kc7, ks8, g1, g2, h⟩ := h
  obtain ⟨⟨vs9, g0⟩, h⟩ := h
  refine y_callVq C (metX1_bounds hB h) (cwV 0 C.hts (lw_V q965 q966 q967 q87 q968) rfl rfl rfl kdX1_bounds ⟨Nat.le_of_ble_eq_true rfl, Nat.le_of_ble_eq_true rfl⟩) g0 rfl rfl rfl (Nat.le_of_ble_eq_true rfl) dX1_gain_28 g1 g2 (fun r10 M9 hp => ?_)
  replace h := hp
  refine y_iload_n C 2 rfl rfl dX1_gain_31 ?_
  refine y_iload_n C 3 rfl rfl dX1_gain_32 ?_
  obtain ⟨d11, rfl, h⟩ := h
  obtain ⟨⟨vs9, g0⟩, h⟩ := h
  refine y_callVi0 C (metX9_range hB h) (cwV 2 C.hts (lw_V q1049 q1050 q1051 q111 q1052) rfl rfl rfl kdX9_range ⟨Nat.le_of_ble_eq_true rfl, Nat.le_of_ble_eq_true rfl⟩) g0 rfl rfl rfl (Nat.le_of_ble_eq_true rfl) dX1_gain_33 (fun r12 M1 hp => ?_)
  clear h
  obtain ⟨rfl, h⟩ := hp
  refine y_aload_n C 0 rfl rfl dX1_gain_36 ?_
  obtain ⟨r13, ⟨fs9, g1, g2⟩, h⟩ := h
  refine y_get (ci := 1) (k := 6) C in_X1 rfl (by decide) q168 (fun _ h => h) g1 g2 dX1_gain_37 ?_
  refine y_iload_n C 1 rfl rfl dX1_gain_40 ?_
  obtain ⟨d14, rfl, h⟩ := h
  obtain ⟨E17, n15, f16, g1, g2, r18, g3, h⟩ := h
  refine y_aald2 C g1 g2 g3 dX1_gain_41 ?_
  refine y_iload_n C 2 rfl rfl dX1_gain_42 ?_
  refine y_iload_n C 3 rfl rfl dX1_gain_43 ?_
  obtain ⟨d19, rfl, h⟩ := h
  obtain ⟨⟨vs9, g0⟩, h⟩ := h
  refine y_callVi0 C (metX9_range hB h) (cwV 2 C.hts (lw_V q1049 q1050 q1051 q111 q1052) rfl rfl rfl kdX9_range ⟨Nat.le_of_ble_eq_true rfl, Nat.le_of_ble_eq_true rfl⟩) g0 rfl rfl rfl (Nat.le_of_ble_eq_true rfl) dX1_gain_44 (fun r20 M1 hp => ?_)
  clear h
  obtain ⟨rfl, h⟩ := hp
  refine y_isub C dX1_gain_47 ?_
  exact y_ireti C hr rfl rfl h dX1_gain_48
end sX1_gain
def wpX1_gain (M : yM) (mc : Nat) (ms : Nat) (o_ : Nat) (a1 : Int32) (a2 : Int32) (a3 : Int32) (post : Int32 → yM → Prop) : Prop := ∃ r1 : Option Nat, yF M o_ 1 6 (yr r1) ∧ ∃ d2 : Nat, r1 = some d2 ∧ ∃ (E5 : String) (n3 : Nat) (f4 : Nat → Option Nat), M d2 = some (yaq E5 n3 f4) ∧ vp_in a1 n3 ∧ ∃ r6 : Option Nat, f4 (Int32.toNatClampNeg a1) = r6 ∧ ((¬ r6 = none → wpX1_gain_b27 o_ post M mc ms a1 a2 a3) ∧ (r6 = none → ∃ r21 : Option Nat, yF M o_ 1 6 (yr r21) ∧ 1 ≤ mc ∧ 2 ≤ ms ∧ ∀ q22 : Nat, M q22 = none → ∀ M23 : yM, M23 = yup M q22 (yo 8 [yi 0, yr none]) → ∃ kc24 ks25 : Nat, kc24 ≤ (mc - 1) ∧ ks25 ≤ (ms - 2) ∧ wpX9_init M23 kc24 ks25 q22 (some o_) (-999) a1 (fun M26 => ∃ d27 : Nat, r21 = some d27 ∧ ∃ (E30 : String) (n28 : Nat) (f29 : Nat → Option Nat), M26 d27 = some (yaq E30 n28 f29) ∧ vp_in a1 n28 ∧ (∀ v, (some q22) = some v → ∃ ci vs, M26 v = some (yo ci vs) ∧ yAsg E30 ci) ∧ ∀ M31 : yM, M31 = yup M26 d27 (yaq E30 n28 (va_up f29 (Int32.toNatClampNeg a1) (some q22))) → wpX1_gain_b27 o_ post M31 ((mc - 1) - kc24) ((ms - 2) - ks25) a1 a2 a3)))
theorem metX1_gain {l : Launch} {D : va_G} {s0 : State} {a0 : Array Value} (hB : yB D s0 a0) {M : yM} {mc : Nat} {ms : Nat} {o_ : Nat} {a1 : Int32} {a2 : Int32} {a3 : Int32} {post : Int32 → yM → Prop} (h : wpX1_gain M mc ms o_ a1 a2 a3 post) : yMi l yX1_gain (ws_ yX1_gain cX1_gain 4 (some .int)) 6 194 mc ms D s0 [yr (some o_), yi a1, yi a2, yi a3] M post := by
  refine y_meti hB (by decide) rfl (Nat.le_of_ble_eq_true rfl) ?_
  intro p e s m below meth c A hr hnm C
  rw [wpX1_gain] at h
  refine y_aload_n C 0 rfl rfl dX1_gain_0 ?_
  obtain ⟨r1, ⟨fs9, g1, g2⟩, h⟩ := h
  refine y_get (ci := 1) (k := 6) C in_X1 rfl (by decide) q168 (fun _ h => h) g1 g2 dX1_gain_1 ?_
  refine y_iload_n C 1 rfl rfl dX1_gain_4 ?_
  obtain ⟨d2, rfl, h⟩ := h
  obtain ⟨E5, n3, f4, g1, g2, r6, g3, h⟩ := h
  refine y_aald2 C g1 g2 g3 dX1_gain_5 ?_
  refine y_ifnonnull C 27 dX1_gain_6 (by decide) (fun c9 => ?_) (fun c9 => ?_)
  · replace h := h.1 c9
    refine y_to C _ ?_ (okX1_gain_b27 C hB hr  _ _ _ _ _ _ h)
    exact (And.intro rfl (And.intro rfl (And.intro rfl (And.intro rfl trivial))))
  · replace h := h.2 c9
    refine y_aload_n C 0 rfl rfl dX1_gain_9 ?_
    obtain ⟨r21, ⟨fs9, g1, g2⟩, h⟩ := h
    refine y_get (ci := 1) (k := 6) C in_X1 rfl (by decide) q168 (fun _ h => h) g1 g2 dX1_gain_10 ?_
    refine y_iload_n C 1 rfl rfl dX1_gain_13 ?_
    obtain ⟨g1, g2, h⟩ := h
    refine y_new (ci := 8) C in_X9 tyX9_ok rfl q152 q969 q111 [yi 0, yr none] (fun j hj => by rcases (show j = 0 ∨ j = 1 by omega) with rfl | rfl <;> rfl) g1 g2 dX1_gain_14 (fun q22 g3 => ?_)
    replace h := h q22 g3 _ rfl
    refine y_dup C rfl dX1_gain_17 ?_
    refine y_aload_n C 0 rfl rfl dX1_gain_18 ?_
    refine y_sipush C (-999) dX1_gain_19 y_sm999 ?_
    refine y_iload_n C 1 rfl rfl dX1_gain_22 ?_
    obtain ⟨kc24, ks25, g1, g2, h⟩ := h
    refine y_callIv C (metX9_init hB h) (cwI 3 C.hts (lw_meth q972) rfl rfl rfl (C.hts _ q111) (C.hts _ q970) (C.hts _ q971) rfl kdX9_init.2 ⟨Nat.le_of_ble_eq_true rfl, Nat.le_of_ble_eq_true rfl⟩) rfl rfl (Nat.le_of_ble_eq_true rfl) dX1_gain_23 g1 g2 (fun M26 hp => ?_)
    replace h := hp
    obtain ⟨d27, rfl, h⟩ := h
    obtain ⟨E30, n28, f29, g1, g2, g3, h⟩ := h
    replace h := h _ rfl
    refine y_aast C g1 g2 g3 rfl dX1_gain_26 ?_
    refine y_to C _ ?_ (okX1_gain_b27 C hB hr  _ _ _ _ _ _ h)
    exact (And.intro rfl (And.intro rfl (And.intro rfl (And.intro rfl trivial))))
theorem kdX0_ifExact : yX0_ifExact.cls = RX0 ∧ yX0_ifExact.cls ≠ "java/lang/invoke/MethodHandle" ∧ yX0_ifExact.cls ≠ "java/lang/invoke/VarHandle" ∧ (parseMethodDescriptor yX0_ifExact.desc).map (fun d => d.parameters.length) = some 3 := by decide +kernel
def wpX0_ifExact (M : yM) (mc : Nat) (ms : Nat) (o_ : Nat) (a1 : Int32) (a2 : Int32) (a3 : Int32) (post : Int32 → yM → Prop) : Prop := (∃ vs, M o_ = some (yo 0 vs)) ∧ wpX0_isDimension M o_ a1 (fun r1 => ((r1 = 0 → post (-1) M) ∧ (¬ r1 = 0 → (∃ vs, M o_ = some (yo 0 vs)) ∧ wpX0_arePoints M o_ a2 a3 (fun r2 => ((¬ r2 = 0 → ∃ r3 : Option Nat, yF M o_ 0 0 (yr r3) ∧ ∃ d4 : Nat, r3 = some d4 ∧ ∃ kc5 ks6 : Nat, kc5 ≤ mc ∧ ks6 ≤ ms ∧ (∃ vs, M d4 = some (yo 1 vs)) ∧ wpX1_bounds M kc5 ks6 d4 (fun r8 M7 => ∃ d9 : Nat, r8 = some d9 ∧ (∃ vs, M7 d9 = some (yo 8 vs)) ∧ wpX9_areBound M7 d9 a2 a3 (fun r10 => ((r10 = 0 → post (-999) M7) ∧ (¬ r10 = 0 → ∃ r11 : Option Nat, yF M7 o_ 0 0 (yr r11) ∧ ∃ d12 : Nat, r11 = some d12 ∧ ∃ kc13 ks14 : Nat, kc13 ≤ (mc - kc5) ∧ ks14 ≤ (ms - ks6) ∧ (∃ vs, M7 d12 = some (yo 1 vs)) ∧ wpX1_gain M7 kc13 ks14 d12 a1 a2 a3 (fun r16 M15 => post r16 M15)))))) ∧ (r2 = 0 → post (-1) M))))))
theorem metX0_ifExact {l : Launch} {D : va_G} {s0 : State} {a0 : Array Value} (hB : yB D s0 a0) {M : yM} {mc : Nat} {ms : Nat} {o_ : Nat} {a1 : Int32} {a2 : Int32} {a3 : Int32} {post : Int32 → yM → Prop} (h : wpX0_ifExact M mc ms o_ a1 a2 a3 post) : yMi l yX0_ifExact (ws_ yX0_ifExact cX0_ifExact 4 (some .int)) 7 217 mc ms D s0 [yr (some o_), yi a1, yi a2, yi a3] M post := by
  refine y_meti hB (by decide) rfl (Nat.le_of_ble_eq_true rfl) ?_
  intro p e s m below meth c A hr hnm C
  rw [wpX0_ifExact] at h
  refine y_aload_n C 0 rfl rfl dX0_ifExact_0 ?_
  refine y_iload_n C 1 rfl rfl dX0_ifExact_1 ?_
  obtain ⟨⟨vs9, g0⟩, h⟩ := h
  refine y_callVi0 C (metX0_isDimension hB h) (cwV 1 C.hts (lw_V q763 q765 qs16 q86 q766) rfl rfl rfl kdX0_isDimension ⟨Nat.le_of_ble_eq_true rfl, Nat.le_of_ble_eq_true rfl⟩) g0 rfl rfl rfl (Nat.le_of_ble_eq_true rfl) dX0_ifExact_2 (fun r1 M1 hp => ?_)
  clear h
  obtain ⟨rfl, h⟩ := hp
  refine y_if_eq C 17 dX0_ifExact_5 (by decide) (fun c9 => ?_) (fun c9 => ?_)
  · replace h := h.1 c9
    refine y_iconst C (-1) dX0_ifExact_17 litm1 ?_
    exact y_ireti C hr rfl rfl h dX0_ifExact_18
  · replace h := h.2 c9
    refine y_aload_n C 0 rfl rfl dX0_ifExact_8 ?_
    refine y_iload_n C 2 rfl rfl dX0_ifExact_9 ?_
    refine y_iload_n C 3 rfl rfl dX0_ifExact_10 ?_
    obtain ⟨⟨vs9, g0⟩, h⟩ := h
    refine y_callVi0 C (metX0_arePoints hB h) (cwV 2 C.hts (lw_V q751 q753 qs15 q86 q754) rfl rfl rfl kdX0_arePoints ⟨Nat.le_of_ble_eq_true rfl, Nat.le_of_ble_eq_true rfl⟩) g0 rfl rfl rfl (Nat.le_of_ble_eq_true rfl) dX0_ifExact_11 (fun r2 M1 hp => ?_)
    clear h
    obtain ⟨rfl, h⟩ := hp
    refine y_if_ne C 19 dX0_ifExact_14 (by decide) (fun c9 => ?_) (fun c9 => ?_)
    · replace h := h.1 c9
      refine y_aload_n C 0 rfl rfl dX0_ifExact_19 ?_
      obtain ⟨r3, ⟨fs9, g1, g2⟩, h⟩ := h
      refine y_get (ci := 0) (k := 0) C in_X0 rfl (by decide) q185 (fun _ h => h) g1 g2 dX0_ifExact_20 ?_
      obtain ⟨d4, rfl, h⟩ := h
      obtain ⟨kc5, ks6, g1, g2, h⟩ := h
      obtain ⟨⟨vs9, g0⟩, h⟩ := h
      refine y_callVq C (metX1_bounds hB h) (cwV 0 C.hts (lw_V q1037 q966 q967 q87 q968) rfl rfl rfl kdX1_bounds ⟨Nat.le_of_ble_eq_true rfl, Nat.le_of_ble_eq_true rfl⟩) g0 rfl rfl rfl (Nat.le_of_ble_eq_true rfl) dX0_ifExact_23 g1 g2 (fun r8 M7 hp => ?_)
      replace h := hp
      refine y_iload_n C 2 rfl rfl dX0_ifExact_26 ?_
      refine y_iload_n C 3 rfl rfl dX0_ifExact_27 ?_
      obtain ⟨d9, rfl, h⟩ := h
      obtain ⟨⟨vs9, g0⟩, h⟩ := h
      refine y_callVi0 C (metX9_areBound hB h) (cwV 2 C.hts (lw_V q1038 q994 q995 q111 q996) rfl rfl rfl kdX9_areBound ⟨Nat.le_of_ble_eq_true rfl, Nat.le_of_ble_eq_true rfl⟩) g0 rfl rfl rfl (Nat.le_of_ble_eq_true rfl) dX0_ifExact_28 (fun r10 M1 hp => ?_)
      clear h
      obtain ⟨rfl, h⟩ := hp
      refine y_if_eq C 47 dX0_ifExact_31 (by decide) (fun c9 => ?_) (fun c9 => ?_)
      · replace h := h.1 c9
        refine y_sipush C (-999) dX0_ifExact_47 y_sm999 ?_
        exact y_ireti C hr rfl rfl h dX0_ifExact_50
      · replace h := h.2 c9
        refine y_aload_n C 0 rfl rfl dX0_ifExact_34 ?_
        obtain ⟨r11, ⟨fs9, g1, g2⟩, h⟩ := h
        refine y_get (ci := 0) (k := 0) C in_X0 rfl (by decide) q185 (fun _ h => h) g1 g2 dX0_ifExact_35 ?_
        refine y_iload_n C 1 rfl rfl dX0_ifExact_38 ?_
        refine y_iload_n C 2 rfl rfl dX0_ifExact_39 ?_
        refine y_iload_n C 3 rfl rfl dX0_ifExact_40 ?_
        obtain ⟨d12, rfl, h⟩ := h
        obtain ⟨kc13, ks14, g1, g2, h⟩ := h
        obtain ⟨⟨vs9, g0⟩, h⟩ := h
        refine y_callVi C (metX1_gain hB h) (cwV 3 C.hts (lw_V q1045 q1046 q1047 q87 q1048) rfl rfl rfl kdX1_gain ⟨Nat.le_of_ble_eq_true rfl, Nat.le_of_ble_eq_true rfl⟩) g0 rfl rfl rfl (Nat.le_of_ble_eq_true rfl) dX0_ifExact_41 g1 g2 (fun r16 M15 hp => ?_)
        replace h := hp
        refine y_goto C 50 dX0_ifExact_44 (by decide) ?_
        exact y_ireti C hr rfl rfl h dX0_ifExact_50
    · replace h := h.2 c9
      refine y_iconst C (-1) dX0_ifExact_17 litm1 ?_
      exact y_ireti C hr rfl rfl h dX0_ifExact_18
theorem kdX0_critical : yX0_critical.cls = RX0 ∧ yX0_critical.cls ≠ "java/lang/invoke/MethodHandle" ∧ yX0_critical.cls ≠ "java/lang/invoke/VarHandle" ∧ (parseMethodDescriptor yX0_critical.desc).map (fun d => d.parameters.length) = some 2 := by decide +kernel
section sX0_critical
variable {p : Program} {l : Launch} {e : Env} {s : State} {m : MethodId} {args : Array Value} {below : List Frame} {meth : Method} {c : Code} {D : va_G} {s0 : State} {a0 : Array Value} {A : Nat → Prop} {mc ms : Nat}
def wpX0_critical_b81 (o_ : Nat) (post : Int32 → yM → Prop) (k40 : yM → Nat → Nat → Int32 → Int32 → Int32 → Int32 → Int32 → Prop) (M : yM) (rc : Nat) (rs : Nat) (v1 : Int32) (v2 : Int32) (v4 : Int32) (v5 : Int32) (v6 : Int32) (u0 : Int32) : Prop := ∀ x21 : Int32, x21 = (if v4 < v6 then v6 else v4) → ∀ x22 : Int32, x22 = v5 + 1 → k40 M rc rs v1 v2 u0 x21 x22
theorem okX0_critical_b81 (C : yC p { frames := 7, cells := mc, slots := ms, locals := 217 } s m args meth c cX0_critical 7 RX0 D s0 a0 A) (hB : yB D s0 a0) (hr : meth.sig.returnType = (some .int)) {o_ : Nat} {post : Int32 → yM → Prop} {k40 : yM → Nat → Nat → Int32 → Int32 → Int32 → Int32 → Int32 → Prop} (hk40 : ∀ (M : yM) (rc : Nat) (rs : Nat) (v1 : Int32) (v2 : Int32) (v3 : Int32) (v4 : Int32) (v5 : Int32), k40 M rc rs v1 v2 v3 v4 v5 → Y p l e { frames := 7, cells := mc, slots := ms, locals := 217 } s m args below meth c (MQ below (yQi D s0 A post) args s mc ms A) D s0 A 7 M rc rs [some (yr (some o_)), some (yi v1), some (yi v2), some (yi v3), some (yi v4), some (yi v5), none] 40 []) : ∀ (M : yM) (rc : Nat) (rs : Nat) (v1 : Int32) (v2 : Int32) (v4 : Int32) (v5 : Int32) (v6 : Int32) (u0 : Int32), wpX0_critical_b81 o_ post k40 M rc rs v1 v2 v4 v5 v6 u0 → Y p l e { frames := 7, cells := mc, slots := ms, locals := 217 } s m args below meth c (MQ below (yQi D s0 A post) args s mc ms A) D s0 A 7 M rc rs [some (yr (some o_)), some (yi v1), some (yi v2), none, some (yi v4), some (yi v5), some (yi v6)] 81 [yi u0] := by
  intro M rc rs v1 v2 v4 v5 v6 u0 h
  rw [wpX0_critical_b81] at h
  refine y_istore_n C 3 rfl (by decide) dX0_critical_81 ?_
  refine y_iload C 4 rfl dX0_critical_82 ?_
  refine y_iload C 6 rfl dX0_critical_84 ?_
  refine y_mmax C q756 q278 q99 q279 (Nat.le_of_ble_eq_true rfl) (Nat.le_of_ble_eq_true rfl) (Nat.le_of_ble_eq_true rfl) dX0_critical_86 ?_
  replace h := h _ rfl
  refine y_istore C 4 (by decide) dX0_critical_89 ?_
  replace h := h _ rfl
  refine y_iinc C 5 _ rfl (y_inc1 _) (by decide) dX0_critical_91 ?_
  refine y_goto C 40 dX0_critical_94 (by decide) ?_
  refine y_to C _ ?_ (hk40 _ _ _ _ _ _ _ _ h)
  exact (And.intro rfl (And.intro rfl (And.intro rfl (And.intro rfl (And.intro rfl (And.intro rfl trivial))))))
def wpX0_critical_b40 (o_ : Nat) (post : Int32 → yM → Prop) : Nat → yM → Nat → Nat → Int32 → Int32 → Int32 → Int32 → Int32 → Prop
  | 0, _, _, _, _, _, _, _, _ => False
  | nn + 1, M, rc, rs, v1, v2, v3, v4, v5 => ∃ r10 : Option Nat, yF M o_ 0 0 (yr r10) ∧ ∃ d11 : Nat, r10 = some d11 ∧ ∃ r12 : Option Nat, yF M d11 1 1 (yr r12) ∧ ∃ d13 : Nat, r12 = some d13 ∧ (∃ vs, M d13 = some (yo 9 vs)) ∧ wpJ2_size M d13 (fun r14 => ((r14 ≤ v5 → post v3 M) ∧ (¬ r14 ≤ v5 → ∃ r15 : Option Nat, yF M o_ 0 0 (yr r15) ∧ ∃ d16 : Nat, r15 = some d16 ∧ ∃ kc17 ks18 : Nat, kc17 ≤ rc ∧ ks18 ≤ rs ∧ (∃ vs, M d16 = some (yo 1 vs)) ∧ wpX1_gain M kc17 ks18 d16 v5 v1 v2 (fun r20 M19 => ((r20 ≤ v4 → wpX0_critical_b81 o_ post (fun M rc rs v1 v2 v3 v4 v5 => wpX0_critical_b40 o_ post nn M rc rs v1 v2 v3 v4 v5) M19 (rc - kc17) (rs - ks18) v1 v2 v4 v5 r20 v3) ∧ (¬ r20 ≤ v4 → wpX0_critical_b81 o_ post (fun M rc rs v1 v2 v3 v4 v5 => wpX0_critical_b40 o_ post nn M rc rs v1 v2 v3 v4 v5) M19 (rc - kc17) (rs - ks18) v1 v2 v4 v5 r20 v5))))))
theorem okX0_critical_b40 (C : yC p { frames := 7, cells := mc, slots := ms, locals := 217 } s m args meth c cX0_critical 7 RX0 D s0 a0 A) (hB : yB D s0 a0) (hr : meth.sig.returnType = (some .int)) {o_ : Nat} {post : Int32 → yM → Prop}  : ∀ (nn : Nat) (M : yM) (rc : Nat) (rs : Nat) (v1 : Int32) (v2 : Int32) (v3 : Int32) (v4 : Int32) (v5 : Int32), wpX0_critical_b40 o_ post nn M rc rs v1 v2 v3 v4 v5 → Y p l e { frames := 7, cells := mc, slots := ms, locals := 217 } s m args below meth c (MQ below (yQi D s0 A post) args s mc ms A) D s0 A 7 M rc rs [some (yr (some o_)), some (yi v1), some (yi v2), some (yi v3), some (yi v4), some (yi v5), none] 40 [] := by
  intro nn
  induction nn with
  | zero => intro M rc rs v1 v2 v3 v4 v5 h; exact absurd h (by rw [wpX0_critical_b40]; exact id)
  | succ nn ih =>
    intro M rc rs v1 v2 v3 v4 v5 h
    rw [wpX0_critical_b40] at h
    refine y_iload C 5 rfl dX0_critical_40 ?_
    refine y_aload_n C 0 rfl rfl dX0_critical_42 ?_
    obtain ⟨r10, ⟨fs9, g1, g2⟩, h⟩ := h
    refine y_get (ci := 0) (k := 0) C in_X0 rfl (by decide) q185 (fun _ h => h) g1 g2 dX0_critical_43 ?_
    obtain ⟨d11, rfl, h⟩ := h
    obtain ⟨r12, ⟨fs9, g1, g2⟩, h⟩ := h
    refine y_getN (ci := 1) (k := 1) C in_X1 rfl (by decide) q160 (fun _ h => h) g1 g2 dX0_critical_46 ?_
    obtain ⟨d13, rfl, h⟩ := h
    obtain ⟨⟨vs9, g0⟩, h⟩ := h
    refine y_callVi0 C (metJ2_size hB h) (cwV 0 C.hts (lw_V q645 q494 q495 q90 q496) rfl rfl rfl kdJ2_size ⟨Nat.le_of_ble_eq_true rfl, Nat.le_of_ble_eq_true rfl⟩) g0 rfl rfl rfl (Nat.le_of_ble_eq_true rfl) dX0_critical_49 (fun r14 M1 hp => ?_)
    clear h
    obtain ⟨rfl, h⟩ := hp
    refine y_icmp_ge C 97 dX0_critical_52 (by decide) (fun c9 => ?_) (fun c9 => ?_)
    · replace h := h.1 c9
      refine y_iload_n C 3 rfl rfl dX0_critical_97 ?_
      exact y_ireti C hr rfl rfl h dX0_critical_98
    · replace h := h.2 c9
      refine y_aload_n C 0 rfl rfl dX0_critical_55 ?_
      obtain ⟨r15, ⟨fs9, g1, g2⟩, h⟩ := h
      refine y_get (ci := 0) (k := 0) C in_X0 rfl (by decide) q185 (fun _ h => h) g1 g2 dX0_critical_56 ?_
      refine y_iload C 5 rfl dX0_critical_59 ?_
      refine y_iload_n C 1 rfl rfl dX0_critical_61 ?_
      refine y_iload_n C 2 rfl rfl dX0_critical_62 ?_
      obtain ⟨d16, rfl, h⟩ := h
      obtain ⟨kc17, ks18, g1, g2, h⟩ := h
      obtain ⟨⟨vs9, g0⟩, h⟩ := h
      refine y_callVi C (metX1_gain hB h) (cwV 3 C.hts (lw_V q1045 q1046 q1047 q87 q1048) rfl rfl rfl kdX1_gain ⟨Nat.le_of_ble_eq_true rfl, Nat.le_of_ble_eq_true rfl⟩) g0 rfl rfl rfl (Nat.le_of_ble_eq_true rfl) dX0_critical_63 g1 g2 (fun r20 M19 hp => ?_)
      replace h := hp
      refine y_istore C 6 (by decide) dX0_critical_66 ?_
      refine y_iload C 6 rfl dX0_critical_68 ?_
      refine y_iload C 4 rfl dX0_critical_70 ?_
      refine y_icmp_le C 80 dX0_critical_72 (by decide) (fun c9 => ?_) (fun c9 => ?_)
      · replace h := h.1 c9
        refine y_iload_n C 3 rfl rfl dX0_critical_80 ?_
        refine y_to C _ ?_ (okX0_critical_b81 C hB hr ih _ _ _ _ _ _ _ _ _ h)
        exact (And.intro rfl (And.intro rfl (And.intro rfl (And.intro rfl (And.intro rfl (And.intro rfl trivial))))))
      · replace h := h.2 c9
        refine y_iload C 5 rfl dX0_critical_75 ?_
        refine y_goto C 81 dX0_critical_77 (by decide) ?_
        refine y_to C _ ?_ (okX0_critical_b81 C hB hr ih _ _ _ _ _ _ _ _ _ h)
        exact (And.intro rfl (And.intro rfl (And.intro rfl (And.intro rfl (And.intro rfl (And.intro rfl trivial))))))
end sX0_critical
def wpX0_critical (M : yM) (mc : Nat) (ms : Nat) (o_ : Nat) (a1 : Int32) (a2 : Int32) (post : Int32 → yM → Prop) : Prop := (∃ vs, M o_ = some (yo 0 vs)) ∧ wpX0_arePoints M o_ a1 a2 (fun r1 => ((¬ r1 = 0 → ∃ r2 : Option Nat, yF M o_ 0 0 (yr r2) ∧ ∃ d3 : Nat, r2 = some d3 ∧ ∃ kc4 ks5 : Nat, kc4 ≤ mc ∧ ks5 ≤ ms ∧ (∃ vs, M d3 = some (yo 1 vs)) ∧ wpX1_bounds M kc4 ks5 d3 (fun r7 M6 => ∃ d8 : Nat, r7 = some d8 ∧ (∃ vs, M6 d8 = some (yo 8 vs)) ∧ wpX9_areBound M6 d8 a1 a2 (fun r9 => ((¬ r9 = 0 → ∃ nf9 : Nat, wpX0_critical_b40 o_ post nf9 M6 (mc - kc4) (ms - ks5) a1 a2 (-999) (-1) 0) ∧ (r9 = 0 → post (-999) M6))))) ∧ (r1 = 0 → post (-1) M)))
theorem metX0_critical {l : Launch} {D : va_G} {s0 : State} {a0 : Array Value} (hB : yB D s0 a0) {M : yM} {mc : Nat} {ms : Nat} {o_ : Nat} {a1 : Int32} {a2 : Int32} {post : Int32 → yM → Prop} (h : wpX0_critical M mc ms o_ a1 a2 post) : yMi l yX0_critical (ws_ yX0_critical cX0_critical 7 (some .int)) 7 217 mc ms D s0 [yr (some o_), yi a1, yi a2] M post := by
  refine y_meti hB (by decide) rfl (Nat.le_of_ble_eq_true rfl) ?_
  intro p e s m below meth c A hr hnm C
  rw [wpX0_critical] at h
  refine y_aload_n C 0 rfl rfl dX0_critical_0 ?_
  refine y_iload_n C 1 rfl rfl dX0_critical_1 ?_
  refine y_iload_n C 2 rfl rfl dX0_critical_2 ?_
  obtain ⟨⟨vs9, g0⟩, h⟩ := h
  refine y_callVi0 C (metX0_arePoints hB h) (cwV 2 C.hts (lw_V q751 q753 qs15 q86 q754) rfl rfl rfl kdX0_arePoints ⟨Nat.le_of_ble_eq_true rfl, Nat.le_of_ble_eq_true rfl⟩) g0 rfl rfl rfl (Nat.le_of_ble_eq_true rfl) dX0_critical_3 (fun r1 M1 hp => ?_)
  clear h
  obtain ⟨rfl, h⟩ := hp
  refine y_if_ne C 11 dX0_critical_6 (by decide) (fun c9 => ?_) (fun c9 => ?_)
  · replace h := h.1 c9
    refine y_aload_n C 0 rfl rfl dX0_critical_11 ?_
    obtain ⟨r2, ⟨fs9, g1, g2⟩, h⟩ := h
    refine y_get (ci := 0) (k := 0) C in_X0 rfl (by decide) q185 (fun _ h => h) g1 g2 dX0_critical_12 ?_
    obtain ⟨d3, rfl, h⟩ := h
    obtain ⟨kc4, ks5, g1, g2, h⟩ := h
    obtain ⟨⟨vs9, g0⟩, h⟩ := h
    refine y_callVq C (metX1_bounds hB h) (cwV 0 C.hts (lw_V q1037 q966 q967 q87 q968) rfl rfl rfl kdX1_bounds ⟨Nat.le_of_ble_eq_true rfl, Nat.le_of_ble_eq_true rfl⟩) g0 rfl rfl rfl (Nat.le_of_ble_eq_true rfl) dX0_critical_15 g1 g2 (fun r7 M6 hp => ?_)
    replace h := hp
    refine y_iload_n C 1 rfl rfl dX0_critical_18 ?_
    refine y_iload_n C 2 rfl rfl dX0_critical_19 ?_
    obtain ⟨d8, rfl, h⟩ := h
    obtain ⟨⟨vs9, g0⟩, h⟩ := h
    refine y_callVi0 C (metX9_areBound hB h) (cwV 2 C.hts (lw_V q1038 q994 q995 q111 q996) rfl rfl rfl kdX9_areBound ⟨Nat.le_of_ble_eq_true rfl, Nat.le_of_ble_eq_true rfl⟩) g0 rfl rfl rfl (Nat.le_of_ble_eq_true rfl) dX0_critical_20 (fun r9 M1 hp => ?_)
    clear h
    obtain ⟨rfl, h⟩ := hp
    refine y_if_ne C 30 dX0_critical_23 (by decide) (fun c9 => ?_) (fun c9 => ?_)
    · replace h := h.1 c9
      refine y_sipush C (-999) dX0_critical_30 y_sm999 ?_
      refine y_istore_n C 3 rfl (by decide) dX0_critical_33 ?_
      refine y_iconst C (-1) dX0_critical_34 litm1 ?_
      refine y_istore C 4 (by decide) dX0_critical_35 ?_
      refine y_iconst C 0 dX0_critical_37 lit0 ?_
      refine y_istore C 5 (by decide) dX0_critical_38 ?_
      obtain ⟨nf9, h⟩ := h
      refine y_to C _ ?_ (okX0_critical_b40 C hB hr  nf9 _ _ _ _ _ _ _ _ h)
      exact (And.intro rfl (And.intro rfl (And.intro rfl (And.intro rfl (And.intro rfl (And.intro rfl trivial))))))
    · replace h := h.2 c9
      refine y_sipush C (-999) dX0_critical_26 y_sm999 ?_
      exact y_ireti C hr rfl rfl h dX0_critical_29
  · replace h := h.2 c9
    refine y_iconst C (-1) dX0_critical_9 litm1 ?_
    exact y_ireti C hr rfl rfl h dX0_critical_10
theorem kdX0_needed : yX0_needed.cls = RX0 ∧ yX0_needed.cls ≠ "java/lang/invoke/MethodHandle" ∧ yX0_needed.cls ≠ "java/lang/invoke/VarHandle" ∧ (parseMethodDescriptor yX0_needed.desc).map (fun d => d.parameters.length) = some 0 := by decide +kernel
section sX0_needed
variable {p : Program} {l : Launch} {e : Env} {s : State} {m : MethodId} {args : Array Value} {below : List Frame} {meth : Method} {c : Code} {D : va_G} {s0 : State} {a0 : Array Value} {A : Nat → Prop} {mc ms : Nat}
def wpX0_needed_b39 (z : Nat → Nat) (o_ : Nat) (post : Int32 → yM → Prop) (k18 : yM → Nat → Nat → Option Nat → Int32 → Prop) (M : yM) (rc : Nat) (rs : Nat) (v1 : Option Nat) (v2 : Int32) : Prop := ∀ x21 : Int32, x21 = v2 + (-1) → k18 M rc rs v1 x21
theorem okX0_needed_b39 (C : yC p { frames := 8, cells := mc, slots := ms, locals := 235 } s m args meth c cX0_needed 3 RX0 D s0 a0 A) (hB : yB D s0 a0) (hr : meth.sig.returnType = (some .int)) {o_ : Nat} {post : Int32 → yM → Prop} {k18 : yM → Nat → Nat → Option Nat → Int32 → Prop} (hk18 : ∀ (M : yM) (rc : Nat) (rs : Nat) (v1 : Option Nat) (v2 : Int32), k18 M rc rs v1 v2 → Y p l e { frames := 8, cells := mc, slots := ms, locals := 235 } s m args below meth c (MQ below (yQi D s0 A post) args s mc ms A) D s0 A 3 M rc rs [none, some (yr v1), some (yi v2)] 18 []) : ∀ (M : yM) (rc : Nat) (rs : Nat) (v1 : Option Nat) (v2 : Int32), wpX0_needed_b39 (yz s0 a0) o_ post k18 M rc rs v1 v2 → Y p l e { frames := 8, cells := mc, slots := ms, locals := 235 } s m args below meth c (MQ below (yQi D s0 A post) args s mc ms A) D s0 A 3 M rc rs [none, some (yr v1), some (yi v2)] 39 [] := by
  intro M rc rs v1 v2 h
  rw [wpX0_needed_b39] at h
  replace h := h _ rfl
  refine y_iinc C 2 _ rfl (y_incm1 _) (by decide) dX0_needed_39 ?_
  refine y_goto C 18 dX0_needed_42 (by decide) ?_
  refine y_to C _ ?_ (hk18 _ _ _ _ _ h)
  exact (And.intro rfl (And.intro rfl trivial))
def wpX0_needed_b18 (z : Nat → Nat) (o_ : Nat) (post : Int32 → yM → Prop) : Nat → yM → Nat → Nat → Option Nat → Int32 → Prop
  | 0, _, _, _, _, _ => False
  | nn + 1, M, rc, rs, v1, v2 => ((v2 < 0 → ∃ d12 : Nat, v1 = some d12 ∧ ∃ r13 : Option Nat, yF M d12 1 1 (yr r13) ∧ ∃ d14 : Nat, r13 = some d14 ∧ (∃ vs, M d14 = some (yo 9 vs)) ∧ wpJ2_size M d14 (fun r15 => post r15 M)) ∧ (¬ v2 < 0 → ∃ d16 : Nat, v1 = some d16 ∧ ∃ kc17 ks18 : Nat, kc17 ≤ rc ∧ ks18 ≤ rs ∧ (∃ vs, M d16 = some (yo 1 vs)) ∧ wpX1_isSuperfluous M kc17 ks18 d16 v2 (fun r20 M19 => ((r20 = 0 → wpX0_needed_b39 z o_ post (fun M rc rs v1 v2 => wpX0_needed_b18 z o_ post nn M rc rs v1 v2) M19 (rc - kc17) (rs - ks18) (some d16) v2) ∧ (¬ r20 = 0 → ∃ r22 : Option Nat, yF M19 d16 1 1 (yr r22) ∧ ∃ d23 : Nat, r22 = some d23 ∧ (∃ vs, M19 d23 = some (yo 9 vs)) ∧ wpJ2_remove M19 d23 v2 (fun r25 M24 => wpX0_needed_b39 z o_ post (fun M rc rs v1 v2 => wpX0_needed_b18 z o_ post nn M rc rs v1 v2) M24 (rc - kc17) (rs - ks18) (some d16) v2))))))
theorem okX0_needed_b18 (C : yC p { frames := 8, cells := mc, slots := ms, locals := 235 } s m args meth c cX0_needed 3 RX0 D s0 a0 A) (hB : yB D s0 a0) (hr : meth.sig.returnType = (some .int)) {o_ : Nat} {post : Int32 → yM → Prop}  : ∀ (nn : Nat) (M : yM) (rc : Nat) (rs : Nat) (v1 : Option Nat) (v2 : Int32), wpX0_needed_b18 (yz s0 a0) o_ post nn M rc rs v1 v2 → Y p l e { frames := 8, cells := mc, slots := ms, locals := 235 } s m args below meth c (MQ below (yQi D s0 A post) args s mc ms A) D s0 A 3 M rc rs [none, some (yr v1), some (yi v2)] 18 [] := by
  intro nn
  induction nn with
  | zero => intro M rc rs v1 v2 h; exact absurd h (by rw [wpX0_needed_b18]; exact id)
  | succ nn ih =>
    intro M rc rs v1 v2 h
    rw [wpX0_needed_b18] at h
    refine y_iload_n C 2 rfl rfl dX0_needed_18 ?_
    refine y_if_lt C 45 dX0_needed_19 (by decide) (fun c9 => ?_) (fun c9 => ?_)
    · replace h := h.1 c9
      refine y_aload_n C 1 rfl rfl dX0_needed_45 ?_
      obtain ⟨d12, rfl, h⟩ := h
      obtain ⟨r13, ⟨fs9, g1, g2⟩, h⟩ := h
      refine y_getN (ci := 1) (k := 1) C in_X1 rfl (by decide) q160 (fun _ h => h) g1 g2 dX0_needed_46 ?_
      obtain ⟨d14, rfl, h⟩ := h
      obtain ⟨⟨vs9, g0⟩, h⟩ := h
      refine y_callVi0 C (metJ2_size hB h) (cwV 0 C.hts (lw_V q645 q494 q495 q90 q496) rfl rfl rfl kdJ2_size ⟨Nat.le_of_ble_eq_true rfl, Nat.le_of_ble_eq_true rfl⟩) g0 rfl rfl rfl (Nat.le_of_ble_eq_true rfl) dX0_needed_49 (fun r15 M1 hp => ?_)
      clear h
      obtain ⟨rfl, h⟩ := hp
      exact y_ireti C hr rfl rfl h dX0_needed_52
    · replace h := h.2 c9
      refine y_aload_n C 1 rfl rfl dX0_needed_22 ?_
      refine y_iload_n C 2 rfl rfl dX0_needed_23 ?_
      obtain ⟨d16, rfl, h⟩ := h
      obtain ⟨kc17, ks18, g1, g2, h⟩ := h
      obtain ⟨⟨vs9, g0⟩, h⟩ := h
      refine y_callVi C (metX1_isSuperfluous hB h) (cwV 1 C.hts (lw_V q1008 q1009 q1010 q87 q1011) rfl rfl rfl kdX1_isSuperfluous ⟨Nat.le_of_ble_eq_true rfl, Nat.le_of_ble_eq_true rfl⟩) g0 rfl rfl rfl (Nat.le_of_ble_eq_true rfl) dX0_needed_24 g1 g2 (fun r20 M19 hp => ?_)
      replace h := hp
      refine y_if_eq C 39 dX0_needed_27 (by decide) (fun c9 => ?_) (fun c9 => ?_)
      · replace h := h.1 c9
        refine y_to C _ ?_ (okX0_needed_b39 C hB hr ih _ _ _ _ _ h)
        exact (And.intro rfl (And.intro rfl trivial))
      · replace h := h.2 c9
        refine y_aload_n C 1 rfl rfl dX0_needed_30 ?_
        obtain ⟨r22, ⟨fs9, g1, g2⟩, h⟩ := h
        refine y_getN (ci := 1) (k := 1) C in_X1 rfl (by decide) q160 (fun _ h => h) g1 g2 dX0_needed_31 ?_
        refine y_iload_n C 2 rfl rfl dX0_needed_34 ?_
        obtain ⟨d23, rfl, h⟩ := h
        obtain ⟨⟨vs9, g0⟩, h⟩ := h
        refine y_callVq0 C (metJ2_remove hB h) (cwV 1 C.hts (lw_V q721 q722 q723 q90 q724) rfl rfl rfl kdJ2_remove ⟨Nat.le_of_ble_eq_true rfl, Nat.le_of_ble_eq_true rfl⟩) g0 rfl rfl rfl (Nat.le_of_ble_eq_true rfl) dX0_needed_35 (fun r25 M24 hp => ?_)
        replace h := hp
        refine y_pop C rfl dX0_needed_38 ?_
        refine y_to C _ ?_ (okX0_needed_b39 C hB hr ih _ _ _ _ _ h)
        exact (And.intro rfl (And.intro rfl trivial))
end sX0_needed
def wpX0_needed (M : yM) (z : Nat → Nat) (mc : Nat) (ms : Nat) (o_ : Nat) (post : Int32 → yM → Prop) : Prop := ∃ r1 : Option Nat, yF M o_ 0 0 (yr r1) ∧ ∃ d2 : Nat, r1 = some d2 ∧ ∃ kc3 ks4 : Nat, kc3 ≤ mc ∧ ks4 ≤ ms ∧ (∃ vs, M d2 = some (yo 1 vs)) ∧ wpX1_copy M z kc3 ks4 d2 (fun r6 M5 => ∃ d7 : Nat, r6 = some d7 ∧ ∃ r8 : Option Nat, yF M5 d7 1 1 (yr r8) ∧ ∃ d9 : Nat, r8 = some d9 ∧ (∃ vs, M5 d9 = some (yo 9 vs)) ∧ wpJ2_size M5 d9 (fun r10 => ∀ x11 : Int32, x11 = (r10 - 1) → ∃ nf9 : Nat, wpX0_needed_b18 z o_ post nf9 M5 (mc - kc3) (ms - ks4) (some d7) x11))
theorem metX0_needed {l : Launch} {D : va_G} {s0 : State} {a0 : Array Value} (hB : yB D s0 a0) {M : yM} {mc : Nat} {ms : Nat} {o_ : Nat} {post : Int32 → yM → Prop} (h : wpX0_needed M (yz s0 a0) mc ms o_ post) : yMi l yX0_needed (ws_ yX0_needed cX0_needed 3 (some .int)) 8 235 mc ms D s0 [yr (some o_)] M post := by
  refine y_meti hB (by decide) rfl (Nat.le_of_ble_eq_true rfl) ?_
  intro p e s m below meth c A hr hnm C
  rw [wpX0_needed] at h
  refine y_aload_n C 0 rfl rfl dX0_needed_0 ?_
  obtain ⟨r1, ⟨fs9, g1, g2⟩, h⟩ := h
  refine y_get (ci := 0) (k := 0) C in_X0 rfl (by decide) q185 (fun _ h => h) g1 g2 dX0_needed_1 ?_
  obtain ⟨d2, rfl, h⟩ := h
  obtain ⟨kc3, ks4, g1, g2, h⟩ := h
  obtain ⟨⟨vs9, g0⟩, h⟩ := h
  refine y_callVq C (metX1_copy hB h) (cwV 0 C.hts (lw_V q665 q666 q667 q87 q668) rfl rfl rfl kdX1_copy ⟨Nat.le_of_ble_eq_true rfl, Nat.le_of_ble_eq_true rfl⟩) g0 rfl rfl rfl (Nat.le_of_ble_eq_true rfl) dX0_needed_4 g1 g2 (fun r6 M5 hp => ?_)
  replace h := hp
  refine y_astore_n C 1 rfl (by decide) dX0_needed_7 ?_
  refine y_aload_n C 1 rfl rfl dX0_needed_8 ?_
  obtain ⟨d7, rfl, h⟩ := h
  obtain ⟨r8, ⟨fs9, g1, g2⟩, h⟩ := h
  refine y_getN (ci := 1) (k := 1) C in_X1 rfl (by decide) q160 (fun _ h => h) g1 g2 dX0_needed_9 ?_
  obtain ⟨d9, rfl, h⟩ := h
  obtain ⟨⟨vs9, g0⟩, h⟩ := h
  refine y_callVi0 C (metJ2_size hB h) (cwV 0 C.hts (lw_V q645 q494 q495 q90 q496) rfl rfl rfl kdJ2_size ⟨Nat.le_of_ble_eq_true rfl, Nat.le_of_ble_eq_true rfl⟩) g0 rfl rfl rfl (Nat.le_of_ble_eq_true rfl) dX0_needed_12 (fun r10 M1 hp => ?_)
  clear h
  obtain ⟨rfl, h⟩ := hp
  refine y_iconst C 1 dX0_needed_15 lit1 ?_
  refine y_isub C dX0_needed_16 ?_
  replace h := h _ rfl
  refine y_istore_n C 2 rfl (by decide) dX0_needed_17 ?_
  obtain ⟨nf9, h⟩ := h
  refine y_to C _ ?_ (okX0_needed_b18 C hB hr  nf9 _ _ _ _ _ h)
  exact (And.intro rfl (And.intro rfl trivial))
theorem kdX1_chain : yX1_chain.cls = RX1 ∧ yX1_chain.cls ≠ "java/lang/invoke/MethodHandle" ∧ yX1_chain.cls ≠ "java/lang/invoke/VarHandle" ∧ (parseMethodDescriptor yX1_chain.desc).map (fun d => d.parameters.length) = some 1 := by decide +kernel
section sX1_chain
variable {p : Program} {l : Launch} {e : Env} {s : State} {m : MethodId} {args : Array Value} {below : List Frame} {meth : Method} {c : Code} {D : va_G} {s0 : State} {a0 : Array Value} {A : Nat → Prop} {mc ms : Nat}
def wpX1_chain_b54 (z : Nat → Nat) (o_ : Nat) (post : Option Nat → yM → Prop) (k10 : yM → Nat → Nat → Int32 → Option Nat → Int32 → Prop) (M : yM) (rc : Nat) (rs : Nat) (v1 : Int32) (v2 : Option Nat) (v3 : Int32) : Prop := ∀ x14 : Int32, x14 = v3 + 1 → k10 M rc rs v1 v2 x14
theorem okX1_chain_b54 (C : yC p { frames := 8, cells := mc, slots := ms, locals := 232 } s m args meth c cX1_chain 4 RX1 D s0 a0 A) (hB : yB D s0 a0) (hr : meth.sig.returnType = (some (.object "DimensionLines$Unit"))) {o_ : Nat} {post : Option Nat → yM → Prop} {k10 : yM → Nat → Nat → Int32 → Option Nat → Int32 → Prop} (hk10 : ∀ (M : yM) (rc : Nat) (rs : Nat) (v1 : Int32) (v2 : Option Nat) (v3 : Int32), k10 M rc rs v1 v2 v3 → Y p l e { frames := 8, cells := mc, slots := ms, locals := 232 } s m args below meth c (MQ below (yQq D s0 A post) args s mc ms A) D s0 A 4 M rc rs [some (yr (some o_)), some (yi v1), some (yr v2), some (yi v3)] 10 []) : ∀ (M : yM) (rc : Nat) (rs : Nat) (v1 : Int32) (v2 : Option Nat) (v3 : Int32), wpX1_chain_b54 (yz s0 a0) o_ post k10 M rc rs v1 v2 v3 → Y p l e { frames := 8, cells := mc, slots := ms, locals := 232 } s m args below meth c (MQ below (yQq D s0 A post) args s mc ms A) D s0 A 4 M rc rs [some (yr (some o_)), some (yi v1), some (yr v2), some (yi v3)] 54 [] := by
  intro M rc rs v1 v2 v3 h
  rw [wpX1_chain_b54] at h
  replace h := h _ rfl
  refine y_iinc C 3 _ rfl (y_inc1 _) (by decide) dX1_chain_54 ?_
  refine y_goto C 10 dX1_chain_57 (by decide) ?_
  refine y_to C _ ?_ (hk10 _ _ _ _ _ _ h)
  exact (And.intro rfl (And.intro rfl (And.intro rfl (And.intro rfl trivial))))
def wpX1_chain_b10 (z : Nat → Nat) (o_ : Nat) (post : Option Nat → yM → Prop) : Nat → yM → Nat → Nat → Int32 → Option Nat → Int32 → Prop
  | 0, _, _, _, _, _, _ => False
  | nn + 1, M, rc, rs, v1, v2, v3 => ∃ r6 : Option Nat, yF M o_ 1 1 (yr r6) ∧ ∃ d7 : Nat, r6 = some d7 ∧ (∃ vs, M d7 = some (yo 9 vs)) ∧ wpJ2_size M d7 (fun r8 => ((r8 ≤ v3 → post v2 M) ∧ (¬ r8 ≤ v3 → ∃ r9 : Option Nat, yF M o_ 1 1 (yr r9) ∧ ∃ d10 : Nat, r9 = some d10 ∧ (∃ vs, M d10 = some (yo 9 vs)) ∧ wpJ2_get M d10 v3 (fun r11 => (∀ v, r11 = some v → ∃ vs, M v = some (yo 6 vs)) ∧ ∃ d12 : Nat, r11 = some d12 ∧ ∃ x13 : Int32, yF M d12 6 4 (yi x13) ∧ ((¬ x13 = v1 → wpX1_chain_b54 z o_ post (fun M rc rs v1 v2 v3 => wpX1_chain_b10 z o_ post nn M rc rs v1 v2 v3) M rc rs v1 v2 v3) ∧ (x13 = v1 → ∃ r15 : Option Nat, yF M o_ 1 1 (yr r15) ∧ ∃ d16 : Nat, r15 = some d16 ∧ (∃ vs, M d16 = some (yo 9 vs)) ∧ wpJ2_get M d16 v3 (fun r17 => (∀ v, r17 = some v → ∃ vs, M v = some (yo 6 vs)) ∧ ∃ d18 : Nat, v2 = some d18 ∧ ∃ kc19 ks20 : Nat, kc19 ≤ rc ∧ ks20 ≤ rs ∧ (∃ vs, M d18 = some (yo 7 vs)) ∧ wpX7_add M z kc19 ks20 d18 r17 (fun M21 => wpX1_chain_b54 z o_ post (fun M rc rs v1 v2 v3 => wpX1_chain_b10 z o_ post nn M rc rs v1 v2 v3) M21 (rc - kc19) (rs - ks20) v1 (some d18) v3))))))))
theorem okX1_chain_b10 (C : yC p { frames := 8, cells := mc, slots := ms, locals := 232 } s m args meth c cX1_chain 4 RX1 D s0 a0 A) (hB : yB D s0 a0) (hr : meth.sig.returnType = (some (.object "DimensionLines$Unit"))) {o_ : Nat} {post : Option Nat → yM → Prop}  : ∀ (nn : Nat) (M : yM) (rc : Nat) (rs : Nat) (v1 : Int32) (v2 : Option Nat) (v3 : Int32), wpX1_chain_b10 (yz s0 a0) o_ post nn M rc rs v1 v2 v3 → Y p l e { frames := 8, cells := mc, slots := ms, locals := 232 } s m args below meth c (MQ below (yQq D s0 A post) args s mc ms A) D s0 A 4 M rc rs [some (yr (some o_)), some (yi v1), some (yr v2), some (yi v3)] 10 [] := by
  intro nn
  induction nn with
  | zero => intro M rc rs v1 v2 v3 h; exact absurd h (by rw [wpX1_chain_b10]; exact id)
  | succ nn ih =>
    intro M rc rs v1 v2 v3 h
    rw [wpX1_chain_b10] at h
    refine y_iload_n C 3 rfl rfl dX1_chain_10 ?_
    refine y_aload_n C 0 rfl rfl dX1_chain_11 ?_
    obtain ⟨r6, ⟨fs9, g1, g2⟩, h⟩ := h
    refine y_get (ci := 1) (k := 1) C in_X1 rfl (by decide) q158 (fun _ h => h) g1 g2 dX1_chain_12 ?_
    obtain ⟨d7, rfl, h⟩ := h
    obtain ⟨⟨vs9, g0⟩, h⟩ := h
    refine y_callVi0 C (metJ2_size hB h) (cwV 0 C.hts (lw_V q658 q494 q495 q90 q496) rfl rfl rfl kdJ2_size ⟨Nat.le_of_ble_eq_true rfl, Nat.le_of_ble_eq_true rfl⟩) g0 rfl rfl rfl (Nat.le_of_ble_eq_true rfl) dX1_chain_15 (fun r8 M1 hp => ?_)
    clear h
    obtain ⟨rfl, h⟩ := hp
    refine y_icmp_ge C 60 dX1_chain_18 (by decide) (fun c9 => ?_) (fun c9 => ?_)
    · replace h := h.1 c9
      refine y_aload_n C 2 rfl rfl dX1_chain_60 ?_
      exact y_aretq C hr (Or.inl ⟨_, rfl⟩) rfl rfl h dX1_chain_61
    · replace h := h.2 c9
      refine y_aload_n C 0 rfl rfl dX1_chain_21 ?_
      obtain ⟨r9, ⟨fs9, g1, g2⟩, h⟩ := h
      refine y_get (ci := 1) (k := 1) C in_X1 rfl (by decide) q158 (fun _ h => h) g1 g2 dX1_chain_22 ?_
      refine y_iload_n C 3 rfl rfl dX1_chain_25 ?_
      obtain ⟨d10, rfl, h⟩ := h
      obtain ⟨⟨vs9, g0⟩, h⟩ := h
      refine y_callVq0 C (metJ2_get hB h) (cwV 1 C.hts (lw_V q659 q571 q572 q90 q573) rfl rfl rfl kdJ2_get ⟨Nat.le_of_ble_eq_true rfl, Nat.le_of_ble_eq_true rfl⟩) g0 rfl rfl rfl (Nat.le_of_ble_eq_true rfl) dX1_chain_26 (fun r11 M1 hp => ?_)
      clear h
      obtain ⟨rfl, h⟩ := hp
      obtain ⟨g1, h⟩ := h
      refine y_ckc (ci := 6) C q673 rfl g1 dX1_chain_29 ?_
      obtain ⟨d12, rfl, h⟩ := h
      obtain ⟨x13, ⟨fs9, g1, g2⟩, h⟩ := h
      refine y_getN (ci := 6) (k := 4) C in_X6 rfl (by decide) q604 (fun _ h => h) g1 g2 dX1_chain_32 ?_
      refine y_iload_n C 1 rfl rfl dX1_chain_35 ?_
      refine y_icmp_ne C 54 dX1_chain_36 (by decide) (fun c9 => ?_) (fun c9 => ?_)
      · replace h := h.1 c9
        refine y_to C _ ?_ (okX1_chain_b54 C hB hr ih _ _ _ _ _ _ h)
        exact (And.intro rfl (And.intro rfl (And.intro rfl (And.intro rfl trivial))))
      · replace h := h.2 c9
        refine y_aload_n C 2 rfl rfl dX1_chain_39 ?_
        refine y_aload_n C 0 rfl rfl dX1_chain_40 ?_
        obtain ⟨r15, ⟨fs9, g1, g2⟩, h⟩ := h
        refine y_get (ci := 1) (k := 1) C in_X1 rfl (by decide) q158 (fun _ h => h) g1 g2 dX1_chain_41 ?_
        refine y_iload_n C 3 rfl rfl dX1_chain_44 ?_
        obtain ⟨d16, rfl, h⟩ := h
        obtain ⟨⟨vs9, g0⟩, h⟩ := h
        refine y_callVq0 C (metJ2_get hB h) (cwV 1 C.hts (lw_V q659 q571 q572 q90 q573) rfl rfl rfl kdJ2_get ⟨Nat.le_of_ble_eq_true rfl, Nat.le_of_ble_eq_true rfl⟩) g0 rfl rfl rfl (Nat.le_of_ble_eq_true rfl) dX1_chain_45 (fun r17 M1 hp => ?_)
        clear h
        obtain ⟨rfl, h⟩ := hp
        obtain ⟨g1, h⟩ := h
        refine y_ckc (ci := 6) C q673 rfl g1 dX1_chain_48 ?_
        obtain ⟨d18, rfl, h⟩ := h
        obtain ⟨kc19, ks20, g1, g2, h⟩ := h
        obtain ⟨⟨vs9, g0⟩, h⟩ := h
        refine y_callVv C (metX7_add hB h) (cwV 1 C.hts (lw_V q843 q844 q845 q109 q846) rfl rfl rfl kdX7_add ⟨Nat.le_of_ble_eq_true rfl, Nat.le_of_ble_eq_true rfl⟩) g0 rfl rfl rfl (Nat.le_of_ble_eq_true rfl) dX1_chain_51 g1 g2 (fun M21 hp => ?_)
        replace h := hp
        refine y_to C _ ?_ (okX1_chain_b54 C hB hr ih _ _ _ _ _ _ h)
        exact (And.intro rfl (And.intro rfl (And.intro rfl (And.intro rfl trivial))))
end sX1_chain
def wpX1_chain (M : yM) (z : Nat → Nat) (mc : Nat) (ms : Nat) (o_ : Nat) (a1 : Int32) (post : Option Nat → yM → Prop) : Prop := 1 ≤ mc ∧ 5 ≤ ms ∧ ∀ q1 : Nat, M q1 = none → ∀ M2 : yM, M2 = yup M q1 (yo 7 [yr none, yi 0, yi 0, yi 0, yi 0]) → ∃ kc3 ks4 : Nat, kc3 ≤ (mc - 1) ∧ ks4 ≤ (ms - 5) ∧ wpX7_init M2 z kc3 ks4 q1 (fun M5 => ∃ nf9 : Nat, wpX1_chain_b10 z o_ post nf9 M5 ((mc - 1) - kc3) ((ms - 5) - ks4) a1 (some q1) 0)
theorem metX1_chain {l : Launch} {D : va_G} {s0 : State} {a0 : Array Value} (hB : yB D s0 a0) {M : yM} {mc : Nat} {ms : Nat} {o_ : Nat} {a1 : Int32} {post : Option Nat → yM → Prop} (h : wpX1_chain M (yz s0 a0) mc ms o_ a1 post) : yMq l yX1_chain (ws_ yX1_chain cX1_chain 4 (some (.object "DimensionLines$Unit"))) 8 232 mc ms D s0 [yr (some o_), yi a1] M post := by
  refine y_metq hB (by decide) rfl (Nat.le_of_ble_eq_true rfl) ?_
  intro p e s m below meth c A hr hnm C
  rw [wpX1_chain] at h
  obtain ⟨g1, g2, h⟩ := h
  refine y_new (ci := 7) C in_X7 tyX7_ok rfl q803 q813 q109 [yr none, yi 0, yi 0, yi 0, yi 0] (fun j hj => by rcases (show j = 0 ∨ j = 1 ∨ j = 2 ∨ j = 3 ∨ j = 4 by omega) with rfl | rfl | rfl | rfl | rfl <;> rfl) g1 g2 dX1_chain_0 (fun q1 g3 => ?_)
  replace h := h q1 g3 _ rfl
  refine y_dup C rfl dX1_chain_3 ?_
  obtain ⟨kc3, ks4, g1, g2, h⟩ := h
  refine y_callINv C (metX7_init hB h) ⟨va_cnB 0 C.hts (lw_meth q816) rfl rfl rfl (C.nestM q814) (C.hts _ q109) kdX7_init.2 ⟨Nat.le_of_ble_eq_true rfl, Nat.le_of_ble_eq_true rfl⟩, rfl, C.hts _ q815⟩ rfl rfl (Nat.le_of_ble_eq_true rfl) dX1_chain_4 g1 g2 (fun M5 hp => ?_)
  replace h := hp
  refine y_astore_n C 2 rfl (by decide) dX1_chain_7 ?_
  refine y_iconst C 0 dX1_chain_8 lit0 ?_
  refine y_istore_n C 3 rfl (by decide) dX1_chain_9 ?_
  obtain ⟨nf9, h⟩ := h
  refine y_to C _ ?_ (okX1_chain_b10 C hB hr  nf9 _ _ _ _ _ _ h)
  exact (And.intro rfl (And.intro rfl (And.intro rfl (And.intro rfl trivial))))
theorem kdJ2_toArray : yJ2_toArray.cls = RJ2 ∧ yJ2_toArray.cls ≠ "java/lang/invoke/MethodHandle" ∧ yJ2_toArray.cls ≠ "java/lang/invoke/VarHandle" ∧ (parseMethodDescriptor yJ2_toArray.desc).map (fun d => d.parameters.length) = some 0 := by decide +kernel
def wpJ2_toArray (M : yM) (z : Nat → Nat) (mc : Nat) (ms : Nat) (o_ : Nat) (post : Option Nat → yM → Prop) : Prop := ∃ r1 : Option Nat, yF M o_ 9 1 (yr r1) ∧ ∃ x2 : Int32, yF M o_ 9 2 (yi x2) ∧ ∃ kc3 ks4 : Nat, kc3 ≤ mc ∧ ks4 ≤ ms ∧ wpJ10_copyOf_2 M z kc3 ks4 r1 x2 (fun r6 M5 => post r6 M5)
theorem metJ2_toArray {l : Launch} {D : va_G} {s0 : State} {a0 : Array Value} (hB : yB D s0 a0) {M : yM} {mc : Nat} {ms : Nat} {o_ : Nat} {post : Option Nat → yM → Prop} (h : wpJ2_toArray M (yz s0 a0) mc ms o_ post) : yMq l yJ2_toArray (ws_ yJ2_toArray cJ2_toArray 1 (some (.array (.object "java/lang/Object")))) 3 124 mc ms D s0 [yr (some o_)] M post := by
  refine y_metq hB (by decide) rfl (Nat.le_of_ble_eq_true rfl) ?_
  intro p e s m below meth c A hr hnm C
  rw [wpJ2_toArray] at h
  refine y_aload_n C 0 rfl rfl dJ2_toArray_0 ?_
  obtain ⟨r1, ⟨fs9, g1, g2⟩, h⟩ := h
  refine y_get (ci := 9) (k := 1) C in_J2 rfl (by decide) q140 (fun _ h => h) g1 g2 dJ2_toArray_1 ?_
  refine y_aload_n C 0 rfl rfl dJ2_toArray_4 ?_
  obtain ⟨x2, ⟨fs9, g1, g2⟩, h⟩ := h
  refine y_get (ci := 9) (k := 2) C in_J2 rfl (by decide) q141 (fun _ h => h) g1 g2 dJ2_toArray_5 ?_
  obtain ⟨kc3, ks4, g1, g2, h⟩ := h
  refine y_callSq C (metJ10_copyOf_2 hB h) (va_cwS 2 C.hts (lw_S q537 q538 q100 q539) rfl rfl rfl kdJ10_copyOf_2.2 ⟨Nat.le_of_ble_eq_true rfl, Nat.le_of_ble_eq_true rfl⟩) rfl rfl (Nat.le_of_ble_eq_true rfl) dJ2_toArray_8 g1 g2 (fun r6 M5 hp => ?_)
  replace h := hp
  exact y_aretq C hr (Or.inr ⟨_, rfl⟩) rfl rfl h dJ2_toArray_11
theorem kdJ2_init_2 : yJ2_init_2.cls = RJ2 ∧ yJ2_init_2.cls ≠ "java/lang/invoke/MethodHandle" ∧ yJ2_init_2.cls ≠ "java/lang/invoke/VarHandle" ∧ (parseMethodDescriptor yJ2_init_2.desc).map (fun d => d.parameters.length) = some 1 := by decide +kernel
def wpJ2_init_2 (M : yM) (z : Nat → Nat) (mc : Nat) (ms : Nat) (o_ : Nat) (a1 : Option Nat) (post : yM → Prop) : Prop := wpJ1_init M o_ (fun M1 => ∃ d2 : Nat, a1 = some d2 ∧ ∃ kc3 ks4 : Nat, kc3 ≤ mc ∧ ks4 ≤ ms ∧ (∃ vs, M1 d2 = some (yo 9 vs)) ∧ wpJ2_toArray M1 z kc3 ks4 d2 (fun r6 M5 => ∃ d7 : Nat, r6 = some d7 ∧ ∃ e8 : FieldType × vp_A, M5 d7 = some (.inl e8) ∧ ∃ fs9 : List yV, M5 o_ = some (yo 9 fs9) ∧ 2 < fs9.length ∧ ∀ M10 : yM, M10 = yup M5 o_ (yo 9 (fs9.set 2 (yi (Int32.ofNat e8.2.1)))) → (((Int32.ofNat e8.2.1) = 0 → ∃ fs11 : List yV, M10 o_ = some (yo 9 fs11) ∧ 1 < fs11.length ∧ ∀ M12 : yM, M12 = yup M10 o_ (yo 9 (fs11.set 1 (yr (some (z 1))))) → post M12) ∧ (¬ (Int32.ofNat e8.2.1) = 0 → False))))
theorem metJ2_init_2 {l : Launch} {D : va_G} {s0 : State} {a0 : Array Value} (hB : yB D s0 a0) {M : yM} {mc : Nat} {ms : Nat} {o_ : Nat} {a1 : Option Nat} {post : yM → Prop} (h : wpJ2_init_2 M (yz s0 a0) mc ms o_ a1 post) : yMv l yJ2_init_2 (ws_ yJ2_init_2 cJ2_init_2 3 none) 4 144 mc ms D s0 [yr (some o_), yr a1] M post := by
  refine y_metv hB (by decide) rfl (Nat.le_of_ble_eq_true rfl) ?_
  intro p e s m below meth c A hr hnm C
  have hin2 : meth.name = "<init>" := hnm
  rw [wpJ2_init_2] at h
  refine y_aload_n C 0 rfl rfl dJ2_init_2_0 ?_
  refine y_callIv0 C (metJ1_init hB h) (cwI 0 C.hts (lw_meth q133) rfl rfl rfl (C.hts _ q89) (C.hts _ q131) (C.hts _ q132) rfl kdJ1_init.2 ⟨Nat.le_of_ble_eq_true rfl, Nat.le_of_ble_eq_true rfl⟩) rfl rfl (Nat.le_of_ble_eq_true rfl) dJ2_init_2_1 (fun M1 hp => ?_)
  replace h := hp
  refine y_aload_n C 1 rfl rfl dJ2_init_2_4 ?_
  obtain ⟨d2, rfl, h⟩ := h
  obtain ⟨kc3, ks4, g1, g2, h⟩ := h
  obtain ⟨⟨vs9, g0⟩, h⟩ := h
  refine y_callFq C (metJ2_toArray hB h) (va_cwF 0 C.hts (lw_F q1080 q1084 q1086 q90 q1088) rfl rfl rfl (y_Fw C q1082 q1081 q1087 q1085 q1083 (by decide +kernel)) (by decide +kernel) ⟨Nat.le_of_ble_eq_true rfl, Nat.le_of_ble_eq_true rfl⟩) g0 rfl rfl rfl (Nat.le_of_ble_eq_true rfl) dJ2_init_2_5 g1 g2 (fun r6 M5 hp => ?_)
  replace h := hp
  refine y_astore_n C 2 rfl (by decide) dJ2_init_2_10 ?_
  refine y_aload_n C 0 rfl rfl dJ2_init_2_11 ?_
  refine y_aload_n C 2 rfl rfl dJ2_init_2_12 ?_
  obtain ⟨d7, rfl, h⟩ := h
  obtain ⟨e8, g1, h⟩ := h
  refine y_alen C g1 dJ2_init_2_13 ?_
  refine y_dup_x1 C rfl rfl dJ2_init_2_14 ?_
  obtain ⟨fs9, g1, g2, h⟩ := h
  replace h := h _ rfl
  refine y_put (ci := 9) (k := 2) C in_J2 tyJ2_ok nmJ2 rfl (by decide) q141 (fun _ h => h) rfl g1 g2 rfl rfl rfl dJ2_init_2_15 ?_
  refine y_if_eq C 57 dJ2_init_2_18 (by decide) (fun c9 => ?_) (fun c9 => ?_)
  · replace h := h.1 c9
    refine y_aload_n C 0 rfl rfl dJ2_init_2_57 ?_
    refine y_stat_z1 C q1098 dJ2_init_2_58 ?_
    obtain ⟨fs11, g1, g2, h⟩ := h
    replace h := h _ rfl
    refine y_put (ci := 9) (k := 1) C in_J2 tyJ2_ok nmJ2 rfl (by decide) q140 (fun _ h => h) rfl g1 g2 rfl rfl rfl dJ2_init_2_61 ?_
    exact y_vret C hr rfl rfl h dJ2_init_2_64
  · replace h := h.2 c9
    refine y_aload_n C 1 rfl rfl dJ2_init_2_21 ?_
    exact h.elim
theorem kdX0_sum : yX0_sum.cls = RX0 ∧ yX0_sum.cls ≠ "java/lang/invoke/MethodHandle" ∧ yX0_sum.cls ≠ "java/lang/invoke/VarHandle" ∧ (parseMethodDescriptor yX0_sum.desc).map (fun d => d.parameters.length) = some 2 := by decide +kernel
section sX0_sum
variable {p : Program} {l : Launch} {e : Env} {s : State} {m : MethodId} {args : Array Value} {below : List Frame} {meth : Method} {c : Code} {D : va_G} {s0 : State} {a0 : Array Value} {A : Nat → Prop}
def wpX0_sum_b4 (M : yM) (post : Int32 → Prop) : Nat → Option Nat → Option Nat → Int32 → Int32 → Prop
  | 0, _, _, _, _ => False
  | nn + 1, v0, v1, v2, v3 => ∃ d1 : Nat, v0 = some d1 ∧ ∃ r2 : Option Nat, yF M d1 7 0 (yr r2) ∧ ∃ d3 : Nat, r2 = some d3 ∧ (∃ vs, M d3 = some (yo 9 vs)) ∧ wpJ2_size M d3 (fun r4 => ((r4 ≤ v3 → post v2) ∧ (¬ r4 ≤ v3 → ∃ r5 : Option Nat, yF M d1 7 0 (yr r5) ∧ ∃ d6 : Nat, r5 = some d6 ∧ (∃ vs, M d6 = some (yo 9 vs)) ∧ wpJ2_get M d6 v3 (fun r7 => False))))
theorem okX0_sum_b4 (C : yC p { frames := 4, cells := 0, slots := 0, locals := 144 } s m args meth c cX0_sum 4 RX0 D s0 a0 A) (hB : yB D s0 a0) (hr : meth.sig.returnType = (some .int)) {M : yM} {post : Int32 → Prop}  : ∀ (nn : Nat) (v0 : Option Nat) (v1 : Option Nat) (v2 : Int32) (v3 : Int32), wpX0_sum_b4 M post nn v0 v1 v2 v3 → Y p l e { frames := 4, cells := 0, slots := 0, locals := 144 } s m args below meth c (MQ below (yQi D s0 A (fun r M1 => M1 = M ∧ post r)) args s 0 0 A) D s0 A 4 M 0 0 [some (yr v0), some (yr v1), some (yi v2), some (yi v3)] 4 [] := by
  intro nn
  induction nn with
  | zero => intro v0 v1 v2 v3 h; exact absurd h (by rw [wpX0_sum_b4]; exact id)
  | succ nn ih =>
    intro v0 v1 v2 v3 h
    rw [wpX0_sum_b4] at h
    refine y_iload_n C 3 rfl rfl dX0_sum_4 ?_
    refine y_aload_n C 0 rfl rfl dX0_sum_5 ?_
    obtain ⟨d1, rfl, h⟩ := h
    obtain ⟨r2, ⟨fs9, g1, g2⟩, h⟩ := h
    refine y_getN (ci := 7) (k := 0) C in_X7 rfl (by decide) q821 (fun _ h => h) g1 g2 dX0_sum_6 ?_
    obtain ⟨d3, rfl, h⟩ := h
    obtain ⟨⟨vs9, g0⟩, h⟩ := h
    refine y_callVi0 C (metJ2_size hB h) (cwV 0 C.hts (lw_V q645 q494 q495 q90 q496) rfl rfl rfl kdJ2_size ⟨Nat.le_of_ble_eq_true rfl, Nat.le_of_ble_eq_true rfl⟩) g0 rfl rfl rfl (Nat.le_of_ble_eq_true rfl) dX0_sum_9 (fun r4 M1 hp => ?_)
    clear h
    obtain ⟨rfl, h⟩ := hp
    refine y_icmp_ge C 38 dX0_sum_12 (by decide) (fun c9 => ?_) (fun c9 => ?_)
    · replace h := h.1 c9
      refine y_iload_n C 2 rfl rfl dX0_sum_38 ?_
      exact y_ireti C hr rfl rfl ⟨rfl, h⟩ dX0_sum_39
    · replace h := h.2 c9
      refine y_iload_n C 2 rfl rfl dX0_sum_15 ?_
      refine y_aload_n C 1 rfl rfl dX0_sum_16 ?_
      refine y_aload_n C 0 rfl rfl dX0_sum_17 ?_
      obtain ⟨r5, ⟨fs9, g1, g2⟩, h⟩ := h
      refine y_getN (ci := 7) (k := 0) C in_X7 rfl (by decide) q821 (fun _ h => h) g1 g2 dX0_sum_18 ?_
      refine y_iload_n C 3 rfl rfl dX0_sum_21 ?_
      obtain ⟨d6, rfl, h⟩ := h
      obtain ⟨⟨vs9, g0⟩, h⟩ := h
      refine y_callVq0 C (metJ2_get hB h) (cwV 1 C.hts (lw_V q729 q571 q572 q90 q573) rfl rfl rfl kdJ2_get ⟨Nat.le_of_ble_eq_true rfl, Nat.le_of_ble_eq_true rfl⟩) g0 rfl rfl rfl (Nat.le_of_ble_eq_true rfl) dX0_sum_22 (fun r7 M1 hp => ?_)
      clear h
      obtain ⟨rfl, h⟩ := hp
      exact h.elim
end sX0_sum
def wpX0_sum (M : yM) (a1 : Option Nat) (a2 : Option Nat) (post : Int32 → Prop) : Prop := ∃ nf9 : Nat, wpX0_sum_b4 M post nf9 a1 a2 0 0
theorem metX0_sum {l : Launch} {D : va_G} {s0 : State} {a0 : Array Value} (hB : yB D s0 a0) {M : yM} {a1 : Option Nat} {a2 : Option Nat} {post : Int32 → Prop} (h : wpX0_sum M a1 a2 post) : yMi l yX0_sum (ws_ yX0_sum cX0_sum 4 (some .int)) 4 144 0 0 D s0 [yr a1, yr a2] M (fun r M1 => M1 = M ∧ post r) := by
  refine y_meti hB (by decide) rfl (Nat.le_of_ble_eq_true rfl) ?_
  intro p e s m below meth c A hr hnm C
  rw [wpX0_sum] at h
  refine y_iconst C 0 dX0_sum_0 lit0 ?_
  refine y_istore_n C 2 rfl (by decide) dX0_sum_1 ?_
  refine y_iconst C 0 dX0_sum_2 lit0 ?_
  refine y_istore_n C 3 rfl (by decide) dX0_sum_3 ?_
  obtain ⟨nf9, h⟩ := h
  refine y_to C _ ?_ (okX0_sum_b4 C hB hr  nf9 _ _ _ _ h)
  exact (And.intro rfl (And.intro rfl (And.intro rfl (And.intro rfl trivial))))
theorem kdX1_over : yX1_over.cls = RX1 ∧ yX1_over.cls ≠ "java/lang/invoke/MethodHandle" ∧ yX1_over.cls ≠ "java/lang/invoke/VarHandle" ∧ (parseMethodDescriptor yX1_over.desc).map (fun d => d.parameters.length) = some 2 := by decide +kernel
section sX1_over
variable {p : Program} {l : Launch} {e : Env} {s : State} {m : MethodId} {args : Array Value} {below : List Frame} {meth : Method} {c : Code} {D : va_G} {s0 : State} {a0 : Array Value} {A : Nat → Prop}
def wpX1_over_b67 (M : yM) (o_ : Nat) (post : Int32 → Prop) (k2 : Int32 → Option Nat → Int32 → Prop) (v1 : Int32) (v2 : Option Nat) (v3 : Int32) : Prop := ∀ x9 : Int32, x9 = v3 + 1 → k2 v1 v2 x9
theorem okX1_over_b67 (C : yC p { frames := 4, cells := 0, slots := 0, locals := 144 } s m args meth c cX1_over 5 RX1 D s0 a0 A) (hB : yB D s0 a0) (hr : meth.sig.returnType = (some .int)) {M : yM} {o_ : Nat} {post : Int32 → Prop} {k2 : Int32 → Option Nat → Int32 → Prop} (hk2 : ∀ (v1 : Int32) (v2 : Option Nat) (v3 : Int32), k2 v1 v2 v3 → Y p l e { frames := 4, cells := 0, slots := 0, locals := 144 } s m args below meth c (MQ below (yQi D s0 A (fun r M1 => M1 = M ∧ post r)) args s 0 0 A) D s0 A 5 M 0 0 [some (yr (some o_)), some (yi v1), some (yr v2), some (yi v3), none] 2 []) : ∀ (v1 : Int32) (v2 : Option Nat) (v3 : Int32), wpX1_over_b67 M o_ post k2 v1 v2 v3 → Y p l e { frames := 4, cells := 0, slots := 0, locals := 144 } s m args below meth c (MQ below (yQi D s0 A (fun r M1 => M1 = M ∧ post r)) args s 0 0 A) D s0 A 5 M 0 0 [some (yr (some o_)), some (yi v1), some (yr v2), some (yi v3), none] 67 [] := by
  intro v1 v2 v3 h
  rw [wpX1_over_b67] at h
  replace h := h _ rfl
  refine y_iinc C 3 _ rfl (y_inc1 _) (by decide) dX1_over_67 ?_
  refine y_goto C 2 dX1_over_70 (by decide) ?_
  refine y_to C _ ?_ (hk2 _ _ _ h)
  exact (And.intro rfl (And.intro rfl (And.intro rfl (And.intro rfl trivial))))
def wpX1_over_b2 (M : yM) (o_ : Nat) (post : Int32 → Prop) : Nat → Int32 → Option Nat → Int32 → Prop
  | 0, _, _, _ => False
  | nn + 1, v1, v2, v3 => ∃ r1 : Option Nat, yF M o_ 1 1 (yr r1) ∧ ∃ d2 : Nat, r1 = some d2 ∧ (∃ vs, M d2 = some (yo 9 vs)) ∧ wpJ2_size M d2 (fun r3 => ((r3 ≤ v3 → post (-999)) ∧ (¬ r3 ≤ v3 → ∃ r4 : Option Nat, yF M o_ 1 1 (yr r4) ∧ ∃ d5 : Nat, r4 = some d5 ∧ (∃ vs, M d5 = some (yo 9 vs)) ∧ wpJ2_get M d5 v3 (fun r6 => (∀ v, r6 = some v → ∃ vs, M v = some (yo 6 vs)) ∧ ∃ d7 : Nat, r6 = some d7 ∧ ∃ x8 : Int32, yF M d7 6 4 (yi x8) ∧ ((x8 = v1 → wpX1_over_b67 M o_ post (fun v1 v2 v3 => wpX1_over_b2 M o_ post nn v1 v2 v3) v1 v2 v3) ∧ (¬ x8 = v1 → ∃ r10 : Option Nat, yF M d7 6 0 (yr r10) ∧ ∃ d11 : Nat, r10 = some d11 ∧ ∃ x12 : Int32, yF M d11 5 0 (yi x12) ∧ ∃ d13 : Nat, v2 = some d13 ∧ ∃ x14 : Int32, yF M d13 7 2 (yi x14) ∧ ((¬ x12 = x14 → wpX1_over_b67 M o_ post (fun v1 v2 v3 => wpX1_over_b2 M o_ post nn v1 v2 v3) v1 (some d13) v3) ∧ (x12 = x14 → ∃ r15 : Option Nat, yF M d7 6 1 (yr r15) ∧ ∃ d16 : Nat, r15 = some d16 ∧ ∃ x17 : Int32, yF M d16 5 0 (yi x17) ∧ ∃ x18 : Int32, yF M d13 7 3 (yi x18) ∧ ((¬ x17 = x18 → wpX1_over_b67 M o_ post (fun v1 v2 v3 => wpX1_over_b2 M o_ post nn v1 v2 v3) v1 (some d13) v3) ∧ (x17 = x18 → post v3))))))))))
theorem okX1_over_b2 (C : yC p { frames := 4, cells := 0, slots := 0, locals := 144 } s m args meth c cX1_over 5 RX1 D s0 a0 A) (hB : yB D s0 a0) (hr : meth.sig.returnType = (some .int)) {M : yM} {o_ : Nat} {post : Int32 → Prop}  : ∀ (nn : Nat) (v1 : Int32) (v2 : Option Nat) (v3 : Int32), wpX1_over_b2 M o_ post nn v1 v2 v3 → Y p l e { frames := 4, cells := 0, slots := 0, locals := 144 } s m args below meth c (MQ below (yQi D s0 A (fun r M1 => M1 = M ∧ post r)) args s 0 0 A) D s0 A 5 M 0 0 [some (yr (some o_)), some (yi v1), some (yr v2), some (yi v3), none] 2 [] := by
  intro nn
  induction nn with
  | zero => intro v1 v2 v3 h; exact absurd h (by rw [wpX1_over_b2]; exact id)
  | succ nn ih =>
    intro v1 v2 v3 h
    rw [wpX1_over_b2] at h
    refine y_iload_n C 3 rfl rfl dX1_over_2 ?_
    refine y_aload_n C 0 rfl rfl dX1_over_3 ?_
    obtain ⟨r1, ⟨fs9, g1, g2⟩, h⟩ := h
    refine y_get (ci := 1) (k := 1) C in_X1 rfl (by decide) q158 (fun _ h => h) g1 g2 dX1_over_4 ?_
    obtain ⟨d2, rfl, h⟩ := h
    obtain ⟨⟨vs9, g0⟩, h⟩ := h
    refine y_callVi0 C (metJ2_size hB h) (cwV 0 C.hts (lw_V q658 q494 q495 q90 q496) rfl rfl rfl kdJ2_size ⟨Nat.le_of_ble_eq_true rfl, Nat.le_of_ble_eq_true rfl⟩) g0 rfl rfl rfl (Nat.le_of_ble_eq_true rfl) dX1_over_7 (fun r3 M1 hp => ?_)
    clear h
    obtain ⟨rfl, h⟩ := hp
    refine y_icmp_ge C 73 dX1_over_10 (by decide) (fun c9 => ?_) (fun c9 => ?_)
    · replace h := h.1 c9
      refine y_sipush C (-999) dX1_over_73 y_sm999 ?_
      exact y_ireti C hr rfl rfl ⟨rfl, h⟩ dX1_over_76
    · replace h := h.2 c9
      refine y_aload_n C 0 rfl rfl dX1_over_13 ?_
      obtain ⟨r4, ⟨fs9, g1, g2⟩, h⟩ := h
      refine y_get (ci := 1) (k := 1) C in_X1 rfl (by decide) q158 (fun _ h => h) g1 g2 dX1_over_14 ?_
      refine y_iload_n C 3 rfl rfl dX1_over_17 ?_
      obtain ⟨d5, rfl, h⟩ := h
      obtain ⟨⟨vs9, g0⟩, h⟩ := h
      refine y_callVq0 C (metJ2_get hB h) (cwV 1 C.hts (lw_V q659 q571 q572 q90 q573) rfl rfl rfl kdJ2_get ⟨Nat.le_of_ble_eq_true rfl, Nat.le_of_ble_eq_true rfl⟩) g0 rfl rfl rfl (Nat.le_of_ble_eq_true rfl) dX1_over_18 (fun r6 M1 hp => ?_)
      clear h
      obtain ⟨rfl, h⟩ := hp
      obtain ⟨g1, h⟩ := h
      refine y_ckc (ci := 6) C q673 rfl g1 dX1_over_21 ?_
      refine y_astore C 4 (by decide) dX1_over_24 ?_
      refine y_aload C 4 rfl dX1_over_26 ?_
      obtain ⟨d7, rfl, h⟩ := h
      obtain ⟨x8, ⟨fs9, g1, g2⟩, h⟩ := h
      refine y_getN (ci := 6) (k := 4) C in_X6 rfl (by decide) q604 (fun _ h => h) g1 g2 dX1_over_28 ?_
      refine y_iload_n C 1 rfl rfl dX1_over_31 ?_
      refine y_icmp_eq C 67 dX1_over_32 (by decide) (fun c9 => ?_) (fun c9 => ?_)
      · replace h := h.1 c9
        refine y_to C _ ?_ (okX1_over_b67 C hB hr ih _ _ _ h)
        exact (And.intro rfl (And.intro rfl (And.intro rfl (And.intro rfl trivial))))
      · replace h := h.2 c9
        refine y_aload C 4 rfl dX1_over_35 ?_
        obtain ⟨r10, ⟨fs9, g1, g2⟩, h⟩ := h
        refine y_getN (ci := 6) (k := 0) C in_X6 rfl (by decide) q589 (fun _ h => h) g1 g2 dX1_over_37 ?_
        obtain ⟨d11, rfl, h⟩ := h
        obtain ⟨x12, ⟨fs9, g1, g2⟩, h⟩ := h
        refine y_getN (ci := 5) (k := 0) C in_X5 rfl (by decide) q515 (fun _ h => h) g1 g2 dX1_over_40 ?_
        refine y_aload_n C 2 rfl rfl dX1_over_43 ?_
        obtain ⟨d13, rfl, h⟩ := h
        obtain ⟨x14, ⟨fs9, g1, g2⟩, h⟩ := h
        refine y_getN (ci := 7) (k := 2) C in_X7 rfl (by decide) q825 (fun _ h => h) g1 g2 dX1_over_44 ?_
        refine y_icmp_ne C 67 dX1_over_47 (by decide) (fun c9 => ?_) (fun c9 => ?_)
        · replace h := h.1 c9
          refine y_to C _ ?_ (okX1_over_b67 C hB hr ih _ _ _ h)
          exact (And.intro rfl (And.intro rfl (And.intro rfl (And.intro rfl trivial))))
        · replace h := h.2 c9
          refine y_aload C 4 rfl dX1_over_50 ?_
          obtain ⟨r15, ⟨fs9, g1, g2⟩, h⟩ := h
          refine y_getN (ci := 6) (k := 1) C in_X6 rfl (by decide) q594 (fun _ h => h) g1 g2 dX1_over_52 ?_
          obtain ⟨d16, rfl, h⟩ := h
          obtain ⟨x17, ⟨fs9, g1, g2⟩, h⟩ := h
          refine y_getN (ci := 5) (k := 0) C in_X5 rfl (by decide) q515 (fun _ h => h) g1 g2 dX1_over_55 ?_
          refine y_aload_n C 2 rfl rfl dX1_over_58 ?_
          obtain ⟨x18, ⟨fs9, g1, g2⟩, h⟩ := h
          refine y_getN (ci := 7) (k := 3) C in_X7 rfl (by decide) q828 (fun _ h => h) g1 g2 dX1_over_59 ?_
          refine y_icmp_ne C 67 dX1_over_62 (by decide) (fun c9 => ?_) (fun c9 => ?_)
          · replace h := h.1 c9
            refine y_to C _ ?_ (okX1_over_b67 C hB hr ih _ _ _ h)
            exact (And.intro rfl (And.intro rfl (And.intro rfl (And.intro rfl trivial))))
          · replace h := h.2 c9
            refine y_iload_n C 3 rfl rfl dX1_over_65 ?_
            exact y_ireti C hr rfl rfl ⟨rfl, h⟩ dX1_over_66
end sX1_over
def wpX1_over (M : yM) (o_ : Nat) (a1 : Int32) (a2 : Option Nat) (post : Int32 → Prop) : Prop := ∃ nf9 : Nat, wpX1_over_b2 M o_ post nf9 a1 a2 0
theorem metX1_over {l : Launch} {D : va_G} {s0 : State} {a0 : Array Value} (hB : yB D s0 a0) {M : yM} {o_ : Nat} {a1 : Int32} {a2 : Option Nat} {post : Int32 → Prop} (h : wpX1_over M o_ a1 a2 post) : yMi l yX1_over (ws_ yX1_over cX1_over 5 (some .int)) 4 144 0 0 D s0 [yr (some o_), yi a1, yr a2] M (fun r M1 => M1 = M ∧ post r) := by
  refine y_meti hB (by decide) rfl (Nat.le_of_ble_eq_true rfl) ?_
  intro p e s m below meth c A hr hnm C
  rw [wpX1_over] at h
  refine y_iconst C 0 dX1_over_0 lit0 ?_
  refine y_istore_n C 3 rfl (by decide) dX1_over_1 ?_
  obtain ⟨nf9, h⟩ := h
  refine y_to C _ ?_ (okX1_over_b2 C hB hr  nf9 _ _ _ h)
  exact (And.intro rfl (And.intro rfl (And.intro rfl (And.intro rfl trivial))))
theorem kdX0_lambda_isClosed_0 : yX0_lambda_isClosed_0.cls = RX0 ∧ yX0_lambda_isClosed_0.cls ≠ "java/lang/invoke/MethodHandle" ∧ yX0_lambda_isClosed_0.cls ≠ "java/lang/invoke/VarHandle" ∧ (parseMethodDescriptor yX0_lambda_isClosed_0.desc).map (fun d => d.parameters.length) = some 1 := by decide +kernel
def wpX0_lambda_isClosed_0 (M : yM) (a1 : Option Nat) (post : Int32 → Prop) : Prop := ∃ d1 : Nat, a1 = some d1 ∧ ∃ r2 : Option Nat, yF M d1 6 0 (yr r2) ∧ ∃ d3 : Nat, r2 = some d3 ∧ ∃ x4 : Int32, yF M d3 5 0 (yi x4) ∧ post x4
theorem metX0_lambda_isClosed_0 {l : Launch} {D : va_G} {s0 : State} {a0 : Array Value} (hB : yB D s0 a0) {M : yM} {a1 : Option Nat} {post : Int32 → Prop} (h : wpX0_lambda_isClosed_0 M a1 post) : yMi l yX0_lambda_isClosed_0 (ws_ yX0_lambda_isClosed_0 cX0_lambda_isClosed_0 1 (some .int)) 1 80 0 0 D s0 [yr a1] M (fun r M1 => M1 = M ∧ post r) := by
  refine y_meti hB (by decide) rfl (Nat.le_of_ble_eq_true rfl) ?_
  intro p e s m below meth c A hr hnm C
  rw [wpX0_lambda_isClosed_0] at h
  refine y_aload_n C 0 rfl rfl dX0_lambda_isClosed_0_0 ?_
  obtain ⟨d1, rfl, h⟩ := h
  obtain ⟨r2, ⟨fs9, g1, g2⟩, h⟩ := h
  refine y_getN (ci := 6) (k := 0) C in_X6 rfl (by decide) q590 (fun _ h => h) g1 g2 dX0_lambda_isClosed_0_1 ?_
  obtain ⟨d3, rfl, h⟩ := h
  obtain ⟨x4, ⟨fs9, g1, g2⟩, h⟩ := h
  refine y_getN (ci := 5) (k := 0) C in_X5 rfl (by decide) q516 (fun _ h => h) g1 g2 dX0_lambda_isClosed_0_4 ?_
  exact y_ireti C hr rfl rfl ⟨rfl, h⟩ dX0_lambda_isClosed_0_7

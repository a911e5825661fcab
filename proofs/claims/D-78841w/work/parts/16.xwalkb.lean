set_option maxRecDepth 100000
theorem kdX0_begin : yX0_begin.cls = RX0 ∧ yX0_begin.cls ≠ "java/lang/invoke/MethodHandle" ∧ yX0_begin.cls ≠ "java/lang/invoke/VarHandle" ∧ (parseMethodDescriptor yX0_begin.desc).map (fun d => d.parameters.length) = some 0 := by decide +kernel
def wpX0_begin (M : yM) (z : Nat → Nat) (mc : Nat) (ms : Nat) (o_ : Nat) (post : Option Nat → yM → Prop) : Prop := ∃ r1 : Option Nat, yF M o_ 0 0 (yr r1) ∧ ∃ d2 : Nat, r1 = some d2 ∧ ∃ kc3 ks4 : Nat, kc3 ≤ mc ∧ ks4 ≤ ms ∧ (∃ vs, M d2 = some (yo 1 vs)) ∧ wpX1_copy M z kc3 ks4 d2 (fun r6 M5 => (∃ vs, M5 o_ = some (yo 0 vs)) ∧ wpX0_become M5 o_ r6 (fun M7 => ∃ r8 : Option Nat, yF M7 o_ 0 0 (yr r8) ∧ post r8 M7))
theorem metX0_begin {l : Launch} {D : va_G} {s0 : State} {a0 : Array Value} (hB : yB D s0 a0) {M : yM} {mc : Nat} {ms : Nat} {o_ : Nat} {post : Option Nat → yM → Prop} (h : wpX0_begin M (yz s0 a0) mc ms o_ post) : yMq l yX0_begin (ws_ yX0_begin cX0_begin 1 (some (.object "DimensionLines$Drawing"))) 8 235 mc ms D s0 [yr (some o_)] M post := by
  refine y_metq hB (by decide) rfl (Nat.le_of_ble_eq_true rfl) ?_
  intro p e s m below meth c A hr hnm C
  rw [wpX0_begin] at h
  refine y_aload_n C 0 rfl rfl dX0_begin_0 ?_
  refine y_aload_n C 0 rfl rfl dX0_begin_1 ?_
  obtain ⟨r1, ⟨fs9, g1, g2⟩, h⟩ := h
  refine y_get (ci := 0) (k := 0) C in_X0 rfl (by decide) q185 (fun _ h => h) g1 g2 dX0_begin_2 ?_
  obtain ⟨d2, rfl, h⟩ := h
  obtain ⟨kc3, ks4, g1, g2, h⟩ := h
  obtain ⟨⟨vs9, g0⟩, h⟩ := h
  refine y_callVq C (metX1_copy hB h) (cwV 0 C.hts (lw_V q665 q666 q667 q87 q668) rfl rfl rfl kdX1_copy ⟨Nat.le_of_ble_eq_true rfl, Nat.le_of_ble_eq_true rfl⟩) g0 rfl rfl rfl (Nat.le_of_ble_eq_true rfl) dX0_begin_5 g1 g2 (fun r6 M5 hp => ?_)
  replace h := hp
  obtain ⟨⟨vs9, g0⟩, h⟩ := h
  refine y_callVv0 C (metX0_become hB h) (cwV 1 C.hts (lw_V q640 q642 qs10 q86 q643) rfl rfl rfl kdX0_become ⟨Nat.le_of_ble_eq_true rfl, Nat.le_of_ble_eq_true rfl⟩) g0 rfl rfl rfl (Nat.le_of_ble_eq_true rfl) dX0_begin_8 (fun M7 hp => ?_)
  replace h := hp
  refine y_aload_n C 0 rfl rfl dX0_begin_11 ?_
  obtain ⟨r8, ⟨fs9, g1, g2⟩, h⟩ := h
  refine y_get (ci := 0) (k := 0) C in_X0 rfl (by decide) q185 (fun _ h => h) g1 g2 dX0_begin_12 ?_
  exact y_aretq C hr (Or.inl ⟨_, rfl⟩) rfl rfl h dX0_begin_15
theorem kdJ2_rangeCheckForAdd : yJ2_rangeCheckForAdd.cls = RJ2 ∧ yJ2_rangeCheckForAdd.cls ≠ "java/lang/invoke/MethodHandle" ∧ yJ2_rangeCheckForAdd.cls ≠ "java/lang/invoke/VarHandle" ∧ (parseMethodDescriptor yJ2_rangeCheckForAdd.desc).map (fun d => d.parameters.length) = some 1 := by decide +kernel
section sJ2_rangeCheckForAdd
variable {p : Program} {l : Launch} {e : Env} {s : State} {m : MethodId} {args : Array Value} {below : List Frame} {meth : Method} {c : Code} {D : va_G} {s0 : State} {a0 : Array Value} {A : Nat → Prop}
def wpJ2_rangeCheckForAdd_b12 (M : yM) (o_ : Nat) (post : Prop) (v1 : Int32) : Prop := False
theorem okJ2_rangeCheckForAdd_b12 (C : yC p { frames := 1, cells := 0, slots := 0, locals := 80 } s m args meth c cJ2_rangeCheckForAdd 2 RJ2 D s0 a0 A) (hB : yB D s0 a0) (hr : meth.sig.returnType = none) {M : yM} {o_ : Nat} {post : Prop}  : ∀ (v1 : Int32), wpJ2_rangeCheckForAdd_b12 M o_ post v1 → Y p l e { frames := 1, cells := 0, slots := 0, locals := 80 } s m args below meth c (MQ below (yQv D s0 A (fun M1 => M1 = M ∧ post)) args s 0 0 A) D s0 A 2 M 0 0 [some (yr (some o_)), some (yi v1)] 12 [] := by
  intro v1 h
  rw [wpJ2_rangeCheckForAdd_b12] at h
  exact h.elim
end sJ2_rangeCheckForAdd
def wpJ2_rangeCheckForAdd (M : yM) (o_ : Nat) (a1 : Int32) (post : Prop) : Prop := ∃ x1 : Int32, yF M o_ 9 2 (yi x1) ∧ ((x1 < a1 → wpJ2_rangeCheckForAdd_b12 M o_ post a1) ∧ (¬ x1 < a1 → ((0 ≤ a1 → post) ∧ (¬ 0 ≤ a1 → wpJ2_rangeCheckForAdd_b12 M o_ post a1))))
theorem metJ2_rangeCheckForAdd {l : Launch} {D : va_G} {s0 : State} {a0 : Array Value} (hB : yB D s0 a0) {M : yM} {o_ : Nat} {a1 : Int32} {post : Prop} (h : wpJ2_rangeCheckForAdd M o_ a1 post) : yMv l yJ2_rangeCheckForAdd (ws_ yJ2_rangeCheckForAdd cJ2_rangeCheckForAdd 2 none) 1 80 0 0 D s0 [yr (some o_), yi a1] M (fun M1 => M1 = M ∧ post) := by
  refine y_metv hB (by decide) rfl (Nat.le_of_ble_eq_true rfl) ?_
  intro p e s m below meth c A hr hnm C
  rw [wpJ2_rangeCheckForAdd] at h
  refine y_iload_n C 1 rfl rfl dJ2_rangeCheckForAdd_0 ?_
  refine y_aload_n C 0 rfl rfl dJ2_rangeCheckForAdd_1 ?_
  obtain ⟨x1, ⟨fs9, g1, g2⟩, h⟩ := h
  refine y_get (ci := 9) (k := 2) C in_J2 rfl (by decide) q141 (fun _ h => h) g1 g2 dJ2_rangeCheckForAdd_2 ?_
  refine y_icmp_gt C 12 dJ2_rangeCheckForAdd_5 (by decide) (fun c9 => ?_) (fun c9 => ?_)
  · replace h := h.1 c9
    refine y_to C _ ?_ (okJ2_rangeCheckForAdd_b12 C hB hr  _ h)
    exact (And.intro rfl (And.intro rfl trivial))
  · replace h := h.2 c9
    refine y_iload_n C 1 rfl rfl dJ2_rangeCheckForAdd_8 ?_
    refine y_if_ge C 25 dJ2_rangeCheckForAdd_9 (by decide) (fun c9 => ?_) (fun c9 => ?_)
    · replace h := h.1 c9
      exact y_vret C hr rfl rfl ⟨rfl, h⟩ dJ2_rangeCheckForAdd_25
    · replace h := h.2 c9
      refine y_to C _ ?_ (okJ2_rangeCheckForAdd_b12 C hB hr  _ h)
      exact (And.intro rfl (And.intro rfl trivial))
theorem kdJ2_add_3 : yJ2_add_3.cls = RJ2 ∧ yJ2_add_3.cls ≠ "java/lang/invoke/MethodHandle" ∧ yJ2_add_3.cls ≠ "java/lang/invoke/VarHandle" ∧ (parseMethodDescriptor yJ2_add_3.desc).map (fun d => d.parameters.length) = some 2 := by decide +kernel
section sJ2_add_3
variable {p : Program} {l : Launch} {e : Env} {s : State} {m : MethodId} {args : Array Value} {below : List Frame} {meth : Method} {c : Code} {D : va_G} {s0 : State} {a0 : Array Value} {A : Nat → Prop} {mc ms : Nat}
def wpJ2_add_3_b38 (z : Nat → Nat) (o_ : Nat) (post : yM → Prop) (M : yM) (rc : Nat) (rs : Nat) (v1 : Int32) (v2 : Option Nat) (v3 : Int32) (v4 : Option Nat) : Prop := ∃ d8 : Nat, v4 = some d8 ∧ ∃ (E13 E14 : String) (n9 n10 : Nat) (f11 f12 : Nat → Option Nat), M d8 = some (yaq E13 n9 f11) ∧ M d8 = some (yaq E14 n10 f12) ∧ 0 < n9 ∧ 0 < n10 ∧ ¬ (v1 : Int32) < 0 ∧ ¬ ((v1 + 1) : Int32) < 0 ∧ ¬ ((v3 - v1) : Int32) < 0 ∧ (Int32.toNatClampNeg v1) + (Int32.toNatClampNeg (v3 - v1)) ≤ n9 ∧ (Int32.toNatClampNeg (v1 + 1)) + (Int32.toNatClampNeg (v3 - v1)) ≤ n10 ∧ (∀ i : Nat, i < (Int32.toNatClampNeg (v3 - v1)) → ∀ v : Nat, f11 ((Int32.toNatClampNeg v1) + i) = some v → ∃ ci vs, M v = some (yo ci vs) ∧ yAsg E14 ci) ∧ ∀ M15 : yM, M15 = yup M d8 (yaq E14 n10 (va_cpy f11 f12 (Int32.toNatClampNeg v1) (Int32.toNatClampNeg (v1 + 1)) (Int32.toNatClampNeg (v3 - v1)))) → ∃ (E18 : String) (n16 : Nat) (f17 : Nat → Option Nat), M15 d8 = some (yaq E18 n16 f17) ∧ vp_in v1 n16 ∧ (∀ v, v2 = some v → ∃ ci vs, M15 v = some (yo ci vs) ∧ yAsg E18 ci) ∧ ∀ M19 : yM, M19 = yup M15 d8 (yaq E18 n16 (va_up f17 (Int32.toNatClampNeg v1) v2)) → ∃ fs20 : List yV, M19 o_ = some (yo 9 fs20) ∧ 2 < fs20.length ∧ ∀ M21 : yM, M21 = yup M19 o_ (yo 9 (fs20.set 2 (yi (v3 + 1)))) → post M21
theorem okJ2_add_3_b38 (C : yC p { frames := 5, cells := mc, slots := ms, locals := 167 } s m args meth c cJ2_add_3 5 RJ2 D s0 a0 A) (hB : yB D s0 a0) (hr : meth.sig.returnType = none) {o_ : Nat} {post : yM → Prop}  : ∀ (M : yM) (rc : Nat) (rs : Nat) (v1 : Int32) (v2 : Option Nat) (v3 : Int32) (v4 : Option Nat), wpJ2_add_3_b38 (yz s0 a0) o_ post M rc rs v1 v2 v3 v4 → Y p l e { frames := 5, cells := mc, slots := ms, locals := 167 } s m args below meth c (MQ below (yQv D s0 A post) args s mc ms A) D s0 A 5 M rc rs [some (yr (some o_)), some (yi v1), some (yr v2), some (yi v3), some (yr v4)] 38 [] := by
  intro M rc rs v1 v2 v3 v4 h
  rw [wpJ2_add_3_b38] at h
  refine y_aload C 4 rfl dJ2_add_3_38 ?_
  refine y_iload_n C 1 rfl rfl dJ2_add_3_40 ?_
  refine y_aload C 4 rfl dJ2_add_3_41 ?_
  refine y_iload_n C 1 rfl rfl dJ2_add_3_43 ?_
  refine y_iconst C 1 dJ2_add_3_44 lit1 ?_
  refine y_iadd C dJ2_add_3_45 ?_
  refine y_iload_n C 3 rfl rfl dJ2_add_3_46 ?_
  refine y_iload_n C 1 rfl rfl dJ2_add_3_47 ?_
  refine y_isub C dJ2_add_3_48 ?_
  obtain ⟨d8, rfl, h⟩ := h
  obtain ⟨E13, E14, n9, n10, f11, f12, g1, g2, g3, g4, g5, g6, g7, g8, g9, g0, h⟩ := h
  replace h := h _ rfl
  refine y_copyq C q712 q300 q299 q101 g1 g2 g3 g4 g5 g6 g7 g8 g9 g0 (Nat.le_of_ble_eq_true rfl) (Nat.le_of_ble_eq_true rfl) (Nat.le_of_ble_eq_true rfl) dJ2_add_3_49 ?_
  refine y_aload C 4 rfl dJ2_add_3_52 ?_
  refine y_iload_n C 1 rfl rfl dJ2_add_3_54 ?_
  refine y_aload_n C 2 rfl rfl dJ2_add_3_55 ?_
  obtain ⟨E18, n16, f17, g1, g2, g3, h⟩ := h
  replace h := h _ rfl
  refine y_aast C g1 g2 g3 rfl dJ2_add_3_56 ?_
  refine y_aload_n C 0 rfl rfl dJ2_add_3_57 ?_
  refine y_iload_n C 3 rfl rfl dJ2_add_3_58 ?_
  refine y_iconst C 1 dJ2_add_3_59 lit1 ?_
  refine y_iadd C dJ2_add_3_60 ?_
  obtain ⟨fs20, g1, g2, h⟩ := h
  replace h := h _ rfl
  refine y_put (ci := 9) (k := 2) C in_J2 tyJ2_ok nmJ2 rfl (by decide) q141 (fun _ h => h) rfl g1 g2 rfl rfl rfl dJ2_add_3_61 ?_
  exact y_vret C hr rfl rfl h dJ2_add_3_64
end sJ2_add_3
def wpJ2_add_3 (M : yM) (z : Nat → Nat) (mc : Nat) (ms : Nat) (o_ : Nat) (a1 : Int32) (a2 : Option Nat) (post : yM → Prop) : Prop := (∃ vs, M o_ = some (yo 9 vs)) ∧ wpJ2_rangeCheckForAdd M o_ a1 (∃ x1 : Int32, yF M o_ 9 0 (yi x1) ∧ ∃ fs2 : List yV, M o_ = some (yo 9 fs2) ∧ 0 < fs2.length ∧ ∀ M3 : yM, M3 = yup M o_ (yo 9 (fs2.set 0 (yi (x1 + 1)))) → ∃ x4 : Int32, yF M3 o_ 9 2 (yi x4) ∧ ∃ r5 : Option Nat, yF M3 o_ 9 1 (yr r5) ∧ ∃ d6 : Nat, r5 = some d6 ∧ ∃ e7 : FieldType × vp_A, M3 d6 = some (.inl e7) ∧ ((¬ x4 = (Int32.ofNat e7.2.1) → wpJ2_add_3_b38 z o_ post M3 mc ms a1 a2 x4 (some d6)) ∧ (x4 = (Int32.ofNat e7.2.1) → ∃ kc22 ks23 : Nat, kc22 ≤ mc ∧ ks23 ≤ ms ∧ (∃ vs, M3 o_ = some (yo 9 vs)) ∧ wpJ2_grow M3 z kc22 ks23 o_ (fun r25 M24 => wpJ2_add_3_b38 z o_ post M24 (mc - kc22) (ms - ks23) a1 a2 x4 r25))))
theorem metJ2_add_3 {l : Launch} {D : va_G} {s0 : State} {a0 : Array Value} (hB : yB D s0 a0) {M : yM} {mc : Nat} {ms : Nat} {o_ : Nat} {a1 : Int32} {a2 : Option Nat} {post : yM → Prop} (h : wpJ2_add_3 M (yz s0 a0) mc ms o_ a1 a2 post) : yMv l yJ2_add_3 (ws_ yJ2_add_3 cJ2_add_3 5 none) 5 167 mc ms D s0 [yr (some o_), yi a1, yr a2] M post := by
  refine y_metv hB (by decide) rfl (Nat.le_of_ble_eq_true rfl) ?_
  intro p e s m below meth c A hr hnm C
  rw [wpJ2_add_3] at h
  refine y_aload_n C 0 rfl rfl dJ2_add_3_0 ?_
  refine y_iload_n C 1 rfl rfl dJ2_add_3_1 ?_
  obtain ⟨⟨vs9, g0⟩, h⟩ := h
  refine y_callVv0 C (metJ2_rangeCheckForAdd hB h) (cwV 1 C.hts (lw_V q708 q710 qs12 q90 q711) rfl rfl rfl kdJ2_rangeCheckForAdd ⟨Nat.le_of_ble_eq_true rfl, Nat.le_of_ble_eq_true rfl⟩) g0 rfl rfl rfl (Nat.le_of_ble_eq_true rfl) dJ2_add_3_2 (fun M1 hp => ?_)
  clear h
  obtain ⟨rfl, h⟩ := hp
  refine y_aload_n C 0 rfl rfl dJ2_add_3_5 ?_
  refine y_dup C rfl dJ2_add_3_6 ?_
  obtain ⟨x1, ⟨fs9, g1, g2⟩, h⟩ := h
  refine y_get (ci := 9) (k := 0) C in_J2 rfl (by decide) q143 (fun x h => u_same (C.hts _ q144) x h) g1 g2 dJ2_add_3_7 ?_
  refine y_iconst C 1 dJ2_add_3_10 lit1 ?_
  refine y_iadd C dJ2_add_3_11 ?_
  obtain ⟨fs2, g1, g2, h⟩ := h
  replace h := h _ rfl
  refine y_put (ci := 9) (k := 0) C in_J2 tyJ2_ok nmJ2 rfl (by decide) q143 (fun x h => u_same (C.hts _ q144) x h) rfl g1 g2 rfl rfl rfl dJ2_add_3_12 ?_
  refine y_aload_n C 0 rfl rfl dJ2_add_3_15 ?_
  obtain ⟨x4, ⟨fs9, g1, g2⟩, h⟩ := h
  refine y_get (ci := 9) (k := 2) C in_J2 rfl (by decide) q141 (fun _ h => h) g1 g2 dJ2_add_3_16 ?_
  refine y_dup C rfl dJ2_add_3_19 ?_
  refine y_istore_n C 3 rfl (by decide) dJ2_add_3_20 ?_
  refine y_aload_n C 0 rfl rfl dJ2_add_3_21 ?_
  obtain ⟨r5, ⟨fs9, g1, g2⟩, h⟩ := h
  refine y_get (ci := 9) (k := 1) C in_J2 rfl (by decide) q140 (fun _ h => h) g1 g2 dJ2_add_3_22 ?_
  refine y_dup C rfl dJ2_add_3_25 ?_
  refine y_astore C 4 (by decide) dJ2_add_3_26 ?_
  obtain ⟨d6, rfl, h⟩ := h
  obtain ⟨e7, g1, h⟩ := h
  refine y_alen C g1 dJ2_add_3_28 ?_
  refine y_icmp_ne C 38 dJ2_add_3_29 (by decide) (fun c9 => ?_) (fun c9 => ?_)
  · replace h := h.1 c9
    refine y_to C _ ?_ (okJ2_add_3_b38 C hB hr  _ _ _ _ _ _ _ h)
    exact (And.intro rfl (And.intro rfl (And.intro rfl (And.intro rfl (And.intro rfl trivial)))))
  · replace h := h.2 c9
    refine y_aload_n C 0 rfl rfl dJ2_add_3_32 ?_
    obtain ⟨kc22, ks23, g1, g2, h⟩ := h
    obtain ⟨⟨vs9, g0⟩, h⟩ := h
    refine y_callVq C (metJ2_grow hB h) (cwV 0 C.hts (lw_V q528 q530 qs7 q90 q531) rfl rfl rfl kdJ2_grow ⟨Nat.le_of_ble_eq_true rfl, Nat.le_of_ble_eq_true rfl⟩) g0 rfl rfl rfl (Nat.le_of_ble_eq_true rfl) dJ2_add_3_33 g1 g2 (fun r25 M24 hp => ?_)
    replace h := hp
    refine y_astore C 4 (by decide) dJ2_add_3_36 ?_
    refine y_to C _ ?_ (okJ2_add_3_b38 C hB hr  _ _ _ _ _ _ _ h)
    exact (And.intro rfl (And.intro rfl (And.intro rfl (And.intro rfl (And.intro rfl trivial)))))
theorem kdX1_insert : yX1_insert.cls = RX1 ∧ yX1_insert.cls ≠ "java/lang/invoke/MethodHandle" ∧ yX1_insert.cls ≠ "java/lang/invoke/VarHandle" ∧ (parseMethodDescriptor yX1_insert.desc).map (fun d => d.parameters.length) = some 1 := by decide +kernel
section sX1_insert
variable {p : Program} {l : Launch} {e : Env} {s : State} {m : MethodId} {args : Array Value} {below : List Frame} {meth : Method} {c : Code} {D : va_G} {s0 : State} {a0 : Array Value} {A : Nat → Prop} {mc ms : Nat}
def wpX1_insert_b40 (z : Nat → Nat) (o_ : Nat) (post : Int32 → yM → Prop) (M : yM) (rc : Nat) (rs : Nat) (v1 : Option Nat) (v2 : Int32) : Prop := ∃ r4 : Option Nat, yF M o_ 1 0 (yr r4) ∧ ∃ d5 : Nat, r4 = some d5 ∧ ∃ kc6 ks7 : Nat, kc6 ≤ rc ∧ ks7 ≤ rs ∧ (∃ vs, M d5 = some (yo 9 vs)) ∧ wpJ2_add_3 M z kc6 ks7 d5 v2 v1 (fun M8 => post v2 M8)
theorem okX1_insert_b40 (C : yC p { frames := 6, cells := mc, slots := ms, locals := 191 } s m args meth c cX1_insert 3 RX1 D s0 a0 A) (hB : yB D s0 a0) (hr : meth.sig.returnType = (some .int)) {o_ : Nat} {post : Int32 → yM → Prop}  : ∀ (M : yM) (rc : Nat) (rs : Nat) (v1 : Option Nat) (v2 : Int32), wpX1_insert_b40 (yz s0 a0) o_ post M rc rs v1 v2 → Y p l e { frames := 6, cells := mc, slots := ms, locals := 191 } s m args below meth c (MQ below (yQi D s0 A post) args s mc ms A) D s0 A 3 M rc rs [some (yr (some o_)), some (yr v1), some (yi v2)] 40 [] := by
  intro M rc rs v1 v2 h
  rw [wpX1_insert_b40] at h
  refine y_aload_n C 0 rfl rfl dX1_insert_40 ?_
  obtain ⟨r4, ⟨fs9, g1, g2⟩, h⟩ := h
  refine y_get (ci := 1) (k := 0) C in_X1 rfl (by decide) q155 (fun _ h => h) g1 g2 dX1_insert_41 ?_
  refine y_iload_n C 2 rfl rfl dX1_insert_44 ?_
  refine y_aload_n C 1 rfl rfl dX1_insert_45 ?_
  obtain ⟨d5, rfl, h⟩ := h
  obtain ⟨kc6, ks7, g1, g2, h⟩ := h
  obtain ⟨⟨vs9, g0⟩, h⟩ := h
  refine y_callVv C (metJ2_add_3 hB h) (cwV 2 C.hts (lw_V q704 q705 q706 q90 q707) rfl rfl rfl kdJ2_add_3 ⟨Nat.le_of_ble_eq_true rfl, Nat.le_of_ble_eq_true rfl⟩) g0 rfl rfl rfl (Nat.le_of_ble_eq_true rfl) dX1_insert_46 g1 g2 (fun M8 hp => ?_)
  replace h := hp
  refine y_iload_n C 2 rfl rfl dX1_insert_49 ?_
  exact y_ireti C hr rfl rfl h dX1_insert_50
def wpX1_insert_b2 (z : Nat → Nat) (o_ : Nat) (post : Int32 → yM → Prop) : Nat → yM → Nat → Nat → Option Nat → Int32 → Prop
  | 0, _, _, _, _, _ => False
  | nn + 1, M, rc, rs, v1, v2 => ∃ r1 : Option Nat, yF M o_ 1 0 (yr r1) ∧ ∃ d2 : Nat, r1 = some d2 ∧ (∃ vs, M d2 = some (yo 9 vs)) ∧ wpJ2_size M d2 (fun r3 => ((r3 ≤ v2 → wpX1_insert_b40 z o_ post M rc rs v1 v2) ∧ (¬ r3 ≤ v2 → ∃ r9 : Option Nat, yF M o_ 1 0 (yr r9) ∧ ∃ d10 : Nat, r9 = some d10 ∧ (∃ vs, M d10 = some (yo 9 vs)) ∧ wpJ2_get M d10 v2 (fun r11 => (∀ v, r11 = some v → ∃ vs, M v = some (yo 5 vs)) ∧ ∃ d12 : Nat, r11 = some d12 ∧ ∃ x13 : Int32, yF M d12 5 0 (yi x13) ∧ ∃ d14 : Nat, v1 = some d14 ∧ ∃ x15 : Int32, yF M d14 5 0 (yi x15) ∧ ((x15 ≤ x13 → wpX1_insert_b40 z o_ post M rc rs (some d14) v2) ∧ (¬ x15 ≤ x13 → ∀ x16 : Int32, x16 = v2 + 1 → wpX1_insert_b2 z o_ post nn M rc rs (some d14) x16))))))
theorem okX1_insert_b2 (C : yC p { frames := 6, cells := mc, slots := ms, locals := 191 } s m args meth c cX1_insert 3 RX1 D s0 a0 A) (hB : yB D s0 a0) (hr : meth.sig.returnType = (some .int)) {o_ : Nat} {post : Int32 → yM → Prop}  : ∀ (nn : Nat) (M : yM) (rc : Nat) (rs : Nat) (v1 : Option Nat) (v2 : Int32), wpX1_insert_b2 (yz s0 a0) o_ post nn M rc rs v1 v2 → Y p l e { frames := 6, cells := mc, slots := ms, locals := 191 } s m args below meth c (MQ below (yQi D s0 A post) args s mc ms A) D s0 A 3 M rc rs [some (yr (some o_)), some (yr v1), some (yi v2)] 2 [] := by
  intro nn
  induction nn with
  | zero => intro M rc rs v1 v2 h; exact absurd h (by rw [wpX1_insert_b2]; exact id)
  | succ nn ih =>
    intro M rc rs v1 v2 h
    rw [wpX1_insert_b2] at h
    refine y_iload_n C 2 rfl rfl dX1_insert_2 ?_
    refine y_aload_n C 0 rfl rfl dX1_insert_3 ?_
    obtain ⟨r1, ⟨fs9, g1, g2⟩, h⟩ := h
    refine y_get (ci := 1) (k := 0) C in_X1 rfl (by decide) q155 (fun _ h => h) g1 g2 dX1_insert_4 ?_
    obtain ⟨d2, rfl, h⟩ := h
    obtain ⟨⟨vs9, g0⟩, h⟩ := h
    refine y_callVi0 C (metJ2_size hB h) (cwV 0 C.hts (lw_V q658 q494 q495 q90 q496) rfl rfl rfl kdJ2_size ⟨Nat.le_of_ble_eq_true rfl, Nat.le_of_ble_eq_true rfl⟩) g0 rfl rfl rfl (Nat.le_of_ble_eq_true rfl) dX1_insert_7 (fun r3 M1 hp => ?_)
    clear h
    obtain ⟨rfl, h⟩ := hp
    refine y_icmp_ge C 40 dX1_insert_10 (by decide) (fun c9 => ?_) (fun c9 => ?_)
    · replace h := h.1 c9
      refine y_to C _ ?_ (okX1_insert_b40 C hB hr  _ _ _ _ _ h)
      exact (And.intro rfl (And.intro rfl (And.intro rfl trivial)))
    · replace h := h.2 c9
      refine y_aload_n C 0 rfl rfl dX1_insert_13 ?_
      obtain ⟨r9, ⟨fs9, g1, g2⟩, h⟩ := h
      refine y_get (ci := 1) (k := 0) C in_X1 rfl (by decide) q155 (fun _ h => h) g1 g2 dX1_insert_14 ?_
      refine y_iload_n C 2 rfl rfl dX1_insert_17 ?_
      obtain ⟨d10, rfl, h⟩ := h
      obtain ⟨⟨vs9, g0⟩, h⟩ := h
      refine y_callVq0 C (metJ2_get hB h) (cwV 1 C.hts (lw_V q659 q571 q572 q90 q573) rfl rfl rfl kdJ2_get ⟨Nat.le_of_ble_eq_true rfl, Nat.le_of_ble_eq_true rfl⟩) g0 rfl rfl rfl (Nat.le_of_ble_eq_true rfl) dX1_insert_18 (fun r11 M1 hp => ?_)
      clear h
      obtain ⟨rfl, h⟩ := hp
      obtain ⟨g1, h⟩ := h
      refine y_ckc (ci := 5) C q660 rfl g1 dX1_insert_21 ?_
      obtain ⟨d12, rfl, h⟩ := h
      obtain ⟨x13, ⟨fs9, g1, g2⟩, h⟩ := h
      refine y_getN (ci := 5) (k := 0) C in_X5 rfl (by decide) q515 (fun _ h => h) g1 g2 dX1_insert_24 ?_
      refine y_aload_n C 1 rfl rfl dX1_insert_27 ?_
      obtain ⟨d14, rfl, h⟩ := h
      obtain ⟨x15, ⟨fs9, g1, g2⟩, h⟩ := h
      refine y_getN (ci := 5) (k := 0) C in_X5 rfl (by decide) q515 (fun _ h => h) g1 g2 dX1_insert_28 ?_
      refine y_icmp_ge C 40 dX1_insert_31 (by decide) (fun c9 => ?_) (fun c9 => ?_)
      · replace h := h.1 c9
        refine y_to C _ ?_ (okX1_insert_b40 C hB hr  _ _ _ _ _ h)
        exact (And.intro rfl (And.intro rfl (And.intro rfl trivial)))
      · replace h := h.2 c9
        replace h := h _ rfl
        refine y_iinc C 2 _ rfl (y_inc1 _) (by decide) dX1_insert_34 ?_
        refine y_goto C 2 dX1_insert_37 (by decide) ?_
        refine y_to C _ ?_ (ih _ _ _ _ _ h)
        exact (And.intro rfl (And.intro rfl (And.intro rfl trivial)))
end sX1_insert
def wpX1_insert (M : yM) (z : Nat → Nat) (mc : Nat) (ms : Nat) (o_ : Nat) (a1 : Option Nat) (post : Int32 → yM → Prop) : Prop := ∃ nf9 : Nat, wpX1_insert_b2 z o_ post nf9 M mc ms a1 0
theorem metX1_insert {l : Launch} {D : va_G} {s0 : State} {a0 : Array Value} (hB : yB D s0 a0) {M : yM} {mc : Nat} {ms : Nat} {o_ : Nat} {a1 : Option Nat} {post : Int32 → yM → Prop} (h : wpX1_insert M (yz s0 a0) mc ms o_ a1 post) : yMi l yX1_insert (ws_ yX1_insert cX1_insert 3 (some .int)) 6 191 mc ms D s0 [yr (some o_), yr a1] M post := by
  refine y_meti hB (by decide) rfl (Nat.le_of_ble_eq_true rfl) ?_
  intro p e s m below meth c A hr hnm C
  rw [wpX1_insert] at h
  refine y_iconst C 0 dX1_insert_0 lit0 ?_
  refine y_istore_n C 2 rfl (by decide) dX1_insert_1 ?_
  obtain ⟨nf9, h⟩ := h
  refine y_to C _ ?_ (okX1_insert_b2 C hB hr  nf9 _ _ _ _ _ h)
  exact (And.intro rfl (And.intro rfl (And.intro rfl trivial)))
theorem kdX0_addPoint : yX0_addPoint.cls = RX0 ∧ yX0_addPoint.cls ≠ "java/lang/invoke/MethodHandle" ∧ yX0_addPoint.cls ≠ "java/lang/invoke/VarHandle" ∧ (parseMethodDescriptor yX0_addPoint.desc).map (fun d => d.parameters.length) = some 1 := by decide +kernel
def wpX0_addPoint (M : yM) (z : Nat → Nat) (mc : Nat) (ms : Nat) (o_ : Nat) (a1 : Int32) (post : Int32 → yM → Prop) : Prop := wpX0_in M a1 0 300 (fun r1 => ((¬ r1 = 0 → ∃ r2 : Option Nat, yF M o_ 0 0 (yr r2) ∧ ∃ d3 : Nat, r2 = some d3 ∧ (∃ vs, M d3 = some (yo 1 vs)) ∧ wpX1_pointAt M d3 a1 (fun r4 => ((r4 = (-999) → ∃ r5 : Option Nat, yF M o_ 0 0 (yr r5) ∧ ∃ d6 : Nat, r5 = some d6 ∧ ∃ r7 : Option Nat, yF M d6 1 0 (yr r7) ∧ ∃ d8 : Nat, r7 = some d8 ∧ (∃ vs, M d8 = some (yo 9 vs)) ∧ wpJ2_size M d8 (fun r9 => ((¬ r9 = 12 → ∃ kc10 ks11 : Nat, kc10 ≤ mc ∧ ks11 ≤ ms ∧ (∃ vs, M o_ = some (yo 0 vs)) ∧ wpX0_begin M z kc10 ks11 o_ (fun r13 M12 => 1 ≤ (mc - kc10) ∧ 1 ≤ (ms - ks11) ∧ ∀ q14 : Nat, M12 q14 = none → ∀ M15 : yM, M15 = yup M12 q14 (yo 5 [yi 0]) → wpX5_init M15 q14 a1 (fun M16 => ∃ d17 : Nat, r13 = some d17 ∧ ∃ kc18 ks19 : Nat, kc18 ≤ ((mc - kc10) - 1) ∧ ks19 ≤ ((ms - ks11) - 1) ∧ (∃ vs, M16 d17 = some (yo 1 vs)) ∧ wpX1_insert M16 z kc18 ks19 d17 (some q14) (fun r21 M20 => post r21 M20)))) ∧ (r9 = 12 → post (-3) M)))) ∧ (¬ r4 = (-999) → post (-2) M)))) ∧ (r1 = 0 → post (-1) M)))
theorem metX0_addPoint {l : Launch} {D : va_G} {s0 : State} {a0 : Array Value} (hB : yB D s0 a0) {M : yM} {mc : Nat} {ms : Nat} {o_ : Nat} {a1 : Int32} {post : Int32 → yM → Prop} (h : wpX0_addPoint M (yz s0 a0) mc ms o_ a1 post) : yMi l yX0_addPoint (ws_ yX0_addPoint cX0_addPoint 2 (some .int)) 9 255 mc ms D s0 [yr (some o_), yi a1] M post := by
  refine y_meti hB (by decide) rfl (Nat.le_of_ble_eq_true rfl) ?_
  intro p e s m below meth c A hr hnm C
  rw [wpX0_addPoint] at h
  refine y_iload_n C 1 rfl rfl dX0_addPoint_0 ?_
  refine y_iconst C 0 dX0_addPoint_1 lit0 ?_
  refine y_sipush C 300 dX0_addPoint_2 y_s300 ?_
  refine y_callSi0 C (metX0_in hB h) (va_cwS 3 C.hts (lw_S q209 q210 q86 q211) rfl rfl rfl kdX0_in.2 ⟨Nat.le_of_ble_eq_true rfl, Nat.le_of_ble_eq_true rfl⟩) rfl rfl (Nat.le_of_ble_eq_true rfl) dX0_addPoint_5 (fun r1 M1 hp => ?_)
  clear h
  obtain ⟨rfl, h⟩ := hp
  refine y_if_ne C 13 dX0_addPoint_8 (by decide) (fun c9 => ?_) (fun c9 => ?_)
  · replace h := h.1 c9
    refine y_aload_n C 0 rfl rfl dX0_addPoint_13 ?_
    obtain ⟨r2, ⟨fs9, g1, g2⟩, h⟩ := h
    refine y_get (ci := 0) (k := 0) C in_X0 rfl (by decide) q185 (fun _ h => h) g1 g2 dX0_addPoint_14 ?_
    refine y_iload_n C 1 rfl rfl dX0_addPoint_17 ?_
    obtain ⟨d3, rfl, h⟩ := h
    obtain ⟨⟨vs9, g0⟩, h⟩ := h
    refine y_callVi0 C (metX1_pointAt hB h) (cwV 1 C.hts (lw_V q654 q655 q656 q87 q657) rfl rfl rfl kdX1_pointAt ⟨Nat.le_of_ble_eq_true rfl, Nat.le_of_ble_eq_true rfl⟩) g0 rfl rfl rfl (Nat.le_of_ble_eq_true rfl) dX0_addPoint_18 (fun r4 M1 hp => ?_)
    clear h
    obtain ⟨rfl, h⟩ := hp
    refine y_sipush C (-999) dX0_addPoint_21 y_sm999 ?_
    refine y_icmp_eq C 30 dX0_addPoint_24 (by decide) (fun c9 => ?_) (fun c9 => ?_)
    · replace h := h.1 c9
      refine y_aload_n C 0 rfl rfl dX0_addPoint_30 ?_
      obtain ⟨r5, ⟨fs9, g1, g2⟩, h⟩ := h
      refine y_get (ci := 0) (k := 0) C in_X0 rfl (by decide) q185 (fun _ h => h) g1 g2 dX0_addPoint_31 ?_
      obtain ⟨d6, rfl, h⟩ := h
      obtain ⟨r7, ⟨fs9, g1, g2⟩, h⟩ := h
      refine y_getN (ci := 1) (k := 0) C in_X1 rfl (by decide) q156 (fun _ h => h) g1 g2 dX0_addPoint_34 ?_
      obtain ⟨d8, rfl, h⟩ := h
      obtain ⟨⟨vs9, g0⟩, h⟩ := h
      refine y_callVi0 C (metJ2_size hB h) (cwV 0 C.hts (lw_V q645 q494 q495 q90 q496) rfl rfl rfl kdJ2_size ⟨Nat.le_of_ble_eq_true rfl, Nat.le_of_ble_eq_true rfl⟩) g0 rfl rfl rfl (Nat.le_of_ble_eq_true rfl) dX0_addPoint_37 (fun r9 M1 hp => ?_)
      clear h
      obtain ⟨rfl, h⟩ := hp
      refine y_bipush C 12 dX0_addPoint_40 y_b12 ?_
      refine y_icmp_ne C 50 dX0_addPoint_42 (by decide) (fun c9 => ?_) (fun c9 => ?_)
      · replace h := h.1 c9
        refine y_aload_n C 0 rfl rfl dX0_addPoint_50 ?_
        obtain ⟨kc10, ks11, g1, g2, h⟩ := h
        obtain ⟨⟨vs9, g0⟩, h⟩ := h
        refine y_callVq C (metX0_begin hB h) (cwV 0 C.hts (lw_V q661 q663 qs11 q86 q664) rfl rfl rfl kdX0_begin ⟨Nat.le_of_ble_eq_true rfl, Nat.le_of_ble_eq_true rfl⟩) g0 rfl rfl rfl (Nat.le_of_ble_eq_true rfl) dX0_addPoint_51 g1 g2 (fun r13 M12 hp => ?_)
        replace h := hp
        obtain ⟨g1, g2, h⟩ := h
        refine y_new (ci := 5) C in_X5 tyX5_ok rfl q698 q507 q106 [yi 0] (fun j hj => by rcases (show j = 0 by omega) with rfl <;> rfl) g1 g2 dX0_addPoint_54 (fun q14 g3 => ?_)
        replace h := h q14 g3 _ rfl
        refine y_dup C rfl dX0_addPoint_57 ?_
        refine y_iload_n C 1 rfl rfl dX0_addPoint_58 ?_
        refine y_callIv0 C (metX5_init hB h) (cwI 1 C.hts (lw_meth q510) rfl rfl rfl (C.hts _ q106) (C.hts _ q699) (C.hts _ q509) rfl kdX5_init.2 ⟨Nat.le_of_ble_eq_true rfl, Nat.le_of_ble_eq_true rfl⟩) rfl rfl (Nat.le_of_ble_eq_true rfl) dX0_addPoint_59 (fun M16 hp => ?_)
        replace h := hp
        obtain ⟨d17, rfl, h⟩ := h
        obtain ⟨kc18, ks19, g1, g2, h⟩ := h
        obtain ⟨⟨vs9, g0⟩, h⟩ := h
        refine y_callVi C (metX1_insert hB h) (cwV 1 C.hts (lw_V q700 q701 q702 q87 q703) rfl rfl rfl kdX1_insert ⟨Nat.le_of_ble_eq_true rfl, Nat.le_of_ble_eq_true rfl⟩) g0 rfl rfl rfl (Nat.le_of_ble_eq_true rfl) dX0_addPoint_62 g1 g2 (fun r21 M20 hp => ?_)
        replace h := hp
        exact y_ireti C hr rfl rfl h dX0_addPoint_65
      · replace h := h.2 c9
        refine y_bipush C (-3) dX0_addPoint_45 y_bm3 ?_
        refine y_goto C 65 dX0_addPoint_47 (by decide) ?_
        exact y_ireti C hr rfl rfl h dX0_addPoint_65
    · replace h := h.2 c9
      refine y_bipush C (-2) dX0_addPoint_27 y_bm2 ?_
      exact y_ireti C hr rfl rfl h dX0_addPoint_29
  · replace h := h.2 c9
    refine y_iconst C (-1) dX0_addPoint_11 litm1 ?_
    exact y_ireti C hr rfl rfl h dX0_addPoint_12
theorem kdX0_isPoint : yX0_isPoint.cls = RX0 ∧ yX0_isPoint.cls ≠ "java/lang/invoke/MethodHandle" ∧ yX0_isPoint.cls ≠ "java/lang/invoke/VarHandle" ∧ (parseMethodDescriptor yX0_isPoint.desc).map (fun d => d.parameters.length) = some 1 := by decide +kernel
def wpX0_isPoint (M : yM) (o_ : Nat) (a1 : Int32) (post : Int32 → Prop) : Prop := ∃ r1 : Option Nat, yF M o_ 0 0 (yr r1) ∧ ∃ d2 : Nat, r1 = some d2 ∧ ∃ r3 : Option Nat, yF M d2 1 0 (yr r3) ∧ ∃ d4 : Nat, r3 = some d4 ∧ (∃ vs, M d4 = some (yo 9 vs)) ∧ wpJ2_size M d4 (fun r5 => wpX0_in M a1 0 (r5 - 1) (fun r6 => ((r6 = 0 ∨ r6 = 1) ∧ post r6)))
theorem metX0_isPoint {l : Launch} {D : va_G} {s0 : State} {a0 : Array Value} (hB : yB D s0 a0) {M : yM} {o_ : Nat} {a1 : Int32} {post : Int32 → Prop} (h : wpX0_isPoint M o_ a1 post) : yMi l yX0_isPoint (ws_ yX0_isPoint cX0_isPoint 2 (some .boolean)) 2 102 0 0 D s0 [yr (some o_), yi a1] M (fun r M1 => M1 = M ∧ post r) := by
  refine y_meti hB (by decide) rfl (Nat.le_of_ble_eq_true rfl) ?_
  intro p e s m below meth c A hr hnm C
  rw [wpX0_isPoint] at h
  refine y_iload_n C 1 rfl rfl dX0_isPoint_0 ?_
  refine y_iconst C 0 dX0_isPoint_1 lit0 ?_
  refine y_aload_n C 0 rfl rfl dX0_isPoint_2 ?_
  obtain ⟨r1, ⟨fs9, g1, g2⟩, h⟩ := h
  refine y_get (ci := 0) (k := 0) C in_X0 rfl (by decide) q185 (fun _ h => h) g1 g2 dX0_isPoint_3 ?_
  obtain ⟨d2, rfl, h⟩ := h
  obtain ⟨r3, ⟨fs9, g1, g2⟩, h⟩ := h
  refine y_getN (ci := 1) (k := 0) C in_X1 rfl (by decide) q156 (fun _ h => h) g1 g2 dX0_isPoint_6 ?_
  obtain ⟨d4, rfl, h⟩ := h
  obtain ⟨⟨vs9, g0⟩, h⟩ := h
  refine y_callVi0 C (metJ2_size hB h) (cwV 0 C.hts (lw_V q645 q494 q495 q90 q496) rfl rfl rfl kdJ2_size ⟨Nat.le_of_ble_eq_true rfl, Nat.le_of_ble_eq_true rfl⟩) g0 rfl rfl rfl (Nat.le_of_ble_eq_true rfl) dX0_isPoint_9 (fun r5 M1 hp => ?_)
  clear h
  obtain ⟨rfl, h⟩ := hp
  refine y_iconst C 1 dX0_isPoint_12 lit1 ?_
  refine y_isub C dX0_isPoint_13 ?_
  refine y_callSi0 C (metX0_in hB h) (va_cwS 3 C.hts (lw_S q209 q210 q86 q211) rfl rfl rfl kdX0_in.2 ⟨Nat.le_of_ble_eq_true rfl, Nat.le_of_ble_eq_true rfl⟩) rfl rfl (Nat.le_of_ble_eq_true rfl) dX0_isPoint_14 (fun r6 M1 hp => ?_)
  clear h
  obtain ⟨rfl, h⟩ := hp
  obtain ⟨z9, h⟩ := h
  exact y_iretz C hr rfl rfl z9 ⟨rfl, h⟩ dX0_isPoint_17
theorem kdJ2_fastRemove : yJ2_fastRemove.cls = RJ2 ∧ yJ2_fastRemove.cls ≠ "java/lang/invoke/MethodHandle" ∧ yJ2_fastRemove.cls ≠ "java/lang/invoke/VarHandle" ∧ (parseMethodDescriptor yJ2_fastRemove.desc).map (fun d => d.parameters.length) = some 2 := by decide +kernel
section sJ2_fastRemove
variable {p : Program} {l : Launch} {e : Env} {s : State} {m : MethodId} {args : Array Value} {below : List Frame} {meth : Method} {c : Code} {D : va_G} {s0 : State} {a0 : Array Value} {A : Nat → Prop}
def wpJ2_fastRemove_b34 (o_ : Nat) (post : yM → Prop) (M : yM) (v1 : Option Nat) (v3 : Int32) : Prop := ∃ fs6 : List yV, M o_ = some (yo 9 fs6) ∧ 2 < fs6.length ∧ ∀ M7 : yM, M7 = yup M o_ (yo 9 (fs6.set 2 (yi v3))) → ∃ d8 : Nat, v1 = some d8 ∧ ∃ (E11 : String) (n9 : Nat) (f10 : Nat → Option Nat), M7 d8 = some (yaq E11 n9 f10) ∧ vp_in v3 n9 ∧ (∀ v, none = some v → ∃ ci vs, M7 v = some (yo ci vs) ∧ yAsg E11 ci) ∧ ∀ M12 : yM, M12 = yup M7 d8 (yaq E11 n9 (va_up f10 (Int32.toNatClampNeg v3) none)) → post M12
theorem okJ2_fastRemove_b34 (C : yC p { frames := 1, cells := 0, slots := 0, locals := 80 } s m args meth c cJ2_fastRemove 4 RJ2 D s0 a0 A) (hB : yB D s0 a0) (hr : meth.sig.returnType = none) {o_ : Nat} {post : yM → Prop}  : ∀ (M : yM) (v1 : Option Nat) (v3 : Int32), wpJ2_fastRemove_b34 o_ post M v1 v3 → Y p l e { frames := 1, cells := 0, slots := 0, locals := 80 } s m args below meth c (MQ below (yQv D s0 A post) args s 0 0 A) D s0 A 4 M 0 0 [some (yr (some o_)), some (yr v1), none, some (yi v3)] 34 [] := by
  intro M v1 v3 h
  rw [wpJ2_fastRemove_b34] at h
  refine y_aload_n C 1 rfl rfl dJ2_fastRemove_34 ?_
  refine y_aload_n C 0 rfl rfl dJ2_fastRemove_35 ?_
  refine y_iload_n C 3 rfl rfl dJ2_fastRemove_36 ?_
  refine y_dup_x1 C rfl rfl dJ2_fastRemove_37 ?_
  obtain ⟨fs6, g1, g2, h⟩ := h
  replace h := h _ rfl
  refine y_put (ci := 9) (k := 2) C in_J2 tyJ2_ok nmJ2 rfl (by decide) q141 (fun _ h => h) rfl g1 g2 rfl rfl rfl dJ2_fastRemove_38 ?_
  refine y_null C dJ2_fastRemove_41 ?_
  obtain ⟨d8, rfl, h⟩ := h
  obtain ⟨E11, n9, f10, g1, g2, g3, h⟩ := h
  replace h := h _ rfl
  refine y_aast C g1 g2 g3 rfl dJ2_fastRemove_42 ?_
  exact y_vret C hr rfl rfl h dJ2_fastRemove_43
end sJ2_fastRemove
def wpJ2_fastRemove (M : yM) (o_ : Nat) (a1 : Option Nat) (a2 : Int32) (post : yM → Prop) : Prop := ∃ x1 : Int32, yF M o_ 9 0 (yi x1) ∧ ∃ fs2 : List yV, M o_ = some (yo 9 fs2) ∧ 0 < fs2.length ∧ ∀ M3 : yM, M3 = yup M o_ (yo 9 (fs2.set 0 (yi (x1 + 1)))) → ∃ x4 : Int32, yF M3 o_ 9 2 (yi x4) ∧ ∀ x5 : Int32, x5 = (x4 - 1) → (((x4 - 1) ≤ a2 → wpJ2_fastRemove_b34 o_ post M3 a1 x5) ∧ (¬ (x4 - 1) ≤ a2 → ∃ d13 : Nat, a1 = some d13 ∧ ∃ (E18 E19 : String) (n14 n15 : Nat) (f16 f17 : Nat → Option Nat), M3 d13 = some (yaq E18 n14 f16) ∧ M3 d13 = some (yaq E19 n15 f17) ∧ 0 < n14 ∧ 0 < n15 ∧ ¬ ((a2 + 1) : Int32) < 0 ∧ ¬ (a2 : Int32) < 0 ∧ ¬ ((x5 - a2) : Int32) < 0 ∧ (Int32.toNatClampNeg (a2 + 1)) + (Int32.toNatClampNeg (x5 - a2)) ≤ n14 ∧ (Int32.toNatClampNeg a2) + (Int32.toNatClampNeg (x5 - a2)) ≤ n15 ∧ (∀ i : Nat, i < (Int32.toNatClampNeg (x5 - a2)) → ∀ v : Nat, f16 ((Int32.toNatClampNeg (a2 + 1)) + i) = some v → ∃ ci vs, M3 v = some (yo ci vs) ∧ yAsg E19 ci) ∧ ∀ M20 : yM, M20 = yup M3 d13 (yaq E19 n15 (va_cpy f16 f17 (Int32.toNatClampNeg (a2 + 1)) (Int32.toNatClampNeg a2) (Int32.toNatClampNeg (x5 - a2)))) → wpJ2_fastRemove_b34 o_ post M20 (some d13) x5))
theorem metJ2_fastRemove {l : Launch} {D : va_G} {s0 : State} {a0 : Array Value} (hB : yB D s0 a0) {M : yM} {o_ : Nat} {a1 : Option Nat} {a2 : Int32} {post : yM → Prop} (h : wpJ2_fastRemove M o_ a1 a2 post) : yMv l yJ2_fastRemove (ws_ yJ2_fastRemove cJ2_fastRemove 4 none) 1 80 0 0 D s0 [yr (some o_), yr a1, yi a2] M post := by
  refine y_metv hB (by decide) rfl (Nat.le_of_ble_eq_true rfl) ?_
  intro p e s m below meth c A hr hnm C
  rw [wpJ2_fastRemove] at h
  refine y_aload_n C 0 rfl rfl dJ2_fastRemove_0 ?_
  refine y_dup C rfl dJ2_fastRemove_1 ?_
  obtain ⟨x1, ⟨fs9, g1, g2⟩, h⟩ := h
  refine y_get (ci := 9) (k := 0) C in_J2 rfl (by decide) q143 (fun x h => u_same (C.hts _ q144) x h) g1 g2 dJ2_fastRemove_2 ?_
  refine y_iconst C 1 dJ2_fastRemove_5 lit1 ?_
  refine y_iadd C dJ2_fastRemove_6 ?_
  obtain ⟨fs2, g1, g2, h⟩ := h
  replace h := h _ rfl
  refine y_put (ci := 9) (k := 0) C in_J2 tyJ2_ok nmJ2 rfl (by decide) q143 (fun x h => u_same (C.hts _ q144) x h) rfl g1 g2 rfl rfl rfl dJ2_fastRemove_7 ?_
  refine y_aload_n C 0 rfl rfl dJ2_fastRemove_10 ?_
  obtain ⟨x4, ⟨fs9, g1, g2⟩, h⟩ := h
  refine y_get (ci := 9) (k := 2) C in_J2 rfl (by decide) q141 (fun _ h => h) g1 g2 dJ2_fastRemove_11 ?_
  refine y_iconst C 1 dJ2_fastRemove_14 lit1 ?_
  refine y_isub C dJ2_fastRemove_15 ?_
  refine y_dup C rfl dJ2_fastRemove_16 ?_
  replace h := h _ rfl
  refine y_istore_n C 3 rfl (by decide) dJ2_fastRemove_17 ?_
  refine y_iload_n C 2 rfl rfl dJ2_fastRemove_18 ?_
  refine y_icmp_le C 34 dJ2_fastRemove_19 (by decide) (fun c9 => ?_) (fun c9 => ?_)
  · replace h := h.1 c9
    refine y_to C _ ?_ (okJ2_fastRemove_b34 C hB hr  _ _ _ h)
    exact (And.intro rfl (And.intro rfl (And.intro rfl trivial)))
  · replace h := h.2 c9
    refine y_aload_n C 1 rfl rfl dJ2_fastRemove_22 ?_
    refine y_iload_n C 2 rfl rfl dJ2_fastRemove_23 ?_
    refine y_iconst C 1 dJ2_fastRemove_24 lit1 ?_
    refine y_iadd C dJ2_fastRemove_25 ?_
    refine y_aload_n C 1 rfl rfl dJ2_fastRemove_26 ?_
    refine y_iload_n C 2 rfl rfl dJ2_fastRemove_27 ?_
    refine y_iload_n C 3 rfl rfl dJ2_fastRemove_28 ?_
    refine y_iload_n C 2 rfl rfl dJ2_fastRemove_29 ?_
    refine y_isub C dJ2_fastRemove_30 ?_
    obtain ⟨d13, rfl, h⟩ := h
    obtain ⟨E18, E19, n14, n15, f16, f17, g1, g2, g3, g4, g5, g6, g7, g8, g9, g0, h⟩ := h
    replace h := h _ rfl
    refine y_copyq C q712 q300 q299 q101 g1 g2 g3 g4 g5 g6 g7 g8 g9 g0 (Nat.le_of_ble_eq_true rfl) (Nat.le_of_ble_eq_true rfl) (Nat.le_of_ble_eq_true rfl) dJ2_fastRemove_31 ?_
    refine y_to C _ ?_ (okJ2_fastRemove_b34 C hB hr  _ _ _ h)
    exact (And.intro rfl (And.intro rfl (And.intro rfl trivial)))
theorem kdJ2_remove : yJ2_remove.cls = RJ2 ∧ yJ2_remove.cls ≠ "java/lang/invoke/MethodHandle" ∧ yJ2_remove.cls ≠ "java/lang/invoke/VarHandle" ∧ (parseMethodDescriptor yJ2_remove.desc).map (fun d => d.parameters.length) = some 1 := by decide +kernel
def wpJ2_remove (M : yM) (o_ : Nat) (a1 : Int32) (post : Option Nat → yM → Prop) : Prop := ∃ x1 : Int32, yF M o_ 9 2 (yi x1) ∧ wpJ14_checkIndex M a1 x1 (fun r2 => ∃ r3 : Option Nat, yF M o_ 9 1 (yr r3) ∧ ∃ d4 : Nat, r3 = some d4 ∧ ∃ (E7 : String) (n5 : Nat) (f6 : Nat → Option Nat), M d4 = some (yaq E7 n5 f6) ∧ vp_in a1 n5 ∧ ∃ r8 : Option Nat, f6 (Int32.toNatClampNeg a1) = r8 ∧ (∃ vs, M o_ = some (yo 9 vs)) ∧ wpJ2_fastRemove M o_ (some d4) a1 (fun M9 => post r8 M9))
theorem metJ2_remove {l : Launch} {D : va_G} {s0 : State} {a0 : Array Value} (hB : yB D s0 a0) {M : yM} {o_ : Nat} {a1 : Int32} {post : Option Nat → yM → Prop} (h : wpJ2_remove M o_ a1 post) : yMq l yJ2_remove (ws_ yJ2_remove cJ2_remove 4 (some (.object "java/lang/Object"))) 3 123 0 0 D s0 [yr (some o_), yi a1] M post := by
  refine y_metq hB (by decide) rfl (Nat.le_of_ble_eq_true rfl) ?_
  intro p e s m below meth c A hr hnm C
  rw [wpJ2_remove] at h
  refine y_iload_n C 1 rfl rfl dJ2_remove_0 ?_
  refine y_aload_n C 0 rfl rfl dJ2_remove_1 ?_
  obtain ⟨x1, ⟨fs9, g1, g2⟩, h⟩ := h
  refine y_get (ci := 9) (k := 2) C in_J2 rfl (by decide) q141 (fun _ h => h) g1 g2 dJ2_remove_2 ?_
  refine y_callSi0 C (metJ14_checkIndex hB h) (va_cwS 2 C.hts (lw_S q574 q575 q108 q576) rfl rfl rfl kdJ14_checkIndex.2 ⟨Nat.le_of_ble_eq_true rfl, Nat.le_of_ble_eq_true rfl⟩) rfl rfl (Nat.le_of_ble_eq_true rfl) dJ2_remove_5 (fun r2 M1 hp => ?_)
  clear h
  obtain ⟨rfl, h⟩ := hp
  refine y_pop C rfl dJ2_remove_8 ?_
  refine y_aload_n C 0 rfl rfl dJ2_remove_9 ?_
  obtain ⟨r3, ⟨fs9, g1, g2⟩, h⟩ := h
  refine y_get (ci := 9) (k := 1) C in_J2 rfl (by decide) q140 (fun _ h => h) g1 g2 dJ2_remove_10 ?_
  refine y_astore_n C 2 rfl (by decide) dJ2_remove_13 ?_
  refine y_aload_n C 2 rfl rfl dJ2_remove_14 ?_
  refine y_iload_n C 1 rfl rfl dJ2_remove_15 ?_
  obtain ⟨d4, rfl, h⟩ := h
  obtain ⟨E7, n5, f6, g1, g2, r8, g3, h⟩ := h
  refine y_aald2 C g1 g2 g3 dJ2_remove_16 ?_
  refine y_astore_n C 3 rfl (by decide) dJ2_remove_17 ?_
  refine y_aload_n C 0 rfl rfl dJ2_remove_18 ?_
  refine y_aload_n C 2 rfl rfl dJ2_remove_19 ?_
  refine y_iload_n C 1 rfl rfl dJ2_remove_20 ?_
  obtain ⟨⟨vs9, g0⟩, h⟩ := h
  refine y_callVv0 C (metJ2_fastRemove hB h) (cwV 2 C.hts (lw_V q725 q727 qs14 q90 q728) rfl rfl rfl kdJ2_fastRemove ⟨Nat.le_of_ble_eq_true rfl, Nat.le_of_ble_eq_true rfl⟩) g0 rfl rfl rfl (Nat.le_of_ble_eq_true rfl) dJ2_remove_21 (fun M9 hp => ?_)
  replace h := hp
  refine y_aload_n C 3 rfl rfl dJ2_remove_24 ?_
  exact y_aretq C hr (Or.inl ⟨_, rfl⟩) rfl rfl h dJ2_remove_25
theorem kdX6_value : yX6_value.cls = RX6 ∧ yX6_value.cls ≠ "java/lang/invoke/MethodHandle" ∧ yX6_value.cls ≠ "java/lang/invoke/VarHandle" ∧ (parseMethodDescriptor yX6_value.desc).map (fun d => d.parameters.length) = some 0 := by decide +kernel
def wpX6_value (M : yM) (o_ : Nat) (post : Int32 → Prop) : Prop := ∃ r1 : Option Nat, yF M o_ 6 1 (yr r1) ∧ ∃ d2 : Nat, r1 = some d2 ∧ ∃ x3 : Int32, yF M d2 5 0 (yi x3) ∧ ∃ r4 : Option Nat, yF M o_ 6 0 (yr r4) ∧ ∃ d5 : Nat, r4 = some d5 ∧ ∃ x6 : Int32, yF M d5 5 0 (yi x6) ∧ post (x3 - x6)
theorem metX6_value {l : Launch} {D : va_G} {s0 : State} {a0 : Array Value} (hB : yB D s0 a0) {M : yM} {o_ : Nat} {post : Int32 → Prop} (h : wpX6_value M o_ post) : yMi l yX6_value (ws_ yX6_value cX6_value 1 (some .int)) 1 80 0 0 D s0 [yr (some o_)] M (fun r M1 => M1 = M ∧ post r) := by
  refine y_meti hB (by decide) rfl (Nat.le_of_ble_eq_true rfl) ?_
  intro p e s m below meth c A hr hnm C
  rw [wpX6_value] at h
  refine y_aload_n C 0 rfl rfl dX6_value_0 ?_
  obtain ⟨r1, ⟨fs9, g1, g2⟩, h⟩ := h
  refine y_get (ci := 6) (k := 1) C in_X6 rfl (by decide) q591 (fun _ h => h) g1 g2 dX6_value_1 ?_
  obtain ⟨d2, rfl, h⟩ := h
  obtain ⟨x3, ⟨fs9, g1, g2⟩, h⟩ := h
  refine y_getN (ci := 5) (k := 0) C in_X5 rfl (by decide) q513 (fun _ h => h) g1 g2 dX6_value_4 ?_
  refine y_aload_n C 0 rfl rfl dX6_value_7 ?_
  obtain ⟨r4, ⟨fs9, g1, g2⟩, h⟩ := h
  refine y_get (ci := 6) (k := 0) C in_X6 rfl (by decide) q586 (fun _ h => h) g1 g2 dX6_value_8 ?_
  obtain ⟨d5, rfl, h⟩ := h
  obtain ⟨x6, ⟨fs9, g1, g2⟩, h⟩ := h
  refine y_getN (ci := 5) (k := 0) C in_X5 rfl (by decide) q513 (fun _ h => h) g1 g2 dX6_value_11 ?_
  refine y_isub C dX6_value_14 ?_
  exact y_ireti C hr rfl rfl ⟨rfl, h⟩ dX6_value_15
theorem kdX0_movePoint : yX0_movePoint.cls = RX0 ∧ yX0_movePoint.cls ≠ "java/lang/invoke/MethodHandle" ∧ yX0_movePoint.cls ≠ "java/lang/invoke/VarHandle" ∧ (parseMethodDescriptor yX0_movePoint.desc).map (fun d => d.parameters.length) = some 2 := by decide +kernel
section sX0_movePoint
variable {p : Program} {l : Launch} {e : Env} {s : State} {m : MethodId} {args : Array Value} {below : List Frame} {meth : Method} {c : Code} {D : va_G} {s0 : State} {a0 : Array Value} {A : Nat → Prop} {mc ms : Nat}
def wpX0_movePoint_b134 (z : Nat → Nat) (o_ : Nat) (post : Int32 → yM → Prop) (k74 : yM → Nat → Nat → Option Nat → Option Nat → Int32 → Prop) (M : yM) (rc : Nat) (rs : Nat) (v4 : Option Nat) (v5 : Option Nat) (v6 : Int32) : Prop := ∀ x31 : Int32, x31 = v6 + 1 → k74 M rc rs v4 v5 x31
theorem okX0_movePoint_b134 (C : yC p { frames := 9, cells := mc, slots := ms, locals := 255 } s m args meth c cX0_movePoint 9 RX0 D s0 a0 A) (hB : yB D s0 a0) (hr : meth.sig.returnType = (some .int)) {o_ : Nat} {post : Int32 → yM → Prop} {k74 : yM → Nat → Nat → Option Nat → Option Nat → Int32 → Prop} (hk74 : ∀ (M : yM) (rc : Nat) (rs : Nat) (v4 : Option Nat) (v5 : Option Nat) (v6 : Int32), k74 M rc rs v4 v5 v6 → Y p l e { frames := 9, cells := mc, slots := ms, locals := 255 } s m args below meth c (MQ below (yQi D s0 A post) args s mc ms A) D s0 A 9 M rc rs [none, none, none, none, some (yr v4), some (yr v5), some (yi v6), none, none] 74 []) : ∀ (M : yM) (rc : Nat) (rs : Nat) (v4 : Option Nat) (v5 : Option Nat) (v6 : Int32), wpX0_movePoint_b134 (yz s0 a0) o_ post k74 M rc rs v4 v5 v6 → Y p l e { frames := 9, cells := mc, slots := ms, locals := 255 } s m args below meth c (MQ below (yQi D s0 A post) args s mc ms A) D s0 A 9 M rc rs [none, none, none, none, some (yr v4), some (yr v5), some (yi v6), none, none] 134 [] := by
  intro M rc rs v4 v5 v6 h
  rw [wpX0_movePoint_b134] at h
  replace h := h _ rfl
  refine y_iinc C 6 _ rfl (y_inc1 _) (by decide) dX0_movePoint_134 ?_
  refine y_goto C 74 dX0_movePoint_137 (by decide) ?_
  refine y_to C _ ?_ (hk74 _ _ _ _ _ _ h)
  exact (And.intro rfl (And.intro rfl (And.intro rfl trivial)))
def wpX0_movePoint_b74 (z : Nat → Nat) (o_ : Nat) (post : Int32 → yM → Prop) : Nat → yM → Nat → Nat → Option Nat → Option Nat → Int32 → Prop
  | 0, _, _, _, _, _, _ => False
  | nn + 1, M, rc, rs, v4, v5, v6 => ∃ d18 : Nat, v4 = some d18 ∧ ∃ r19 : Option Nat, yF M d18 1 1 (yr r19) ∧ ∃ d20 : Nat, r19 = some d20 ∧ (∃ vs, M d20 = some (yo 9 vs)) ∧ wpJ2_size M d20 (fun r21 => ((r21 ≤ v6 → ∃ kc22 ks23 : Nat, kc22 ≤ rc ∧ ks23 ≤ rs ∧ (∃ vs, M d18 = some (yo 1 vs)) ∧ wpX1_insert M z kc22 ks23 d18 v5 (fun r25 M24 => post r25 M24)) ∧ (¬ r21 ≤ v6 → ∃ r26 : Option Nat, yF M d18 1 1 (yr r26) ∧ ∃ d27 : Nat, r26 = some d27 ∧ (∃ vs, M d27 = some (yo 9 vs)) ∧ wpJ2_get M d27 v6 (fun r28 => (∀ v, r28 = some v → ∃ vs, M v = some (yo 6 vs)) ∧ ∃ d29 : Nat, r28 = some d29 ∧ (∃ vs, M d29 = some (yo 6 vs)) ∧ wpX6_value M d29 (fun r30 => ((0 ≤ r30 → wpX0_movePoint_b134 z o_ post (fun M rc rs v4 v5 v6 => wpX0_movePoint_b74 z o_ post nn M rc rs v4 v5 v6) M rc rs (some d18) v5 v6) ∧ (¬ 0 ≤ r30 → ∃ r32 : Option Nat, yF M d29 6 0 (yr r32) ∧ ∃ r33 : Option Nat, yF M d29 6 1 (yr r33) ∧ ∃ fs34 : List yV, M d29 = some (yo 6 fs34) ∧ 0 < fs34.length ∧ ∀ M35 : yM, M35 = yup M d29 (yo 6 (fs34.set 0 (yr r33))) → ∃ fs36 : List yV, M35 d29 = some (yo 6 fs36) ∧ 1 < fs36.length ∧ ∀ M37 : yM, M37 = yup M35 d29 (yo 6 (fs36.set 1 (yr r32))) → wpX0_movePoint_b134 z o_ post (fun M rc rs v4 v5 v6 => wpX0_movePoint_b74 z o_ post nn M rc rs v4 v5 v6) M37 rc rs (some d18) v5 v6)))))))
theorem okX0_movePoint_b74 (C : yC p { frames := 9, cells := mc, slots := ms, locals := 255 } s m args meth c cX0_movePoint 9 RX0 D s0 a0 A) (hB : yB D s0 a0) (hr : meth.sig.returnType = (some .int)) {o_ : Nat} {post : Int32 → yM → Prop}  : ∀ (nn : Nat) (M : yM) (rc : Nat) (rs : Nat) (v4 : Option Nat) (v5 : Option Nat) (v6 : Int32), wpX0_movePoint_b74 (yz s0 a0) o_ post nn M rc rs v4 v5 v6 → Y p l e { frames := 9, cells := mc, slots := ms, locals := 255 } s m args below meth c (MQ below (yQi D s0 A post) args s mc ms A) D s0 A 9 M rc rs [none, none, none, none, some (yr v4), some (yr v5), some (yi v6), none, none] 74 [] := by
  intro nn
  induction nn with
  | zero => intro M rc rs v4 v5 v6 h; exact absurd h (by rw [wpX0_movePoint_b74]; exact id)
  | succ nn ih =>
    intro M rc rs v4 v5 v6 h
    rw [wpX0_movePoint_b74] at h
    refine y_iload C 6 rfl dX0_movePoint_74 ?_
    refine y_aload C 4 rfl dX0_movePoint_76 ?_
    obtain ⟨d18, rfl, h⟩ := h
    obtain ⟨r19, ⟨fs9, g1, g2⟩, h⟩ := h
    refine y_getN (ci := 1) (k := 1) C in_X1 rfl (by decide) q160 (fun _ h => h) g1 g2 dX0_movePoint_78 ?_
    obtain ⟨d20, rfl, h⟩ := h
    obtain ⟨⟨vs9, g0⟩, h⟩ := h
    refine y_callVi0 C (metJ2_size hB h) (cwV 0 C.hts (lw_V q645 q494 q495 q90 q496) rfl rfl rfl kdJ2_size ⟨Nat.le_of_ble_eq_true rfl, Nat.le_of_ble_eq_true rfl⟩) g0 rfl rfl rfl (Nat.le_of_ble_eq_true rfl) dX0_movePoint_81 (fun r21 M1 hp => ?_)
    clear h
    obtain ⟨rfl, h⟩ := hp
    refine y_icmp_ge C 140 dX0_movePoint_84 (by decide) (fun c9 => ?_) (fun c9 => ?_)
    · replace h := h.1 c9
      refine y_aload C 4 rfl dX0_movePoint_140 ?_
      refine y_aload C 5 rfl dX0_movePoint_142 ?_
      obtain ⟨kc22, ks23, g1, g2, h⟩ := h
      obtain ⟨⟨vs9, g0⟩, h⟩ := h
      refine y_callVi C (metX1_insert hB h) (cwV 1 C.hts (lw_V q700 q701 q702 q87 q703) rfl rfl rfl kdX1_insert ⟨Nat.le_of_ble_eq_true rfl, Nat.le_of_ble_eq_true rfl⟩) g0 rfl rfl rfl (Nat.le_of_ble_eq_true rfl) dX0_movePoint_144 g1 g2 (fun r25 M24 hp => ?_)
      replace h := hp
      exact y_ireti C hr rfl rfl h dX0_movePoint_147
    · replace h := h.2 c9
      refine y_aload C 4 rfl dX0_movePoint_87 ?_
      obtain ⟨r26, ⟨fs9, g1, g2⟩, h⟩ := h
      refine y_getN (ci := 1) (k := 1) C in_X1 rfl (by decide) q160 (fun _ h => h) g1 g2 dX0_movePoint_89 ?_
      refine y_iload C 6 rfl dX0_movePoint_92 ?_
      obtain ⟨d27, rfl, h⟩ := h
      obtain ⟨⟨vs9, g0⟩, h⟩ := h
      refine y_callVq0 C (metJ2_get hB h) (cwV 1 C.hts (lw_V q729 q571 q572 q90 q573) rfl rfl rfl kdJ2_get ⟨Nat.le_of_ble_eq_true rfl, Nat.le_of_ble_eq_true rfl⟩) g0 rfl rfl rfl (Nat.le_of_ble_eq_true rfl) dX0_movePoint_94 (fun r28 M1 hp => ?_)
      clear h
      obtain ⟨rfl, h⟩ := hp
      obtain ⟨g1, h⟩ := h
      refine y_ckc (ci := 6) C q730 rfl g1 dX0_movePoint_97 ?_
      refine y_astore C 7 (by decide) dX0_movePoint_100 ?_
      refine y_aload C 7 rfl dX0_movePoint_102 ?_
      obtain ⟨d29, rfl, h⟩ := h
      obtain ⟨⟨vs9, g0⟩, h⟩ := h
      refine y_callVi0 C (metX6_value hB h) (cwV 0 C.hts (lw_V q731 q732 q733 q107 q734) rfl rfl rfl kdX6_value ⟨Nat.le_of_ble_eq_true rfl, Nat.le_of_ble_eq_true rfl⟩) g0 rfl rfl rfl (Nat.le_of_ble_eq_true rfl) dX0_movePoint_104 (fun r30 M1 hp => ?_)
      clear h
      obtain ⟨rfl, h⟩ := hp
      refine y_if_ge C 134 dX0_movePoint_107 (by decide) (fun c9 => ?_) (fun c9 => ?_)
      · replace h := h.1 c9
        refine y_to C _ ?_ (okX0_movePoint_b134 C hB hr ih _ _ _ _ _ _ h)
        exact (And.intro rfl (And.intro rfl (And.intro rfl trivial)))
      · replace h := h.2 c9
        refine y_aload C 7 rfl dX0_movePoint_110 ?_
        obtain ⟨r32, ⟨fs9, g1, g2⟩, h⟩ := h
        refine y_getN (ci := 6) (k := 0) C in_X6 rfl (by decide) q590 (fun _ h => h) g1 g2 dX0_movePoint_112 ?_
        refine y_astore C 8 (by decide) dX0_movePoint_115 ?_
        refine y_aload C 7 rfl dX0_movePoint_117 ?_
        refine y_aload C 7 rfl dX0_movePoint_119 ?_
        obtain ⟨r33, ⟨fs9, g1, g2⟩, h⟩ := h
        refine y_getN (ci := 6) (k := 1) C in_X6 rfl (by decide) q595 (fun _ h => h) g1 g2 dX0_movePoint_121 ?_
        obtain ⟨fs34, g1, g2, h⟩ := h
        replace h := h _ rfl
        refine y_putN (ci := 6) (k := 0) C in_X6 tyX6_ok nmX6 rfl (by decide) q590 (fun _ h => h) rfl g1 g2 (y_nmr _ r33) (y_ftr _ r33) rfl dX0_movePoint_124 ?_
        refine y_aload C 7 rfl dX0_movePoint_127 ?_
        refine y_aload C 8 rfl dX0_movePoint_129 ?_
        obtain ⟨fs36, g1, g2, h⟩ := h
        replace h := h _ rfl
        refine y_putN (ci := 6) (k := 1) C in_X6 tyX6_ok nmX6 rfl (by decide) q595 (fun _ h => h) rfl g1 g2 (y_nmr _ r32) (y_ftr _ r32) rfl dX0_movePoint_131 ?_
        refine y_to C _ ?_ (okX0_movePoint_b134 C hB hr ih _ _ _ _ _ _ h)
        exact (And.intro rfl (And.intro rfl (And.intro rfl trivial)))
def wpX0_movePoint_b45 (z : Nat → Nat) (o_ : Nat) (post : Int32 → yM → Prop) (M : yM) (rc : Nat) (rs : Nat) (v1 : Int32) (v2 : Int32) : Prop := ∃ kc6 ks7 : Nat, kc6 ≤ rc ∧ ks7 ≤ rs ∧ (∃ vs, M o_ = some (yo 0 vs)) ∧ wpX0_begin M z kc6 ks7 o_ (fun r9 M8 => ∃ d10 : Nat, r9 = some d10 ∧ ∃ r11 : Option Nat, yF M8 d10 1 0 (yr r11) ∧ ∃ d12 : Nat, r11 = some d12 ∧ (∃ vs, M8 d12 = some (yo 9 vs)) ∧ wpJ2_remove M8 d12 v1 (fun r14 M13 => (∀ v, r14 = some v → ∃ vs, M13 v = some (yo 5 vs)) ∧ ∃ d15 : Nat, r14 = some d15 ∧ ∃ fs16 : List yV, M13 d15 = some (yo 5 fs16) ∧ 0 < fs16.length ∧ ∀ M17 : yM, M17 = yup M13 d15 (yo 5 (fs16.set 0 (yi v2))) → ∃ nf9 : Nat, wpX0_movePoint_b74 z o_ post nf9 M17 (rc - kc6) (rs - ks7) (some d10) (some d15) 0))
theorem okX0_movePoint_b45 (C : yC p { frames := 9, cells := mc, slots := ms, locals := 255 } s m args meth c cX0_movePoint 9 RX0 D s0 a0 A) (hB : yB D s0 a0) (hr : meth.sig.returnType = (some .int)) {o_ : Nat} {post : Int32 → yM → Prop}  : ∀ (M : yM) (rc : Nat) (rs : Nat) (v1 : Int32) (v2 : Int32), wpX0_movePoint_b45 (yz s0 a0) o_ post M rc rs v1 v2 → Y p l e { frames := 9, cells := mc, slots := ms, locals := 255 } s m args below meth c (MQ below (yQi D s0 A post) args s mc ms A) D s0 A 9 M rc rs [some (yr (some o_)), some (yi v1), some (yi v2), none, none, none, none, none, none] 45 [] := by
  intro M rc rs v1 v2 h
  rw [wpX0_movePoint_b45] at h
  refine y_aload_n C 0 rfl rfl dX0_movePoint_45 ?_
  obtain ⟨kc6, ks7, g1, g2, h⟩ := h
  obtain ⟨⟨vs9, g0⟩, h⟩ := h
  refine y_callVq C (metX0_begin hB h) (cwV 0 C.hts (lw_V q661 q663 qs11 q86 q664) rfl rfl rfl kdX0_begin ⟨Nat.le_of_ble_eq_true rfl, Nat.le_of_ble_eq_true rfl⟩) g0 rfl rfl rfl (Nat.le_of_ble_eq_true rfl) dX0_movePoint_46 g1 g2 (fun r9 M8 hp => ?_)
  replace h := hp
  refine y_astore C 4 (by decide) dX0_movePoint_49 ?_
  refine y_aload C 4 rfl dX0_movePoint_51 ?_
  obtain ⟨d10, rfl, h⟩ := h
  obtain ⟨r11, ⟨fs9, g1, g2⟩, h⟩ := h
  refine y_getN (ci := 1) (k := 0) C in_X1 rfl (by decide) q156 (fun _ h => h) g1 g2 dX0_movePoint_53 ?_
  refine y_iload_n C 1 rfl rfl dX0_movePoint_56 ?_
  obtain ⟨d12, rfl, h⟩ := h
  obtain ⟨⟨vs9, g0⟩, h⟩ := h
  refine y_callVq0 C (metJ2_remove hB h) (cwV 1 C.hts (lw_V q721 q722 q723 q90 q724) rfl rfl rfl kdJ2_remove ⟨Nat.le_of_ble_eq_true rfl, Nat.le_of_ble_eq_true rfl⟩) g0 rfl rfl rfl (Nat.le_of_ble_eq_true rfl) dX0_movePoint_57 (fun r14 M13 hp => ?_)
  replace h := hp
  obtain ⟨g1, h⟩ := h
  refine y_ckc (ci := 5) C q698 rfl g1 dX0_movePoint_60 ?_
  refine y_astore C 5 (by decide) dX0_movePoint_63 ?_
  refine y_aload C 5 rfl dX0_movePoint_65 ?_
  refine y_iload_n C 2 rfl rfl dX0_movePoint_67 ?_
  obtain ⟨d15, rfl, h⟩ := h
  obtain ⟨fs16, g1, g2, h⟩ := h
  replace h := h _ rfl
  refine y_putN (ci := 5) (k := 0) C in_X5 tyX5_ok nmX5 rfl (by decide) q516 (fun _ h => h) rfl g1 g2 rfl rfl rfl dX0_movePoint_68 ?_
  refine y_iconst C 0 dX0_movePoint_71 lit0 ?_
  refine y_istore C 6 (by decide) dX0_movePoint_72 ?_
  obtain ⟨nf9, h⟩ := h
  refine y_to C _ ?_ (okX0_movePoint_b74 C hB hr  nf9 _ _ _ _ _ _ h)
  exact (And.intro rfl (And.intro rfl (And.intro rfl trivial)))
end sX0_movePoint
def wpX0_movePoint (M : yM) (z : Nat → Nat) (mc : Nat) (ms : Nat) (o_ : Nat) (a1 : Int32) (a2 : Int32) (post : Int32 → yM → Prop) : Prop := (∃ vs, M o_ = some (yo 0 vs)) ∧ wpX0_isPoint M o_ a1 (fun r1 => ((r1 = 0 → post (-1) M) ∧ (¬ r1 = 0 → wpX0_in M a2 0 300 (fun r2 => ((¬ r2 = 0 → ∃ r3 : Option Nat, yF M o_ 0 0 (yr r3) ∧ ∃ d4 : Nat, r3 = some d4 ∧ (∃ vs, M d4 = some (yo 1 vs)) ∧ wpX1_pointAt M d4 a2 (fun r5 => ((r5 = (-999) → wpX0_movePoint_b45 z o_ post M mc ms a1 a2) ∧ (¬ r5 = (-999) → ((r5 = a1 → wpX0_movePoint_b45 z o_ post M mc ms a1 a2) ∧ (¬ r5 = a1 → post (-2) M)))))) ∧ (r2 = 0 → post (-1) M))))))
theorem metX0_movePoint {l : Launch} {D : va_G} {s0 : State} {a0 : Array Value} (hB : yB D s0 a0) {M : yM} {mc : Nat} {ms : Nat} {o_ : Nat} {a1 : Int32} {a2 : Int32} {post : Int32 → yM → Prop} (h : wpX0_movePoint M (yz s0 a0) mc ms o_ a1 a2 post) : yMi l yX0_movePoint (ws_ yX0_movePoint cX0_movePoint 9 (some .int)) 9 255 mc ms D s0 [yr (some o_), yi a1, yi a2] M post := by
  refine y_meti hB (by decide) rfl (Nat.le_of_ble_eq_true rfl) ?_
  intro p e s m below meth c A hr hnm C
  rw [wpX0_movePoint] at h
  refine y_aload_n C 0 rfl rfl dX0_movePoint_0 ?_
  refine y_iload_n C 1 rfl rfl dX0_movePoint_1 ?_
  obtain ⟨⟨vs9, g0⟩, h⟩ := h
  refine y_callVi0 C (metX0_isPoint hB h) (cwV 1 C.hts (lw_V q717 q719 qs13 q86 q720) rfl rfl rfl kdX0_isPoint ⟨Nat.le_of_ble_eq_true rfl, Nat.le_of_ble_eq_true rfl⟩) g0 rfl rfl rfl (Nat.le_of_ble_eq_true rfl) dX0_movePoint_2 (fun r1 M1 hp => ?_)
  clear h
  obtain ⟨rfl, h⟩ := hp
  refine y_if_eq C 19 dX0_movePoint_5 (by decide) (fun c9 => ?_) (fun c9 => ?_)
  · replace h := h.1 c9
    refine y_iconst C (-1) dX0_movePoint_19 litm1 ?_
    exact y_ireti C hr rfl rfl h dX0_movePoint_20
  · replace h := h.2 c9
    refine y_iload_n C 2 rfl rfl dX0_movePoint_8 ?_
    refine y_iconst C 0 dX0_movePoint_9 lit0 ?_
    refine y_sipush C 300 dX0_movePoint_10 y_s300 ?_
    refine y_callSi0 C (metX0_in hB h) (va_cwS 3 C.hts (lw_S q209 q210 q86 q211) rfl rfl rfl kdX0_in.2 ⟨Nat.le_of_ble_eq_true rfl, Nat.le_of_ble_eq_true rfl⟩) rfl rfl (Nat.le_of_ble_eq_true rfl) dX0_movePoint_13 (fun r2 M1 hp => ?_)
    clear h
    obtain ⟨rfl, h⟩ := hp
    refine y_if_ne C 21 dX0_movePoint_16 (by decide) (fun c9 => ?_) (fun c9 => ?_)
    · replace h := h.1 c9
      refine y_aload_n C 0 rfl rfl dX0_movePoint_21 ?_
      obtain ⟨r3, ⟨fs9, g1, g2⟩, h⟩ := h
      refine y_get (ci := 0) (k := 0) C in_X0 rfl (by decide) q185 (fun _ h => h) g1 g2 dX0_movePoint_22 ?_
      refine y_iload_n C 2 rfl rfl dX0_movePoint_25 ?_
      obtain ⟨d4, rfl, h⟩ := h
      obtain ⟨⟨vs9, g0⟩, h⟩ := h
      refine y_callVi0 C (metX1_pointAt hB h) (cwV 1 C.hts (lw_V q654 q655 q656 q87 q657) rfl rfl rfl kdX1_pointAt ⟨Nat.le_of_ble_eq_true rfl, Nat.le_of_ble_eq_true rfl⟩) g0 rfl rfl rfl (Nat.le_of_ble_eq_true rfl) dX0_movePoint_26 (fun r5 M1 hp => ?_)
      clear h
      obtain ⟨rfl, h⟩ := hp
      refine y_istore_n C 3 rfl (by decide) dX0_movePoint_29 ?_
      refine y_iload_n C 3 rfl rfl dX0_movePoint_30 ?_
      refine y_sipush C (-999) dX0_movePoint_31 y_sm999 ?_
      refine y_icmp_eq C 45 dX0_movePoint_34 (by decide) (fun c9 => ?_) (fun c9 => ?_)
      · replace h := h.1 c9
        refine y_to C _ ?_ (okX0_movePoint_b45 C hB hr  _ _ _ _ _ h)
        exact (And.intro rfl (And.intro rfl (And.intro rfl trivial)))
      · replace h := h.2 c9
        refine y_iload_n C 3 rfl rfl dX0_movePoint_37 ?_
        refine y_iload_n C 1 rfl rfl dX0_movePoint_38 ?_
        refine y_icmp_eq C 45 dX0_movePoint_39 (by decide) (fun c9 => ?_) (fun c9 => ?_)
        · replace h := h.1 c9
          refine y_to C _ ?_ (okX0_movePoint_b45 C hB hr  _ _ _ _ _ h)
          exact (And.intro rfl (And.intro rfl (And.intro rfl trivial)))
        · replace h := h.2 c9
          refine y_bipush C (-2) dX0_movePoint_42 y_bm2 ?_
          exact y_ireti C hr rfl rfl h dX0_movePoint_44
    · replace h := h.2 c9
      refine y_iconst C (-1) dX0_movePoint_19 litm1 ?_
      exact y_ireti C hr rfl rfl h dX0_movePoint_20
theorem kdX6_has : yX6_has.cls = RX6 ∧ yX6_has.cls ≠ "java/lang/invoke/MethodHandle" ∧ yX6_has.cls ≠ "java/lang/invoke/VarHandle" ∧ (parseMethodDescriptor yX6_has.desc).map (fun d => d.parameters.length) = some 1 := by decide +kernel
def wpX6_has (M : yM) (o_ : Nat) (a1 : Option Nat) (post : Int32 → Prop) : Prop := ∃ r1 : Option Nat, yF M o_ 6 0 (yr r1) ∧ ((r1 = a1 → post 1) ∧ (¬ r1 = a1 → ∃ r2 : Option Nat, yF M o_ 6 1 (yr r2) ∧ ((¬ r2 = a1 → post 0) ∧ (r2 = a1 → post 1))))
theorem metX6_has {l : Launch} {D : va_G} {s0 : State} {a0 : Array Value} (hB : yB D s0 a0) {M : yM} {o_ : Nat} {a1 : Option Nat} {post : Int32 → Prop} (h : wpX6_has M o_ a1 post) : yMi l yX6_has (ws_ yX6_has cX6_has 2 (some .boolean)) 1 80 0 0 D s0 [yr (some o_), yr a1] M (fun r M1 => M1 = M ∧ post r) := by
  refine y_meti hB (by decide) rfl (Nat.le_of_ble_eq_true rfl) ?_
  intro p e s m below meth c A hr hnm C
  rw [wpX6_has] at h
  refine y_aload_n C 0 rfl rfl dX6_has_0 ?_
  obtain ⟨r1, ⟨fs9, g1, g2⟩, h⟩ := h
  refine y_get (ci := 6) (k := 0) C in_X6 rfl (by decide) q586 (fun _ h => h) g1 g2 dX6_has_1 ?_
  refine y_aload_n C 1 rfl rfl dX6_has_4 ?_
  refine y_acmp_eq C 16 dX6_has_5 (by decide) (fun c9 => ?_) (fun c9 => ?_)
  · replace h := h.1 c9
    refine y_iconst C 1 dX6_has_16 lit1 ?_
    refine y_goto C 21 dX6_has_17 (by decide) ?_
    exact y_iretz C hr rfl rfl (by decide) ⟨rfl, h⟩ dX6_has_21
  · replace h := h.2 c9
    refine y_aload_n C 0 rfl rfl dX6_has_8 ?_
    obtain ⟨r2, ⟨fs9, g1, g2⟩, h⟩ := h
    refine y_get (ci := 6) (k := 1) C in_X6 rfl (by decide) q591 (fun _ h => h) g1 g2 dX6_has_9 ?_
    refine y_aload_n C 1 rfl rfl dX6_has_12 ?_
    refine y_acmp_ne C 20 dX6_has_13 (by decide) (fun c9 => ?_) (fun c9 => ?_)
    · replace h := h.1 c9
      refine y_iconst C 0 dX6_has_20 lit0 ?_
      exact y_iretz C hr rfl rfl (by decide) ⟨rfl, h⟩ dX6_has_21
    · replace h := h.2 c9
      refine y_iconst C 1 dX6_has_16 lit1 ?_
      refine y_goto C 21 dX6_has_17 (by decide) ?_
      exact y_iretz C hr rfl rfl (by decide) ⟨rfl, h⟩ dX6_has_21
theorem kdX1_uses : yX1_uses.cls = RX1 ∧ yX1_uses.cls ≠ "java/lang/invoke/MethodHandle" ∧ yX1_uses.cls ≠ "java/lang/invoke/VarHandle" ∧ (parseMethodDescriptor yX1_uses.desc).map (fun d => d.parameters.length) = some 1 := by decide +kernel
section sX1_uses
variable {p : Program} {l : Launch} {e : Env} {s : State} {m : MethodId} {args : Array Value} {below : List Frame} {meth : Method} {c : Code} {D : va_G} {s0 : State} {a0 : Array Value} {A : Nat → Prop}
def wpX1_uses_b39 (M : yM) (o_ : Nat) (post : Int32 → Prop) (k4 : Option Nat → Int32 → Int32 → Prop) (v1 : Option Nat) (v3 : Int32) (u0 : Int32) (u1 : Int32) : Prop := ∀ x9 : Int32, x9 = (u0 + u1) → ∀ x10 : Int32, x10 = v3 + 1 → k4 v1 x9 x10
theorem okX1_uses_b39 (C : yC p { frames := 4, cells := 0, slots := 0, locals := 144 } s m args meth c cX1_uses 4 RX1 D s0 a0 A) (hB : yB D s0 a0) (hr : meth.sig.returnType = (some .int)) {M : yM} {o_ : Nat} {post : Int32 → Prop} {k4 : Option Nat → Int32 → Int32 → Prop} (hk4 : ∀ (v1 : Option Nat) (v2 : Int32) (v3 : Int32), k4 v1 v2 v3 → Y p l e { frames := 4, cells := 0, slots := 0, locals := 144 } s m args below meth c (MQ below (yQi D s0 A (fun r M1 => M1 = M ∧ post r)) args s 0 0 A) D s0 A 4 M 0 0 [some (yr (some o_)), some (yr v1), some (yi v2), some (yi v3)] 4 []) : ∀ (v1 : Option Nat) (v3 : Int32) (u0 : Int32) (u1 : Int32), wpX1_uses_b39 M o_ post k4 v1 v3 u0 u1 → Y p l e { frames := 4, cells := 0, slots := 0, locals := 144 } s m args below meth c (MQ below (yQi D s0 A (fun r M1 => M1 = M ∧ post r)) args s 0 0 A) D s0 A 4 M 0 0 [some (yr (some o_)), some (yr v1), none, some (yi v3)] 39 [yi u1, yi u0] := by
  intro v1 v3 u0 u1 h
  rw [wpX1_uses_b39] at h
  refine y_iadd C dX1_uses_39 ?_
  replace h := h _ rfl
  refine y_istore_n C 2 rfl (by decide) dX1_uses_40 ?_
  replace h := h _ rfl
  refine y_iinc C 3 _ rfl (y_inc1 _) (by decide) dX1_uses_41 ?_
  refine y_goto C 4 dX1_uses_44 (by decide) ?_
  refine y_to C _ ?_ (hk4 _ _ _ h)
  exact (And.intro rfl (And.intro rfl (And.intro rfl (And.intro rfl trivial))))
def wpX1_uses_b4 (M : yM) (o_ : Nat) (post : Int32 → Prop) : Nat → Option Nat → Int32 → Int32 → Prop
  | 0, _, _, _ => False
  | nn + 1, v1, v2, v3 => ∃ r1 : Option Nat, yF M o_ 1 1 (yr r1) ∧ ∃ d2 : Nat, r1 = some d2 ∧ (∃ vs, M d2 = some (yo 9 vs)) ∧ wpJ2_size M d2 (fun r3 => ((r3 ≤ v3 → post v2) ∧ (¬ r3 ≤ v3 → ∃ r4 : Option Nat, yF M o_ 1 1 (yr r4) ∧ ∃ d5 : Nat, r4 = some d5 ∧ (∃ vs, M d5 = some (yo 9 vs)) ∧ wpJ2_get M d5 v3 (fun r6 => (∀ v, r6 = some v → ∃ vs, M v = some (yo 6 vs)) ∧ ∃ d7 : Nat, r6 = some d7 ∧ (∃ vs, M d7 = some (yo 6 vs)) ∧ wpX6_has M d7 v1 (fun r8 => ((r8 = 0 → wpX1_uses_b39 M o_ post (fun v1 v2 v3 => wpX1_uses_b4 M o_ post nn v1 v2 v3) v1 v3 v2 0) ∧ (¬ r8 = 0 → wpX1_uses_b39 M o_ post (fun v1 v2 v3 => wpX1_uses_b4 M o_ post nn v1 v2 v3) v1 v3 v2 1)))))))
theorem okX1_uses_b4 (C : yC p { frames := 4, cells := 0, slots := 0, locals := 144 } s m args meth c cX1_uses 4 RX1 D s0 a0 A) (hB : yB D s0 a0) (hr : meth.sig.returnType = (some .int)) {M : yM} {o_ : Nat} {post : Int32 → Prop}  : ∀ (nn : Nat) (v1 : Option Nat) (v2 : Int32) (v3 : Int32), wpX1_uses_b4 M o_ post nn v1 v2 v3 → Y p l e { frames := 4, cells := 0, slots := 0, locals := 144 } s m args below meth c (MQ below (yQi D s0 A (fun r M1 => M1 = M ∧ post r)) args s 0 0 A) D s0 A 4 M 0 0 [some (yr (some o_)), some (yr v1), some (yi v2), some (yi v3)] 4 [] := by
  intro nn
  induction nn with
  | zero => intro v1 v2 v3 h; exact absurd h (by rw [wpX1_uses_b4]; exact id)
  | succ nn ih =>
    intro v1 v2 v3 h
    rw [wpX1_uses_b4] at h
    refine y_iload_n C 3 rfl rfl dX1_uses_4 ?_
    refine y_aload_n C 0 rfl rfl dX1_uses_5 ?_
    obtain ⟨r1, ⟨fs9, g1, g2⟩, h⟩ := h
    refine y_get (ci := 1) (k := 1) C in_X1 rfl (by decide) q158 (fun _ h => h) g1 g2 dX1_uses_6 ?_
    obtain ⟨d2, rfl, h⟩ := h
    obtain ⟨⟨vs9, g0⟩, h⟩ := h
    refine y_callVi0 C (metJ2_size hB h) (cwV 0 C.hts (lw_V q658 q494 q495 q90 q496) rfl rfl rfl kdJ2_size ⟨Nat.le_of_ble_eq_true rfl, Nat.le_of_ble_eq_true rfl⟩) g0 rfl rfl rfl (Nat.le_of_ble_eq_true rfl) dX1_uses_9 (fun r3 M1 hp => ?_)
    clear h
    obtain ⟨rfl, h⟩ := hp
    refine y_icmp_ge C 47 dX1_uses_12 (by decide) (fun c9 => ?_) (fun c9 => ?_)
    · replace h := h.1 c9
      refine y_iload_n C 2 rfl rfl dX1_uses_47 ?_
      exact y_ireti C hr rfl rfl ⟨rfl, h⟩ dX1_uses_48
    · replace h := h.2 c9
      refine y_iload_n C 2 rfl rfl dX1_uses_15 ?_
      refine y_aload_n C 0 rfl rfl dX1_uses_16 ?_
      obtain ⟨r4, ⟨fs9, g1, g2⟩, h⟩ := h
      refine y_get (ci := 1) (k := 1) C in_X1 rfl (by decide) q158 (fun _ h => h) g1 g2 dX1_uses_17 ?_
      refine y_iload_n C 3 rfl rfl dX1_uses_20 ?_
      obtain ⟨d5, rfl, h⟩ := h
      obtain ⟨⟨vs9, g0⟩, h⟩ := h
      refine y_callVq0 C (metJ2_get hB h) (cwV 1 C.hts (lw_V q659 q571 q572 q90 q573) rfl rfl rfl kdJ2_get ⟨Nat.le_of_ble_eq_true rfl, Nat.le_of_ble_eq_true rfl⟩) g0 rfl rfl rfl (Nat.le_of_ble_eq_true rfl) dX1_uses_21 (fun r6 M1 hp => ?_)
      clear h
      obtain ⟨rfl, h⟩ := hp
      obtain ⟨g1, h⟩ := h
      refine y_ckc (ci := 6) C q673 rfl g1 dX1_uses_24 ?_
      refine y_aload_n C 1 rfl rfl dX1_uses_27 ?_
      obtain ⟨d7, rfl, h⟩ := h
      obtain ⟨⟨vs9, g0⟩, h⟩ := h
      refine y_callVi0 C (metX6_has hB h) (cwV 1 C.hts (lw_V q743 q744 q745 q107 q746) rfl rfl rfl kdX6_has ⟨Nat.le_of_ble_eq_true rfl, Nat.le_of_ble_eq_true rfl⟩) g0 rfl rfl rfl (Nat.le_of_ble_eq_true rfl) dX1_uses_28 (fun r8 M1 hp => ?_)
      clear h
      obtain ⟨rfl, h⟩ := hp
      refine y_if_eq C 38 dX1_uses_31 (by decide) (fun c9 => ?_) (fun c9 => ?_)
      · replace h := h.1 c9
        refine y_iconst C 0 dX1_uses_38 lit0 ?_
        refine y_to C _ ?_ (okX1_uses_b39 C hB hr ih _ _ _ _ h)
        exact (And.intro rfl (And.intro rfl (And.intro rfl trivial)))
      · replace h := h.2 c9
        refine y_iconst C 1 dX1_uses_34 lit1 ?_
        refine y_goto C 39 dX1_uses_35 (by decide) ?_
        refine y_to C _ ?_ (okX1_uses_b39 C hB hr ih _ _ _ _ h)
        exact (And.intro rfl (And.intro rfl (And.intro rfl trivial)))
end sX1_uses
def wpX1_uses (M : yM) (o_ : Nat) (a1 : Option Nat) (post : Int32 → Prop) : Prop := ∃ nf9 : Nat, wpX1_uses_b4 M o_ post nf9 a1 0 0
theorem metX1_uses {l : Launch} {D : va_G} {s0 : State} {a0 : Array Value} (hB : yB D s0 a0) {M : yM} {o_ : Nat} {a1 : Option Nat} {post : Int32 → Prop} (h : wpX1_uses M o_ a1 post) : yMi l yX1_uses (ws_ yX1_uses cX1_uses 4 (some .int)) 4 144 0 0 D s0 [yr (some o_), yr a1] M (fun r M1 => M1 = M ∧ post r) := by
  refine y_meti hB (by decide) rfl (Nat.le_of_ble_eq_true rfl) ?_
  intro p e s m below meth c A hr hnm C
  rw [wpX1_uses] at h
  refine y_iconst C 0 dX1_uses_0 lit0 ?_
  refine y_istore_n C 2 rfl (by decide) dX1_uses_1 ?_
  refine y_iconst C 0 dX1_uses_2 lit0 ?_
  refine y_istore_n C 3 rfl (by decide) dX1_uses_3 ?_
  obtain ⟨nf9, h⟩ := h
  refine y_to C _ ?_ (okX1_uses_b4 C hB hr  nf9 _ _ _ h)
  exact (And.intro rfl (And.intro rfl (And.intro rfl (And.intro rfl trivial))))
theorem kdX0_dropPoint : yX0_dropPoint.cls = RX0 ∧ yX0_dropPoint.cls ≠ "java/lang/invoke/MethodHandle" ∧ yX0_dropPoint.cls ≠ "java/lang/invoke/VarHandle" ∧ (parseMethodDescriptor yX0_dropPoint.desc).map (fun d => d.parameters.length) = some 1 := by decide +kernel
def wpX0_dropPoint (M : yM) (z : Nat → Nat) (mc : Nat) (ms : Nat) (o_ : Nat) (a1 : Int32) (post : Int32 → yM → Prop) : Prop := (∃ vs, M o_ = some (yo 0 vs)) ∧ wpX0_isPoint M o_ a1 (fun r1 => ((¬ r1 = 0 → ∃ r2 : Option Nat, yF M o_ 0 0 (yr r2) ∧ ∃ r3 : Option Nat, yF M o_ 0 0 (yr r3) ∧ ∃ d4 : Nat, r3 = some d4 ∧ ∃ r5 : Option Nat, yF M d4 1 0 (yr r5) ∧ ∃ d6 : Nat, r5 = some d6 ∧ (∃ vs, M d6 = some (yo 9 vs)) ∧ wpJ2_get M d6 a1 (fun r7 => (∀ v, r7 = some v → ∃ vs, M v = some (yo 5 vs)) ∧ ∃ d8 : Nat, r2 = some d8 ∧ (∃ vs, M d8 = some (yo 1 vs)) ∧ wpX1_uses M d8 r7 (fun r9 => ((r9 ≤ 0 → ∃ kc10 ks11 : Nat, kc10 ≤ mc ∧ ks11 ≤ ms ∧ (∃ vs, M o_ = some (yo 0 vs)) ∧ wpX0_begin M z kc10 ks11 o_ (fun r13 M12 => ∃ d14 : Nat, r13 = some d14 ∧ ∃ r15 : Option Nat, yF M12 d14 1 0 (yr r15) ∧ ∃ d16 : Nat, r15 = some d16 ∧ (∃ vs, M12 d16 = some (yo 9 vs)) ∧ wpJ2_remove M12 d16 a1 (fun r18 M17 => ∃ r19 : Option Nat, yF M17 o_ 0 0 (yr r19) ∧ ∃ d20 : Nat, r19 = some d20 ∧ ∃ r21 : Option Nat, yF M17 d20 1 0 (yr r21) ∧ ∃ d22 : Nat, r21 = some d22 ∧ (∃ vs, M17 d22 = some (yo 9 vs)) ∧ wpJ2_size M17 d22 (fun r23 => post r23 M17)))) ∧ (¬ r9 ≤ 0 → post (-2) M))))) ∧ (r1 = 0 → post (-1) M)))
theorem metX0_dropPoint {l : Launch} {D : va_G} {s0 : State} {a0 : Array Value} (hB : yB D s0 a0) {M : yM} {mc : Nat} {ms : Nat} {o_ : Nat} {a1 : Int32} {post : Int32 → yM → Prop} (h : wpX0_dropPoint M (yz s0 a0) mc ms o_ a1 post) : yMi l yX0_dropPoint (ws_ yX0_dropPoint cX0_dropPoint 2 (some .int)) 9 255 mc ms D s0 [yr (some o_), yi a1] M post := by
  refine y_meti hB (by decide) rfl (Nat.le_of_ble_eq_true rfl) ?_
  intro p e s m below meth c A hr hnm C
  rw [wpX0_dropPoint] at h
  refine y_aload_n C 0 rfl rfl dX0_dropPoint_0 ?_
  refine y_iload_n C 1 rfl rfl dX0_dropPoint_1 ?_
  obtain ⟨⟨vs9, g0⟩, h⟩ := h
  refine y_callVi0 C (metX0_isPoint hB h) (cwV 1 C.hts (lw_V q717 q719 qs13 q86 q720) rfl rfl rfl kdX0_isPoint ⟨Nat.le_of_ble_eq_true rfl, Nat.le_of_ble_eq_true rfl⟩) g0 rfl rfl rfl (Nat.le_of_ble_eq_true rfl) dX0_dropPoint_2 (fun r1 M1 hp => ?_)
  clear h
  obtain ⟨rfl, h⟩ := hp
  refine y_if_ne C 10 dX0_dropPoint_5 (by decide) (fun c9 => ?_) (fun c9 => ?_)
  · replace h := h.1 c9
    refine y_aload_n C 0 rfl rfl dX0_dropPoint_10 ?_
    obtain ⟨r2, ⟨fs9, g1, g2⟩, h⟩ := h
    refine y_get (ci := 0) (k := 0) C in_X0 rfl (by decide) q185 (fun _ h => h) g1 g2 dX0_dropPoint_11 ?_
    refine y_aload_n C 0 rfl rfl dX0_dropPoint_14 ?_
    obtain ⟨r3, ⟨fs9, g1, g2⟩, h⟩ := h
    refine y_get (ci := 0) (k := 0) C in_X0 rfl (by decide) q185 (fun _ h => h) g1 g2 dX0_dropPoint_15 ?_
    obtain ⟨d4, rfl, h⟩ := h
    obtain ⟨r5, ⟨fs9, g1, g2⟩, h⟩ := h
    refine y_getN (ci := 1) (k := 0) C in_X1 rfl (by decide) q156 (fun _ h => h) g1 g2 dX0_dropPoint_18 ?_
    refine y_iload_n C 1 rfl rfl dX0_dropPoint_21 ?_
    obtain ⟨d6, rfl, h⟩ := h
    obtain ⟨⟨vs9, g0⟩, h⟩ := h
    refine y_callVq0 C (metJ2_get hB h) (cwV 1 C.hts (lw_V q729 q571 q572 q90 q573) rfl rfl rfl kdJ2_get ⟨Nat.le_of_ble_eq_true rfl, Nat.le_of_ble_eq_true rfl⟩) g0 rfl rfl rfl (Nat.le_of_ble_eq_true rfl) dX0_dropPoint_22 (fun r7 M1 hp => ?_)
    clear h
    obtain ⟨rfl, h⟩ := hp
    obtain ⟨g1, h⟩ := h
    refine y_ckc (ci := 5) C q698 rfl g1 dX0_dropPoint_25 ?_
    obtain ⟨d8, rfl, h⟩ := h
    obtain ⟨⟨vs9, g0⟩, h⟩ := h
    refine y_callVi0 C (metX1_uses hB h) (cwV 1 C.hts (lw_V q739 q740 q741 q87 q742) rfl rfl rfl kdX1_uses ⟨Nat.le_of_ble_eq_true rfl, Nat.le_of_ble_eq_true rfl⟩) g0 rfl rfl rfl (Nat.le_of_ble_eq_true rfl) dX0_dropPoint_28 (fun r9 M1 hp => ?_)
    clear h
    obtain ⟨rfl, h⟩ := hp
    refine y_if_le C 37 dX0_dropPoint_31 (by decide) (fun c9 => ?_) (fun c9 => ?_)
    · replace h := h.1 c9
      refine y_aload_n C 0 rfl rfl dX0_dropPoint_37 ?_
      obtain ⟨kc10, ks11, g1, g2, h⟩ := h
      obtain ⟨⟨vs9, g0⟩, h⟩ := h
      refine y_callVq C (metX0_begin hB h) (cwV 0 C.hts (lw_V q661 q663 qs11 q86 q664) rfl rfl rfl kdX0_begin ⟨Nat.le_of_ble_eq_true rfl, Nat.le_of_ble_eq_true rfl⟩) g0 rfl rfl rfl (Nat.le_of_ble_eq_true rfl) dX0_dropPoint_38 g1 g2 (fun r13 M12 hp => ?_)
      replace h := hp
      obtain ⟨d14, rfl, h⟩ := h
      obtain ⟨r15, ⟨fs9, g1, g2⟩, h⟩ := h
      refine y_getN (ci := 1) (k := 0) C in_X1 rfl (by decide) q156 (fun _ h => h) g1 g2 dX0_dropPoint_41 ?_
      refine y_iload_n C 1 rfl rfl dX0_dropPoint_44 ?_
      obtain ⟨d16, rfl, h⟩ := h
      obtain ⟨⟨vs9, g0⟩, h⟩ := h
      refine y_callVq0 C (metJ2_remove hB h) (cwV 1 C.hts (lw_V q721 q722 q723 q90 q724) rfl rfl rfl kdJ2_remove ⟨Nat.le_of_ble_eq_true rfl, Nat.le_of_ble_eq_true rfl⟩) g0 rfl rfl rfl (Nat.le_of_ble_eq_true rfl) dX0_dropPoint_45 (fun r18 M17 hp => ?_)
      replace h := hp
      refine y_pop C rfl dX0_dropPoint_48 ?_
      refine y_aload_n C 0 rfl rfl dX0_dropPoint_49 ?_
      obtain ⟨r19, ⟨fs9, g1, g2⟩, h⟩ := h
      refine y_get (ci := 0) (k := 0) C in_X0 rfl (by decide) q185 (fun _ h => h) g1 g2 dX0_dropPoint_50 ?_
      obtain ⟨d20, rfl, h⟩ := h
      obtain ⟨r21, ⟨fs9, g1, g2⟩, h⟩ := h
      refine y_getN (ci := 1) (k := 0) C in_X1 rfl (by decide) q156 (fun _ h => h) g1 g2 dX0_dropPoint_53 ?_
      obtain ⟨d22, rfl, h⟩ := h
      obtain ⟨⟨vs9, g0⟩, h⟩ := h
      refine y_callVi0 C (metJ2_size hB h) (cwV 0 C.hts (lw_V q645 q494 q495 q90 q496) rfl rfl rfl kdJ2_size ⟨Nat.le_of_ble_eq_true rfl, Nat.le_of_ble_eq_true rfl⟩) g0 rfl rfl rfl (Nat.le_of_ble_eq_true rfl) dX0_dropPoint_56 (fun r23 M1 hp => ?_)
      clear h
      obtain ⟨rfl, h⟩ := hp
      exact y_ireti C hr rfl rfl h dX0_dropPoint_59
    · replace h := h.2 c9
      refine y_bipush C (-2) dX0_dropPoint_34 y_bm2 ?_
      exact y_ireti C hr rfl rfl h dX0_dropPoint_36
  · replace h := h.2 c9
    refine y_iconst C (-1) dX0_dropPoint_8 litm1 ?_
    exact y_ireti C hr rfl rfl h dX0_dropPoint_9
theorem kdX0_arePoints : yX0_arePoints.cls = RX0 ∧ yX0_arePoints.cls ≠ "java/lang/invoke/MethodHandle" ∧ yX0_arePoints.cls ≠ "java/lang/invoke/VarHandle" ∧ (parseMethodDescriptor yX0_arePoints.desc).map (fun d => d.parameters.length) = some 2 := by decide +kernel
def wpX0_arePoints (M : yM) (o_ : Nat) (a1 : Int32) (a2 : Int32) (post : Int32 → Prop) : Prop := (∃ vs, M o_ = some (yo 0 vs)) ∧ wpX0_isPoint M o_ a1 (fun r1 => ((r1 = 0 → post 0) ∧ (¬ r1 = 0 → (∃ vs, M o_ = some (yo 0 vs)) ∧ wpX0_isPoint M o_ a2 (fun r2 => ((r2 = 0 → post 0) ∧ (¬ r2 = 0 → ((a1 = a2 → post 0) ∧ (¬ a1 = a2 → post 1))))))))
theorem metX0_arePoints {l : Launch} {D : va_G} {s0 : State} {a0 : Array Value} (hB : yB D s0 a0) {M : yM} {o_ : Nat} {a1 : Int32} {a2 : Int32} {post : Int32 → Prop} (h : wpX0_arePoints M o_ a1 a2 post) : yMi l yX0_arePoints (ws_ yX0_arePoints cX0_arePoints 3 (some .boolean)) 3 123 0 0 D s0 [yr (some o_), yi a1, yi a2] M (fun r M1 => M1 = M ∧ post r) := by
  refine y_meti hB (by decide) rfl (Nat.le_of_ble_eq_true rfl) ?_
  intro p e s m below meth c A hr hnm C
  rw [wpX0_arePoints] at h
  refine y_aload_n C 0 rfl rfl dX0_arePoints_0 ?_
  refine y_iload_n C 1 rfl rfl dX0_arePoints_1 ?_
  obtain ⟨⟨vs9, g0⟩, h⟩ := h
  refine y_callVi0 C (metX0_isPoint hB h) (cwV 1 C.hts (lw_V q717 q719 qs13 q86 q720) rfl rfl rfl kdX0_isPoint ⟨Nat.le_of_ble_eq_true rfl, Nat.le_of_ble_eq_true rfl⟩) g0 rfl rfl rfl (Nat.le_of_ble_eq_true rfl) dX0_arePoints_2 (fun r1 M1 hp => ?_)
  clear h
  obtain ⟨rfl, h⟩ := hp
  refine y_if_eq C 25 dX0_arePoints_5 (by decide) (fun c9 => ?_) (fun c9 => ?_)
  · replace h := h.1 c9
    refine y_iconst C 0 dX0_arePoints_25 lit0 ?_
    exact y_iretz C hr rfl rfl (by decide) ⟨rfl, h⟩ dX0_arePoints_26
  · replace h := h.2 c9
    refine y_aload_n C 0 rfl rfl dX0_arePoints_8 ?_
    refine y_iload_n C 2 rfl rfl dX0_arePoints_9 ?_
    obtain ⟨⟨vs9, g0⟩, h⟩ := h
    refine y_callVi0 C (metX0_isPoint hB h) (cwV 1 C.hts (lw_V q717 q719 qs13 q86 q720) rfl rfl rfl kdX0_isPoint ⟨Nat.le_of_ble_eq_true rfl, Nat.le_of_ble_eq_true rfl⟩) g0 rfl rfl rfl (Nat.le_of_ble_eq_true rfl) dX0_arePoints_10 (fun r2 M1 hp => ?_)
    clear h
    obtain ⟨rfl, h⟩ := hp
    refine y_if_eq C 25 dX0_arePoints_13 (by decide) (fun c9 => ?_) (fun c9 => ?_)
    · replace h := h.1 c9
      refine y_iconst C 0 dX0_arePoints_25 lit0 ?_
      exact y_iretz C hr rfl rfl (by decide) ⟨rfl, h⟩ dX0_arePoints_26
    · replace h := h.2 c9
      refine y_iload_n C 1 rfl rfl dX0_arePoints_16 ?_
      refine y_iload_n C 2 rfl rfl dX0_arePoints_17 ?_
      refine y_icmp_eq C 25 dX0_arePoints_18 (by decide) (fun c9 => ?_) (fun c9 => ?_)
      · replace h := h.1 c9
        refine y_iconst C 0 dX0_arePoints_25 lit0 ?_
        exact y_iretz C hr rfl rfl (by decide) ⟨rfl, h⟩ dX0_arePoints_26
      · replace h := h.2 c9
        refine y_iconst C 1 dX0_arePoints_21 lit1 ?_
        refine y_goto C 26 dX0_arePoints_22 (by decide) ?_
        exact y_iretz C hr rfl rfl (by decide) ⟨rfl, h⟩ dX0_arePoints_26
theorem kdX0_add : yX0_add.cls = RX0 ∧ yX0_add.cls ≠ "java/lang/invoke/MethodHandle" ∧ yX0_add.cls ≠ "java/lang/invoke/VarHandle" ∧ (parseMethodDescriptor yX0_add.desc).map (fun d => d.parameters.length) = some 2 := by decide +kernel
def wpX0_add (M : yM) (z : Nat → Nat) (mc : Nat) (ms : Nat) (o_ : Nat) (a1 : Int32) (a2 : Int32) (post : Int32 → yM → Prop) : Prop := (∃ vs, M o_ = some (yo 0 vs)) ∧ wpX0_arePoints M o_ a1 a2 (fun r1 => ((¬ r1 = 0 → ∃ r2 : Option Nat, yF M o_ 0 0 (yr r2) ∧ ∃ d3 : Nat, r2 = some d3 ∧ ∃ r4 : Option Nat, yF M d3 1 1 (yr r4) ∧ ∃ d5 : Nat, r4 = some d5 ∧ (∃ vs, M d5 = some (yo 9 vs)) ∧ wpJ2_size M d5 (fun r6 => ((¬ r6 = 16 → ∃ kc7 ks8 : Nat, kc7 ≤ mc ∧ ks8 ≤ ms ∧ (∃ vs, M o_ = some (yo 0 vs)) ∧ wpX0_begin M z kc7 ks8 o_ (fun r10 M9 => ∃ d11 : Nat, r10 = some d11 ∧ ∃ r12 : Option Nat, yF M9 d11 1 1 (yr r12) ∧ 1 ≤ (mc - kc7) ∧ 10 ≤ (ms - ks8) ∧ ∀ q13 : Nat, M9 q13 = none → ∀ M14 : yM, M14 = yup M9 q13 (yo 6 [yr none, yr none, yi 0, yi 0, yi 0, yi 0, yi 0, yi 0, yi 0, yi 0]) → ∃ r15 : Option Nat, yF M14 d11 1 0 (yr r15) ∧ ∃ d16 : Nat, r15 = some d16 ∧ (∃ vs, M14 d16 = some (yo 9 vs)) ∧ wpJ2_get M14 d16 (if a2 < a1 then a2 else a1) (fun r17 => (∀ v, r17 = some v → ∃ vs, M14 v = some (yo 5 vs)) ∧ ∃ r18 : Option Nat, yF M14 d11 1 0 (yr r18) ∧ ∃ d19 : Nat, r18 = some d19 ∧ (∃ vs, M14 d19 = some (yo 9 vs)) ∧ wpJ2_get M14 d19 (if a1 < a2 then a2 else a1) (fun r20 => (∀ v, r20 = some v → ∃ vs, M14 v = some (yo 5 vs)) ∧ wpX6_init M14 q13 r17 r20 (fun M21 => ∃ d22 : Nat, r12 = some d22 ∧ ∃ kc23 ks24 : Nat, kc23 ≤ ((mc - kc7) - 1) ∧ ks24 ≤ ((ms - ks8) - 10) ∧ (∃ vs, M21 d22 = some (yo 9 vs)) ∧ wpJ2_add M21 z kc23 ks24 d22 (some q13) (fun r26 M25 => ∃ r27 : Option Nat, yF M25 d11 1 1 (yr r27) ∧ ∃ d28 : Nat, r27 = some d28 ∧ (∃ vs, M25 d28 = some (yo 9 vs)) ∧ wpJ2_size M25 d28 (fun r29 => post (r29 - 1) M25))))))) ∧ (r6 = 16 → post (-3) M)))) ∧ (r1 = 0 → post (-1) M)))
theorem metX0_add {l : Launch} {D : va_G} {s0 : State} {a0 : Array Value} (hB : yB D s0 a0) {M : yM} {mc : Nat} {ms : Nat} {o_ : Nat} {a1 : Int32} {a2 : Int32} {post : Int32 → yM → Prop} (h : wpX0_add M (yz s0 a0) mc ms o_ a1 a2 post) : yMi l yX0_add (ws_ yX0_add cX0_add 4 (some .int)) 9 255 mc ms D s0 [yr (some o_), yi a1, yi a2] M post := by
  refine y_meti hB (by decide) rfl (Nat.le_of_ble_eq_true rfl) ?_
  intro p e s m below meth c A hr hnm C
  rw [wpX0_add] at h
  refine y_aload_n C 0 rfl rfl dX0_add_0 ?_
  refine y_iload_n C 1 rfl rfl dX0_add_1 ?_
  refine y_iload_n C 2 rfl rfl dX0_add_2 ?_
  obtain ⟨⟨vs9, g0⟩, h⟩ := h
  refine y_callVi0 C (metX0_arePoints hB h) (cwV 2 C.hts (lw_V q751 q753 qs15 q86 q754) rfl rfl rfl kdX0_arePoints ⟨Nat.le_of_ble_eq_true rfl, Nat.le_of_ble_eq_true rfl⟩) g0 rfl rfl rfl (Nat.le_of_ble_eq_true rfl) dX0_add_3 (fun r1 M1 hp => ?_)
  clear h
  obtain ⟨rfl, h⟩ := hp
  refine y_if_ne C 11 dX0_add_6 (by decide) (fun c9 => ?_) (fun c9 => ?_)
  · replace h := h.1 c9
    refine y_aload_n C 0 rfl rfl dX0_add_11 ?_
    obtain ⟨r2, ⟨fs9, g1, g2⟩, h⟩ := h
    refine y_get (ci := 0) (k := 0) C in_X0 rfl (by decide) q185 (fun _ h => h) g1 g2 dX0_add_12 ?_
    obtain ⟨d3, rfl, h⟩ := h
    obtain ⟨r4, ⟨fs9, g1, g2⟩, h⟩ := h
    refine y_getN (ci := 1) (k := 1) C in_X1 rfl (by decide) q160 (fun _ h => h) g1 g2 dX0_add_15 ?_
    obtain ⟨d5, rfl, h⟩ := h
    obtain ⟨⟨vs9, g0⟩, h⟩ := h
    refine y_callVi0 C (metJ2_size hB h) (cwV 0 C.hts (lw_V q645 q494 q495 q90 q496) rfl rfl rfl kdJ2_size ⟨Nat.le_of_ble_eq_true rfl, Nat.le_of_ble_eq_true rfl⟩) g0 rfl rfl rfl (Nat.le_of_ble_eq_true rfl) dX0_add_18 (fun r6 M1 hp => ?_)
    clear h
    obtain ⟨rfl, h⟩ := hp
    refine y_bipush C 16 dX0_add_21 y_b16 ?_
    refine y_icmp_ne C 29 dX0_add_23 (by decide) (fun c9 => ?_) (fun c9 => ?_)
    · replace h := h.1 c9
      refine y_aload_n C 0 rfl rfl dX0_add_29 ?_
      obtain ⟨kc7, ks8, g1, g2, h⟩ := h
      obtain ⟨⟨vs9, g0⟩, h⟩ := h
      refine y_callVq C (metX0_begin hB h) (cwV 0 C.hts (lw_V q661 q663 qs11 q86 q664) rfl rfl rfl kdX0_begin ⟨Nat.le_of_ble_eq_true rfl, Nat.le_of_ble_eq_true rfl⟩) g0 rfl rfl rfl (Nat.le_of_ble_eq_true rfl) dX0_add_30 g1 g2 (fun r10 M9 hp => ?_)
      replace h := hp
      refine y_astore_n C 3 rfl (by decide) dX0_add_33 ?_
      refine y_aload_n C 3 rfl rfl dX0_add_34 ?_
      obtain ⟨d11, rfl, h⟩ := h
      obtain ⟨r12, ⟨fs9, g1, g2⟩, h⟩ := h
      refine y_getN (ci := 1) (k := 1) C in_X1 rfl (by decide) q160 (fun _ h => h) g1 g2 dX0_add_35 ?_
      obtain ⟨g1, g2, h⟩ := h
      refine y_new (ci := 6) C in_X6 tyX6_ok rfl q730 q569 q107 [yr none, yr none, yi 0, yi 0, yi 0, yi 0, yi 0, yi 0, yi 0, yi 0] (fun j hj => by rcases (show j = 0 ∨ j = 1 ∨ j = 2 ∨ j = 3 ∨ j = 4 ∨ j = 5 ∨ j = 6 ∨ j = 7 ∨ j = 8 ∨ j = 9 by omega) with rfl | rfl | rfl | rfl | rfl | rfl | rfl | rfl | rfl | rfl <;> rfl) g1 g2 dX0_add_38 (fun q13 g3 => ?_)
      replace h := h q13 g3 _ rfl
      refine y_dup C rfl dX0_add_41 ?_
      refine y_aload_n C 3 rfl rfl dX0_add_42 ?_
      obtain ⟨r15, ⟨fs9, g1, g2⟩, h⟩ := h
      refine y_getN (ci := 1) (k := 0) C in_X1 rfl (by decide) q156 (fun _ h => h) g1 g2 dX0_add_43 ?_
      refine y_iload_n C 1 rfl rfl dX0_add_46 ?_
      refine y_iload_n C 2 rfl rfl dX0_add_47 ?_
      refine y_mmin C q755 q296 q99 q297 (Nat.le_of_ble_eq_true rfl) (Nat.le_of_ble_eq_true rfl) (Nat.le_of_ble_eq_true rfl) dX0_add_48 ?_
      obtain ⟨d16, rfl, h⟩ := h
      obtain ⟨⟨vs9, g0⟩, h⟩ := h
      refine y_callVq0 C (metJ2_get hB h) (cwV 1 C.hts (lw_V q729 q571 q572 q90 q573) rfl rfl rfl kdJ2_get ⟨Nat.le_of_ble_eq_true rfl, Nat.le_of_ble_eq_true rfl⟩) g0 rfl rfl rfl (Nat.le_of_ble_eq_true rfl) dX0_add_51 (fun r17 M1 hp => ?_)
      clear h
      obtain ⟨rfl, h⟩ := hp
      obtain ⟨g1, h⟩ := h
      refine y_ckc (ci := 5) C q698 rfl g1 dX0_add_54 ?_
      refine y_aload_n C 3 rfl rfl dX0_add_57 ?_
      obtain ⟨r18, ⟨fs9, g1, g2⟩, h⟩ := h
      refine y_getN (ci := 1) (k := 0) C in_X1 rfl (by decide) q156 (fun _ h => h) g1 g2 dX0_add_58 ?_
      refine y_iload_n C 1 rfl rfl dX0_add_61 ?_
      refine y_iload_n C 2 rfl rfl dX0_add_62 ?_
      refine y_mmax C q756 q278 q99 q279 (Nat.le_of_ble_eq_true rfl) (Nat.le_of_ble_eq_true rfl) (Nat.le_of_ble_eq_true rfl) dX0_add_63 ?_
      obtain ⟨d19, rfl, h⟩ := h
      obtain ⟨⟨vs9, g0⟩, h⟩ := h
      refine y_callVq0 C (metJ2_get hB h) (cwV 1 C.hts (lw_V q729 q571 q572 q90 q573) rfl rfl rfl kdJ2_get ⟨Nat.le_of_ble_eq_true rfl, Nat.le_of_ble_eq_true rfl⟩) g0 rfl rfl rfl (Nat.le_of_ble_eq_true rfl) dX0_add_66 (fun r20 M1 hp => ?_)
      clear h
      obtain ⟨rfl, h⟩ := hp
      obtain ⟨g1, h⟩ := h
      refine y_ckc (ci := 5) C q698 rfl g1 dX0_add_69 ?_
      refine y_callIv0 C (metX6_init hB h) (cwI 2 C.hts (lw_meth q584) rfl rfl rfl (C.hts _ q107) (C.hts _ q757) (C.hts _ q583) rfl kdX6_init.2 ⟨Nat.le_of_ble_eq_true rfl, Nat.le_of_ble_eq_true rfl⟩) rfl rfl (Nat.le_of_ble_eq_true rfl) dX0_add_72 (fun M21 hp => ?_)
      replace h := hp
      obtain ⟨d22, rfl, h⟩ := h
      obtain ⟨kc23, ks24, g1, g2, h⟩ := h
      obtain ⟨⟨vs9, g0⟩, h⟩ := h
      refine y_callVi C (metJ2_add hB h) (cwV 1 C.hts (lw_V q758 q521 q522 q90 q523) rfl rfl rfl kdJ2_add ⟨Nat.le_of_ble_eq_true rfl, Nat.le_of_ble_eq_true rfl⟩) g0 rfl rfl rfl (Nat.le_of_ble_eq_true rfl) dX0_add_75 g1 g2 (fun r26 M25 hp => ?_)
      replace h := hp
      refine y_pop C rfl dX0_add_78 ?_
      refine y_aload_n C 3 rfl rfl dX0_add_79 ?_
      obtain ⟨r27, ⟨fs9, g1, g2⟩, h⟩ := h
      refine y_getN (ci := 1) (k := 1) C in_X1 rfl (by decide) q160 (fun _ h => h) g1 g2 dX0_add_80 ?_
      obtain ⟨d28, rfl, h⟩ := h
      obtain ⟨⟨vs9, g0⟩, h⟩ := h
      refine y_callVi0 C (metJ2_size hB h) (cwV 0 C.hts (lw_V q645 q494 q495 q90 q496) rfl rfl rfl kdJ2_size ⟨Nat.le_of_ble_eq_true rfl, Nat.le_of_ble_eq_true rfl⟩) g0 rfl rfl rfl (Nat.le_of_ble_eq_true rfl) dX0_add_83 (fun r29 M1 hp => ?_)
      clear h
      obtain ⟨rfl, h⟩ := hp
      refine y_iconst C 1 dX0_add_86 lit1 ?_
      refine y_isub C dX0_add_87 ?_
      exact y_ireti C hr rfl rfl h dX0_add_88
    · replace h := h.2 c9
      refine y_bipush C (-3) dX0_add_26 y_bm3 ?_
      exact y_ireti C hr rfl rfl h dX0_add_28
  · replace h := h.2 c9
    refine y_iconst C (-1) dX0_add_9 litm1 ?_
    exact y_ireti C hr rfl rfl h dX0_add_10
theorem kdX0_isDimension : yX0_isDimension.cls = RX0 ∧ yX0_isDimension.cls ≠ "java/lang/invoke/MethodHandle" ∧ yX0_isDimension.cls ≠ "java/lang/invoke/VarHandle" ∧ (parseMethodDescriptor yX0_isDimension.desc).map (fun d => d.parameters.length) = some 1 := by decide +kernel
def wpX0_isDimension (M : yM) (o_ : Nat) (a1 : Int32) (post : Int32 → Prop) : Prop := ∃ r1 : Option Nat, yF M o_ 0 0 (yr r1) ∧ ∃ d2 : Nat, r1 = some d2 ∧ ∃ r3 : Option Nat, yF M d2 1 1 (yr r3) ∧ ∃ d4 : Nat, r3 = some d4 ∧ (∃ vs, M d4 = some (yo 9 vs)) ∧ wpJ2_size M d4 (fun r5 => wpX0_in M a1 0 (r5 - 1) (fun r6 => ((r6 = 0 ∨ r6 = 1) ∧ post r6)))
theorem metX0_isDimension {l : Launch} {D : va_G} {s0 : State} {a0 : Array Value} (hB : yB D s0 a0) {M : yM} {o_ : Nat} {a1 : Int32} {post : Int32 → Prop} (h : wpX0_isDimension M o_ a1 post) : yMi l yX0_isDimension (ws_ yX0_isDimension cX0_isDimension 2 (some .boolean)) 2 102 0 0 D s0 [yr (some o_), yi a1] M (fun r M1 => M1 = M ∧ post r) := by
  refine y_meti hB (by decide) rfl (Nat.le_of_ble_eq_true rfl) ?_
  intro p e s m below meth c A hr hnm C
  rw [wpX0_isDimension] at h
  refine y_iload_n C 1 rfl rfl dX0_isDimension_0 ?_
  refine y_iconst C 0 dX0_isDimension_1 lit0 ?_
  refine y_aload_n C 0 rfl rfl dX0_isDimension_2 ?_
  obtain ⟨r1, ⟨fs9, g1, g2⟩, h⟩ := h
  refine y_get (ci := 0) (k := 0) C in_X0 rfl (by decide) q185 (fun _ h => h) g1 g2 dX0_isDimension_3 ?_
  obtain ⟨d2, rfl, h⟩ := h
  obtain ⟨r3, ⟨fs9, g1, g2⟩, h⟩ := h
  refine y_getN (ci := 1) (k := 1) C in_X1 rfl (by decide) q160 (fun _ h => h) g1 g2 dX0_isDimension_6 ?_
  obtain ⟨d4, rfl, h⟩ := h
  obtain ⟨⟨vs9, g0⟩, h⟩ := h
  refine y_callVi0 C (metJ2_size hB h) (cwV 0 C.hts (lw_V q645 q494 q495 q90 q496) rfl rfl rfl kdJ2_size ⟨Nat.le_of_ble_eq_true rfl, Nat.le_of_ble_eq_true rfl⟩) g0 rfl rfl rfl (Nat.le_of_ble_eq_true rfl) dX0_isDimension_9 (fun r5 M1 hp => ?_)
  clear h
  obtain ⟨rfl, h⟩ := hp
  refine y_iconst C 1 dX0_isDimension_12 lit1 ?_
  refine y_isub C dX0_isDimension_13 ?_
  refine y_callSi0 C (metX0_in hB h) (va_cwS 3 C.hts (lw_S q209 q210 q86 q211) rfl rfl rfl kdX0_in.2 ⟨Nat.le_of_ble_eq_true rfl, Nat.le_of_ble_eq_true rfl⟩) rfl rfl (Nat.le_of_ble_eq_true rfl) dX0_isDimension_14 (fun r6 M1 hp => ?_)
  clear h
  obtain ⟨rfl, h⟩ := hp
  obtain ⟨z9, h⟩ := h
  exact y_iretz C hr rfl rfl z9 ⟨rfl, h⟩ dX0_isDimension_17
theorem kdX0_drop : yX0_drop.cls = RX0 ∧ yX0_drop.cls ≠ "java/lang/invoke/MethodHandle" ∧ yX0_drop.cls ≠ "java/lang/invoke/VarHandle" ∧ (parseMethodDescriptor yX0_drop.desc).map (fun d => d.parameters.length) = some 1 := by decide +kernel
def wpX0_drop (M : yM) (z : Nat → Nat) (mc : Nat) (ms : Nat) (o_ : Nat) (a1 : Int32) (post : Int32 → yM → Prop) : Prop := (∃ vs, M o_ = some (yo 0 vs)) ∧ wpX0_isDimension M o_ a1 (fun r1 => ((¬ r1 = 0 → ∃ kc2 ks3 : Nat, kc2 ≤ mc ∧ ks3 ≤ ms ∧ (∃ vs, M o_ = some (yo 0 vs)) ∧ wpX0_begin M z kc2 ks3 o_ (fun r5 M4 => ∃ d6 : Nat, r5 = some d6 ∧ ∃ r7 : Option Nat, yF M4 d6 1 1 (yr r7) ∧ ∃ d8 : Nat, r7 = some d8 ∧ (∃ vs, M4 d8 = some (yo 9 vs)) ∧ wpJ2_remove M4 d8 a1 (fun r10 M9 => ∃ r11 : Option Nat, yF M9 o_ 0 0 (yr r11) ∧ ∃ d12 : Nat, r11 = some d12 ∧ ∃ r13 : Option Nat, yF M9 d12 1 1 (yr r13) ∧ ∃ d14 : Nat, r13 = some d14 ∧ (∃ vs, M9 d14 = some (yo 9 vs)) ∧ wpJ2_size M9 d14 (fun r15 => post r15 M9)))) ∧ (r1 = 0 → post (-1) M)))
theorem metX0_drop {l : Launch} {D : va_G} {s0 : State} {a0 : Array Value} (hB : yB D s0 a0) {M : yM} {mc : Nat} {ms : Nat} {o_ : Nat} {a1 : Int32} {post : Int32 → yM → Prop} (h : wpX0_drop M (yz s0 a0) mc ms o_ a1 post) : yMi l yX0_drop (ws_ yX0_drop cX0_drop 2 (some .int)) 9 255 mc ms D s0 [yr (some o_), yi a1] M post := by
  refine y_meti hB (by decide) rfl (Nat.le_of_ble_eq_true rfl) ?_
  intro p e s m below meth c A hr hnm C
  rw [wpX0_drop] at h
  refine y_aload_n C 0 rfl rfl dX0_drop_0 ?_
  refine y_iload_n C 1 rfl rfl dX0_drop_1 ?_
  obtain ⟨⟨vs9, g0⟩, h⟩ := h
  refine y_callVi0 C (metX0_isDimension hB h) (cwV 1 C.hts (lw_V q763 q765 qs16 q86 q766) rfl rfl rfl kdX0_isDimension ⟨Nat.le_of_ble_eq_true rfl, Nat.le_of_ble_eq_true rfl⟩) g0 rfl rfl rfl (Nat.le_of_ble_eq_true rfl) dX0_drop_2 (fun r1 M1 hp => ?_)
  clear h
  obtain ⟨rfl, h⟩ := hp
  refine y_if_ne C 10 dX0_drop_5 (by decide) (fun c9 => ?_) (fun c9 => ?_)
  · replace h := h.1 c9
    refine y_aload_n C 0 rfl rfl dX0_drop_10 ?_
    obtain ⟨kc2, ks3, g1, g2, h⟩ := h
    obtain ⟨⟨vs9, g0⟩, h⟩ := h
    refine y_callVq C (metX0_begin hB h) (cwV 0 C.hts (lw_V q661 q663 qs11 q86 q664) rfl rfl rfl kdX0_begin ⟨Nat.le_of_ble_eq_true rfl, Nat.le_of_ble_eq_true rfl⟩) g0 rfl rfl rfl (Nat.le_of_ble_eq_true rfl) dX0_drop_11 g1 g2 (fun r5 M4 hp => ?_)
    replace h := hp
    obtain ⟨d6, rfl, h⟩ := h
    obtain ⟨r7, ⟨fs9, g1, g2⟩, h⟩ := h
    refine y_getN (ci := 1) (k := 1) C in_X1 rfl (by decide) q160 (fun _ h => h) g1 g2 dX0_drop_14 ?_
    refine y_iload_n C 1 rfl rfl dX0_drop_17 ?_
    obtain ⟨d8, rfl, h⟩ := h
    obtain ⟨⟨vs9, g0⟩, h⟩ := h
    refine y_callVq0 C (metJ2_remove hB h) (cwV 1 C.hts (lw_V q721 q722 q723 q90 q724) rfl rfl rfl kdJ2_remove ⟨Nat.le_of_ble_eq_true rfl, Nat.le_of_ble_eq_true rfl⟩) g0 rfl rfl rfl (Nat.le_of_ble_eq_true rfl) dX0_drop_18 (fun r10 M9 hp => ?_)
    replace h := hp
    refine y_pop C rfl dX0_drop_21 ?_
    refine y_aload_n C 0 rfl rfl dX0_drop_22 ?_
    obtain ⟨r11, ⟨fs9, g1, g2⟩, h⟩ := h
    refine y_get (ci := 0) (k := 0) C in_X0 rfl (by decide) q185 (fun _ h => h) g1 g2 dX0_drop_23 ?_
    obtain ⟨d12, rfl, h⟩ := h
    obtain ⟨r13, ⟨fs9, g1, g2⟩, h⟩ := h
    refine y_getN (ci := 1) (k := 1) C in_X1 rfl (by decide) q160 (fun _ h => h) g1 g2 dX0_drop_26 ?_
    obtain ⟨d14, rfl, h⟩ := h
    obtain ⟨⟨vs9, g0⟩, h⟩ := h
    refine y_callVi0 C (metJ2_size hB h) (cwV 0 C.hts (lw_V q645 q494 q495 q90 q496) rfl rfl rfl kdJ2_size ⟨Nat.le_of_ble_eq_true rfl, Nat.le_of_ble_eq_true rfl⟩) g0 rfl rfl rfl (Nat.le_of_ble_eq_true rfl) dX0_drop_29 (fun r15 M1 hp => ?_)
    clear h
    obtain ⟨rfl, h⟩ := hp
    exact y_ireti C hr rfl rfl h dX0_drop_32
  · replace h := h.2 c9
    refine y_iconst C (-1) dX0_drop_8 litm1 ?_
    exact y_ireti C hr rfl rfl h dX0_drop_9

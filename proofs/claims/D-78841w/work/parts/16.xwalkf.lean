set_option maxRecDepth 100000
theorem kdX0_lambda_chain_1 : yX0_lambda_chain_1.cls = RX0 ∧ yX0_lambda_chain_1.cls ≠ "java/lang/invoke/MethodHandle" ∧ yX0_lambda_chain_1.cls ≠ "java/lang/invoke/VarHandle" ∧ (parseMethodDescriptor yX0_lambda_chain_1.desc).map (fun d => d.parameters.length) = some 1 := by decide +kernel
def wpX0_lambda_chain_1 (M : yM) (a1 : Option Nat) (post : Int32 → Prop) : Prop := ∃ d1 : Nat, a1 = some d1 ∧ (∃ vs, M d1 = some (yo 6 vs)) ∧ wpX6_value M d1 (fun r2 => post r2)
theorem metX0_lambda_chain_1 {l : Launch} {D : va_G} {s0 : State} {a0 : Array Value} (hB : yB D s0 a0) {M : yM} {a1 : Option Nat} {post : Int32 → Prop} (h : wpX0_lambda_chain_1 M a1 post) : yMi l yX0_lambda_chain_1 (ws_ yX0_lambda_chain_1 cX0_lambda_chain_1 1 (some .int)) 2 100 0 0 D s0 [yr a1] M (fun r M1 => M1 = M ∧ post r) := by
  refine y_meti hB (by decide) rfl (Nat.le_of_ble_eq_true rfl) ?_
  intro p e s m below meth c A hr hnm C
  rw [wpX0_lambda_chain_1] at h
  refine y_aload_n C 0 rfl rfl dX0_lambda_chain_1_0 ?_
  obtain ⟨d1, rfl, h⟩ := h
  obtain ⟨⟨vs9, g0⟩, h⟩ := h
  refine y_callVi0 C (metX6_value hB h) (cwV 0 C.hts (lw_V q731 q732 q733 q107 q734) rfl rfl rfl kdX6_value ⟨Nat.le_of_ble_eq_true rfl, Nat.le_of_ble_eq_true rfl⟩) g0 rfl rfl rfl (Nat.le_of_ble_eq_true rfl) dX0_lambda_chain_1_1 (fun r2 M1 hp => ?_)
  clear h
  obtain ⟨rfl, h⟩ := hp
  exact y_ireti C hr rfl rfl ⟨rfl, h⟩ dX0_lambda_chain_1_4
theorem kdX0_lambda_chain_2 : yX0_lambda_chain_2.cls = RX0 ∧ yX0_lambda_chain_2.cls ≠ "java/lang/invoke/MethodHandle" ∧ yX0_lambda_chain_2.cls ≠ "java/lang/invoke/VarHandle" ∧ (parseMethodDescriptor yX0_lambda_chain_2.desc).map (fun d => d.parameters.length) = some 1 := by decide +kernel
def wpX0_lambda_chain_2 (M : yM) (a1 : Option Nat) (post : Int32 → Prop) : Prop := ∃ d1 : Nat, a1 = some d1 ∧ ∃ x2 : Int32, yF M d1 6 2 (yi x2) ∧ post x2
theorem metX0_lambda_chain_2 {l : Launch} {D : va_G} {s0 : State} {a0 : Array Value} (hB : yB D s0 a0) {M : yM} {a1 : Option Nat} {post : Int32 → Prop} (h : wpX0_lambda_chain_2 M a1 post) : yMi l yX0_lambda_chain_2 (ws_ yX0_lambda_chain_2 cX0_lambda_chain_2 1 (some .int)) 1 80 0 0 D s0 [yr a1] M (fun r M1 => M1 = M ∧ post r) := by
  refine y_meti hB (by decide) rfl (Nat.le_of_ble_eq_true rfl) ?_
  intro p e s m below meth c A hr hnm C
  rw [wpX0_lambda_chain_2] at h
  refine y_aload_n C 0 rfl rfl dX0_lambda_chain_2_0 ?_
  obtain ⟨d1, rfl, h⟩ := h
  obtain ⟨x2, ⟨fs9, g1, g2⟩, h⟩ := h
  refine y_getN (ci := 6) (k := 2) C in_X6 rfl (by decide) q599 (fun _ h => h) g1 g2 dX0_lambda_chain_2_1 ?_
  exact y_ireti C hr rfl rfl ⟨rfl, h⟩ dX0_lambda_chain_2_4
theorem kdX0_lambda_chain_3 : yX0_lambda_chain_3.cls = RX0 ∧ yX0_lambda_chain_3.cls ≠ "java/lang/invoke/MethodHandle" ∧ yX0_lambda_chain_3.cls ≠ "java/lang/invoke/VarHandle" ∧ (parseMethodDescriptor yX0_lambda_chain_3.desc).map (fun d => d.parameters.length) = some 1 := by decide +kernel
def wpX0_lambda_chain_3 (M : yM) (a1 : Option Nat) (post : Int32 → Prop) : Prop := ∃ d1 : Nat, a1 = some d1 ∧ ∃ x2 : Int32, yF M d1 6 3 (yi x2) ∧ post x2
theorem metX0_lambda_chain_3 {l : Launch} {D : va_G} {s0 : State} {a0 : Array Value} (hB : yB D s0 a0) {M : yM} {a1 : Option Nat} {post : Int32 → Prop} (h : wpX0_lambda_chain_3 M a1 post) : yMi l yX0_lambda_chain_3 (ws_ yX0_lambda_chain_3 cX0_lambda_chain_3 1 (some .int)) 1 80 0 0 D s0 [yr a1] M (fun r M1 => M1 = M ∧ post r) := by
  refine y_meti hB (by decide) rfl (Nat.le_of_ble_eq_true rfl) ?_
  intro p e s m below meth c A hr hnm C
  rw [wpX0_lambda_chain_3] at h
  refine y_aload_n C 0 rfl rfl dX0_lambda_chain_3_0 ?_
  obtain ⟨d1, rfl, h⟩ := h
  obtain ⟨x2, ⟨fs9, g1, g2⟩, h⟩ := h
  refine y_getN (ci := 6) (k := 3) C in_X6 rfl (by decide) q603 (fun _ h => h) g1 g2 dX0_lambda_chain_3_1 ?_
  exact y_ireti C hr rfl rfl ⟨rfl, h⟩ dX0_lambda_chain_3_4
theorem kdX0_undo : yX0_undo.cls = RX0 ∧ yX0_undo.cls ≠ "java/lang/invoke/MethodHandle" ∧ yX0_undo.cls ≠ "java/lang/invoke/VarHandle" ∧ (parseMethodDescriptor yX0_undo.desc).map (fun d => d.parameters.length) = some 0 := by decide +kernel
def wpX0_undo (M : yM) (o_ : Nat) (post : Int32 → yM → Prop) : Prop := ∃ x1 : Int32, yF M o_ 0 2 (yi x1) ∧ ((¬ x1 = 0 → ∃ x2 : Int32, yF M o_ 0 2 (yi x2) ∧ ∃ fs3 : List yV, M o_ = some (yo 0 fs3) ∧ 2 < fs3.length ∧ ∀ M4 : yM, M4 = yup M o_ (yo 0 (fs3.set 2 (yi (x2 - 1)))) → ∃ r5 : Option Nat, yF M4 o_ 0 1 (yr r5) ∧ ∃ x6 : Int32, yF M4 o_ 0 2 (yi x6) ∧ ∃ d7 : Nat, r5 = some d7 ∧ ∃ (E10 : String) (n8 : Nat) (f9 : Nat → Option Nat), M4 d7 = some (yaq E10 n8 f9) ∧ vp_in x6 n8 ∧ ∃ r11 : Option Nat, f9 (Int32.toNatClampNeg x6) = r11 ∧ ∃ fs12 : List yV, M4 o_ = some (yo 0 fs12) ∧ 0 < fs12.length ∧ ∀ M13 : yM, M13 = yup M4 o_ (yo 0 (fs12.set 0 (yr r11))) → ∃ r14 : Option Nat, yF M13 o_ 0 1 (yr r14) ∧ ∃ x15 : Int32, yF M13 o_ 0 2 (yi x15) ∧ ∃ d16 : Nat, r14 = some d16 ∧ ∃ (E19 : String) (n17 : Nat) (f18 : Nat → Option Nat), M13 d16 = some (yaq E19 n17 f18) ∧ vp_in x15 n17 ∧ (∀ v, none = some v → ∃ ci vs, M13 v = some (yo ci vs) ∧ yAsg E19 ci) ∧ ∀ M20 : yM, M20 = yup M13 d16 (yaq E19 n17 (va_up f18 (Int32.toNatClampNeg x15) none)) → ∃ x21 : Int32, yF M20 o_ 0 2 (yi x21) ∧ post x21 M20) ∧ (x1 = 0 → post (-2) M))
theorem metX0_undo {l : Launch} {D : va_G} {s0 : State} {a0 : Array Value} (hB : yB D s0 a0) {M : yM} {o_ : Nat} {post : Int32 → yM → Prop} (h : wpX0_undo M o_ post) : yMi l yX0_undo (ws_ yX0_undo cX0_undo 1 (some .int)) 1 80 0 0 D s0 [yr (some o_)] M post := by
  refine y_meti hB (by decide) rfl (Nat.le_of_ble_eq_true rfl) ?_
  intro p e s m below meth c A hr hnm C
  rw [wpX0_undo] at h
  refine y_aload_n C 0 rfl rfl dX0_undo_0 ?_
  obtain ⟨x1, ⟨fs9, g1, g2⟩, h⟩ := h
  refine y_get (ci := 0) (k := 2) C in_X0 rfl (by decide) q187 (fun _ h => h) g1 g2 dX0_undo_1 ?_
  refine y_if_ne C 10 dX0_undo_4 (by decide) (fun c9 => ?_) (fun c9 => ?_)
  · replace h := h.1 c9
    refine y_aload_n C 0 rfl rfl dX0_undo_10 ?_
    refine y_dup C rfl dX0_undo_11 ?_
    obtain ⟨x2, ⟨fs9, g1, g2⟩, h⟩ := h
    refine y_get (ci := 0) (k := 2) C in_X0 rfl (by decide) q187 (fun _ h => h) g1 g2 dX0_undo_12 ?_
    refine y_iconst C 1 dX0_undo_15 lit1 ?_
    refine y_isub C dX0_undo_16 ?_
    obtain ⟨fs3, g1, g2, h⟩ := h
    replace h := h _ rfl
    refine y_put (ci := 0) (k := 2) C in_X0 tyX0_ok nmX0 rfl (by decide) q187 (fun _ h => h) rfl g1 g2 rfl rfl rfl dX0_undo_17 ?_
    refine y_aload_n C 0 rfl rfl dX0_undo_20 ?_
    refine y_aload_n C 0 rfl rfl dX0_undo_21 ?_
    obtain ⟨r5, ⟨fs9, g1, g2⟩, h⟩ := h
    refine y_get (ci := 0) (k := 1) C in_X0 rfl (by decide) q186 (fun _ h => h) g1 g2 dX0_undo_22 ?_
    refine y_aload_n C 0 rfl rfl dX0_undo_25 ?_
    obtain ⟨x6, ⟨fs9, g1, g2⟩, h⟩ := h
    refine y_get (ci := 0) (k := 2) C in_X0 rfl (by decide) q187 (fun _ h => h) g1 g2 dX0_undo_26 ?_
    obtain ⟨d7, rfl, h⟩ := h
    obtain ⟨E10, n8, f9, g1, g2, r11, g3, h⟩ := h
    refine y_aald2 C g1 g2 g3 dX0_undo_29 ?_
    obtain ⟨fs12, g1, g2, h⟩ := h
    replace h := h _ rfl
    refine y_put (ci := 0) (k := 0) C in_X0 tyX0_ok nmX0 rfl (by decide) q185 (fun _ h => h) rfl g1 g2 (y_nmr _ r11) (y_ftr _ r11) rfl dX0_undo_30 ?_
    refine y_aload_n C 0 rfl rfl dX0_undo_33 ?_
    obtain ⟨r14, ⟨fs9, g1, g2⟩, h⟩ := h
    refine y_get (ci := 0) (k := 1) C in_X0 rfl (by decide) q186 (fun _ h => h) g1 g2 dX0_undo_34 ?_
    refine y_aload_n C 0 rfl rfl dX0_undo_37 ?_
    obtain ⟨x15, ⟨fs9, g1, g2⟩, h⟩ := h
    refine y_get (ci := 0) (k := 2) C in_X0 rfl (by decide) q187 (fun _ h => h) g1 g2 dX0_undo_38 ?_
    refine y_null C dX0_undo_41 ?_
    obtain ⟨d16, rfl, h⟩ := h
    obtain ⟨E19, n17, f18, g1, g2, g3, h⟩ := h
    replace h := h _ rfl
    refine y_aast C g1 g2 g3 rfl dX0_undo_42 ?_
    refine y_aload_n C 0 rfl rfl dX0_undo_43 ?_
    obtain ⟨x21, ⟨fs9, g1, g2⟩, h⟩ := h
    refine y_get (ci := 0) (k := 2) C in_X0 rfl (by decide) q187 (fun _ h => h) g1 g2 dX0_undo_44 ?_
    exact y_ireti C hr rfl rfl h dX0_undo_47
  · replace h := h.2 c9
    refine y_bipush C (-2) dX0_undo_7 y_bm2 ?_
    exact y_ireti C hr rfl rfl h dX0_undo_9
theorem kdX1_groups : yX1_groups.cls = RX1 ∧ yX1_groups.cls ≠ "java/lang/invoke/MethodHandle" ∧ yX1_groups.cls ≠ "java/lang/invoke/VarHandle" ∧ (parseMethodDescriptor yX1_groups.desc).map (fun d => d.parameters.length) = some 0 := by decide +kernel
section sX1_groups
variable {p : Program} {l : Launch} {e : Env} {s : State} {m : MethodId} {args : Array Value} {below : List Frame} {meth : Method} {c : Code} {D : va_G} {s0 : State} {a0 : Array Value} {A : Nat → Prop} {mc ms : Nat}
def wpX1_groups_b29 (o_ : Nat) (post : Int32 → yM → Prop) (k4 : yM → Nat → Nat → Int32 → Int32 → Prop) (M : yM) (rc : Nat) (rs : Nat) (v2 : Int32) (u0 : Int32) (u1 : Int32) : Prop := ∀ x8 : Int32, x8 = (u0 + u1) → ∀ x9 : Int32, x9 = v2 + 1 → k4 M rc rs x8 x9
theorem okX1_groups_b29 (C : yC p { frames := 7, cells := mc, slots := ms, locals := 217 } s m args meth c cX1_groups 3 RX1 D s0 a0 A) (hB : yB D s0 a0) (hr : meth.sig.returnType = (some .int)) {o_ : Nat} {post : Int32 → yM → Prop} {k4 : yM → Nat → Nat → Int32 → Int32 → Prop} (hk4 : ∀ (M : yM) (rc : Nat) (rs : Nat) (v1 : Int32) (v2 : Int32), k4 M rc rs v1 v2 → Y p l e { frames := 7, cells := mc, slots := ms, locals := 217 } s m args below meth c (MQ below (yQi D s0 A post) args s mc ms A) D s0 A 3 M rc rs [some (yr (some o_)), some (yi v1), some (yi v2)] 4 []) : ∀ (M : yM) (rc : Nat) (rs : Nat) (v2 : Int32) (u0 : Int32) (u1 : Int32), wpX1_groups_b29 o_ post k4 M rc rs v2 u0 u1 → Y p l e { frames := 7, cells := mc, slots := ms, locals := 217 } s m args below meth c (MQ below (yQi D s0 A post) args s mc ms A) D s0 A 3 M rc rs [some (yr (some o_)), none, some (yi v2)] 29 [yi u1, yi u0] := by
  intro M rc rs v2 u0 u1 h
  rw [wpX1_groups_b29] at h
  refine y_iadd C dX1_groups_29 ?_
  replace h := h _ rfl
  refine y_istore_n C 1 rfl (by decide) dX1_groups_30 ?_
  replace h := h _ rfl
  refine y_iinc C 2 _ rfl (y_inc1 _) (by decide) dX1_groups_31 ?_
  refine y_goto C 4 dX1_groups_34 (by decide) ?_
  refine y_to C _ ?_ (hk4 _ _ _ _ _ h)
  exact (And.intro rfl (And.intro rfl (And.intro rfl trivial)))
def wpX1_groups_b4 (o_ : Nat) (post : Int32 → yM → Prop) : Nat → yM → Nat → Nat → Int32 → Int32 → Prop
  | 0, _, _, _, _, _ => False
  | nn + 1, M, rc, rs, v1, v2 => ∃ r1 : Option Nat, yF M o_ 1 0 (yr r1) ∧ ∃ d2 : Nat, r1 = some d2 ∧ (∃ vs, M d2 = some (yo 9 vs)) ∧ wpJ2_size M d2 (fun r3 => ((r3 ≤ v2 → post v1 M) ∧ (¬ r3 ≤ v2 → ∃ kc4 ks5 : Nat, kc4 ≤ rc ∧ ks5 ≤ rs ∧ (∃ vs, M o_ = some (yo 1 vs)) ∧ wpX1_isFirst M kc4 ks5 o_ v2 (fun r7 M6 => ((r7 = 0 → wpX1_groups_b29 o_ post (fun M rc rs v1 v2 => wpX1_groups_b4 o_ post nn M rc rs v1 v2) M6 (rc - kc4) (rs - ks5) v2 v1 0) ∧ (¬ r7 = 0 → wpX1_groups_b29 o_ post (fun M rc rs v1 v2 => wpX1_groups_b4 o_ post nn M rc rs v1 v2) M6 (rc - kc4) (rs - ks5) v2 v1 1))))))
theorem okX1_groups_b4 (C : yC p { frames := 7, cells := mc, slots := ms, locals := 217 } s m args meth c cX1_groups 3 RX1 D s0 a0 A) (hB : yB D s0 a0) (hr : meth.sig.returnType = (some .int)) {o_ : Nat} {post : Int32 → yM → Prop}  : ∀ (nn : Nat) (M : yM) (rc : Nat) (rs : Nat) (v1 : Int32) (v2 : Int32), wpX1_groups_b4 o_ post nn M rc rs v1 v2 → Y p l e { frames := 7, cells := mc, slots := ms, locals := 217 } s m args below meth c (MQ below (yQi D s0 A post) args s mc ms A) D s0 A 3 M rc rs [some (yr (some o_)), some (yi v1), some (yi v2)] 4 [] := by
  intro nn
  induction nn with
  | zero => intro M rc rs v1 v2 h; exact absurd h (by rw [wpX1_groups_b4]; exact id)
  | succ nn ih =>
    intro M rc rs v1 v2 h
    rw [wpX1_groups_b4] at h
    refine y_iload_n C 2 rfl rfl dX1_groups_4 ?_
    refine y_aload_n C 0 rfl rfl dX1_groups_5 ?_
    obtain ⟨r1, ⟨fs9, g1, g2⟩, h⟩ := h
    refine y_get (ci := 1) (k := 0) C in_X1 rfl (by decide) q155 (fun _ h => h) g1 g2 dX1_groups_6 ?_
    obtain ⟨d2, rfl, h⟩ := h
    obtain ⟨⟨vs9, g0⟩, h⟩ := h
    refine y_callVi0 C (metJ2_size hB h) (cwV 0 C.hts (lw_V q658 q494 q495 q90 q496) rfl rfl rfl kdJ2_size ⟨Nat.le_of_ble_eq_true rfl, Nat.le_of_ble_eq_true rfl⟩) g0 rfl rfl rfl (Nat.le_of_ble_eq_true rfl) dX1_groups_9 (fun r3 M1 hp => ?_)
    clear h
    obtain ⟨rfl, h⟩ := hp
    refine y_icmp_ge C 37 dX1_groups_12 (by decide) (fun c9 => ?_) (fun c9 => ?_)
    · replace h := h.1 c9
      refine y_iload_n C 1 rfl rfl dX1_groups_37 ?_
      exact y_ireti C hr rfl rfl h dX1_groups_38
    · replace h := h.2 c9
      refine y_iload_n C 1 rfl rfl dX1_groups_15 ?_
      refine y_aload_n C 0 rfl rfl dX1_groups_16 ?_
      refine y_iload_n C 2 rfl rfl dX1_groups_17 ?_
      obtain ⟨kc4, ks5, g1, g2, h⟩ := h
      obtain ⟨⟨vs9, g0⟩, h⟩ := h
      refine y_callVi C (metX1_isFirst hB h) (cwV 1 C.hts (lw_V q998 q1000 qs21 q87 q1001) rfl rfl rfl kdX1_isFirst ⟨Nat.le_of_ble_eq_true rfl, Nat.le_of_ble_eq_true rfl⟩) g0 rfl rfl rfl (Nat.le_of_ble_eq_true rfl) dX1_groups_18 g1 g2 (fun r7 M6 hp => ?_)
      replace h := hp
      refine y_if_eq C 28 dX1_groups_21 (by decide) (fun c9 => ?_) (fun c9 => ?_)
      · replace h := h.1 c9
        refine y_iconst C 0 dX1_groups_28 lit0 ?_
        refine y_to C _ ?_ (okX1_groups_b29 C hB hr ih _ _ _ _ _ _ h)
        exact (And.intro rfl (And.intro rfl trivial))
      · replace h := h.2 c9
        refine y_iconst C 1 dX1_groups_24 lit1 ?_
        refine y_goto C 29 dX1_groups_25 (by decide) ?_
        refine y_to C _ ?_ (okX1_groups_b29 C hB hr ih _ _ _ _ _ _ h)
        exact (And.intro rfl (And.intro rfl trivial))
end sX1_groups
def wpX1_groups (M : yM) (mc : Nat) (ms : Nat) (o_ : Nat) (post : Int32 → yM → Prop) : Prop := ∃ nf9 : Nat, wpX1_groups_b4 o_ post nf9 M mc ms 0 0
theorem metX1_groups {l : Launch} {D : va_G} {s0 : State} {a0 : Array Value} (hB : yB D s0 a0) {M : yM} {mc : Nat} {ms : Nat} {o_ : Nat} {post : Int32 → yM → Prop} (h : wpX1_groups M mc ms o_ post) : yMi l yX1_groups (ws_ yX1_groups cX1_groups 3 (some .int)) 7 217 mc ms D s0 [yr (some o_)] M post := by
  refine y_meti hB (by decide) rfl (Nat.le_of_ble_eq_true rfl) ?_
  intro p e s m below meth c A hr hnm C
  rw [wpX1_groups] at h
  refine y_iconst C 0 dX1_groups_0 lit0 ?_
  refine y_istore_n C 1 rfl (by decide) dX1_groups_1 ?_
  refine y_iconst C 0 dX1_groups_2 lit0 ?_
  refine y_istore_n C 2 rfl (by decide) dX1_groups_3 ?_
  obtain ⟨nf9, h⟩ := h
  refine y_to C _ ?_ (okX1_groups_b4 C hB hr  nf9 _ _ _ _ _ h)
  exact (And.intro rfl (And.intro rfl (And.intro rfl trivial)))
theorem kdX1_superfluous : yX1_superfluous.cls = RX1 ∧ yX1_superfluous.cls ≠ "java/lang/invoke/MethodHandle" ∧ yX1_superfluous.cls ≠ "java/lang/invoke/VarHandle" ∧ (parseMethodDescriptor yX1_superfluous.desc).map (fun d => d.parameters.length) = some 0 := by decide +kernel
section sX1_superfluous
variable {p : Program} {l : Launch} {e : Env} {s : State} {m : MethodId} {args : Array Value} {below : List Frame} {meth : Method} {c : Code} {D : va_G} {s0 : State} {a0 : Array Value} {A : Nat → Prop} {mc ms : Nat}
def wpX1_superfluous_b29 (o_ : Nat) (post : Int32 → yM → Prop) (k4 : yM → Nat → Nat → Int32 → Int32 → Prop) (M : yM) (rc : Nat) (rs : Nat) (v2 : Int32) (u0 : Int32) (u1 : Int32) : Prop := ∀ x8 : Int32, x8 = (u0 + u1) → ∀ x9 : Int32, x9 = v2 + 1 → k4 M rc rs x8 x9
theorem okX1_superfluous_b29 (C : yC p { frames := 6, cells := mc, slots := ms, locals := 199 } s m args meth c cX1_superfluous 3 RX1 D s0 a0 A) (hB : yB D s0 a0) (hr : meth.sig.returnType = (some .int)) {o_ : Nat} {post : Int32 → yM → Prop} {k4 : yM → Nat → Nat → Int32 → Int32 → Prop} (hk4 : ∀ (M : yM) (rc : Nat) (rs : Nat) (v1 : Int32) (v2 : Int32), k4 M rc rs v1 v2 → Y p l e { frames := 6, cells := mc, slots := ms, locals := 199 } s m args below meth c (MQ below (yQi D s0 A post) args s mc ms A) D s0 A 3 M rc rs [some (yr (some o_)), some (yi v1), some (yi v2)] 4 []) : ∀ (M : yM) (rc : Nat) (rs : Nat) (v2 : Int32) (u0 : Int32) (u1 : Int32), wpX1_superfluous_b29 o_ post k4 M rc rs v2 u0 u1 → Y p l e { frames := 6, cells := mc, slots := ms, locals := 199 } s m args below meth c (MQ below (yQi D s0 A post) args s mc ms A) D s0 A 3 M rc rs [some (yr (some o_)), none, some (yi v2)] 29 [yi u1, yi u0] := by
  intro M rc rs v2 u0 u1 h
  rw [wpX1_superfluous_b29] at h
  refine y_iadd C dX1_superfluous_29 ?_
  replace h := h _ rfl
  refine y_istore_n C 1 rfl (by decide) dX1_superfluous_30 ?_
  replace h := h _ rfl
  refine y_iinc C 2 _ rfl (y_inc1 _) (by decide) dX1_superfluous_31 ?_
  refine y_goto C 4 dX1_superfluous_34 (by decide) ?_
  refine y_to C _ ?_ (hk4 _ _ _ _ _ h)
  exact (And.intro rfl (And.intro rfl (And.intro rfl trivial)))
def wpX1_superfluous_b4 (o_ : Nat) (post : Int32 → yM → Prop) : Nat → yM → Nat → Nat → Int32 → Int32 → Prop
  | 0, _, _, _, _, _ => False
  | nn + 1, M, rc, rs, v1, v2 => ∃ r1 : Option Nat, yF M o_ 1 1 (yr r1) ∧ ∃ d2 : Nat, r1 = some d2 ∧ (∃ vs, M d2 = some (yo 9 vs)) ∧ wpJ2_size M d2 (fun r3 => ((r3 ≤ v2 → post v1 M) ∧ (¬ r3 ≤ v2 → ∃ kc4 ks5 : Nat, kc4 ≤ rc ∧ ks5 ≤ rs ∧ (∃ vs, M o_ = some (yo 1 vs)) ∧ wpX1_isSuperfluous M kc4 ks5 o_ v2 (fun r7 M6 => ((r7 = 0 → wpX1_superfluous_b29 o_ post (fun M rc rs v1 v2 => wpX1_superfluous_b4 o_ post nn M rc rs v1 v2) M6 (rc - kc4) (rs - ks5) v2 v1 0) ∧ (¬ r7 = 0 → wpX1_superfluous_b29 o_ post (fun M rc rs v1 v2 => wpX1_superfluous_b4 o_ post nn M rc rs v1 v2) M6 (rc - kc4) (rs - ks5) v2 v1 1))))))
theorem okX1_superfluous_b4 (C : yC p { frames := 6, cells := mc, slots := ms, locals := 199 } s m args meth c cX1_superfluous 3 RX1 D s0 a0 A) (hB : yB D s0 a0) (hr : meth.sig.returnType = (some .int)) {o_ : Nat} {post : Int32 → yM → Prop}  : ∀ (nn : Nat) (M : yM) (rc : Nat) (rs : Nat) (v1 : Int32) (v2 : Int32), wpX1_superfluous_b4 o_ post nn M rc rs v1 v2 → Y p l e { frames := 6, cells := mc, slots := ms, locals := 199 } s m args below meth c (MQ below (yQi D s0 A post) args s mc ms A) D s0 A 3 M rc rs [some (yr (some o_)), some (yi v1), some (yi v2)] 4 [] := by
  intro nn
  induction nn with
  | zero => intro M rc rs v1 v2 h; exact absurd h (by rw [wpX1_superfluous_b4]; exact id)
  | succ nn ih =>
    intro M rc rs v1 v2 h
    rw [wpX1_superfluous_b4] at h
    refine y_iload_n C 2 rfl rfl dX1_superfluous_4 ?_
    refine y_aload_n C 0 rfl rfl dX1_superfluous_5 ?_
    obtain ⟨r1, ⟨fs9, g1, g2⟩, h⟩ := h
    refine y_get (ci := 1) (k := 1) C in_X1 rfl (by decide) q158 (fun _ h => h) g1 g2 dX1_superfluous_6 ?_
    obtain ⟨d2, rfl, h⟩ := h
    obtain ⟨⟨vs9, g0⟩, h⟩ := h
    refine y_callVi0 C (metJ2_size hB h) (cwV 0 C.hts (lw_V q658 q494 q495 q90 q496) rfl rfl rfl kdJ2_size ⟨Nat.le_of_ble_eq_true rfl, Nat.le_of_ble_eq_true rfl⟩) g0 rfl rfl rfl (Nat.le_of_ble_eq_true rfl) dX1_superfluous_9 (fun r3 M1 hp => ?_)
    clear h
    obtain ⟨rfl, h⟩ := hp
    refine y_icmp_ge C 37 dX1_superfluous_12 (by decide) (fun c9 => ?_) (fun c9 => ?_)
    · replace h := h.1 c9
      refine y_iload_n C 1 rfl rfl dX1_superfluous_37 ?_
      exact y_ireti C hr rfl rfl h dX1_superfluous_38
    · replace h := h.2 c9
      refine y_iload_n C 1 rfl rfl dX1_superfluous_15 ?_
      refine y_aload_n C 0 rfl rfl dX1_superfluous_16 ?_
      refine y_iload_n C 2 rfl rfl dX1_superfluous_17 ?_
      obtain ⟨kc4, ks5, g1, g2, h⟩ := h
      obtain ⟨⟨vs9, g0⟩, h⟩ := h
      refine y_callVi C (metX1_isSuperfluous hB h) (cwV 1 C.hts (lw_V q1142 q1009 q1010 q87 q1011) rfl rfl rfl kdX1_isSuperfluous ⟨Nat.le_of_ble_eq_true rfl, Nat.le_of_ble_eq_true rfl⟩) g0 rfl rfl rfl (Nat.le_of_ble_eq_true rfl) dX1_superfluous_18 g1 g2 (fun r7 M6 hp => ?_)
      replace h := hp
      refine y_if_eq C 28 dX1_superfluous_21 (by decide) (fun c9 => ?_) (fun c9 => ?_)
      · replace h := h.1 c9
        refine y_iconst C 0 dX1_superfluous_28 lit0 ?_
        refine y_to C _ ?_ (okX1_superfluous_b29 C hB hr ih _ _ _ _ _ _ h)
        exact (And.intro rfl (And.intro rfl trivial))
      · replace h := h.2 c9
        refine y_iconst C 1 dX1_superfluous_24 lit1 ?_
        refine y_goto C 29 dX1_superfluous_25 (by decide) ?_
        refine y_to C _ ?_ (okX1_superfluous_b29 C hB hr ih _ _ _ _ _ _ h)
        exact (And.intro rfl (And.intro rfl trivial))
end sX1_superfluous
def wpX1_superfluous (M : yM) (mc : Nat) (ms : Nat) (o_ : Nat) (post : Int32 → yM → Prop) : Prop := ∃ nf9 : Nat, wpX1_superfluous_b4 o_ post nf9 M mc ms 0 0
theorem metX1_superfluous {l : Launch} {D : va_G} {s0 : State} {a0 : Array Value} (hB : yB D s0 a0) {M : yM} {mc : Nat} {ms : Nat} {o_ : Nat} {post : Int32 → yM → Prop} (h : wpX1_superfluous M mc ms o_ post) : yMi l yX1_superfluous (ws_ yX1_superfluous cX1_superfluous 3 (some .int)) 6 199 mc ms D s0 [yr (some o_)] M post := by
  refine y_meti hB (by decide) rfl (Nat.le_of_ble_eq_true rfl) ?_
  intro p e s m below meth c A hr hnm C
  rw [wpX1_superfluous] at h
  refine y_iconst C 0 dX1_superfluous_0 lit0 ?_
  refine y_istore_n C 1 rfl (by decide) dX1_superfluous_1 ?_
  refine y_iconst C 0 dX1_superfluous_2 lit0 ?_
  refine y_istore_n C 2 rfl (by decide) dX1_superfluous_3 ?_
  obtain ⟨nf9, h⟩ := h
  refine y_to C _ ?_ (okX1_superfluous_b4 C hB hr  nf9 _ _ _ _ _ h)
  exact (And.intro rfl (And.intro rfl (And.intro rfl trivial)))
theorem kdX0_mixed : yX0_mixed.cls = RX0 ∧ yX0_mixed.cls ≠ "java/lang/invoke/MethodHandle" ∧ yX0_mixed.cls ≠ "java/lang/invoke/VarHandle" ∧ (parseMethodDescriptor yX0_mixed.desc).map (fun d => d.parameters.length) = some 2 := by decide +kernel
def wpX0_mixed (M : yM) (a1 : Int64) (a2 : Int64) (post : Int64 → Prop) : Prop := post ((31 * a1) + a2)
theorem metX0_mixed {l : Launch} {D : va_G} {s0 : State} {a0 : Array Value} (hB : yB D s0 a0) {M : yM} {a1 : Int64} {a2 : Int64} {post : Int64 → Prop} (h : wpX0_mixed M a1 a2 post) : yMl l yX0_mixed (ws_ yX0_mixed cX0_mixed 4 (some .long)) 1 80 0 0 D s0 [yl a1, yl a2] M (fun r M1 => M1 = M ∧ post r) := by
  refine y_metl hB (by decide) rfl (Nat.le_of_ble_eq_true rfl) ?_
  intro p e s m below meth c A hr hnm C
  rw [wpX0_mixed] at h
  refine y_ldc2 C 31 q1152 dX0_mixed_0 ?_
  refine y_lload_n C 0 rfl rfl dX0_mixed_3 ?_
  refine y_lmul C dX0_mixed_4 ?_
  refine y_lload_n C 2 rfl rfl dX0_mixed_5 ?_
  refine y_ladd C dX0_mixed_6 ?_
  exact y_lretl C hr rfl rfl ⟨rfl, h⟩ dX0_mixed_7
theorem kdX0_mixedPoint : yX0_mixedPoint.cls = RX0 ∧ yX0_mixedPoint.cls ≠ "java/lang/invoke/MethodHandle" ∧ yX0_mixedPoint.cls ≠ "java/lang/invoke/VarHandle" ∧ (parseMethodDescriptor yX0_mixedPoint.desc).map (fun d => d.parameters.length) = some 2 := by decide +kernel
section sX0_mixedPoint
variable {p : Program} {l : Launch} {e : Env} {s : State} {m : MethodId} {args : Array Value} {below : List Frame} {meth : Method} {c : Code} {D : va_G} {s0 : State} {a0 : Array Value} {A : Nat → Prop} {mc ms : Nat}
def wpX0_mixedPoint_b8 (o_ : Nat) (post : Int64 → yM → Prop) : Nat → yM → Nat → Nat → Int32 → Int64 → Int32 → Prop
  | 0, _, _, _, _, _, _ => False
  | nn + 1, M, rc, rs, v3, v4, v6 => ∃ r2 : Option Nat, yF M o_ 0 0 (yr r2) ∧ ∃ d3 : Nat, r2 = some d3 ∧ ∃ r4 : Option Nat, yF M d3 1 0 (yr r4) ∧ ∃ d5 : Nat, r4 = some d5 ∧ (∃ vs, M d5 = some (yo 9 vs)) ∧ wpJ2_size M d5 (fun r6 => ((r6 ≤ v6 → post v4 M) ∧ (¬ r6 ≤ v6 → ∃ kc7 ks8 : Nat, kc7 ≤ rc ∧ ks8 ≤ rs ∧ (∃ vs, M o_ = some (yo 0 vs)) ∧ wpX0_distance M kc7 ks8 o_ v3 v6 0 (fun r10 M9 => wpX0_mixed M9 v4 (Int32.toInt64 r10) (fun r11 => ∃ kc12 ks13 : Nat, kc12 ≤ (rc - kc7) ∧ ks13 ≤ (rs - ks8) ∧ (∃ vs, M9 o_ = some (yo 0 vs)) ∧ wpX0_distance M9 kc12 ks13 o_ v3 v6 1 (fun r15 M14 => wpX0_mixed M14 r11 (Int32.toInt64 r15) (fun r16 => ∃ kc17 ks18 : Nat, kc17 ≤ ((rc - kc7) - kc12) ∧ ks18 ≤ ((rs - ks8) - ks13) ∧ (∃ vs, M14 o_ = some (yo 0 vs)) ∧ wpX0_critical M14 kc17 ks18 o_ v3 v6 (fun r20 M19 => wpX0_mixed M19 r16 (Int32.toInt64 r20) (fun r21 => ∀ x22 : Int32, x22 = v6 + 1 → wpX0_mixedPoint_b8 o_ post nn M19 (((rc - kc7) - kc12) - kc17) (((rs - ks8) - ks13) - ks18) v3 r21 x22)))))))))
theorem okX0_mixedPoint_b8 (C : yC p { frames := 8, cells := mc, slots := ms, locals := 243 } s m args meth c cX0_mixedPoint 7 RX0 D s0 a0 A) (hB : yB D s0 a0) (hr : meth.sig.returnType = (some .long)) {o_ : Nat} {post : Int64 → yM → Prop}  : ∀ (nn : Nat) (M : yM) (rc : Nat) (rs : Nat) (v3 : Int32) (v4 : Int64) (v6 : Int32), wpX0_mixedPoint_b8 o_ post nn M rc rs v3 v4 v6 → Y p l e { frames := 8, cells := mc, slots := ms, locals := 243 } s m args below meth c (MQ below (yQl D s0 A post) args s mc ms A) D s0 A 7 M rc rs [some (yr (some o_)), none, none, some (yi v3), some (yl v4), none, some (yi v6)] 8 [] := by
  intro nn
  induction nn with
  | zero => intro M rc rs v3 v4 v6 h; exact absurd h (by rw [wpX0_mixedPoint_b8]; exact id)
  | succ nn ih =>
    intro M rc rs v3 v4 v6 h
    rw [wpX0_mixedPoint_b8] at h
    refine y_iload C 6 rfl dX0_mixedPoint_8 ?_
    refine y_aload_n C 0 rfl rfl dX0_mixedPoint_10 ?_
    obtain ⟨r2, ⟨fs9, g1, g2⟩, h⟩ := h
    refine y_get (ci := 0) (k := 0) C in_X0 rfl (by decide) q185 (fun _ h => h) g1 g2 dX0_mixedPoint_11 ?_
    obtain ⟨d3, rfl, h⟩ := h
    obtain ⟨r4, ⟨fs9, g1, g2⟩, h⟩ := h
    refine y_getN (ci := 1) (k := 0) C in_X1 rfl (by decide) q156 (fun _ h => h) g1 g2 dX0_mixedPoint_14 ?_
    obtain ⟨d5, rfl, h⟩ := h
    obtain ⟨⟨vs9, g0⟩, h⟩ := h
    refine y_callVi0 C (metJ2_size hB h) (cwV 0 C.hts (lw_V q645 q494 q495 q90 q496) rfl rfl rfl kdJ2_size ⟨Nat.le_of_ble_eq_true rfl, Nat.le_of_ble_eq_true rfl⟩) g0 rfl rfl rfl (Nat.le_of_ble_eq_true rfl) dX0_mixedPoint_17 (fun r6 M1 hp => ?_)
    clear h
    obtain ⟨rfl, h⟩ := hp
    refine y_icmp_ge C 68 dX0_mixedPoint_20 (by decide) (fun c9 => ?_) (fun c9 => ?_)
    · replace h := h.1 c9
      refine y_lload C 4 rfl dX0_mixedPoint_68 ?_
      exact y_lretl C hr rfl rfl h dX0_mixedPoint_70
    · replace h := h.2 c9
      refine y_lload C 4 rfl dX0_mixedPoint_23 ?_
      refine y_aload_n C 0 rfl rfl dX0_mixedPoint_25 ?_
      refine y_iload_n C 3 rfl rfl dX0_mixedPoint_26 ?_
      refine y_iload C 6 rfl dX0_mixedPoint_27 ?_
      refine y_iconst C 0 dX0_mixedPoint_29 lit0 ?_
      obtain ⟨kc7, ks8, g1, g2, h⟩ := h
      obtain ⟨⟨vs9, g0⟩, h⟩ := h
      refine y_callVi C (metX0_distance hB h) (cwV 3 C.hts (lw_V q1159 q1034 q1035 q86 q1036) rfl rfl rfl kdX0_distance ⟨Nat.le_of_ble_eq_true rfl, Nat.le_of_ble_eq_true rfl⟩) g0 rfl rfl rfl (Nat.le_of_ble_eq_true rfl) dX0_mixedPoint_30 g1 g2 (fun r10 M9 hp => ?_)
      replace h := hp
      refine y_i2l C dX0_mixedPoint_33 ?_
      refine y_callSl0 C (metX0_mixed hB h) (va_cwS 2 C.hts (lw_S q1149 q1150 q86 q1151) rfl rfl rfl kdX0_mixed.2 ⟨Nat.le_of_ble_eq_true rfl, Nat.le_of_ble_eq_true rfl⟩) rfl rfl (Nat.le_of_ble_eq_true rfl) dX0_mixedPoint_34 (fun r11 M1 hp => ?_)
      clear h
      obtain ⟨rfl, h⟩ := hp
      refine y_aload_n C 0 rfl rfl dX0_mixedPoint_37 ?_
      refine y_iload_n C 3 rfl rfl dX0_mixedPoint_38 ?_
      refine y_iload C 6 rfl dX0_mixedPoint_39 ?_
      refine y_iconst C 1 dX0_mixedPoint_41 lit1 ?_
      obtain ⟨kc12, ks13, g1, g2, h⟩ := h
      obtain ⟨⟨vs9, g0⟩, h⟩ := h
      refine y_callVi C (metX0_distance hB h) (cwV 3 C.hts (lw_V q1159 q1034 q1035 q86 q1036) rfl rfl rfl kdX0_distance ⟨Nat.le_of_ble_eq_true rfl, Nat.le_of_ble_eq_true rfl⟩) g0 rfl rfl rfl (Nat.le_of_ble_eq_true rfl) dX0_mixedPoint_42 g1 g2 (fun r15 M14 hp => ?_)
      replace h := hp
      refine y_i2l C dX0_mixedPoint_45 ?_
      refine y_callSl0 C (metX0_mixed hB h) (va_cwS 2 C.hts (lw_S q1149 q1150 q86 q1151) rfl rfl rfl kdX0_mixed.2 ⟨Nat.le_of_ble_eq_true rfl, Nat.le_of_ble_eq_true rfl⟩) rfl rfl (Nat.le_of_ble_eq_true rfl) dX0_mixedPoint_46 (fun r16 M1 hp => ?_)
      clear h
      obtain ⟨rfl, h⟩ := hp
      refine y_aload_n C 0 rfl rfl dX0_mixedPoint_49 ?_
      refine y_iload_n C 3 rfl rfl dX0_mixedPoint_50 ?_
      refine y_iload C 6 rfl dX0_mixedPoint_51 ?_
      obtain ⟨kc17, ks18, g1, g2, h⟩ := h
      obtain ⟨⟨vs9, g0⟩, h⟩ := h
      refine y_callVi C (metX0_critical hB h) (cwV 2 C.hts (lw_V q1160 q1056 q1057 q86 q1058) rfl rfl rfl kdX0_critical ⟨Nat.le_of_ble_eq_true rfl, Nat.le_of_ble_eq_true rfl⟩) g0 rfl rfl rfl (Nat.le_of_ble_eq_true rfl) dX0_mixedPoint_53 g1 g2 (fun r20 M19 hp => ?_)
      replace h := hp
      refine y_i2l C dX0_mixedPoint_56 ?_
      refine y_callSl0 C (metX0_mixed hB h) (va_cwS 2 C.hts (lw_S q1149 q1150 q86 q1151) rfl rfl rfl kdX0_mixed.2 ⟨Nat.le_of_ble_eq_true rfl, Nat.le_of_ble_eq_true rfl⟩) rfl rfl (Nat.le_of_ble_eq_true rfl) dX0_mixedPoint_57 (fun r21 M1 hp => ?_)
      clear h
      obtain ⟨rfl, h⟩ := hp
      refine y_lstore C 4 (by decide) dX0_mixedPoint_60 ?_
      replace h := h _ rfl
      refine y_iinc C 6 _ rfl (y_inc1 _) (by decide) dX0_mixedPoint_62 ?_
      refine y_goto C 8 dX0_mixedPoint_65 (by decide) ?_
      refine y_to C _ ?_ (ih _ _ _ _ _ _ h)
      exact (And.intro rfl (And.intro rfl (And.intro rfl (And.intro rfl trivial))))
end sX0_mixedPoint
def wpX0_mixedPoint (M : yM) (mc : Nat) (ms : Nat) (o_ : Nat) (a1 : Int64) (a2 : Int32) (post : Int64 → yM → Prop) : Prop := ∀ x1 : Int32, x1 = (a2 + 1) → ∃ nf9 : Nat, wpX0_mixedPoint_b8 o_ post nf9 M mc ms a2 a1 x1
theorem metX0_mixedPoint {l : Launch} {D : va_G} {s0 : State} {a0 : Array Value} (hB : yB D s0 a0) {M : yM} {mc : Nat} {ms : Nat} {o_ : Nat} {a1 : Int64} {a2 : Int32} {post : Int64 → yM → Prop} (h : wpX0_mixedPoint M mc ms o_ a1 a2 post) : yMl l yX0_mixedPoint (ws_ yX0_mixedPoint cX0_mixedPoint 7 (some .long)) 8 243 mc ms D s0 [yr (some o_), yl a1, yi a2] M post := by
  refine y_metl hB (by decide) rfl (Nat.le_of_ble_eq_true rfl) ?_
  intro p e s m below meth c A hr hnm C
  rw [wpX0_mixedPoint] at h
  refine y_lload_n C 1 rfl rfl dX0_mixedPoint_0 ?_
  refine y_lstore C 4 (by decide) dX0_mixedPoint_1 ?_
  refine y_iload_n C 3 rfl rfl dX0_mixedPoint_3 ?_
  refine y_iconst C 1 dX0_mixedPoint_4 lit1 ?_
  refine y_iadd C dX0_mixedPoint_5 ?_
  replace h := h _ rfl
  refine y_istore C 6 (by decide) dX0_mixedPoint_6 ?_
  obtain ⟨nf9, h⟩ := h
  refine y_to C _ ?_ (okX0_mixedPoint_b8 C hB hr  nf9 _ _ _ _ _ _ h)
  exact (And.intro rfl (And.intro rfl (And.intro rfl (And.intro rfl trivial))))
theorem kdX8_length : yX8_length.cls = RX8 ∧ yX8_length.cls ≠ "java/lang/invoke/MethodHandle" ∧ yX8_length.cls ≠ "java/lang/invoke/VarHandle" ∧ (parseMethodDescriptor yX8_length.desc).map (fun d => d.parameters.length) = some 0 := by decide +kernel
def wpX8_length (M : yM) (o_ : Nat) (post : Int32 → Prop) : Prop := (∃ vs, M o_ = some (yo 7 vs)) ∧ wpX7_end M o_ (fun r1 => (∃ vs, M o_ = some (yo 7 vs)) ∧ wpX7_begin M o_ (fun r2 => post (r1 - r2)))
theorem metX8_length {l : Launch} {D : va_G} {s0 : State} {a0 : Array Value} (hB : yB D s0 a0) {M : yM} {o_ : Nat} {post : Int32 → Prop} (h : wpX8_length M o_ post) : yMi l yX8_length (ws_ yX8_length cX8_length 1 (some .int)) 2 100 0 0 D s0 [yr (some o_)] M (fun r M1 => M1 = M ∧ post r) := by
  refine y_meti hB (by decide) rfl (Nat.le_of_ble_eq_true rfl) ?_
  intro p e s m below meth c A hr hnm C
  rw [wpX8_length] at h
  refine y_aload_n C 0 rfl rfl dX8_length_0 ?_
  obtain ⟨⟨vs9, g0⟩, h⟩ := h
  refine y_callFi0 C (metX7_end hB h) (va_cwF 0 C.hts (lw_F q862 q872 q874 q109 q876) rfl rfl rfl (y_Fw C q864 q863 q875 q873 q871 (by decide +kernel)) (by decide +kernel) ⟨Nat.le_of_ble_eq_true rfl, Nat.le_of_ble_eq_true rfl⟩) g0 rfl rfl rfl (Nat.le_of_ble_eq_true rfl) dX8_length_1 (fun r1 M1 hp => ?_)
  clear h
  obtain ⟨rfl, h⟩ := hp
  refine y_aload_n C 0 rfl rfl dX8_length_6 ?_
  obtain ⟨⟨vs9, g0⟩, h⟩ := h
  refine y_callFi0 C (metX7_begin hB h) (va_cwF 0 C.hts (lw_F q878 q886 q888 q109 q890) rfl rfl rfl (y_Fw C q880 q879 q889 q887 q871 (by decide +kernel)) (by decide +kernel) ⟨Nat.le_of_ble_eq_true rfl, Nat.le_of_ble_eq_true rfl⟩) g0 rfl rfl rfl (Nat.le_of_ble_eq_true rfl) dX8_length_7 (fun r2 M1 hp => ?_)
  clear h
  obtain ⟨rfl, h⟩ := hp
  refine y_isub C dX8_length_12 ?_
  exact y_ireti C hr rfl rfl ⟨rfl, h⟩ dX8_length_13
theorem kdX1_lambda_units_0 : yX1_lambda_units_0.cls = RX1 ∧ yX1_lambda_units_0.cls ≠ "java/lang/invoke/MethodHandle" ∧ yX1_lambda_units_0.cls ≠ "java/lang/invoke/VarHandle" ∧ (parseMethodDescriptor yX1_lambda_units_0.desc).map (fun d => d.parameters.length) = some 1 := by decide +kernel
def wpX1_lambda_units_0 (M : yM) (a1 : Option Nat) (post : Int32 → Prop) : Prop := ∃ d1 : Nat, a1 = some d1 ∧ (∃ vs, M d1 = some (yo 7 vs)) ∧ wpX8_length M d1  (fun r2 => (∃ vs, M d1 = some (yo 7 vs)) ∧ wpX7_begin M d1 (fun r3 => post ((1000 * r2) + r3)))
theorem metX1_lambda_units_0 {l : Launch} {D : va_G} {s0 : State} {a0 : Array Value} (hB : yB D s0 a0) {M : yM} {a1 : Option Nat} {post : Int32 → Prop} (h : wpX1_lambda_units_0 M a1 post) : yMi l yX1_lambda_units_0 (ws_ yX1_lambda_units_0 cX1_lambda_units_0 1 (some .int)) 3 120 0 0 D s0 [yr a1] M (fun r M1 => M1 = M ∧ post r) := by
  refine y_meti hB (by decide) rfl (Nat.le_of_ble_eq_true rfl) ?_
  intro p e s m below meth c A hr hnm C
  rw [wpX1_lambda_units_0] at h
  refine y_sipush C 1000 dX1_lambda_units_0_0 y_s1000 ?_
  refine y_aload_n C 0 rfl rfl dX1_lambda_units_0_3 ?_
  obtain ⟨d1, rfl, h⟩ := h
  obtain ⟨⟨vs9, g0⟩, h⟩ := h
  refine y_callDi0 (x := ⟨"DimensionLines$Unit", "length", "()I"⟩) (ci := 7) (n := 0) C (metX8_length hB h) (by decide +kernel) (by decide +kernel) (by decide +kernel) q856 q858 q110 q860 (by decide +kernel) (by decide +kernel) ⟨Nat.le_of_ble_eq_true rfl, Nat.le_of_ble_eq_true rfl⟩ g0 rfl rfl rfl (Nat.le_of_ble_eq_true rfl) dX1_lambda_units_0_4 (fun r2 M1 hp => ?_)
  clear h
  obtain ⟨rfl, h⟩ := hp
  refine y_imul C dX1_lambda_units_0_7 ?_
  refine y_aload_n C 0 rfl rfl dX1_lambda_units_0_8 ?_
  obtain ⟨⟨vs9, g0⟩, h⟩ := h
  refine y_callVi0 C (metX7_begin hB h) (cwV 0 C.hts (lw_V q891 q888 q1595 q109 q890) rfl rfl rfl kdX7_begin ⟨Nat.le_of_ble_eq_true rfl, Nat.le_of_ble_eq_true rfl⟩) g0 rfl rfl rfl (Nat.le_of_ble_eq_true rfl) dX1_lambda_units_0_9 (fun r3 M1 hp => ?_)
  clear h
  obtain ⟨rfl, h⟩ := hp
  refine y_iadd C dX1_lambda_units_0_12 ?_
  exact y_ireti C hr rfl rfl ⟨rfl, h⟩ dX1_lambda_units_0_13
theorem kdX3_init : yX3_init.cls = RX3 ∧ yX3_init.cls ≠ "java/lang/invoke/MethodHandle" ∧ yX3_init.cls ≠ "java/lang/invoke/VarHandle" ∧ (parseMethodDescriptor yX3_init.desc).map (fun d => d.parameters.length) = some 1 := by decide +kernel
def wpX3_init (M : yM) (z : Nat → Nat) (mc : Nat) (ms : Nat) (o_ : Nat) (a1 : Option Nat) (post : yM → Prop) : Prop := 1 ≤ mc ∧ 7 ≤ ms ∧ ∀ q1 : Nat, M q1 = none → ∀ M2 : yM, M2 = yup M q1 (yo 1 [yr none, yr none, yi 0, yi 0, yr none, yr none, yr none]) → ∃ kc3 ks4 : Nat, kc3 ≤ (mc - 1) ∧ ks4 ≤ (ms - 7) ∧ wpX1_init M2 z kc3 ks4 q1 (fun M5 => ∃ fs6 : List yV, M5 o_ = some (yo 3 fs6) ∧ 1 < fs6.length ∧ ∀ M7 : yM, M7 = yup M5 o_ (yo 3 (fs6.set 1 (yr (some q1)))) → ∃ fs8 : List yV, M7 o_ = some (yo 3 fs8) ∧ 0 < fs8.length ∧ ∀ M9 : yM, M9 = yup M7 o_ (yo 3 (fs8.set 0 (yr a1))) → post M9)
theorem metX3_init {l : Launch} {D : va_G} {s0 : State} {a0 : Array Value} (hB : yB D s0 a0) {M : yM} {mc : Nat} {ms : Nat} {o_ : Nat} {a1 : Option Nat} {post : yM → Prop} (h : wpX3_init M (yz s0 a0) mc ms o_ a1 post) : yMv l yX3_init (ws_ yX3_init cX3_init 2 none) 5 160 mc ms D s0 [yr (some o_), yr a1] M post := by
  refine y_metv hB (by decide) rfl (Nat.le_of_ble_eq_true rfl) ?_
  intro p e s m below meth c A hr hnm C
  have hin2 : meth.name = "<init>" := hnm
  rw [wpX3_init] at h
  refine y_aload_n C 0 rfl rfl dX3_init_0 ?_
  refine y_objInit C q362 q118 q119 (Nat.le_of_ble_eq_true rfl) (Nat.le_of_ble_eq_true rfl) (Nat.le_of_ble_eq_true rfl) dX3_init_1 ?_
  refine y_aload_n C 0 rfl rfl dX3_init_4 ?_
  obtain ⟨g1, g2, h⟩ := h
  refine y_new (ci := 1) C in_X1 tyX1_ok rfl q363 q121 q87 [yr none, yr none, yi 0, yi 0, yr none, yr none, yr none] (fun j hj => by rcases (show j = 0 ∨ j = 1 ∨ j = 2 ∨ j = 3 ∨ j = 4 ∨ j = 5 ∨ j = 6 by omega) with rfl | rfl | rfl | rfl | rfl | rfl | rfl <;> rfl) g1 g2 dX3_init_5 (fun q1 g3 => ?_)
  replace h := h q1 g3 _ rfl
  refine y_dup C rfl dX3_init_8 ?_
  obtain ⟨kc3, ks4, g1, g2, h⟩ := h
  refine y_callINv C (metX1_init hB h) ⟨va_cnB 0 C.hts (lw_meth q124) rfl rfl rfl (C.nestM q364) (C.hts _ q87) kdX1_init.2 ⟨Nat.le_of_ble_eq_true rfl, Nat.le_of_ble_eq_true rfl⟩, rfl, C.hts _ q123⟩ rfl rfl (Nat.le_of_ble_eq_true rfl) dX3_init_9 g1 g2 (fun M5 hp => ?_)
  replace h := hp
  obtain ⟨fs6, g1, g2, h⟩ := h
  replace h := h _ rfl
  refine y_putF (ci := 3) (k := 1) C in_X3 tyX3_ok nmX3 rfl (by decide) q366 (fun _ h => h) rfl hin2 rfl g1 g2 rfl rfl rfl dX3_init_12 ?_
  refine y_aload_n C 0 rfl rfl dX3_init_15 ?_
  refine y_aload_n C 1 rfl rfl dX3_init_16 ?_
  obtain ⟨fs8, g1, g2, h⟩ := h
  replace h := h _ rfl
  refine y_putF (ci := 3) (k := 0) C in_X3 tyX3_ok nmX3 rfl (by decide) q365 (fun _ h => h) rfl hin2 rfl g1 g2 (y_nmr _ a1) (y_ftr _ a1) rfl dX3_init_17 ?_
  exact y_vret C hr rfl rfl h dX3_init_20
theorem kdJ3_length : yJ3_length.cls = RJ3 ∧ yJ3_length.cls ≠ "java/lang/invoke/MethodHandle" ∧ yJ3_length.cls ≠ "java/lang/invoke/VarHandle" ∧ (parseMethodDescriptor yJ3_length.desc).map (fun d => d.parameters.length) = some 0 := by decide +kernel
def wpJ3_length (M : yM) (o_ : Nat) (post : Int32 → Prop) : Prop := ∃ x1 : Int32, yF M o_ 10 3 (yi x1) ∧ post x1
theorem metJ3_length {l : Launch} {D : va_G} {s0 : State} {a0 : Array Value} (hB : yB D s0 a0) {M : yM} {o_ : Nat} {post : Int32 → Prop} (h : wpJ3_length M o_ post) : yMi l yJ3_length (ws_ yJ3_length cJ3_length 1 (some .int)) 1 80 0 0 D s0 [yr (some o_)] M (fun r M1 => M1 = M ∧ post r) := by
  refine y_meti hB (by decide) rfl (Nat.le_of_ble_eq_true rfl) ?_
  intro p e s m below meth c A hr hnm C
  rw [wpJ3_length] at h
  refine y_aload_n C 0 rfl rfl dJ3_length_0 ?_
  obtain ⟨x1, ⟨fs9, g1, g2⟩, h⟩ := h
  refine y_get (ci := 10) (k := 3) C in_J4 rfl (by decide) q243 (fun _ h => h) g1 g2 dJ3_length_1 ?_
  exact y_ireti C hr rfl rfl ⟨rfl, h⟩ dJ3_length_4
theorem kdJ4_length : yJ4_length.cls = RJ4 ∧ yJ4_length.cls ≠ "java/lang/invoke/MethodHandle" ∧ yJ4_length.cls ≠ "java/lang/invoke/VarHandle" ∧ (parseMethodDescriptor yJ4_length.desc).map (fun d => d.parameters.length) = some 0 := by decide +kernel
def wpJ4_length (M : yM) (o_ : Nat) (post : Int32 → Prop) : Prop := (∃ vs, M o_ = some (yo 10 vs)) ∧ wpJ3_length M o_ (fun r1 => post r1)
theorem metJ4_length {l : Launch} {D : va_G} {s0 : State} {a0 : Array Value} (hB : yB D s0 a0) {M : yM} {o_ : Nat} {post : Int32 → Prop} (h : wpJ4_length M o_ post) : yMi l yJ4_length (ws_ yJ4_length cJ4_length 1 (some .int)) 2 100 0 0 D s0 [yr (some o_)] M (fun r M1 => M1 = M ∧ post r) := by
  refine y_meti hB (by decide) rfl (Nat.le_of_ble_eq_true rfl) ?_
  intro p e s m below meth c A hr hnm C
  rw [wpJ4_length] at h
  refine y_aload_n C 0 rfl rfl dJ4_length_0 ?_
  obtain ⟨⟨vs9, g0⟩, h⟩ := h
  refine y_callSUi0 C (metJ3_length hB h) (va_cwSU 0 C.hts (lw_SU q397 q1592 q252 q398 q93 q399) rfl rfl rfl (by decide +kernel) ⟨Nat.le_of_ble_eq_true rfl, Nat.le_of_ble_eq_true rfl⟩) g0 rfl rfl rfl (Nat.le_of_ble_eq_true rfl) dJ4_length_1 (fun r1 M1 hp => ?_)
  clear h
  obtain ⟨rfl, h⟩ := hp
  exact y_ireti C hr rfl rfl ⟨rfl, h⟩ dJ4_length_4
theorem kdJ5_checkIndex : yJ5_checkIndex.cls = RJ5 ∧ yJ5_checkIndex.cls ≠ "java/lang/invoke/MethodHandle" ∧ yJ5_checkIndex.cls ≠ "java/lang/invoke/VarHandle" ∧ (parseMethodDescriptor yJ5_checkIndex.desc).map (fun d => d.parameters.length) = some 2 := by decide +kernel
def wpJ5_checkIndex (M : yM) (a1 : Int32) (a2 : Int32) (post : Prop) : Prop := ∀ r1 : Option Nat, wpJ7_checkIndex M a1 a2 r1 (fun r2 => post)
theorem metJ5_checkIndex {l : Launch} {D : va_G} {s0 : State} {a0 : Array Value} (hB : yB D s0 a0) {M : yM} {a1 : Int32} {a2 : Int32} {post : Prop} (h : wpJ5_checkIndex M a1 a2 post) : yMv l yJ5_checkIndex (ws_ yJ5_checkIndex cJ5_checkIndex 2 none) 2 102 0 0 D s0 [yi a1, yi a2] M (fun M1 => M1 = M ∧ post) := by
  refine y_metv hB (by decide) rfl (Nat.le_of_ble_eq_true rfl) ?_
  intro p e s m below meth c A hr hnm C
  rw [wpJ5_checkIndex] at h
  refine y_iload_n C 0 rfl rfl dJ5_checkIndex_0 ?_
  refine y_iload_n C 1 rfl rfl dJ5_checkIndex_1 ?_
  refine y_statq C q333 (lw_all_tbl q97) (by decide +kernel) q332 dJ5_checkIndex_2 (fun r1 => ?_)
  replace h := h r1
  refine y_callSi0 C (metJ7_checkIndex hB h) (va_cwS 3 C.hts (lw_S q416 q417 q97 q418) rfl rfl rfl kdJ7_checkIndex.2 ⟨Nat.le_of_ble_eq_true rfl, Nat.le_of_ble_eq_true rfl⟩) rfl rfl (Nat.le_of_ble_eq_true rfl) dJ5_checkIndex_5 (fun r2 M1 hp => ?_)
  clear h
  obtain ⟨rfl, h⟩ := hp
  refine y_pop C rfl dJ5_checkIndex_8 ?_
  exact y_vret C hr rfl rfl ⟨rfl, h⟩ dJ5_checkIndex_9
theorem kdJ3_charAt : yJ3_charAt.cls = RJ3 ∧ yJ3_charAt.cls ≠ "java/lang/invoke/MethodHandle" ∧ yJ3_charAt.cls ≠ "java/lang/invoke/VarHandle" ∧ (parseMethodDescriptor yJ3_charAt.desc).map (fun d => d.parameters.length) = some 1 := by decide +kernel
def wpJ3_charAt (M : yM) (o_ : Nat) (a1 : Int32) (post : Int32 → Prop) : Prop := ∃ x1 : Int32, yF M o_ 10 1 (yi x1) ∧ ∃ r2 : Option Nat, yF M o_ 10 0 (yr r2) ∧ ∃ x3 : Int32, yF M o_ 10 3 (yi x3) ∧ ∃ d4 : Nat, r2 = some d4 ∧ ∃ e5 : FieldType × vp_A, M d4 = some (.inl e5) ∧ ∀ x6 : Int32, x6 = (if ((Int32.ofNat e5.2.1) >>> (x1 &&& 31)) < x3 then ((Int32.ofNat e5.2.1) >>> (x1 &&& 31)) else x3) → wpJ5_checkIndex M a1 x6 (((¬ x1 = 0 → False) ∧ (x1 = 0 → ∃ (n7 : Nat) (f8 : Nat → Int32), M d4 = some (yab n7 f8) ∧ vp_in a1 n7 ∧ (narrow .char (.int (((((f8 (Int32.toNatClampNeg a1)) &&& 255)).toUInt32 % 65536).toInt32)) = .int (((((f8 (Int32.toNatClampNeg a1)) &&& 255)).toUInt32 % 65536).toInt32) ∧ post (((((f8 (Int32.toNatClampNeg a1)) &&& 255)).toUInt32 % 65536).toInt32)))))
theorem metJ3_charAt {l : Launch} {D : va_G} {s0 : State} {a0 : Array Value} (hB : yB D s0 a0) {M : yM} {o_ : Nat} {a1 : Int32} {post : Int32 → Prop} (h : wpJ3_charAt M o_ a1 post) : yMi l yJ3_charAt (ws_ yJ3_charAt cJ3_charAt 5 (some .char)) 3 123 0 0 D s0 [yr (some o_), yi a1] M (fun r M1 => M1 = M ∧ post r) := by
  refine y_meti hB (by decide) rfl (Nat.le_of_ble_eq_true rfl) ?_
  intro p e s m below meth c A hr hnm C
  rw [wpJ3_charAt] at h
  refine y_aload_n C 0 rfl rfl dJ3_charAt_0 ?_
  obtain ⟨x1, ⟨fs9, g1, g2⟩, h⟩ := h
  refine y_get (ci := 10) (k := 1) C in_J4 rfl (by decide) q242 (fun _ h => h) g1 g2 dJ3_charAt_1 ?_
  refine y_istore_n C 2 rfl (by decide) dJ3_charAt_4 ?_
  refine y_aload_n C 0 rfl rfl dJ3_charAt_5 ?_
  obtain ⟨r2, ⟨fs9, g1, g2⟩, h⟩ := h
  refine y_get (ci := 10) (k := 0) C in_J4 rfl (by decide) q241 (fun _ h => h) g1 g2 dJ3_charAt_6 ?_
  refine y_astore_n C 3 rfl (by decide) dJ3_charAt_9 ?_
  refine y_aload_n C 0 rfl rfl dJ3_charAt_10 ?_
  obtain ⟨x3, ⟨fs9, g1, g2⟩, h⟩ := h
  refine y_get (ci := 10) (k := 3) C in_J4 rfl (by decide) q243 (fun _ h => h) g1 g2 dJ3_charAt_11 ?_
  refine y_aload_n C 3 rfl rfl dJ3_charAt_14 ?_
  obtain ⟨d4, rfl, h⟩ := h
  obtain ⟨e5, g1, h⟩ := h
  refine y_alen C g1 dJ3_charAt_15 ?_
  refine y_iload_n C 2 rfl rfl dJ3_charAt_16 ?_
  refine y_ishr C dJ3_charAt_17 ?_
  refine y_mmin C q412 q296 q99 q297 (Nat.le_of_ble_eq_true rfl) (Nat.le_of_ble_eq_true rfl) (Nat.le_of_ble_eq_true rfl) dJ3_charAt_18 ?_
  replace h := h _ rfl
  refine y_istore C 4 (by decide) dJ3_charAt_21 ?_
  refine y_iload_n C 1 rfl rfl dJ3_charAt_23 ?_
  refine y_iload C 4 rfl dJ3_charAt_24 ?_
  refine y_callSv0 C (metJ5_checkIndex hB h) (va_cwS 2 C.hts (lw_S q413 q414 q95 q415) rfl rfl rfl kdJ5_checkIndex.2 ⟨Nat.le_of_ble_eq_true rfl, Nat.le_of_ble_eq_true rfl⟩) rfl rfl (Nat.le_of_ble_eq_true rfl) dJ3_charAt_26 (fun M1 hp => ?_)
  clear h
  obtain ⟨rfl, h⟩ := hp
  refine y_iload_n C 2 rfl rfl dJ3_charAt_29 ?_
  refine y_if_ne C 42 dJ3_charAt_30 (by decide) (fun c9 => ?_) (fun c9 => ?_)
  · replace h := h.1 c9
    refine y_aload_n C 3 rfl rfl dJ3_charAt_42 ?_
    refine y_iload_n C 1 rfl rfl dJ3_charAt_43 ?_
    exact h.elim
  · replace h := h.2 c9
    refine y_aload_n C 3 rfl rfl dJ3_charAt_33 ?_
    refine y_iload_n C 1 rfl rfl dJ3_charAt_34 ?_
    obtain ⟨n7, f8, g1, g2, h⟩ := h
    refine y_bald C g1 g2 dJ3_charAt_35 ?_
    refine y_sipush C 255 dJ3_charAt_36 y_s255 ?_
    refine y_iand C dJ3_charAt_39 ?_
    refine y_i2c C dJ3_charAt_40 ?_
    obtain ⟨z9, h⟩ := h
    exact y_iretn C hr rfl rfl z9 ⟨rfl, h⟩ dJ3_charAt_41
theorem kdJ4_charAt : yJ4_charAt.cls = RJ4 ∧ yJ4_charAt.cls ≠ "java/lang/invoke/MethodHandle" ∧ yJ4_charAt.cls ≠ "java/lang/invoke/VarHandle" ∧ (parseMethodDescriptor yJ4_charAt.desc).map (fun d => d.parameters.length) = some 1 := by decide +kernel
def wpJ4_charAt (M : yM) (o_ : Nat) (a1 : Int32) (post : Int32 → Prop) : Prop := (∃ vs, M o_ = some (yo 10 vs)) ∧ wpJ3_charAt M o_ a1 (fun r1 => (narrow .char (.int r1) = .int r1 ∧ post r1))
theorem metJ4_charAt {l : Launch} {D : va_G} {s0 : State} {a0 : Array Value} (hB : yB D s0 a0) {M : yM} {o_ : Nat} {a1 : Int32} {post : Int32 → Prop} (h : wpJ4_charAt M o_ a1 post) : yMi l yJ4_charAt (ws_ yJ4_charAt cJ4_charAt 2 (some .char)) 4 147 0 0 D s0 [yr (some o_), yi a1] M (fun r M1 => M1 = M ∧ post r) := by
  refine y_meti hB (by decide) rfl (Nat.le_of_ble_eq_true rfl) ?_
  intro p e s m below meth c A hr hnm C
  rw [wpJ4_charAt] at h
  refine y_aload_n C 0 rfl rfl dJ4_charAt_0 ?_
  refine y_iload_n C 1 rfl rfl dJ4_charAt_1 ?_
  obtain ⟨⟨vs9, g0⟩, h⟩ := h
  refine y_callSUi0 C (metJ3_charAt hB h) (va_cwSU 1 C.hts (lw_SU q409 q1593 q252 q410 q93 q411) rfl rfl rfl (by decide +kernel) ⟨Nat.le_of_ble_eq_true rfl, Nat.le_of_ble_eq_true rfl⟩) g0 rfl rfl rfl (Nat.le_of_ble_eq_true rfl) dJ4_charAt_2 (fun r1 M1 hp => ?_)
  clear h
  obtain ⟨rfl, h⟩ := hp
  obtain ⟨z9, h⟩ := h
  exact y_iretn C hr rfl rfl z9 ⟨rfl, h⟩ dJ4_charAt_5
theorem kdX3_here : yX3_here.cls = RX3 ∧ yX3_here.cls ≠ "java/lang/invoke/MethodHandle" ∧ yX3_here.cls ≠ "java/lang/invoke/VarHandle" ∧ (parseMethodDescriptor yX3_here.desc).map (fun d => d.parameters.length) = some 0 := by decide +kernel
def wpX3_here (M : yM) (o_ : Nat) (post : Int32 → Prop) : Prop := ∃ x1 : Int32, yF M o_ 3 2 (yi x1) ∧ ∃ r2 : Option Nat, yF M o_ 3 0 (yr r2) ∧ ∃ d3 : Nat, r2 = some d3 ∧ (∃ vs, M d3 = some (yo 10 vs)) ∧ wpJ4_length M d3 (fun r4 => ((r4 ≤ x1 → post (-999)) ∧ (¬ r4 ≤ x1 → ∃ r5 : Option Nat, yF M o_ 3 0 (yr r5) ∧ ∃ x6 : Int32, yF M o_ 3 2 (yi x6) ∧ ∃ d7 : Nat, r5 = some d7 ∧ (∃ vs, M d7 = some (yo 10 vs)) ∧ wpJ4_charAt M d7 x6 (fun r8 => post r8))))
theorem metX3_here {l : Launch} {D : va_G} {s0 : State} {a0 : Array Value} (hB : yB D s0 a0) {M : yM} {o_ : Nat} {post : Int32 → Prop} (h : wpX3_here M o_ post) : yMi l yX3_here (ws_ yX3_here cX3_here 1 (some .int)) 5 168 0 0 D s0 [yr (some o_)] M (fun r M1 => M1 = M ∧ post r) := by
  refine y_meti hB (by decide) rfl (Nat.le_of_ble_eq_true rfl) ?_
  intro p e s m below meth c A hr hnm C
  rw [wpX3_here] at h
  refine y_aload_n C 0 rfl rfl dX3_here_0 ?_
  obtain ⟨x1, ⟨fs9, g1, g2⟩, h⟩ := h
  refine y_get (ci := 3) (k := 2) C in_X3 rfl (by decide) q367 (fun _ h => h) g1 g2 dX3_here_1 ?_
  refine y_aload_n C 0 rfl rfl dX3_here_4 ?_
  obtain ⟨r2, ⟨fs9, g1, g2⟩, h⟩ := h
  refine y_get (ci := 3) (k := 0) C in_X3 rfl (by decide) q365 (fun _ h => h) g1 g2 dX3_here_5 ?_
  obtain ⟨d3, rfl, h⟩ := h
  obtain ⟨⟨vs9, g0⟩, h⟩ := h
  refine y_callFi0 C (metJ4_length hB h) (va_cwF 0 C.hts (lw_F q388 q392 q394 q94 q396) rfl rfl rfl (y_Fw C q390 q389 q395 q393 q391 (by decide +kernel)) (by decide +kernel) ⟨Nat.le_of_ble_eq_true rfl, Nat.le_of_ble_eq_true rfl⟩) g0 rfl rfl rfl (Nat.le_of_ble_eq_true rfl) dX3_here_8 (fun r4 M1 hp => ?_)
  clear h
  obtain ⟨rfl, h⟩ := hp
  refine y_icmp_ge C 32 dX3_here_13 (by decide) (fun c9 => ?_) (fun c9 => ?_)
  · replace h := h.1 c9
    refine y_sipush C (-999) dX3_here_32 y_sm999 ?_
    exact y_ireti C hr rfl rfl ⟨rfl, h⟩ dX3_here_35
  · replace h := h.2 c9
    refine y_aload_n C 0 rfl rfl dX3_here_16 ?_
    obtain ⟨r5, ⟨fs9, g1, g2⟩, h⟩ := h
    refine y_get (ci := 3) (k := 0) C in_X3 rfl (by decide) q365 (fun _ h => h) g1 g2 dX3_here_17 ?_
    refine y_aload_n C 0 rfl rfl dX3_here_20 ?_
    obtain ⟨x6, ⟨fs9, g1, g2⟩, h⟩ := h
    refine y_get (ci := 3) (k := 2) C in_X3 rfl (by decide) q367 (fun _ h => h) g1 g2 dX3_here_21 ?_
    obtain ⟨d7, rfl, h⟩ := h
    obtain ⟨⟨vs9, g0⟩, h⟩ := h
    refine y_callFi0 C (metJ4_charAt hB h) (va_cwF 1 C.hts (lw_F q401 q404 q406 q94 q408) rfl rfl rfl (y_Fw C q403 q402 q407 q405 q391 (by decide +kernel)) (by decide +kernel) ⟨Nat.le_of_ble_eq_true rfl, Nat.le_of_ble_eq_true rfl⟩) g0 rfl rfl rfl (Nat.le_of_ble_eq_true rfl) dX3_here_24 (fun r8 M1 hp => ?_)
    clear h
    obtain ⟨rfl, h⟩ := hp
    refine y_goto C 35 dX3_here_29 (by decide) ?_
    exact y_ireti C hr rfl rfl ⟨rfl, h⟩ dX3_here_35
theorem kdX3_takes : yX3_takes.cls = RX3 ∧ yX3_takes.cls ≠ "java/lang/invoke/MethodHandle" ∧ yX3_takes.cls ≠ "java/lang/invoke/VarHandle" ∧ (parseMethodDescriptor yX3_takes.desc).map (fun d => d.parameters.length) = some 1 := by decide +kernel
section sX3_takes
variable {p : Program} {l : Launch} {e : Env} {s : State} {m : MethodId} {args : Array Value} {below : List Frame} {meth : Method} {c : Code} {D : va_G} {s0 : State} {a0 : Array Value} {A : Nat → Prop}
def wpX3_takes_b28 (o_ : Nat) (post : Int32 → yM → Prop) (M : yM) (v2 : Int32) (u1 : Int32) (u2 : Int32) : Prop := ∃ fs3 : List yV, M o_ = some (yo 3 fs3) ∧ 2 < fs3.length ∧ ∀ M4 : yM, M4 = yup M o_ (yo 3 (fs3.set 2 (yi (u1 + u2)))) → ((v2 = 0 ∨ v2 = 1) ∧ post v2 M4)
theorem okX3_takes_b28 (C : yC p { frames := 6, cells := 0, slots := 0, locals := 188 } s m args meth c cX3_takes 3 RX3 D s0 a0 A) (hB : yB D s0 a0) (hr : meth.sig.returnType = (some .boolean)) {o_ : Nat} {post : Int32 → yM → Prop}  : ∀ (M : yM) (v2 : Int32) (u1 : Int32) (u2 : Int32), wpX3_takes_b28 o_ post M v2 u1 u2 → Y p l e { frames := 6, cells := 0, slots := 0, locals := 188 } s m args below meth c (MQ below (yQi D s0 A post) args s 0 0 A) D s0 A 3 M 0 0 [none, none, some (yi v2)] 28 [yi u2, yi u1, yr (some o_)] := by
  intro M v2 u1 u2 h
  rw [wpX3_takes_b28] at h
  refine y_iadd C dX3_takes_28 ?_
  obtain ⟨fs3, g1, g2, h⟩ := h
  replace h := h _ rfl
  refine y_put (ci := 3) (k := 2) C in_X3 tyX3_ok nmX3 rfl (by decide) q367 (fun _ h => h) rfl g1 g2 rfl rfl rfl dX3_takes_29 ?_
  refine y_iload_n C 2 rfl rfl dX3_takes_32 ?_
  obtain ⟨z9, h⟩ := h
  exact y_iretz C hr rfl rfl z9 h dX3_takes_33
def wpX3_takes_b13 (o_ : Nat) (post : Int32 → yM → Prop) (M : yM) (u0 : Int32) : Prop := ∃ x2 : Int32, yF M o_ 3 2 (yi x2) ∧ ((u0 = 0 → wpX3_takes_b28 o_ post M u0 x2 0) ∧ (¬ u0 = 0 → wpX3_takes_b28 o_ post M u0 x2 1))
theorem okX3_takes_b13 (C : yC p { frames := 6, cells := 0, slots := 0, locals := 188 } s m args meth c cX3_takes 3 RX3 D s0 a0 A) (hB : yB D s0 a0) (hr : meth.sig.returnType = (some .boolean)) {o_ : Nat} {post : Int32 → yM → Prop}  : ∀ (M : yM) (u0 : Int32), wpX3_takes_b13 o_ post M u0 → Y p l e { frames := 6, cells := 0, slots := 0, locals := 188 } s m args below meth c (MQ below (yQi D s0 A post) args s 0 0 A) D s0 A 3 M 0 0 [some (yr (some o_)), none, none] 13 [yi u0] := by
  intro M u0 h
  rw [wpX3_takes_b13] at h
  refine y_istore_n C 2 rfl (by decide) dX3_takes_13 ?_
  refine y_aload_n C 0 rfl rfl dX3_takes_14 ?_
  refine y_dup C rfl dX3_takes_15 ?_
  obtain ⟨x2, ⟨fs9, g1, g2⟩, h⟩ := h
  refine y_get (ci := 3) (k := 2) C in_X3 rfl (by decide) q367 (fun _ h => h) g1 g2 dX3_takes_16 ?_
  refine y_iload_n C 2 rfl rfl dX3_takes_19 ?_
  refine y_if_eq C 27 dX3_takes_20 (by decide) (fun c9 => ?_) (fun c9 => ?_)
  · replace h := h.1 c9
    refine y_iconst C 0 dX3_takes_27 lit0 ?_
    refine y_to C _ ?_ (okX3_takes_b28 C hB hr  _ _ _ _ h)
    exact (And.intro rfl trivial)
  · replace h := h.2 c9
    refine y_iconst C 1 dX3_takes_23 lit1 ?_
    refine y_goto C 28 dX3_takes_24 (by decide) ?_
    refine y_to C _ ?_ (okX3_takes_b28 C hB hr  _ _ _ _ h)
    exact (And.intro rfl trivial)
end sX3_takes
def wpX3_takes (M : yM) (o_ : Nat) (a1 : Int32) (post : Int32 → yM → Prop) : Prop := (∃ vs, M o_ = some (yo 3 vs)) ∧ wpX3_here M o_ (fun r1 => ((¬ r1 = a1 → wpX3_takes_b13 o_ post M 0) ∧ (r1 = a1 → wpX3_takes_b13 o_ post M 1)))
theorem metX3_takes {l : Launch} {D : va_G} {s0 : State} {a0 : Array Value} (hB : yB D s0 a0) {M : yM} {o_ : Nat} {a1 : Int32} {post : Int32 → yM → Prop} (h : wpX3_takes M o_ a1 post) : yMi l yX3_takes (ws_ yX3_takes cX3_takes 3 (some .boolean)) 6 188 0 0 D s0 [yr (some o_), yi a1] M post := by
  refine y_meti hB (by decide) rfl (Nat.le_of_ble_eq_true rfl) ?_
  intro p e s m below meth c A hr hnm C
  rw [wpX3_takes] at h
  refine y_aload_n C 0 rfl rfl dX3_takes_0 ?_
  obtain ⟨⟨vs9, g0⟩, h⟩ := h
  refine y_callVi0 C (metX3_here hB h) (cwV 0 C.hts (lw_V q383 q385 qs1 q92 q386) rfl rfl rfl kdX3_here ⟨Nat.le_of_ble_eq_true rfl, Nat.le_of_ble_eq_true rfl⟩) g0 rfl rfl rfl (Nat.le_of_ble_eq_true rfl) dX3_takes_1 (fun r1 M1 hp => ?_)
  clear h
  obtain ⟨rfl, h⟩ := hp
  refine y_iload_n C 1 rfl rfl dX3_takes_4 ?_
  refine y_icmp_ne C 12 dX3_takes_5 (by decide) (fun c9 => ?_) (fun c9 => ?_)
  · replace h := h.1 c9
    refine y_iconst C 0 dX3_takes_12 lit0 ?_
    refine y_to C _ ?_ (okX3_takes_b13 C hB hr  _ _ h)
    exact (And.intro rfl trivial)
  · replace h := h.2 c9
    refine y_iconst C 1 dX3_takes_8 lit1 ?_
    refine y_goto C 13 dX3_takes_9 (by decide) ?_
    refine y_to C _ ?_ (okX3_takes_b13 C hB hr  _ _ h)
    exact (And.intro rfl trivial)
theorem kdX3_isDigit : yX3_isDigit.cls = RX3 ∧ yX3_isDigit.cls ≠ "java/lang/invoke/MethodHandle" ∧ yX3_isDigit.cls ≠ "java/lang/invoke/VarHandle" ∧ (parseMethodDescriptor yX3_isDigit.desc).map (fun d => d.parameters.length) = some 0 := by decide +kernel
def wpX3_isDigit (M : yM) (o_ : Nat) (post : Int32 → Prop) : Prop := (∃ vs, M o_ = some (yo 3 vs)) ∧ wpX3_here M o_ (fun r1 => wpX0_in M r1 48 57 (fun r2 => ((r2 = 0 ∨ r2 = 1) ∧ post r2)))
theorem metX3_isDigit {l : Launch} {D : va_G} {s0 : State} {a0 : Array Value} (hB : yB D s0 a0) {M : yM} {o_ : Nat} {post : Int32 → Prop} (h : wpX3_isDigit M o_ post) : yMi l yX3_isDigit (ws_ yX3_isDigit cX3_isDigit 1 (some .boolean)) 6 188 0 0 D s0 [yr (some o_)] M (fun r M1 => M1 = M ∧ post r) := by
  refine y_meti hB (by decide) rfl (Nat.le_of_ble_eq_true rfl) ?_
  intro p e s m below meth c A hr hnm C
  rw [wpX3_isDigit] at h
  refine y_aload_n C 0 rfl rfl dX3_isDigit_0 ?_
  obtain ⟨⟨vs9, g0⟩, h⟩ := h
  refine y_callVi0 C (metX3_here hB h) (cwV 0 C.hts (lw_V q383 q385 qs1 q92 q386) rfl rfl rfl kdX3_here ⟨Nat.le_of_ble_eq_true rfl, Nat.le_of_ble_eq_true rfl⟩) g0 rfl rfl rfl (Nat.le_of_ble_eq_true rfl) dX3_isDigit_1 (fun r1 M1 hp => ?_)
  clear h
  obtain ⟨rfl, h⟩ := hp
  refine y_bipush C 48 dX3_isDigit_4 y_b48 ?_
  refine y_bipush C 57 dX3_isDigit_6 y_b57 ?_
  refine y_callSNi0 C (metX0_in hB h) ⟨va_cnB 3 C.hts (lw_meth q211) rfl rfl rfl (C.nestM q505) (C.hts _ q86) kdX0_in.2 ⟨Nat.le_of_ble_eq_true rfl, Nat.le_of_ble_eq_true rfl⟩, C.hts _ q210, trivial⟩ rfl rfl (Nat.le_of_ble_eq_true rfl) dX3_isDigit_8 (fun r2 M1 hp => ?_)
  clear h
  obtain ⟨rfl, h⟩ := hp
  obtain ⟨z9, h⟩ := h
  exact y_iretz C hr rfl rfl z9 ⟨rfl, h⟩ dX3_isDigit_11
theorem kdJ3_init : yJ3_init.cls = RJ3 ∧ yJ3_init.cls ≠ "java/lang/invoke/MethodHandle" ∧ yJ3_init.cls ≠ "java/lang/invoke/VarHandle" ∧ (parseMethodDescriptor yJ3_init.desc).map (fun d => d.parameters.length) = some 1 := by decide +kernel
def wpJ3_init (M : yM) (mc : Nat) (ms : Nat) (o_ : Nat) (a1 : Int32) (post : yM → Prop) : Prop := (((1 : Int32) = 0 → False) ∧ (¬ (1 : Int32) = 0 → ¬ (a1 : Int32) < 0 ∧ (Int32.toNatClampNeg a1) ≤ 65536 ∧ 1 ≤ mc ∧ (Int32.toNatClampNeg a1) ≤ ms ∧ ∀ q1 : Nat, M q1 = none → ∀ M2 : yM, M2 = yup M q1 (yab (Int32.toNatClampNeg a1) (fun _ => 0)) → ∃ fs3 : List yV, M2 o_ = some (yo 10 fs3) ∧ 0 < fs3.length ∧ ∀ M4 : yM, M4 = yup M2 o_ (yo 10 (fs3.set 0 (yr (some q1)))) → ∃ fs5 : List yV, M4 o_ = some (yo 10 fs5) ∧ 1 < fs5.length ∧ narrow .byte (.int 0) = .int 0 ∧ fits .byte (.int 0) = true ∧ ∀ M6 : yM, M6 = yup M4 o_ (yo 10 (fs5.set 1 (yi 0))) → post M6))
theorem metJ3_init {l : Launch} {D : va_G} {s0 : State} {a0 : Array Value} (hB : yB D s0 a0) {M : yM} {mc : Nat} {ms : Nat} {o_ : Nat} {a1 : Int32} {post : yM → Prop} (h : wpJ3_init M mc ms o_ a1 post) : yMv l yJ3_init (ws_ yJ3_init cJ3_init 2 none) 1 80 mc ms D s0 [yr (some o_), yi a1] M post := by
  refine y_metv hB (by decide) rfl (Nat.le_of_ble_eq_true rfl) ?_
  intro p e s m below meth c A hr hnm C
  have hin2 : meth.name = "<init>" := hnm
  rw [wpJ3_init] at h
  refine y_aload_n C 0 rfl rfl dJ3_init_0 ?_
  refine y_objInit C q231 q118 q119 (Nat.le_of_ble_eq_true rfl) (Nat.le_of_ble_eq_true rfl) (Nat.le_of_ble_eq_true rfl) dJ3_init_1 ?_
  refine y_stat_COMPACT_STRINGS C q232 dJ3_init_4 ?_
  refine y_if_eq C 25 dJ3_init_7 (by decide) (fun c9 => ?_) (fun c9 => ?_)
  · replace h := h.1 c9
    refine y_aload_n C 0 rfl rfl dJ3_init_25 ?_
    refine y_iload_n C 1 rfl rfl dJ3_init_26 ?_
    exact h.elim
  · replace h := h.2 c9
    refine y_aload_n C 0 rfl rfl dJ3_init_10 ?_
    refine y_iload_n C 1 rfl rfl dJ3_init_11 ?_
    obtain ⟨g1, g2, g3, g4, h⟩ := h
    refine y_newab C q253 g1 g2 g3 g4 dJ3_init_12 (fun q1 g5 => ?_)
    replace h := h q1 g5 _ rfl
    obtain ⟨fs3, g1, g2, h⟩ := h
    replace h := h _ rfl
    refine y_put (ci := 10) (k := 0) C in_J4 tyJ4_ok nmJ4 rfl (by decide) q241 (fun _ h => h) rfl g1 g2 rfl rfl rfl dJ3_init_14 ?_
    refine y_aload_n C 0 rfl rfl dJ3_init_17 ?_
    refine y_iconst C 0 dJ3_init_18 lit0 ?_
    obtain ⟨fs5, g1, g2, h⟩ := h
    obtain ⟨g3, g4, h⟩ := h
    replace h := h _ rfl
    refine y_put (ci := 10) (k := 1) C in_J4 tyJ4_ok nmJ4 rfl (by decide) q242 (fun _ h => h) rfl g1 g2 g3 g4 rfl dJ3_init_19 ?_
    refine y_goto C 38 dJ3_init_22 (by decide) ?_
    exact y_vret C hr rfl rfl h dJ3_init_38
theorem kdJ4_init : yJ4_init.cls = RJ4 ∧ yJ4_init.cls ≠ "java/lang/invoke/MethodHandle" ∧ yJ4_init.cls ≠ "java/lang/invoke/VarHandle" ∧ (parseMethodDescriptor yJ4_init.desc).map (fun d => d.parameters.length) = some 0 := by decide +kernel
def wpJ4_init (M : yM) (mc : Nat) (ms : Nat) (o_ : Nat) (post : yM → Prop) : Prop := ∃ kc1 ks2 : Nat, kc1 ≤ mc ∧ ks2 ≤ ms ∧ wpJ3_init M kc1 ks2 o_ 16 (fun M3 => post M3)
theorem metJ4_init {l : Launch} {D : va_G} {s0 : State} {a0 : Array Value} (hB : yB D s0 a0) {M : yM} {mc : Nat} {ms : Nat} {o_ : Nat} {post : yM → Prop} (h : wpJ4_init M mc ms o_ post) : yMv l yJ4_init (ws_ yJ4_init cJ4_init 1 none) 2 101 mc ms D s0 [yr (some o_)] M post := by
  refine y_metv hB (by decide) rfl (Nat.le_of_ble_eq_true rfl) ?_
  intro p e s m below meth c A hr hnm C
  have hin2 : meth.name = "<init>" := hnm
  rw [wpJ4_init] at h
  refine y_aload_n C 0 rfl rfl dJ4_init_0 ?_
  refine y_bipush C 16 dJ4_init_1 y_b16 ?_
  obtain ⟨kc1, ks2, g1, g2, h⟩ := h
  refine y_callIv C (metJ3_init hB h) (cwI 1 C.hts (lw_meth q230) rfl rfl rfl (C.hts _ q93) (C.hts _ q228) (C.hts _ q229) rfl kdJ3_init.2 ⟨Nat.le_of_ble_eq_true rfl, Nat.le_of_ble_eq_true rfl⟩) rfl rfl (Nat.le_of_ble_eq_true rfl) dJ4_init_3 g1 g2 (fun M3 hp => ?_)
  replace h := hp
  exact y_vret C hr rfl rfl h dJ4_init_6
theorem kdJ7_checkFromToIndex : yJ7_checkFromToIndex.cls = RJ7 ∧ yJ7_checkFromToIndex.cls ≠ "java/lang/invoke/MethodHandle" ∧ yJ7_checkFromToIndex.cls ≠ "java/lang/invoke/VarHandle" ∧ (parseMethodDescriptor yJ7_checkFromToIndex.desc).map (fun d => d.parameters.length) = some 4 := by decide +kernel
section sJ7_checkFromToIndex
variable {p : Program} {l : Launch} {e : Env} {s : State} {m : MethodId} {args : Array Value} {below : List Frame} {meth : Method} {c : Code} {D : va_G} {s0 : State} {a0 : Array Value} {A : Nat → Prop}
def wpJ7_checkFromToIndex_b14 (M : yM) (post : Int32 → Prop) (v0 : Int32) (v1 : Int32) (v2 : Int32) (v3 : Option Nat) : Prop := False
theorem okJ7_checkFromToIndex_b14 (C : yC p { frames := 1, cells := 0, slots := 0, locals := 80 } s m args meth c cJ7_checkFromToIndex 4 RJ7 D s0 a0 A) (hB : yB D s0 a0) (hr : meth.sig.returnType = (some .int)) {M : yM} {post : Int32 → Prop}  : ∀ (v0 : Int32) (v1 : Int32) (v2 : Int32) (v3 : Option Nat), wpJ7_checkFromToIndex_b14 M post v0 v1 v2 v3 → Y p l e { frames := 1, cells := 0, slots := 0, locals := 80 } s m args below meth c (MQ below (yQi D s0 A (fun r M1 => M1 = M ∧ post r)) args s 0 0 A) D s0 A 4 M 0 0 [some (yi v0), some (yi v1), some (yi v2), some (yr v3)] 14 [] := by
  intro v0 v1 v2 v3 h
  rw [wpJ7_checkFromToIndex_b14] at h
  refine y_aload_n C 3 rfl rfl dJ7_checkFromToIndex_14 ?_
  refine y_iload_n C 0 rfl rfl dJ7_checkFromToIndex_15 ?_
  refine y_iload_n C 1 rfl rfl dJ7_checkFromToIndex_16 ?_
  refine y_iload_n C 2 rfl rfl dJ7_checkFromToIndex_17 ?_
  exact h.elim
end sJ7_checkFromToIndex
def wpJ7_checkFromToIndex (M : yM) (a1 : Int32) (a2 : Int32) (a3 : Int32) (a4 : Option Nat) (post : Int32 → Prop) : Prop := ((a1 < 0 → wpJ7_checkFromToIndex_b14 M post a1 a2 a3 a4) ∧ (¬ a1 < 0 → ((a2 < a1 → wpJ7_checkFromToIndex_b14 M post a1 a2 a3 a4) ∧ (¬ a2 < a1 → ((a2 ≤ a3 → post a1) ∧ (¬ a2 ≤ a3 → wpJ7_checkFromToIndex_b14 M post a1 a2 a3 a4))))))
theorem metJ7_checkFromToIndex {l : Launch} {D : va_G} {s0 : State} {a0 : Array Value} (hB : yB D s0 a0) {M : yM} {a1 : Int32} {a2 : Int32} {a3 : Int32} {a4 : Option Nat} {post : Int32 → Prop} (h : wpJ7_checkFromToIndex M a1 a2 a3 a4 post) : yMi l yJ7_checkFromToIndex (ws_ yJ7_checkFromToIndex cJ7_checkFromToIndex 4 (some .int)) 1 80 0 0 D s0 [yi a1, yi a2, yi a3, yr a4] M (fun r M1 => M1 = M ∧ post r) := by
  refine y_meti hB (by decide) rfl (Nat.le_of_ble_eq_true rfl) ?_
  intro p e s m below meth c A hr hnm C
  rw [wpJ7_checkFromToIndex] at h
  refine y_iload_n C 0 rfl rfl dJ7_checkFromToIndex_0 ?_
  refine y_if_lt C 14 dJ7_checkFromToIndex_1 (by decide) (fun c9 => ?_) (fun c9 => ?_)
  · replace h := h.1 c9
    refine y_to C _ ?_ (okJ7_checkFromToIndex_b14 C hB hr  _ _ _ _ h)
    exact (And.intro rfl (And.intro rfl (And.intro rfl (And.intro rfl trivial))))
  · replace h := h.2 c9
    refine y_iload_n C 0 rfl rfl dJ7_checkFromToIndex_4 ?_
    refine y_iload_n C 1 rfl rfl dJ7_checkFromToIndex_5 ?_
    refine y_icmp_gt C 14 dJ7_checkFromToIndex_6 (by decide) (fun c9 => ?_) (fun c9 => ?_)
    · replace h := h.1 c9
      refine y_to C _ ?_ (okJ7_checkFromToIndex_b14 C hB hr  _ _ _ _ h)
      exact (And.intro rfl (And.intro rfl (And.intro rfl (And.intro rfl trivial))))
    · replace h := h.2 c9
      refine y_iload_n C 1 rfl rfl dJ7_checkFromToIndex_9 ?_
      refine y_iload_n C 2 rfl rfl dJ7_checkFromToIndex_10 ?_
      refine y_icmp_le C 22 dJ7_checkFromToIndex_11 (by decide) (fun c9 => ?_) (fun c9 => ?_)
      · replace h := h.1 c9
        refine y_iload_n C 0 rfl rfl dJ7_checkFromToIndex_22 ?_
        exact y_ireti C hr rfl rfl ⟨rfl, h⟩ dJ7_checkFromToIndex_23
      · replace h := h.2 c9
        refine y_to C _ ?_ (okJ7_checkFromToIndex_b14 C hB hr  _ _ _ _ h)
        exact (And.intro rfl (And.intro rfl (And.intro rfl (And.intro rfl trivial))))
theorem kdJ3_newCapacity : yJ3_newCapacity.cls = RJ3 ∧ yJ3_newCapacity.cls ≠ "java/lang/invoke/MethodHandle" ∧ yJ3_newCapacity.cls ≠ "java/lang/invoke/VarHandle" ∧ (parseMethodDescriptor yJ3_newCapacity.desc).map (fun d => d.parameters.length) = some 1 := by decide +kernel
def wpJ3_newCapacity (M : yM) (o_ : Nat) (a1 : Int32) (post : Int32 → Prop) : Prop := ∃ r1 : Option Nat, yF M o_ 10 0 (yr r1) ∧ ∃ d2 : Nat, r1 = some d2 ∧ ∃ e3 : FieldType × vp_A, M d2 = some (.inl e3) ∧ ∀ x4 : Int32, x4 = (Int32.ofNat e3.2.1) → ∃ x5 : Int32, yF M o_ 10 1 (yi x5) ∧ ∀ x6 : Int32, x6 = (a1 <<< (x5 &&& 31)) → ∀ x7 : Int32, x7 = (x6 - x4) → ∃ x8 : Int32, yF M o_ 10 1 (yi x8) ∧ wpJ8_newLength M x4 x7 (x4 + (2 <<< (x8 &&& 31))) (fun r9 => ((¬ r9 = 2147483647 → ∃ x10 : Int32, yF M o_ 10 1 (yi x10) ∧ post (r9 >>> (x10 &&& 31))) ∧ (r9 = 2147483647 → False)))
theorem metJ3_newCapacity {l : Launch} {D : va_G} {s0 : State} {a0 : Array Value} (hB : yB D s0 a0) {M : yM} {o_ : Nat} {a1 : Int32} {post : Int32 → Prop} (h : wpJ3_newCapacity M o_ a1 post) : yMi l yJ3_newCapacity (ws_ yJ3_newCapacity cJ3_newCapacity 6 (some .int)) 2 103 0 0 D s0 [yr (some o_), yi a1] M (fun r M1 => M1 = M ∧ post r) := by
  refine y_meti hB (by decide) rfl (Nat.le_of_ble_eq_true rfl) ?_
  intro p e s m below meth c A hr hnm C
  rw [wpJ3_newCapacity] at h
  refine y_aload_n C 0 rfl rfl dJ3_newCapacity_0 ?_
  obtain ⟨r1, ⟨fs9, g1, g2⟩, h⟩ := h
  refine y_get (ci := 10) (k := 0) C in_J4 rfl (by decide) q241 (fun _ h => h) g1 g2 dJ3_newCapacity_1 ?_
  obtain ⟨d2, rfl, h⟩ := h
  obtain ⟨e3, g1, h⟩ := h
  refine y_alen C g1 dJ3_newCapacity_4 ?_
  replace h := h _ rfl
  refine y_istore_n C 2 rfl (by decide) dJ3_newCapacity_5 ?_
  refine y_iload_n C 1 rfl rfl dJ3_newCapacity_6 ?_
  refine y_aload_n C 0 rfl rfl dJ3_newCapacity_7 ?_
  obtain ⟨x5, ⟨fs9, g1, g2⟩, h⟩ := h
  refine y_get (ci := 10) (k := 1) C in_J4 rfl (by decide) q242 (fun _ h => h) g1 g2 dJ3_newCapacity_8 ?_
  refine y_ishl C dJ3_newCapacity_11 ?_
  replace h := h _ rfl
  refine y_istore_n C 3 rfl (by decide) dJ3_newCapacity_12 ?_
  refine y_iload_n C 3 rfl rfl dJ3_newCapacity_13 ?_
  refine y_iload_n C 2 rfl rfl dJ3_newCapacity_14 ?_
  refine y_isub C dJ3_newCapacity_15 ?_
  replace h := h _ rfl
  refine y_istore C 4 (by decide) dJ3_newCapacity_16 ?_
  refine y_iload_n C 2 rfl rfl dJ3_newCapacity_18 ?_
  refine y_iload C 4 rfl dJ3_newCapacity_19 ?_
  refine y_iload_n C 2 rfl rfl dJ3_newCapacity_21 ?_
  refine y_iconst C 2 dJ3_newCapacity_22 lit2 ?_
  refine y_aload_n C 0 rfl rfl dJ3_newCapacity_23 ?_
  obtain ⟨x8, ⟨fs9, g1, g2⟩, h⟩ := h
  refine y_get (ci := 10) (k := 1) C in_J4 rfl (by decide) q242 (fun _ h => h) g1 g2 dJ3_newCapacity_24 ?_
  refine y_ishl C dJ3_newCapacity_27 ?_
  refine y_iadd C dJ3_newCapacity_28 ?_
  refine y_callSi0 C (metJ8_newLength hB h) (va_cwS 3 C.hts (lw_S q274 q275 q98 q276) rfl rfl rfl kdJ8_newLength.2 ⟨Nat.le_of_ble_eq_true rfl, Nat.le_of_ble_eq_true rfl⟩) rfl rfl (Nat.le_of_ble_eq_true rfl) dJ3_newCapacity_29 (fun r9 M1 hp => ?_)
  clear h
  obtain ⟨rfl, h⟩ := hp
  refine y_istore C 5 (by decide) dJ3_newCapacity_32 ?_
  refine y_iload C 5 rfl dJ3_newCapacity_34 ?_
  refine y_ldc C 2147483647 q284 dJ3_newCapacity_36 ?_
  refine y_icmp_ne C 51 dJ3_newCapacity_38 (by decide) (fun c9 => ?_) (fun c9 => ?_)
  · replace h := h.1 c9
    refine y_iload C 5 rfl dJ3_newCapacity_51 ?_
    refine y_aload_n C 0 rfl rfl dJ3_newCapacity_53 ?_
    obtain ⟨x10, ⟨fs9, g1, g2⟩, h⟩ := h
    refine y_get (ci := 10) (k := 1) C in_J4 rfl (by decide) q242 (fun _ h => h) g1 g2 dJ3_newCapacity_54 ?_
    refine y_ishr C dJ3_newCapacity_57 ?_
    exact y_ireti C hr rfl rfl ⟨rfl, h⟩ dJ3_newCapacity_58
  · replace h := h.2 c9
    exact h.elim
theorem kdJ10_copyOf : yJ10_copyOf.cls = RJ10 ∧ yJ10_copyOf.cls ≠ "java/lang/invoke/MethodHandle" ∧ yJ10_copyOf.cls ≠ "java/lang/invoke/VarHandle" ∧ (parseMethodDescriptor yJ10_copyOf.desc).map (fun d => d.parameters.length) = some 2 := by decide +kernel
def wpJ10_copyOf (M : yM) (mc : Nat) (ms : Nat) (a1 : Option Nat) (a2 : Int32) (post : Option Nat → yM → Prop) : Prop := ∃ d1 : Nat, a1 = some d1 ∧ ∃ e2 : FieldType × vp_A, M d1 = some (.inl e2) ∧ ((¬ a2 = (Int32.ofNat e2.2.1) → ¬ (a2 : Int32) < 0 ∧ (Int32.toNatClampNeg a2) ≤ 65536 ∧ 1 ≤ mc ∧ (Int32.toNatClampNeg a2) ≤ ms ∧ ∀ q3 : Nat, M q3 = none → ∀ M4 : yM, M4 = yup M q3 (yab (Int32.toNatClampNeg a2) (fun _ => 0)) → ∃ e5 : FieldType × vp_A, M4 d1 = some (.inl e5) ∧ ∃ (n6 n7 : Nat) (f8 f9 : Nat → Int32), M4 d1 = some (yab n6 f8) ∧ M4 q3 = some (yab n7 f9) ∧ 0 < n6 ∧ 0 < n7 ∧ ¬ (0 : Int32) < 0 ∧ ¬ (0 : Int32) < 0 ∧ ¬ ((if a2 < (Int32.ofNat e5.2.1) then a2 else (Int32.ofNat e5.2.1)) : Int32) < 0 ∧ (Int32.toNatClampNeg 0) + (Int32.toNatClampNeg (if a2 < (Int32.ofNat e5.2.1) then a2 else (Int32.ofNat e5.2.1))) ≤ n6 ∧ (Int32.toNatClampNeg 0) + (Int32.toNatClampNeg (if a2 < (Int32.ofNat e5.2.1) then a2 else (Int32.ofNat e5.2.1))) ≤ n7 ∧ (∀ i : Nat, i < (Int32.toNatClampNeg (if a2 < (Int32.ofNat e5.2.1) then a2 else (Int32.ofNat e5.2.1))) → fits .byte (.int (f8 ((Int32.toNatClampNeg 0) + i))) = true) ∧ ∀ M10 : yM, M10 = yup M4 q3 (yab n7 (va_cpy f8 f9 (Int32.toNatClampNeg 0) (Int32.toNatClampNeg 0) (Int32.toNatClampNeg (if a2 < (Int32.ofNat e5.2.1) then a2 else (Int32.ofNat e5.2.1))))) → post (some q3) M10) ∧ (a2 = (Int32.ofNat e2.2.1) → False))
theorem metJ10_copyOf {l : Launch} {D : va_G} {s0 : State} {a0 : Array Value} (hB : yB D s0 a0) {M : yM} {mc : Nat} {ms : Nat} {a1 : Option Nat} {a2 : Int32} {post : Option Nat → yM → Prop} (h : wpJ10_copyOf M mc ms a1 a2 post) : yMq l yJ10_copyOf (ws_ yJ10_copyOf cJ10_copyOf 3 (some (.array .byte))) 1 80 mc ms D s0 [yr a1, yi a2] M post := by
  refine y_metq hB (by decide) rfl (Nat.le_of_ble_eq_true rfl) ?_
  intro p e s m below meth c A hr hnm C
  rw [wpJ10_copyOf] at h
  refine y_iload_n C 1 rfl rfl dJ10_copyOf_0 ?_
  refine y_aload_n C 0 rfl rfl dJ10_copyOf_1 ?_
  obtain ⟨d1, rfl, h⟩ := h
  obtain ⟨e2, g1, h⟩ := h
  refine y_alen C g1 dJ10_copyOf_2 ?_
  refine y_icmp_ne C 14 dJ10_copyOf_3 (by decide) (fun c9 => ?_) (fun c9 => ?_)
  · replace h := h.1 c9
    refine y_iload_n C 1 rfl rfl dJ10_copyOf_14 ?_
    obtain ⟨g1, g2, g3, g4, h⟩ := h
    refine y_newab C q253 g1 g2 g3 g4 dJ10_copyOf_15 (fun q3 g5 => ?_)
    replace h := h q3 g5 _ rfl
    refine y_astore_n C 2 rfl (by decide) dJ10_copyOf_17 ?_
    refine y_aload_n C 0 rfl rfl dJ10_copyOf_18 ?_
    refine y_iconst C 0 dJ10_copyOf_19 lit0 ?_
    refine y_aload_n C 2 rfl rfl dJ10_copyOf_20 ?_
    refine y_iconst C 0 dJ10_copyOf_21 lit0 ?_
    refine y_aload_n C 0 rfl rfl dJ10_copyOf_22 ?_
    obtain ⟨e5, g1, h⟩ := h
    refine y_alen C g1 dJ10_copyOf_23 ?_
    refine y_iload_n C 1 rfl rfl dJ10_copyOf_24 ?_
    refine y_mmin C q295 q296 q99 q297 (Nat.le_of_ble_eq_true rfl) (Nat.le_of_ble_eq_true rfl) (Nat.le_of_ble_eq_true rfl) dJ10_copyOf_25 ?_
    obtain ⟨n6, n7, f8, f9, g1, g2, g3, g4, g5, g6, g7, g8, g9, g0, h⟩ := h
    replace h := h _ rfl
    refine y_copyb C q298 q300 q299 q101 g1 g2 g3 g4 g5 g6 g7 g8 g9 g0 (Nat.le_of_ble_eq_true rfl) (Nat.le_of_ble_eq_true rfl) (Nat.le_of_ble_eq_true rfl) dJ10_copyOf_28 ?_
    refine y_aload_n C 2 rfl rfl dJ10_copyOf_31 ?_
    exact y_aretq C hr (Or.inr ⟨_, rfl⟩) rfl rfl h dJ10_copyOf_32
  · replace h := h.2 c9
    refine y_aload_n C 0 rfl rfl dJ10_copyOf_6 ?_
    exact h.elim
theorem kdJ3_ensureCapacityInternal : yJ3_ensureCapacityInternal.cls = RJ3 ∧ yJ3_ensureCapacityInternal.cls ≠ "java/lang/invoke/MethodHandle" ∧ yJ3_ensureCapacityInternal.cls ≠ "java/lang/invoke/VarHandle" ∧ (parseMethodDescriptor yJ3_ensureCapacityInternal.desc).map (fun d => d.parameters.length) = some 1 := by decide +kernel
def wpJ3_ensureCapacityInternal (M : yM) (mc : Nat) (ms : Nat) (o_ : Nat) (a1 : Int32) (post : yM → Prop) : Prop := ∃ r1 : Option Nat, yF M o_ 10 0 (yr r1) ∧ ∃ d2 : Nat, r1 = some d2 ∧ ∃ e3 : FieldType × vp_A, M d2 = some (.inl e3) ∧ ∃ x4 : Int32, yF M o_ 10 1 (yi x4) ∧ ∀ x5 : Int32, x5 = ((Int32.ofNat e3.2.1) >>> (x4 &&& 31)) → (((a1 - x5) ≤ 0 → post M) ∧ (¬ (a1 - x5) ≤ 0 → ∃ r6 : Option Nat, yF M o_ 10 0 (yr r6) ∧ (∃ vs, M o_ = some (yo 10 vs)) ∧ wpJ3_newCapacity M o_ a1 (fun r7 => ∃ x8 : Int32, yF M o_ 10 1 (yi x8) ∧ ∃ kc9 ks10 : Nat, kc9 ≤ mc ∧ ks10 ≤ ms ∧ wpJ10_copyOf M kc9 ks10 r6 (r7 <<< (x8 &&& 31)) (fun r12 M11 => ∃ fs13 : List yV, M11 o_ = some (yo 10 fs13) ∧ 0 < fs13.length ∧ ∀ M14 : yM, M14 = yup M11 o_ (yo 10 (fs13.set 0 (yr r12))) → post M14))))
theorem metJ3_ensureCapacityInternal {l : Launch} {D : va_G} {s0 : State} {a0 : Array Value} (hB : yB D s0 a0) {M : yM} {mc : Nat} {ms : Nat} {o_ : Nat} {a1 : Int32} {post : yM → Prop} (h : wpJ3_ensureCapacityInternal M mc ms o_ a1 post) : yMv l yJ3_ensureCapacityInternal (ws_ yJ3_ensureCapacityInternal cJ3_ensureCapacityInternal 3 none) 3 128 mc ms D s0 [yr (some o_), yi a1] M post := by
  refine y_metv hB (by decide) rfl (Nat.le_of_ble_eq_true rfl) ?_
  intro p e s m below meth c A hr hnm C
  rw [wpJ3_ensureCapacityInternal] at h
  refine y_aload_n C 0 rfl rfl dJ3_ensureCapacityInternal_0 ?_
  obtain ⟨r1, ⟨fs9, g1, g2⟩, h⟩ := h
  refine y_get (ci := 10) (k := 0) C in_J4 rfl (by decide) q241 (fun _ h => h) g1 g2 dJ3_ensureCapacityInternal_1 ?_
  obtain ⟨d2, rfl, h⟩ := h
  obtain ⟨e3, g1, h⟩ := h
  refine y_alen C g1 dJ3_ensureCapacityInternal_4 ?_
  refine y_aload_n C 0 rfl rfl dJ3_ensureCapacityInternal_5 ?_
  obtain ⟨x4, ⟨fs9, g1, g2⟩, h⟩ := h
  refine y_get (ci := 10) (k := 1) C in_J4 rfl (by decide) q242 (fun _ h => h) g1 g2 dJ3_ensureCapacityInternal_6 ?_
  refine y_ishr C dJ3_ensureCapacityInternal_9 ?_
  replace h := h _ rfl
  refine y_istore_n C 2 rfl (by decide) dJ3_ensureCapacityInternal_10 ?_
  refine y_iload_n C 1 rfl rfl dJ3_ensureCapacityInternal_11 ?_
  refine y_iload_n C 2 rfl rfl dJ3_ensureCapacityInternal_12 ?_
  refine y_isub C dJ3_ensureCapacityInternal_13 ?_
  refine y_if_le C 38 dJ3_ensureCapacityInternal_14 (by decide) (fun c9 => ?_) (fun c9 => ?_)
  · replace h := h.1 c9
    exact y_vret C hr rfl rfl h dJ3_ensureCapacityInternal_38
  · replace h := h.2 c9
    refine y_aload_n C 0 rfl rfl dJ3_ensureCapacityInternal_17 ?_
    refine y_aload_n C 0 rfl rfl dJ3_ensureCapacityInternal_18 ?_
    obtain ⟨r6, ⟨fs9, g1, g2⟩, h⟩ := h
    refine y_get (ci := 10) (k := 0) C in_J4 rfl (by decide) q241 (fun _ h => h) g1 g2 dJ3_ensureCapacityInternal_19 ?_
    refine y_aload_n C 0 rfl rfl dJ3_ensureCapacityInternal_22 ?_
    refine y_iload_n C 1 rfl rfl dJ3_ensureCapacityInternal_23 ?_
    obtain ⟨⟨vs9, g0⟩, h⟩ := h
    refine y_callUi0 C (metJ3_newCapacity hB h) (va_cwU 1 (y_htsP C (y_selP C (lw_all_tbl q224) q271 (lw_all_tbl q272) (lw_all_tbl q1589) (by decide +kernel))) (lw_UP q270 q1589 q272 q93 q273) rfl rfl rfl rfl (by decide +kernel) ⟨Nat.le_of_ble_eq_true rfl, Nat.le_of_ble_eq_true rfl⟩) g0 rfl rfl rfl (Nat.le_of_ble_eq_true rfl) dJ3_ensureCapacityInternal_24 (fun r7 M1 hp => ?_)
    clear h
    obtain ⟨rfl, h⟩ := hp
    refine y_aload_n C 0 rfl rfl dJ3_ensureCapacityInternal_27 ?_
    obtain ⟨x8, ⟨fs9, g1, g2⟩, h⟩ := h
    refine y_get (ci := 10) (k := 1) C in_J4 rfl (by decide) q242 (fun _ h => h) g1 g2 dJ3_ensureCapacityInternal_28 ?_
    refine y_ishl C dJ3_ensureCapacityInternal_31 ?_
    obtain ⟨kc9, ks10, g1, g2, h⟩ := h
    refine y_callSq C (metJ10_copyOf hB h) (va_cwS 2 C.hts (lw_S q285 q286 q100 q287) rfl rfl rfl kdJ10_copyOf.2 ⟨Nat.le_of_ble_eq_true rfl, Nat.le_of_ble_eq_true rfl⟩) rfl rfl (Nat.le_of_ble_eq_true rfl) dJ3_ensureCapacityInternal_32 g1 g2 (fun r12 M11 hp => ?_)
    replace h := hp
    obtain ⟨fs13, g1, g2, h⟩ := h
    replace h := h _ rfl
    refine y_put (ci := 10) (k := 0) C in_J4 tyJ4_ok nmJ4 rfl (by decide) q241 (fun _ h => h) rfl g1 g2 (y_nma _ r12) (y_fta _ r12) rfl dJ3_ensureCapacityInternal_35 ?_
    exact y_vret C hr rfl rfl h dJ3_ensureCapacityInternal_38
theorem kdJ3_isLatin1 : yJ3_isLatin1.cls = RJ3 ∧ yJ3_isLatin1.cls ≠ "java/lang/invoke/MethodHandle" ∧ yJ3_isLatin1.cls ≠ "java/lang/invoke/VarHandle" ∧ (parseMethodDescriptor yJ3_isLatin1.desc).map (fun d => d.parameters.length) = some 0 := by decide +kernel
def wpJ3_isLatin1 (M : yM) (o_ : Nat) (post : Int32 → Prop) : Prop := (((1 : Int32) = 0 → post 0) ∧ (¬ (1 : Int32) = 0 → ∃ x1 : Int32, yF M o_ 10 1 (yi x1) ∧ ((¬ x1 = 0 → post 0) ∧ (x1 = 0 → post 1))))
theorem metJ3_isLatin1 {l : Launch} {D : va_G} {s0 : State} {a0 : Array Value} (hB : yB D s0 a0) {M : yM} {o_ : Nat} {post : Int32 → Prop} (h : wpJ3_isLatin1 M o_ post) : yMi l yJ3_isLatin1 (ws_ yJ3_isLatin1 cJ3_isLatin1 1 (some .boolean)) 1 80 0 0 D s0 [yr (some o_)] M (fun r M1 => M1 = M ∧ post r) := by
  refine y_meti hB (by decide) rfl (Nat.le_of_ble_eq_true rfl) ?_
  intro p e s m below meth c A hr hnm C
  rw [wpJ3_isLatin1] at h
  refine y_stat_COMPACT_STRINGS C q232 dJ3_isLatin1_0 ?_
  refine y_if_eq C 17 dJ3_isLatin1_3 (by decide) (fun c9 => ?_) (fun c9 => ?_)
  · replace h := h.1 c9
    refine y_iconst C 0 dJ3_isLatin1_17 lit0 ?_
    exact y_iretz C hr rfl rfl (by decide) ⟨rfl, h⟩ dJ3_isLatin1_18
  · replace h := h.2 c9
    refine y_aload_n C 0 rfl rfl dJ3_isLatin1_6 ?_
    obtain ⟨x1, ⟨fs9, g1, g2⟩, h⟩ := h
    refine y_get (ci := 10) (k := 1) C in_J4 rfl (by decide) q242 (fun _ h => h) g1 g2 dJ3_isLatin1_7 ?_
    refine y_if_ne C 17 dJ3_isLatin1_10 (by decide) (fun c9 => ?_) (fun c9 => ?_)
    · replace h := h.1 c9
      refine y_iconst C 0 dJ3_isLatin1_17 lit0 ?_
      exact y_iretz C hr rfl rfl (by decide) ⟨rfl, h⟩ dJ3_isLatin1_18
    · replace h := h.2 c9
      refine y_iconst C 1 dJ3_isLatin1_13 lit1 ?_
      refine y_goto C 18 dJ3_isLatin1_14 (by decide) ?_
      exact y_iretz C hr rfl rfl (by decide) ⟨rfl, h⟩ dJ3_isLatin1_18
theorem kdJ11_canEncode : yJ11_canEncode.cls = RJ11 ∧ yJ11_canEncode.cls ≠ "java/lang/invoke/MethodHandle" ∧ yJ11_canEncode.cls ≠ "java/lang/invoke/VarHandle" ∧ (parseMethodDescriptor yJ11_canEncode.desc).map (fun d => d.parameters.length) = some 1 := by decide +kernel
def wpJ11_canEncode (M : yM) (a1 : Int32) (post : Int32 → Prop) : Prop := ((255 < a1 → post 0) ∧ (¬ 255 < a1 → post 1))
theorem metJ11_canEncode {l : Launch} {D : va_G} {s0 : State} {a0 : Array Value} (hB : yB D s0 a0) {M : yM} {a1 : Int32} {post : Int32 → Prop} (h : wpJ11_canEncode M a1 post) : yMi l yJ11_canEncode (ws_ yJ11_canEncode cJ11_canEncode 1 (some .boolean)) 1 80 0 0 D s0 [yi a1] M (fun r M1 => M1 = M ∧ post r) := by
  refine y_meti hB (by decide) rfl (Nat.le_of_ble_eq_true rfl) ?_
  intro p e s m below meth c A hr hnm C
  rw [wpJ11_canEncode] at h
  refine y_iload_n C 0 rfl rfl dJ11_canEncode_0 ?_
  refine y_sipush C 255 dJ11_canEncode_1 y_s255 ?_
  refine y_icmp_gt C 11 dJ11_canEncode_4 (by decide) (fun c9 => ?_) (fun c9 => ?_)
  · replace h := h.1 c9
    refine y_iconst C 0 dJ11_canEncode_11 lit0 ?_
    exact y_iretz C hr rfl rfl (by decide) ⟨rfl, h⟩ dJ11_canEncode_12
  · replace h := h.2 c9
    refine y_iconst C 1 dJ11_canEncode_7 lit1 ?_
    refine y_goto C 12 dJ11_canEncode_8 (by decide) ?_
    exact y_iretz C hr rfl rfl (by decide) ⟨rfl, h⟩ dJ11_canEncode_12
theorem kdJ3_appendChars : yJ3_appendChars.cls = RJ3 ∧ yJ3_appendChars.cls ≠ "java/lang/invoke/MethodHandle" ∧ yJ3_appendChars.cls ≠ "java/lang/invoke/VarHandle" ∧ (parseMethodDescriptor yJ3_appendChars.desc).map (fun d => d.parameters.length) = some 3 := by decide +kernel
section sJ3_appendChars
variable {p : Program} {l : Launch} {e : Env} {s : State} {m : MethodId} {args : Array Value} {below : List Frame} {meth : Method} {c : Code} {D : va_G} {s0 : State} {a0 : Array Value} {A : Nat → Prop}
def wpJ3_appendChars_b119 (o_ : Nat) (post : yM → Prop) (M : yM) (v2 : Int32) (v3 : Int32) (v4 : Int32) : Prop := ∃ fs5 : List yV, M o_ = some (yo 10 fs5) ∧ 3 < fs5.length ∧ ∀ M6 : yM, M6 = yup M o_ (yo 10 (fs5.set 3 (yi ((v4 + v3) - v2)))) → post M6
theorem okJ3_appendChars_b119 (C : yC p { frames := 2, cells := 0, slots := 0, locals := 100 } s m args meth c cJ3_appendChars 9 RJ3 D s0 a0 A) (hB : yB D s0 a0) (hr : meth.sig.returnType = none) {o_ : Nat} {post : yM → Prop}  : ∀ (M : yM) (v2 : Int32) (v3 : Int32) (v4 : Int32), wpJ3_appendChars_b119 o_ post M v2 v3 v4 → Y p l e { frames := 2, cells := 0, slots := 0, locals := 100 } s m args below meth c (MQ below (yQv D s0 A post) args s 0 0 A) D s0 A 9 M 0 0 [some (yr (some o_)), none, some (yi v2), some (yi v3), some (yi v4), none, none, none, none] 119 [] := by
  intro M v2 v3 v4 h
  rw [wpJ3_appendChars_b119] at h
  refine y_aload_n C 0 rfl rfl dJ3_appendChars_119 ?_
  refine y_iload C 4 rfl dJ3_appendChars_120 ?_
  refine y_iload_n C 3 rfl rfl dJ3_appendChars_122 ?_
  refine y_iadd C dJ3_appendChars_123 ?_
  refine y_iload_n C 2 rfl rfl dJ3_appendChars_124 ?_
  refine y_isub C dJ3_appendChars_125 ?_
  obtain ⟨fs5, g1, g2, h⟩ := h
  replace h := h _ rfl
  refine y_put (ci := 10) (k := 3) C in_J4 tyJ4_ok nmJ4 rfl (by decide) q243 (fun _ h => h) rfl g1 g2 rfl rfl rfl dJ3_appendChars_126 ?_
  exact y_vret C hr rfl rfl h dJ3_appendChars_129
def wpJ3_appendChars_b26 (o_ : Nat) (post : yM → Prop) : Nat → yM → Option Nat → Int32 → Int32 → Int32 → Option Nat → Int32 → Int32 → Prop
  | 0, _, _, _, _, _, _, _, _ => False
  | nn + 1, M, v1, v2, v3, v4, v5, v6, v7 => ((v3 ≤ v6 → wpJ3_appendChars_b119 o_ post M v2 v3 v4) ∧ (¬ v3 ≤ v6 → ∃ d7 : Nat, v1 = some d7 ∧ ∃ (n8 : Nat) (f9 : Nat → Int32), M d7 = some (yac n8 f9) ∧ vp_in v6 n8 ∧ ∀ x10 : Int32, x10 = (f9 (Int32.toNatClampNeg v6)) → wpJ11_canEncode M x10 (fun r11 => ((r11 = 0 → ∃ fs12 : List yV, M o_ = some (yo 10 fs12) ∧ 3 < fs12.length ∧ ∀ M13 : yM, M13 = yup M o_ (yo 10 (fs12.set 3 (yi v7))) → False) ∧ (¬ r11 = 0 → ∀ x14 : Int32, x14 = v7 + 1 → ∃ d15 : Nat, v5 = some d15 ∧ ∃ (n16 : Nat) (f17 : Nat → Int32), M d15 = some (yab n16 f17) ∧ vp_in v7 n16 ∧ ∀ M18 : yM, M18 = yup M d15 (yab n16 (upd f17 (Int32.toNatClampNeg v7) (vp_nar .byte (Int8.toInt32 (Int32.toInt8 x10))))) → ∀ x19 : Int32, x19 = v6 + 1 → wpJ3_appendChars_b26 o_ post nn M18 (some d7) v2 v3 v4 (some d15) x19 x14)))))
theorem okJ3_appendChars_b26 (C : yC p { frames := 2, cells := 0, slots := 0, locals := 100 } s m args meth c cJ3_appendChars 9 RJ3 D s0 a0 A) (hB : yB D s0 a0) (hr : meth.sig.returnType = none) {o_ : Nat} {post : yM → Prop}  : ∀ (nn : Nat) (M : yM) (v1 : Option Nat) (v2 : Int32) (v3 : Int32) (v4 : Int32) (v5 : Option Nat) (v6 : Int32) (v7 : Int32), wpJ3_appendChars_b26 o_ post nn M v1 v2 v3 v4 v5 v6 v7 → Y p l e { frames := 2, cells := 0, slots := 0, locals := 100 } s m args below meth c (MQ below (yQv D s0 A post) args s 0 0 A) D s0 A 9 M 0 0 [some (yr (some o_)), some (yr v1), some (yi v2), some (yi v3), some (yi v4), some (yr v5), some (yi v6), some (yi v7), none] 26 [] := by
  intro nn
  induction nn with
  | zero => intro M v1 v2 v3 v4 v5 v6 v7 h; exact absurd h (by rw [wpJ3_appendChars_b26]; exact id)
  | succ nn ih =>
    intro M v1 v2 v3 v4 v5 v6 v7 h
    rw [wpJ3_appendChars_b26] at h
    refine y_iload C 6 rfl dJ3_appendChars_26 ?_
    refine y_iload_n C 3 rfl rfl dJ3_appendChars_28 ?_
    refine y_icmp_ge C 104 dJ3_appendChars_29 (by decide) (fun c9 => ?_) (fun c9 => ?_)
    · replace h := h.1 c9
      refine y_goto C 119 dJ3_appendChars_104 (by decide) ?_
      refine y_to C _ ?_ (okJ3_appendChars_b119 C hB hr  _ _ _ _ h)
      exact (And.intro rfl (And.intro rfl (And.intro rfl (And.intro rfl trivial))))
    · replace h := h.2 c9
      refine y_aload_n C 1 rfl rfl dJ3_appendChars_32 ?_
      refine y_iload C 6 rfl dJ3_appendChars_33 ?_
      obtain ⟨d7, rfl, h⟩ := h
      obtain ⟨n8, f9, g1, g2, h⟩ := h
      refine y_cald C g1 g2 dJ3_appendChars_35 ?_
      replace h := h _ rfl
      refine y_istore C 8 (by decide) dJ3_appendChars_36 ?_
      refine y_iload C 8 rfl dJ3_appendChars_38 ?_
      refine y_callSi0 C (metJ11_canEncode hB h) (va_cwS 1 C.hts (lw_S q310 q311 q102 q312) rfl rfl rfl kdJ11_canEncode.2 ⟨Nat.le_of_ble_eq_true rfl, Nat.le_of_ble_eq_true rfl⟩) rfl rfl (Nat.le_of_ble_eq_true rfl) dJ3_appendChars_40 (fun r11 M1 hp => ?_)
      clear h
      obtain ⟨rfl, h⟩ := hp
      refine y_if_eq C 60 dJ3_appendChars_43 (by decide) (fun c9 => ?_) (fun c9 => ?_)
      · replace h := h.1 c9
        refine y_aload_n C 0 rfl rfl dJ3_appendChars_60 ?_
        refine y_iload C 7 rfl dJ3_appendChars_61 ?_
        refine y_dup C rfl dJ3_appendChars_63 ?_
        refine y_istore C 4 (by decide) dJ3_appendChars_64 ?_
        obtain ⟨fs12, g1, g2, h⟩ := h
        replace h := h _ rfl
        refine y_put (ci := 10) (k := 3) C in_J4 tyJ4_ok nmJ4 rfl (by decide) q243 (fun _ h => h) rfl g1 g2 rfl rfl rfl dJ3_appendChars_66 ?_
        refine y_aload_n C 0 rfl rfl dJ3_appendChars_69 ?_
        exact h.elim
      · replace h := h.2 c9
        refine y_aload C 5 rfl dJ3_appendChars_46 ?_
        refine y_iload C 7 rfl dJ3_appendChars_48 ?_
        replace h := h _ rfl
        refine y_iinc C 7 _ rfl (y_inc1 _) (by decide) dJ3_appendChars_50 ?_
        refine y_iload C 8 rfl dJ3_appendChars_53 ?_
        refine y_i2b C dJ3_appendChars_55 ?_
        obtain ⟨d15, rfl, h⟩ := h
        obtain ⟨n16, f17, g1, g2, h⟩ := h
        replace h := h _ rfl
        refine y_bast C g1 g2 rfl dJ3_appendChars_56 ?_
        refine y_goto C 98 dJ3_appendChars_57 (by decide) ?_
        replace h := h _ rfl
        refine y_iinc C 6 _ rfl (y_inc1 _) (by decide) dJ3_appendChars_98 ?_
        refine y_goto C 26 dJ3_appendChars_101 (by decide) ?_
        refine y_to C _ ?_ (ih _ _ _ _ _ _ _ _ h)
        exact (And.intro rfl (And.intro rfl (And.intro rfl (And.intro rfl (And.intro rfl (And.intro rfl (And.intro rfl (And.intro rfl trivial))))))))
end sJ3_appendChars
def wpJ3_appendChars (M : yM) (o_ : Nat) (a1 : Option Nat) (a2 : Int32) (a3 : Int32) (post : yM → Prop) : Prop := ∃ x1 : Int32, yF M o_ 10 3 (yi x1) ∧ (∃ vs, M o_ = some (yo 10 vs)) ∧ wpJ3_isLatin1 M o_ (fun r2 => ((r2 = 0 → ∃ r3 : Option Nat, yF M o_ 10 0 (yr r3) ∧ False) ∧ (¬ r2 = 0 → ∃ r4 : Option Nat, yF M o_ 10 0 (yr r4) ∧ ∃ nf9 : Nat, wpJ3_appendChars_b26 o_ post nf9 M a1 a2 a3 x1 r4 a2 x1)))
theorem metJ3_appendChars {l : Launch} {D : va_G} {s0 : State} {a0 : Array Value} (hB : yB D s0 a0) {M : yM} {o_ : Nat} {a1 : Option Nat} {a2 : Int32} {a3 : Int32} {post : yM → Prop} (h : wpJ3_appendChars M o_ a1 a2 a3 post) : yMv l yJ3_appendChars (ws_ yJ3_appendChars cJ3_appendChars 9 none) 2 100 0 0 D s0 [yr (some o_), yr a1, yi a2, yi a3] M post := by
  refine y_metv hB (by decide) rfl (Nat.le_of_ble_eq_true rfl) ?_
  intro p e s m below meth c A hr hnm C
  rw [wpJ3_appendChars] at h
  refine y_aload_n C 0 rfl rfl dJ3_appendChars_0 ?_
  obtain ⟨x1, ⟨fs9, g1, g2⟩, h⟩ := h
  refine y_get (ci := 10) (k := 3) C in_J4 rfl (by decide) q243 (fun _ h => h) g1 g2 dJ3_appendChars_1 ?_
  refine y_istore C 4 (by decide) dJ3_appendChars_4 ?_
  refine y_aload_n C 0 rfl rfl dJ3_appendChars_6 ?_
  obtain ⟨⟨vs9, g0⟩, h⟩ := h
  refine y_callUi0 C (metJ3_isLatin1 hB h) (va_cwU 0 C.hts (lw_U q305 q307 q308 q306 q93 q309) rfl rfl rfl rfl (by decide +kernel) ⟨Nat.le_of_ble_eq_true rfl, Nat.le_of_ble_eq_true rfl⟩) g0 rfl rfl rfl (Nat.le_of_ble_eq_true rfl) dJ3_appendChars_7 (fun r2 M1 hp => ?_)
  clear h
  obtain ⟨rfl, h⟩ := hp
  refine y_if_eq C 107 dJ3_appendChars_10 (by decide) (fun c9 => ?_) (fun c9 => ?_)
  · replace h := h.1 c9
    refine y_aload_n C 0 rfl rfl dJ3_appendChars_107 ?_
    obtain ⟨r3, ⟨fs9, g1, g2⟩, h⟩ := h
    refine y_get (ci := 10) (k := 0) C in_J4 rfl (by decide) q241 (fun _ h => h) g1 g2 dJ3_appendChars_108 ?_
    refine y_iload C 4 rfl dJ3_appendChars_111 ?_
    refine y_aload_n C 1 rfl rfl dJ3_appendChars_113 ?_
    refine y_iload_n C 2 rfl rfl dJ3_appendChars_114 ?_
    refine y_iload_n C 3 rfl rfl dJ3_appendChars_115 ?_
    exact h.elim
  · replace h := h.2 c9
    refine y_aload_n C 0 rfl rfl dJ3_appendChars_13 ?_
    obtain ⟨r4, ⟨fs9, g1, g2⟩, h⟩ := h
    refine y_get (ci := 10) (k := 0) C in_J4 rfl (by decide) q241 (fun _ h => h) g1 g2 dJ3_appendChars_14 ?_
    refine y_astore C 5 (by decide) dJ3_appendChars_17 ?_
    refine y_iload_n C 2 rfl rfl dJ3_appendChars_19 ?_
    refine y_istore C 6 (by decide) dJ3_appendChars_20 ?_
    refine y_iload C 4 rfl dJ3_appendChars_22 ?_
    refine y_istore C 7 (by decide) dJ3_appendChars_24 ?_
    obtain ⟨nf9, h⟩ := h
    refine y_to C _ ?_ (okJ3_appendChars_b26 C hB hr  nf9 _ _ _ _ _ _ _ _ h)
    exact (And.intro rfl (And.intro rfl (And.intro rfl (And.intro rfl (And.intro rfl (And.intro rfl (And.intro rfl (And.intro rfl trivial))))))))
theorem kdJ3_append : yJ3_append.cls = RJ3 ∧ yJ3_append.cls ≠ "java/lang/invoke/MethodHandle" ∧ yJ3_append.cls ≠ "java/lang/invoke/VarHandle" ∧ (parseMethodDescriptor yJ3_append.desc).map (fun d => d.parameters.length) = some 3 := by decide +kernel
def wpJ3_append (M : yM) (mc : Nat) (ms : Nat) (o_ : Nat) (a1 : Option Nat) (a2 : Int32) (a3 : Int32) (post : Option Nat → yM → Prop) : Prop := ∀ x1 : Int32, x1 = (a2 + a3) → ∃ d2 : Nat, a1 = some d2 ∧ ∃ e3 : FieldType × vp_A, M d2 = some (.inl e3) ∧ ∀ r4 : Option Nat, wpJ7_checkFromToIndex M a2 x1 (Int32.ofNat e3.2.1) r4 (fun r5 => ∃ x6 : Int32, yF M o_ 10 3 (yi x6) ∧ ∃ kc7 ks8 : Nat, kc7 ≤ mc ∧ ks8 ≤ ms ∧ (∃ vs, M o_ = some (yo 10 vs)) ∧ wpJ3_ensureCapacityInternal M kc7 ks8 o_ (x6 + a3) (fun M9 => (∃ vs, M9 o_ = some (yo 10 vs)) ∧ wpJ3_appendChars M9 o_ (some d2) a2 x1 (fun M10 => post (some o_) M10)))
theorem metJ3_append {l : Launch} {D : va_G} {s0 : State} {a0 : Array Value} (hB : yB D s0 a0) {M : yM} {mc : Nat} {ms : Nat} {o_ : Nat} {a1 : Option Nat} {a2 : Int32} {a3 : Int32} {post : Option Nat → yM → Prop} (h : wpJ3_append M mc ms o_ a1 a2 a3 post) : yMq l yJ3_append (ws_ yJ3_append cJ3_append 5 (some (.object "java/lang/AbstractStringBuilder"))) 4 150 mc ms D s0 [yr (some o_), yr a1, yi a2, yi a3] M post := by
  refine y_metq hB (by decide) rfl (Nat.le_of_ble_eq_true rfl) ?_
  intro p e s m below meth c A hr hnm C
  rw [wpJ3_append] at h
  refine y_iload_n C 2 rfl rfl dJ3_append_0 ?_
  refine y_iload_n C 3 rfl rfl dJ3_append_1 ?_
  refine y_iadd C dJ3_append_2 ?_
  replace h := h _ rfl
  refine y_istore C 4 (by decide) dJ3_append_3 ?_
  refine y_iload_n C 2 rfl rfl dJ3_append_5 ?_
  refine y_iload C 4 rfl dJ3_append_6 ?_
  refine y_aload_n C 1 rfl rfl dJ3_append_8 ?_
  obtain ⟨d2, rfl, h⟩ := h
  obtain ⟨e3, g1, h⟩ := h
  refine y_alen C g1 dJ3_append_9 ?_
  refine y_statq C q262 (lw_all_tbl q97) (by decide +kernel) q261 dJ3_append_10 (fun r4 => ?_)
  replace h := h r4
  refine y_callSi0 C (metJ7_checkFromToIndex hB h) (va_cwS 4 C.hts (lw_S q263 q264 q97 q265) rfl rfl rfl kdJ7_checkFromToIndex.2 ⟨Nat.le_of_ble_eq_true rfl, Nat.le_of_ble_eq_true rfl⟩) rfl rfl (Nat.le_of_ble_eq_true rfl) dJ3_append_13 (fun r5 M1 hp => ?_)
  clear h
  obtain ⟨rfl, h⟩ := hp
  refine y_pop C rfl dJ3_append_16 ?_
  refine y_aload_n C 0 rfl rfl dJ3_append_17 ?_
  refine y_aload_n C 0 rfl rfl dJ3_append_18 ?_
  obtain ⟨x6, ⟨fs9, g1, g2⟩, h⟩ := h
  refine y_get (ci := 10) (k := 3) C in_J4 rfl (by decide) q243 (fun _ h => h) g1 g2 dJ3_append_19 ?_
  refine y_iload_n C 3 rfl rfl dJ3_append_22 ?_
  refine y_iadd C dJ3_append_23 ?_
  obtain ⟨kc7, ks8, g1, g2, h⟩ := h
  obtain ⟨⟨vs9, g0⟩, h⟩ := h
  refine y_callUv C (metJ3_ensureCapacityInternal hB h) (va_cwU 1 (y_htsP C (y_selP C (lw_all_tbl q224) q267 (lw_all_tbl q268) (lw_all_tbl q1588) (by decide +kernel))) (lw_UP q266 q1588 q268 q93 q269) rfl rfl rfl rfl (by decide +kernel) ⟨Nat.le_of_ble_eq_true rfl, Nat.le_of_ble_eq_true rfl⟩) g0 rfl rfl rfl (Nat.le_of_ble_eq_true rfl) dJ3_append_24 g1 g2 (fun M9 hp => ?_)
  replace h := hp
  refine y_aload_n C 0 rfl rfl dJ3_append_27 ?_
  refine y_aload_n C 1 rfl rfl dJ3_append_28 ?_
  refine y_iload_n C 2 rfl rfl dJ3_append_29 ?_
  refine y_iload C 4 rfl dJ3_append_30 ?_
  obtain ⟨⟨vs9, g0⟩, h⟩ := h
  refine y_callUv0 C (metJ3_appendChars hB h) (va_cwU 3 (y_htsP C (y_selP C (lw_all_tbl q224) q302 (lw_all_tbl q303) (lw_all_tbl q1590) (by decide +kernel))) (lw_UP q301 q1590 q303 q93 q304) rfl rfl rfl rfl (by decide +kernel) ⟨Nat.le_of_ble_eq_true rfl, Nat.le_of_ble_eq_true rfl⟩) g0 rfl rfl rfl (Nat.le_of_ble_eq_true rfl) dJ3_append_32 (fun M10 hp => ?_)
  replace h := hp
  refine y_aload_n C 0 rfl rfl dJ3_append_35 ?_
  exact y_aretq C hr (Or.inl ⟨_, rfl⟩) rfl rfl h dJ3_append_36
theorem kdJ4_append : yJ4_append.cls = RJ4 ∧ yJ4_append.cls ≠ "java/lang/invoke/MethodHandle" ∧ yJ4_append.cls ≠ "java/lang/invoke/VarHandle" ∧ (parseMethodDescriptor yJ4_append.desc).map (fun d => d.parameters.length) = some 3 := by decide +kernel
def wpJ4_append (M : yM) (mc : Nat) (ms : Nat) (o_ : Nat) (a1 : Option Nat) (a2 : Int32) (a3 : Int32) (post : Option Nat → yM → Prop) : Prop := ∃ kc1 ks2 : Nat, kc1 ≤ mc ∧ ks2 ≤ ms ∧ (∃ vs, M o_ = some (yo 10 vs)) ∧ wpJ3_append M kc1 ks2 o_ a1 a2 a3 (fun r4 M3 => post (some o_) M3)
theorem metJ4_append {l : Launch} {D : va_G} {s0 : State} {a0 : Array Value} (hB : yB D s0 a0) {M : yM} {mc : Nat} {ms : Nat} {o_ : Nat} {a1 : Option Nat} {a2 : Int32} {a3 : Int32} {post : Option Nat → yM → Prop} (h : wpJ4_append M mc ms o_ a1 a2 a3 post) : yMq l yJ4_append (ws_ yJ4_append cJ4_append 4 (some (.object "java/lang/StringBuilder"))) 5 174 mc ms D s0 [yr (some o_), yr a1, yi a2, yi a3] M post := by
  refine y_metq hB (by decide) rfl (Nat.le_of_ble_eq_true rfl) ?_
  intro p e s m below meth c A hr hnm C
  rw [wpJ4_append] at h
  refine y_aload_n C 0 rfl rfl dJ4_append_0 ?_
  refine y_aload_n C 1 rfl rfl dJ4_append_1 ?_
  refine y_iload_n C 2 rfl rfl dJ4_append_2 ?_
  refine y_iload_n C 3 rfl rfl dJ4_append_3 ?_
  obtain ⟨kc1, ks2, g1, g2, h⟩ := h
  obtain ⟨⟨vs9, g0⟩, h⟩ := h
  refine y_callSUq C (metJ3_append hB h) (va_cwSU 3 C.hts (lw_SU q258 q1587 q252 q259 q93 q260) rfl rfl rfl (by decide +kernel) ⟨Nat.le_of_ble_eq_true rfl, Nat.le_of_ble_eq_true rfl⟩) g0 rfl rfl rfl (Nat.le_of_ble_eq_true rfl) dJ4_append_4 g1 g2 (fun r4 M3 hp => ?_)
  replace h := hp
  refine y_pop C rfl dJ4_append_7 ?_
  refine y_aload_n C 0 rfl rfl dJ4_append_8 ?_
  exact y_aretq C hr (Or.inl ⟨_, rfl⟩) rfl rfl h dJ4_append_9

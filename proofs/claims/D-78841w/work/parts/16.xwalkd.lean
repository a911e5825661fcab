set_option maxRecDepth 100000
theorem kdX1_isFree : yX1_isFree.cls = RX1 ∧ yX1_isFree.cls ≠ "java/lang/invoke/MethodHandle" ∧ yX1_isFree.cls ≠ "java/lang/invoke/VarHandle" ∧ (parseMethodDescriptor yX1_isFree.desc).map (fun d => d.parameters.length) = some 2 := by decide +kernel
section sX1_isFree
variable {p : Program} {l : Launch} {e : Env} {s : State} {m : MethodId} {args : Array Value} {below : List Frame} {meth : Method} {c : Code} {D : va_G} {s0 : State} {a0 : Array Value} {A : Nat → Prop}
def wpX1_isFree_b64 (M : yM) (o_ : Nat) (post : Int32 → Prop) (k5 : Option Nat → Int32 → Int32 → Int32 → Prop) (v1 : Option Nat) (v2 : Int32) (v4 : Int32) (u0 : Int32) : Prop := ∀ x4 : Int32, x4 = v4 + 1 → k5 v1 v2 u0 x4
theorem okX1_isFree_b64 (C : yC p { frames := 5, cells := 0, slots := 0, locals := 167 } s m args meth c cX1_isFree 5 RX1 D s0 a0 A) (hB : yB D s0 a0) (hr : meth.sig.returnType = (some .boolean)) {M : yM} {o_ : Nat} {post : Int32 → Prop} {k5 : Option Nat → Int32 → Int32 → Int32 → Prop} (hk5 : ∀ (v1 : Option Nat) (v2 : Int32) (v3 : Int32) (v4 : Int32), k5 v1 v2 v3 v4 → Y p l e { frames := 5, cells := 0, slots := 0, locals := 167 } s m args below meth c (MQ below (yQi D s0 A (fun r M1 => M1 = M ∧ post r)) args s 0 0 A) D s0 A 5 M 0 0 [some (yr (some o_)), some (yr v1), some (yi v2), some (yi v3), some (yi v4)] 5 []) : ∀ (v1 : Option Nat) (v2 : Int32) (v4 : Int32) (u0 : Int32), wpX1_isFree_b64 M o_ post k5 v1 v2 v4 u0 → Y p l e { frames := 5, cells := 0, slots := 0, locals := 167 } s m args below meth c (MQ below (yQi D s0 A (fun r M1 => M1 = M ∧ post r)) args s 0 0 A) D s0 A 5 M 0 0 [some (yr (some o_)), some (yr v1), some (yi v2), none, some (yi v4)] 64 [yi u0] := by
  intro v1 v2 v4 u0 h
  rw [wpX1_isFree_b64] at h
  refine y_istore_n C 3 rfl (by decide) dX1_isFree_64 ?_
  replace h := h _ rfl
  refine y_iinc C 4 _ rfl (y_inc1 _) (by decide) dX1_isFree_65 ?_
  refine y_goto C 5 dX1_isFree_68 (by decide) ?_
  refine y_to C _ ?_ (hk5 _ _ _ _ h)
  exact (And.intro rfl (And.intro rfl (And.intro rfl (And.intro rfl (And.intro rfl trivial)))))
def wpX1_isFree_b63 (M : yM) (o_ : Nat) (post : Int32 → Prop) (k5 : Option Nat → Int32 → Int32 → Int32 → Prop) (v1 : Option Nat) (v2 : Int32) (v4 : Int32) : Prop := wpX1_isFree_b64 M o_ post k5 v1 v2 v4 0
theorem okX1_isFree_b63 (C : yC p { frames := 5, cells := 0, slots := 0, locals := 167 } s m args meth c cX1_isFree 5 RX1 D s0 a0 A) (hB : yB D s0 a0) (hr : meth.sig.returnType = (some .boolean)) {M : yM} {o_ : Nat} {post : Int32 → Prop} {k5 : Option Nat → Int32 → Int32 → Int32 → Prop} (hk5 : ∀ (v1 : Option Nat) (v2 : Int32) (v3 : Int32) (v4 : Int32), k5 v1 v2 v3 v4 → Y p l e { frames := 5, cells := 0, slots := 0, locals := 167 } s m args below meth c (MQ below (yQi D s0 A (fun r M1 => M1 = M ∧ post r)) args s 0 0 A) D s0 A 5 M 0 0 [some (yr (some o_)), some (yr v1), some (yi v2), some (yi v3), some (yi v4)] 5 []) : ∀ (v1 : Option Nat) (v2 : Int32) (v4 : Int32), wpX1_isFree_b63 M o_ post k5 v1 v2 v4 → Y p l e { frames := 5, cells := 0, slots := 0, locals := 167 } s m args below meth c (MQ below (yQi D s0 A (fun r M1 => M1 = M ∧ post r)) args s 0 0 A) D s0 A 5 M 0 0 [some (yr (some o_)), some (yr v1), some (yi v2), none, some (yi v4)] 63 [] := by
  intro v1 v2 v4 h
  rw [wpX1_isFree_b63] at h
  refine y_iconst C 0 dX1_isFree_63 lit0 ?_
  refine y_to C _ ?_ (okX1_isFree_b64 C hB hr hk5 _ _ _ _ h)
  exact (And.intro rfl (And.intro rfl (And.intro rfl (And.intro rfl trivial))))
def wpX1_isFree_b59 (M : yM) (o_ : Nat) (post : Int32 → Prop) (k5 : Option Nat → Int32 → Int32 → Int32 → Prop) (v1 : Option Nat) (v2 : Int32) (v4 : Int32) : Prop := wpX1_isFree_b64 M o_ post k5 v1 v2 v4 1
theorem okX1_isFree_b59 (C : yC p { frames := 5, cells := 0, slots := 0, locals := 167 } s m args meth c cX1_isFree 5 RX1 D s0 a0 A) (hB : yB D s0 a0) (hr : meth.sig.returnType = (some .boolean)) {M : yM} {o_ : Nat} {post : Int32 → Prop} {k5 : Option Nat → Int32 → Int32 → Int32 → Prop} (hk5 : ∀ (v1 : Option Nat) (v2 : Int32) (v3 : Int32) (v4 : Int32), k5 v1 v2 v3 v4 → Y p l e { frames := 5, cells := 0, slots := 0, locals := 167 } s m args below meth c (MQ below (yQi D s0 A (fun r M1 => M1 = M ∧ post r)) args s 0 0 A) D s0 A 5 M 0 0 [some (yr (some o_)), some (yr v1), some (yi v2), some (yi v3), some (yi v4)] 5 []) : ∀ (v1 : Option Nat) (v2 : Int32) (v4 : Int32), wpX1_isFree_b59 M o_ post k5 v1 v2 v4 → Y p l e { frames := 5, cells := 0, slots := 0, locals := 167 } s m args below meth c (MQ below (yQi D s0 A (fun r M1 => M1 = M ∧ post r)) args s 0 0 A) D s0 A 5 M 0 0 [some (yr (some o_)), some (yr v1), some (yi v2), none, some (yi v4)] 59 [] := by
  intro v1 v2 v4 h
  rw [wpX1_isFree_b59] at h
  refine y_iconst C 1 dX1_isFree_59 lit1 ?_
  refine y_goto C 64 dX1_isFree_60 (by decide) ?_
  refine y_to C _ ?_ (okX1_isFree_b64 C hB hr hk5 _ _ _ _ h)
  exact (And.intro rfl (And.intro rfl (And.intro rfl (And.intro rfl trivial))))
def wpX1_isFree_b5 (M : yM) (o_ : Nat) (post : Int32 → Prop) : Nat → Option Nat → Int32 → Int32 → Int32 → Prop
  | 0, _, _, _, _ => False
  | nn + 1, v1, v2, v3, v4 => ∃ r1 : Option Nat, yF M o_ 1 4 (yr r1) ∧ ∃ d2 : Nat, r1 = some d2 ∧ (∃ vs, M d2 = some (yo 9 vs)) ∧ wpJ2_size M d2 (fun r3 => ((r3 ≤ v4 → ((v3 = 0 ∨ v3 = 1) ∧ post v3)) ∧ (¬ r3 ≤ v4 → ((v3 = 0 → wpX1_isFree_b63 M o_ post (fun v1 v2 v3 v4 => wpX1_isFree_b5 M o_ post nn v1 v2 v3 v4) v1 v2 v4) ∧ (¬ v3 = 0 → ∃ r5 : Option Nat, yF M o_ 1 4 (yr r5) ∧ ∃ d6 : Nat, r5 = some d6 ∧ (∃ vs, M d6 = some (yo 9 vs)) ∧ wpJ2_get M d6 v4 (fun r7 => (∀ v, r7 = some v → ∃ vs, M v = some (yo 7 vs)) ∧ ∃ d8 : Nat, r7 = some d8 ∧ ∃ x9 : Int32, yF M d8 7 4 (yi x9) ∧ ((¬ x9 = v2 → wpX1_isFree_b59 M o_ post (fun v1 v2 v3 v4 => wpX1_isFree_b5 M o_ post nn v1 v2 v3 v4) v1 v2 v4) ∧ (x9 = v2 → ∃ r10 : Option Nat, yF M o_ 1 4 (yr r10) ∧ ∃ d11 : Nat, r10 = some d11 ∧ (∃ vs, M d11 = some (yo 9 vs)) ∧ wpJ2_get M d11 v4 (fun r12 => (∀ v, r12 = some v → ∃ vs, M v = some (yo 7 vs)) ∧ ∃ d13 : Nat, v1 = some d13 ∧ (∃ vs, M d13 = some (yo 7 vs)) ∧ wpX7_isInTheWayOf M d13 r12 (fun r14 => ((¬ r14 = 0 → wpX1_isFree_b63 M o_ post (fun v1 v2 v3 v4 => wpX1_isFree_b5 M o_ post nn v1 v2 v3 v4) (some d13) v2 v4) ∧ (r14 = 0 → wpX1_isFree_b59 M o_ post (fun v1 v2 v3 v4 => wpX1_isFree_b5 M o_ post nn v1 v2 v3 v4) (some d13) v2 v4))))))))))))
theorem okX1_isFree_b5 (C : yC p { frames := 5, cells := 0, slots := 0, locals := 167 } s m args meth c cX1_isFree 5 RX1 D s0 a0 A) (hB : yB D s0 a0) (hr : meth.sig.returnType = (some .boolean)) {M : yM} {o_ : Nat} {post : Int32 → Prop}  : ∀ (nn : Nat) (v1 : Option Nat) (v2 : Int32) (v3 : Int32) (v4 : Int32), wpX1_isFree_b5 M o_ post nn v1 v2 v3 v4 → Y p l e { frames := 5, cells := 0, slots := 0, locals := 167 } s m args below meth c (MQ below (yQi D s0 A (fun r M1 => M1 = M ∧ post r)) args s 0 0 A) D s0 A 5 M 0 0 [some (yr (some o_)), some (yr v1), some (yi v2), some (yi v3), some (yi v4)] 5 [] := by
  intro nn
  induction nn with
  | zero => intro v1 v2 v3 v4 h; exact absurd h (by rw [wpX1_isFree_b5]; exact id)
  | succ nn ih =>
    intro v1 v2 v3 v4 h
    rw [wpX1_isFree_b5] at h
    refine y_iload C 4 rfl dX1_isFree_5 ?_
    refine y_aload_n C 0 rfl rfl dX1_isFree_7 ?_
    obtain ⟨r1, ⟨fs9, g1, g2⟩, h⟩ := h
    refine y_get (ci := 1) (k := 4) C in_X1 rfl (by decide) q166 (fun _ h => h) g1 g2 dX1_isFree_8 ?_
    obtain ⟨d2, rfl, h⟩ := h
    obtain ⟨⟨vs9, g0⟩, h⟩ := h
    refine y_callVi0 C (metJ2_size hB h) (cwV 0 C.hts (lw_V q658 q494 q495 q90 q496) rfl rfl rfl kdJ2_size ⟨Nat.le_of_ble_eq_true rfl, Nat.le_of_ble_eq_true rfl⟩) g0 rfl rfl rfl (Nat.le_of_ble_eq_true rfl) dX1_isFree_11 (fun r3 M1 hp => ?_)
    clear h
    obtain ⟨rfl, h⟩ := hp
    refine y_icmp_ge C 71 dX1_isFree_14 (by decide) (fun c9 => ?_) (fun c9 => ?_)
    · replace h := h.1 c9
      refine y_iload_n C 3 rfl rfl dX1_isFree_71 ?_
      obtain ⟨z9, h⟩ := h
      exact y_iretz C hr rfl rfl z9 ⟨rfl, h⟩ dX1_isFree_72
    · replace h := h.2 c9
      refine y_iload_n C 3 rfl rfl dX1_isFree_17 ?_
      refine y_if_eq C 63 dX1_isFree_18 (by decide) (fun c9 => ?_) (fun c9 => ?_)
      · replace h := h.1 c9
        refine y_to C _ ?_ (okX1_isFree_b63 C hB hr ih _ _ _ h)
        exact (And.intro rfl (And.intro rfl (And.intro rfl (And.intro rfl trivial))))
      · replace h := h.2 c9
        refine y_aload_n C 0 rfl rfl dX1_isFree_21 ?_
        obtain ⟨r5, ⟨fs9, g1, g2⟩, h⟩ := h
        refine y_get (ci := 1) (k := 4) C in_X1 rfl (by decide) q166 (fun _ h => h) g1 g2 dX1_isFree_22 ?_
        refine y_iload C 4 rfl dX1_isFree_25 ?_
        obtain ⟨d6, rfl, h⟩ := h
        obtain ⟨⟨vs9, g0⟩, h⟩ := h
        refine y_callVq0 C (metJ2_get hB h) (cwV 1 C.hts (lw_V q659 q571 q572 q90 q573) rfl rfl rfl kdJ2_get ⟨Nat.le_of_ble_eq_true rfl, Nat.le_of_ble_eq_true rfl⟩) g0 rfl rfl rfl (Nat.le_of_ble_eq_true rfl) dX1_isFree_27 (fun r7 M1 hp => ?_)
        clear h
        obtain ⟨rfl, h⟩ := hp
        obtain ⟨g1, h⟩ := h
        refine y_ckc (ci := 7) C q803 rfl g1 dX1_isFree_30 ?_
        obtain ⟨d8, rfl, h⟩ := h
        obtain ⟨x9, ⟨fs9, g1, g2⟩, h⟩ := h
        refine y_getN (ci := 7) (k := 4) C in_X7 rfl (by decide) q831 (fun _ h => h) g1 g2 dX1_isFree_33 ?_
        refine y_iload_n C 2 rfl rfl dX1_isFree_36 ?_
        refine y_icmp_ne C 59 dX1_isFree_37 (by decide) (fun c9 => ?_) (fun c9 => ?_)
        · replace h := h.1 c9
          refine y_to C _ ?_ (okX1_isFree_b59 C hB hr ih _ _ _ h)
          exact (And.intro rfl (And.intro rfl (And.intro rfl (And.intro rfl trivial))))
        · replace h := h.2 c9
          refine y_aload_n C 1 rfl rfl dX1_isFree_40 ?_
          refine y_aload_n C 0 rfl rfl dX1_isFree_41 ?_
          obtain ⟨r10, ⟨fs9, g1, g2⟩, h⟩ := h
          refine y_get (ci := 1) (k := 4) C in_X1 rfl (by decide) q166 (fun _ h => h) g1 g2 dX1_isFree_42 ?_
          refine y_iload C 4 rfl dX1_isFree_45 ?_
          obtain ⟨d11, rfl, h⟩ := h
          obtain ⟨⟨vs9, g0⟩, h⟩ := h
          refine y_callVq0 C (metJ2_get hB h) (cwV 1 C.hts (lw_V q659 q571 q572 q90 q573) rfl rfl rfl kdJ2_get ⟨Nat.le_of_ble_eq_true rfl, Nat.le_of_ble_eq_true rfl⟩) g0 rfl rfl rfl (Nat.le_of_ble_eq_true rfl) dX1_isFree_47 (fun r12 M1 hp => ?_)
          clear h
          obtain ⟨rfl, h⟩ := hp
          obtain ⟨g1, h⟩ := h
          refine y_ckc (ci := 7) C q803 rfl g1 dX1_isFree_50 ?_
          obtain ⟨d13, rfl, h⟩ := h
          obtain ⟨⟨vs9, g0⟩, h⟩ := h
          refine y_callVi0 C (metX7_isInTheWayOf hB h) (cwV 1 C.hts (lw_V q933 q934 q935 q109 q936) rfl rfl rfl kdX7_isInTheWayOf ⟨Nat.le_of_ble_eq_true rfl, Nat.le_of_ble_eq_true rfl⟩) g0 rfl rfl rfl (Nat.le_of_ble_eq_true rfl) dX1_isFree_53 (fun r14 M1 hp => ?_)
          clear h
          obtain ⟨rfl, h⟩ := hp
          refine y_if_ne C 63 dX1_isFree_56 (by decide) (fun c9 => ?_) (fun c9 => ?_)
          · replace h := h.1 c9
            refine y_to C _ ?_ (okX1_isFree_b63 C hB hr ih _ _ _ h)
            exact (And.intro rfl (And.intro rfl (And.intro rfl (And.intro rfl trivial))))
          · replace h := h.2 c9
            refine y_to C _ ?_ (okX1_isFree_b59 C hB hr ih _ _ _ h)
            exact (And.intro rfl (And.intro rfl (And.intro rfl (And.intro rfl trivial))))
end sX1_isFree
def wpX1_isFree (M : yM) (o_ : Nat) (a1 : Option Nat) (a2 : Int32) (post : Int32 → Prop) : Prop := ∃ nf9 : Nat, wpX1_isFree_b5 M o_ post nf9 a1 a2 1 0
theorem metX1_isFree {l : Launch} {D : va_G} {s0 : State} {a0 : Array Value} (hB : yB D s0 a0) {M : yM} {o_ : Nat} {a1 : Option Nat} {a2 : Int32} {post : Int32 → Prop} (h : wpX1_isFree M o_ a1 a2 post) : yMi l yX1_isFree (ws_ yX1_isFree cX1_isFree 5 (some .boolean)) 5 167 0 0 D s0 [yr (some o_), yr a1, yi a2] M (fun r M1 => M1 = M ∧ post r) := by
  refine y_meti hB (by decide) rfl (Nat.le_of_ble_eq_true rfl) ?_
  intro p e s m below meth c A hr hnm C
  rw [wpX1_isFree] at h
  refine y_iconst C 1 dX1_isFree_0 lit1 ?_
  refine y_istore_n C 3 rfl (by decide) dX1_isFree_1 ?_
  refine y_iconst C 0 dX1_isFree_2 lit0 ?_
  refine y_istore C 4 (by decide) dX1_isFree_3 ?_
  obtain ⟨nf9, h⟩ := h
  refine y_to C _ ?_ (okX1_isFree_b5 C hB hr  nf9 _ _ _ _ h)
  exact (And.intro rfl (And.intro rfl (And.intro rfl (And.intro rfl (And.intro rfl trivial)))))
theorem kdX7_lay : yX7_lay.cls = RX7 ∧ yX7_lay.cls ≠ "java/lang/invoke/MethodHandle" ∧ yX7_lay.cls ≠ "java/lang/invoke/VarHandle" ∧ (parseMethodDescriptor yX7_lay.desc).map (fun d => d.parameters.length) = some 1 := by decide +kernel
section sX7_lay
variable {p : Program} {l : Launch} {e : Env} {s : State} {m : MethodId} {args : Array Value} {below : List Frame} {meth : Method} {c : Code} {D : va_G} {s0 : State} {a0 : Array Value} {A : Nat → Prop}
def wpX7_lay_b7 (o_ : Nat) (post : yM → Prop) : Nat → yM → Int32 → Int32 → Prop
  | 0, _, _, _ => False
  | nn + 1, M, v1, v2 => ∃ r3 : Option Nat, yF M o_ 7 0 (yr r3) ∧ ∃ d4 : Nat, r3 = some d4 ∧ (∃ vs, M d4 = some (yo 9 vs)) ∧ wpJ2_size M d4 (fun r5 => ((r5 ≤ v2 → post M) ∧ (¬ r5 ≤ v2 → ∃ r6 : Option Nat, yF M o_ 7 0 (yr r6) ∧ ∃ d7 : Nat, r6 = some d7 ∧ (∃ vs, M d7 = some (yo 9 vs)) ∧ wpJ2_get M d7 v2 (fun r8 => (∀ v, r8 = some v → ∃ vs, M v = some (yo 6 vs)) ∧ ∃ d9 : Nat, r8 = some d9 ∧ ∃ fs10 : List yV, M d9 = some (yo 6 fs10) ∧ 9 < fs10.length ∧ ∀ M11 : yM, M11 = yup M d9 (yo 6 (fs10.set 9 (yi v1))) → ∀ x12 : Int32, x12 = v2 + 1 → wpX7_lay_b7 o_ post nn M11 v1 x12))))
theorem okX7_lay_b7 (C : yC p { frames := 4, cells := 0, slots := 0, locals := 144 } s m args meth c cX7_lay 3 RX7 D s0 a0 A) (hB : yB D s0 a0) (hr : meth.sig.returnType = none) {o_ : Nat} {post : yM → Prop}  : ∀ (nn : Nat) (M : yM) (v1 : Int32) (v2 : Int32), wpX7_lay_b7 o_ post nn M v1 v2 → Y p l e { frames := 4, cells := 0, slots := 0, locals := 144 } s m args below meth c (MQ below (yQv D s0 A post) args s 0 0 A) D s0 A 3 M 0 0 [some (yr (some o_)), some (yi v1), some (yi v2)] 7 [] := by
  intro nn
  induction nn with
  | zero => intro M v1 v2 h; exact absurd h (by rw [wpX7_lay_b7]; exact id)
  | succ nn ih =>
    intro M v1 v2 h
    rw [wpX7_lay_b7] at h
    refine y_iload_n C 2 rfl rfl dX7_lay_7 ?_
    refine y_aload_n C 0 rfl rfl dX7_lay_8 ?_
    obtain ⟨r3, ⟨fs9, g1, g2⟩, h⟩ := h
    refine y_get (ci := 7) (k := 0) C in_X7 rfl (by decide) q820 (fun _ h => h) g1 g2 dX7_lay_9 ?_
    obtain ⟨d4, rfl, h⟩ := h
    obtain ⟨⟨vs9, g0⟩, h⟩ := h
    refine y_callVi0 C (metJ2_size hB h) (cwV 0 C.hts (lw_V q937 q494 q495 q90 q496) rfl rfl rfl kdJ2_size ⟨Nat.le_of_ble_eq_true rfl, Nat.le_of_ble_eq_true rfl⟩) g0 rfl rfl rfl (Nat.le_of_ble_eq_true rfl) dX7_lay_12 (fun r5 M1 hp => ?_)
    clear h
    obtain ⟨rfl, h⟩ := hp
    refine y_icmp_ge C 39 dX7_lay_15 (by decide) (fun c9 => ?_) (fun c9 => ?_)
    · replace h := h.1 c9
      exact y_vret C hr rfl rfl h dX7_lay_39
    · replace h := h.2 c9
      refine y_aload_n C 0 rfl rfl dX7_lay_18 ?_
      obtain ⟨r6, ⟨fs9, g1, g2⟩, h⟩ := h
      refine y_get (ci := 7) (k := 0) C in_X7 rfl (by decide) q820 (fun _ h => h) g1 g2 dX7_lay_19 ?_
      refine y_iload_n C 2 rfl rfl dX7_lay_22 ?_
      obtain ⟨d7, rfl, h⟩ := h
      obtain ⟨⟨vs9, g0⟩, h⟩ := h
      refine y_callVq0 C (metJ2_get hB h) (cwV 1 C.hts (lw_V q938 q571 q572 q90 q573) rfl rfl rfl kdJ2_get ⟨Nat.le_of_ble_eq_true rfl, Nat.le_of_ble_eq_true rfl⟩) g0 rfl rfl rfl (Nat.le_of_ble_eq_true rfl) dX7_lay_23 (fun r8 M1 hp => ?_)
      clear h
      obtain ⟨rfl, h⟩ := hp
      obtain ⟨g1, h⟩ := h
      refine y_ckc (ci := 6) C q947 rfl g1 dX7_lay_26 ?_
      refine y_iload_n C 1 rfl rfl dX7_lay_29 ?_
      obtain ⟨d9, rfl, h⟩ := h
      obtain ⟨fs10, g1, g2, h⟩ := h
      replace h := h _ rfl
      refine y_putN (ci := 6) (k := 9) C in_X6 tyX6_ok nmX6 rfl (by decide) q616 (fun _ h => h) rfl g1 g2 rfl rfl rfl dX7_lay_30 ?_
      replace h := h _ rfl
      refine y_iinc C 2 _ rfl (y_inc1 _) (by decide) dX7_lay_33 ?_
      refine y_goto C 7 dX7_lay_36 (by decide) ?_
      refine y_to C _ ?_ (ih _ _ _ h)
      exact (And.intro rfl (And.intro rfl (And.intro rfl trivial)))
end sX7_lay
def wpX7_lay (M : yM) (o_ : Nat) (a1 : Int32) (post : yM → Prop) : Prop := ∃ fs1 : List yV, M o_ = some (yo 7 fs1) ∧ 4 < fs1.length ∧ ∀ M2 : yM, M2 = yup M o_ (yo 7 (fs1.set 4 (yi a1))) → ∃ nf9 : Nat, wpX7_lay_b7 o_ post nf9 M2 a1 0
theorem metX7_lay {l : Launch} {D : va_G} {s0 : State} {a0 : Array Value} (hB : yB D s0 a0) {M : yM} {o_ : Nat} {a1 : Int32} {post : yM → Prop} (h : wpX7_lay M o_ a1 post) : yMv l yX7_lay (ws_ yX7_lay cX7_lay 3 none) 4 144 0 0 D s0 [yr (some o_), yi a1] M post := by
  refine y_metv hB (by decide) rfl (Nat.le_of_ble_eq_true rfl) ?_
  intro p e s m below meth c A hr hnm C
  rw [wpX7_lay] at h
  refine y_aload_n C 0 rfl rfl dX7_lay_0 ?_
  refine y_iload_n C 1 rfl rfl dX7_lay_1 ?_
  obtain ⟨fs1, g1, g2, h⟩ := h
  replace h := h _ rfl
  refine y_put (ci := 7) (k := 4) C in_X7 tyX7_ok nmX7 rfl (by decide) q830 (fun _ h => h) rfl g1 g2 rfl rfl rfl dX7_lay_2 ?_
  refine y_iconst C 0 dX7_lay_5 lit0 ?_
  refine y_istore_n C 2 rfl (by decide) dX7_lay_6 ?_
  obtain ⟨nf9, h⟩ := h
  refine y_to C _ ?_ (okX7_lay_b7 C hB hr  nf9 _ _ _ h)
  exact (And.intro rfl (And.intro rfl (And.intro rfl trivial)))
theorem kdX1_place : yX1_place.cls = RX1 ∧ yX1_place.cls ≠ "java/lang/invoke/MethodHandle" ∧ yX1_place.cls ≠ "java/lang/invoke/VarHandle" ∧ (parseMethodDescriptor yX1_place.desc).map (fun d => d.parameters.length) = some 1 := by decide +kernel
section sX1_place
variable {p : Program} {l : Launch} {e : Env} {s : State} {m : MethodId} {args : Array Value} {below : List Frame} {meth : Method} {c : Code} {D : va_G} {s0 : State} {a0 : Array Value} {A : Nat → Prop}
def wpX1_place_b67 (o_ : Nat) (post : yM → Prop) : Nat → yM → Option Nat → Int32 → Prop
  | 0, _, _, _ => False
  | nn + 1, M, v1, v2 => (∃ vs, M o_ = some (yo 1 vs)) ∧ wpX1_isFree M o_ v1 v2 (fun r6 => ((¬ r6 = 0 → ∃ d7 : Nat, v1 = some d7 ∧ (∃ vs, M d7 = some (yo 7 vs)) ∧ wpX7_lay M d7 v2 (fun M8 => post M8)) ∧ (r6 = 0 → ∀ x9 : Int32, x9 = v2 + 1 → wpX1_place_b67 o_ post nn M v1 x9)))
theorem okX1_place_b67 (C : yC p { frames := 6, cells := 0, slots := 0, locals := 191 } s m args meth c cX1_place 4 RX1 D s0 a0 A) (hB : yB D s0 a0) (hr : meth.sig.returnType = none) {o_ : Nat} {post : yM → Prop}  : ∀ (nn : Nat) (M : yM) (v1 : Option Nat) (v2 : Int32), wpX1_place_b67 o_ post nn M v1 v2 → Y p l e { frames := 6, cells := 0, slots := 0, locals := 191 } s m args below meth c (MQ below (yQv D s0 A post) args s 0 0 A) D s0 A 4 M 0 0 [some (yr (some o_)), some (yr v1), some (yi v2), none] 67 [] := by
  intro nn
  induction nn with
  | zero => intro M v1 v2 h; exact absurd h (by rw [wpX1_place_b67]; exact id)
  | succ nn ih =>
    intro M v1 v2 h
    rw [wpX1_place_b67] at h
    refine y_aload_n C 0 rfl rfl dX1_place_67 ?_
    refine y_aload_n C 1 rfl rfl dX1_place_68 ?_
    refine y_iload_n C 2 rfl rfl dX1_place_69 ?_
    obtain ⟨⟨vs9, g0⟩, h⟩ := h
    refine y_callVi0 C (metX1_isFree hB h) (cwV 2 C.hts (lw_V q929 q931 qs19 q87 q932) rfl rfl rfl kdX1_isFree ⟨Nat.le_of_ble_eq_true rfl, Nat.le_of_ble_eq_true rfl⟩) g0 rfl rfl rfl (Nat.le_of_ble_eq_true rfl) dX1_place_70 (fun r6 M1 hp => ?_)
    clear h
    obtain ⟨rfl, h⟩ := hp
    refine y_if_ne C 82 dX1_place_73 (by decide) (fun c9 => ?_) (fun c9 => ?_)
    · replace h := h.1 c9
      refine y_aload_n C 1 rfl rfl dX1_place_82 ?_
      refine y_iload_n C 2 rfl rfl dX1_place_83 ?_
      obtain ⟨d7, rfl, h⟩ := h
      obtain ⟨⟨vs9, g0⟩, h⟩ := h
      refine y_callVv0 C (metX7_lay hB h) (cwV 1 C.hts (lw_V q943 q944 q945 q109 q946) rfl rfl rfl kdX7_lay ⟨Nat.le_of_ble_eq_true rfl, Nat.le_of_ble_eq_true rfl⟩) g0 rfl rfl rfl (Nat.le_of_ble_eq_true rfl) dX1_place_84 (fun M8 hp => ?_)
      replace h := hp
      exact y_vret C hr rfl rfl h dX1_place_87
    · replace h := h.2 c9
      replace h := h _ rfl
      refine y_iinc C 2 _ rfl (y_inc1 _) (by decide) dX1_place_76 ?_
      refine y_goto C 67 dX1_place_79 (by decide) ?_
      refine y_to C _ ?_ (ih _ _ _ h)
      exact (And.intro rfl (And.intro rfl (And.intro rfl trivial)))
def wpX1_place_b60 (o_ : Nat) (post : yM → Prop) (k7 : yM → Option Nat → Int32 → Int32 → Prop) (M : yM) (v1 : Option Nat) (v3 : Int32) (u0 : Int32) : Prop := ∀ x16 : Int32, x16 = v3 + 1 → k7 M v1 u0 x16
theorem okX1_place_b60 (C : yC p { frames := 6, cells := 0, slots := 0, locals := 191 } s m args meth c cX1_place 4 RX1 D s0 a0 A) (hB : yB D s0 a0) (hr : meth.sig.returnType = none) {o_ : Nat} {post : yM → Prop} {k7 : yM → Option Nat → Int32 → Int32 → Prop} (hk7 : ∀ (M : yM) (v1 : Option Nat) (v2 : Int32) (v3 : Int32), k7 M v1 v2 v3 → Y p l e { frames := 6, cells := 0, slots := 0, locals := 191 } s m args below meth c (MQ below (yQv D s0 A post) args s 0 0 A) D s0 A 4 M 0 0 [some (yr (some o_)), some (yr v1), some (yi v2), some (yi v3)] 7 []) : ∀ (M : yM) (v1 : Option Nat) (v3 : Int32) (u0 : Int32), wpX1_place_b60 o_ post k7 M v1 v3 u0 → Y p l e { frames := 6, cells := 0, slots := 0, locals := 191 } s m args below meth c (MQ below (yQv D s0 A post) args s 0 0 A) D s0 A 4 M 0 0 [some (yr (some o_)), some (yr v1), none, some (yi v3)] 60 [yi u0] := by
  intro M v1 v3 u0 h
  rw [wpX1_place_b60] at h
  refine y_istore_n C 2 rfl (by decide) dX1_place_60 ?_
  replace h := h _ rfl
  refine y_iinc C 3 _ rfl (y_inc1 _) (by decide) dX1_place_61 ?_
  refine y_goto C 7 dX1_place_64 (by decide) ?_
  refine y_to C _ ?_ (hk7 _ _ _ _ h)
  exact (And.intro rfl (And.intro rfl (And.intro rfl (And.intro rfl trivial))))
def wpX1_place_b7 (o_ : Nat) (post : yM → Prop) : Nat → yM → Option Nat → Int32 → Int32 → Prop
  | 0, _, _, _, _ => False
  | nn + 1, M, v1, v2, v3 => ∃ r3 : Option Nat, yF M o_ 1 4 (yr r3) ∧ ∃ d4 : Nat, r3 = some d4 ∧ (∃ vs, M d4 = some (yo 9 vs)) ∧ wpJ2_size M d4 (fun r5 => ((r5 ≤ v3 → ∃ nf9 : Nat, wpX1_place_b67 o_ post nf9 M v1 v2) ∧ (¬ r5 ≤ v3 → ∃ r10 : Option Nat, yF M o_ 1 4 (yr r10) ∧ ∃ d11 : Nat, r10 = some d11 ∧ (∃ vs, M d11 = some (yo 9 vs)) ∧ wpJ2_get M d11 v3 (fun r12 => ∃ d13 : Nat, r12 = some d13 ∧ (∃ vs, M d13 = some (yo 7 vs)) ∧ ∃ d14 : Nat, v1 = some d14 ∧ (∃ vs, M d14 = some (yo 7 vs)) ∧ wpX8_covers M d14 (some d13) (fun r15 => ((r15 = 0 → wpX1_place_b60 o_ post (fun M v1 v2 v3 => wpX1_place_b7 o_ post nn M v1 v2 v3) M (some d14) v3 v2) ∧ (¬ r15 = 0 → ∃ r17 : Option Nat, yF M o_ 1 4 (yr r17) ∧ ∃ d18 : Nat, r17 = some d18 ∧ (∃ vs, M d18 = some (yo 9 vs)) ∧ wpJ2_get M d18 v3 (fun r19 => (∀ v, r19 = some v → ∃ vs, M v = some (yo 7 vs)) ∧ ∃ d20 : Nat, r19 = some d20 ∧ ∃ x21 : Int32, yF M d20 7 4 (yi x21) ∧ wpX1_place_b60 o_ post (fun M v1 v2 v3 => wpX1_place_b7 o_ post nn M v1 v2 v3) M (some d14) v3 (if v2 < (x21 + 1) then (x21 + 1) else v2)))))))))
theorem okX1_place_b7 (C : yC p { frames := 6, cells := 0, slots := 0, locals := 191 } s m args meth c cX1_place 4 RX1 D s0 a0 A) (hB : yB D s0 a0) (hr : meth.sig.returnType = none) {o_ : Nat} {post : yM → Prop}  : ∀ (nn : Nat) (M : yM) (v1 : Option Nat) (v2 : Int32) (v3 : Int32), wpX1_place_b7 o_ post nn M v1 v2 v3 → Y p l e { frames := 6, cells := 0, slots := 0, locals := 191 } s m args below meth c (MQ below (yQv D s0 A post) args s 0 0 A) D s0 A 4 M 0 0 [some (yr (some o_)), some (yr v1), some (yi v2), some (yi v3)] 7 [] := by
  intro nn
  induction nn with
  | zero => intro M v1 v2 v3 h; exact absurd h (by rw [wpX1_place_b7]; exact id)
  | succ nn ih =>
    intro M v1 v2 v3 h
    rw [wpX1_place_b7] at h
    refine y_iload_n C 3 rfl rfl dX1_place_7 ?_
    refine y_aload_n C 0 rfl rfl dX1_place_8 ?_
    obtain ⟨r3, ⟨fs9, g1, g2⟩, h⟩ := h
    refine y_get (ci := 1) (k := 4) C in_X1 rfl (by decide) q166 (fun _ h => h) g1 g2 dX1_place_9 ?_
    obtain ⟨d4, rfl, h⟩ := h
    obtain ⟨⟨vs9, g0⟩, h⟩ := h
    refine y_callVi0 C (metJ2_size hB h) (cwV 0 C.hts (lw_V q658 q494 q495 q90 q496) rfl rfl rfl kdJ2_size ⟨Nat.le_of_ble_eq_true rfl, Nat.le_of_ble_eq_true rfl⟩) g0 rfl rfl rfl (Nat.le_of_ble_eq_true rfl) dX1_place_12 (fun r5 M1 hp => ?_)
    clear h
    obtain ⟨rfl, h⟩ := hp
    refine y_icmp_ge C 67 dX1_place_15 (by decide) (fun c9 => ?_) (fun c9 => ?_)
    · replace h := h.1 c9
      obtain ⟨nf9, h⟩ := h
      refine y_to C _ ?_ (okX1_place_b67 C hB hr  nf9 _ _ _ h)
      exact (And.intro rfl (And.intro rfl (And.intro rfl trivial)))
    · replace h := h.2 c9
      refine y_aload_n C 1 rfl rfl dX1_place_18 ?_
      refine y_aload_n C 0 rfl rfl dX1_place_19 ?_
      obtain ⟨r10, ⟨fs9, g1, g2⟩, h⟩ := h
      refine y_get (ci := 1) (k := 4) C in_X1 rfl (by decide) q166 (fun _ h => h) g1 g2 dX1_place_20 ?_
      refine y_iload_n C 3 rfl rfl dX1_place_23 ?_
      obtain ⟨d11, rfl, h⟩ := h
      obtain ⟨⟨vs9, g0⟩, h⟩ := h
      refine y_callVq0 C (metJ2_get hB h) (cwV 1 C.hts (lw_V q659 q571 q572 q90 q573) rfl rfl rfl kdJ2_get ⟨Nat.le_of_ble_eq_true rfl, Nat.le_of_ble_eq_true rfl⟩) g0 rfl rfl rfl (Nat.le_of_ble_eq_true rfl) dX1_place_24 (fun r12 M1 hp => ?_)
      clear h
      obtain ⟨rfl, h⟩ := hp
      obtain ⟨d13, rfl, h⟩ := h
      obtain ⟨⟨vs9, g1⟩, h⟩ := h
      refine y_castY (ci := 7) C q922 q871 rfl g1 dX1_place_27 ?_
      obtain ⟨d14, rfl, h⟩ := h
      obtain ⟨⟨vs9, g0⟩, h⟩ := h
      refine y_callDi0 (x := ⟨"DimensionLines$Unit", "covers", "(LDimensionLines$Stretch;)Z"⟩) (ci := 7) (n := 1) C (metX8_covers hB h) (by decide +kernel) (by decide +kernel) (by decide +kernel) q923 q925 q110 q927 (by decide +kernel) (by decide +kernel) ⟨Nat.le_of_ble_eq_true rfl, Nat.le_of_ble_eq_true rfl⟩ g0 rfl rfl rfl (Nat.le_of_ble_eq_true rfl) dX1_place_30 (fun r15 M1 hp => ?_)
      clear h
      obtain ⟨rfl, h⟩ := hp
      refine y_if_eq C 59 dX1_place_33 (by decide) (fun c9 => ?_) (fun c9 => ?_)
      · replace h := h.1 c9
        refine y_iload_n C 2 rfl rfl dX1_place_59 ?_
        refine y_to C _ ?_ (okX1_place_b60 C hB hr ih _ _ _ _ h)
        exact (And.intro rfl (And.intro rfl (And.intro rfl trivial)))
      · replace h := h.2 c9
        refine y_iload_n C 2 rfl rfl dX1_place_36 ?_
        refine y_aload_n C 0 rfl rfl dX1_place_37 ?_
        obtain ⟨r17, ⟨fs9, g1, g2⟩, h⟩ := h
        refine y_get (ci := 1) (k := 4) C in_X1 rfl (by decide) q166 (fun _ h => h) g1 g2 dX1_place_38 ?_
        refine y_iload_n C 3 rfl rfl dX1_place_41 ?_
        obtain ⟨d18, rfl, h⟩ := h
        obtain ⟨⟨vs9, g0⟩, h⟩ := h
        refine y_callVq0 C (metJ2_get hB h) (cwV 1 C.hts (lw_V q659 q571 q572 q90 q573) rfl rfl rfl kdJ2_get ⟨Nat.le_of_ble_eq_true rfl, Nat.le_of_ble_eq_true rfl⟩) g0 rfl rfl rfl (Nat.le_of_ble_eq_true rfl) dX1_place_42 (fun r19 M1 hp => ?_)
        clear h
        obtain ⟨rfl, h⟩ := hp
        obtain ⟨g1, h⟩ := h
        refine y_ckc (ci := 7) C q803 rfl g1 dX1_place_45 ?_
        obtain ⟨d20, rfl, h⟩ := h
        obtain ⟨x21, ⟨fs9, g1, g2⟩, h⟩ := h
        refine y_getN (ci := 7) (k := 4) C in_X7 rfl (by decide) q831 (fun _ h => h) g1 g2 dX1_place_48 ?_
        refine y_iconst C 1 dX1_place_51 lit1 ?_
        refine y_iadd C dX1_place_52 ?_
        refine y_mmax C q928 q278 q99 q279 (Nat.le_of_ble_eq_true rfl) (Nat.le_of_ble_eq_true rfl) (Nat.le_of_ble_eq_true rfl) dX1_place_53 ?_
        refine y_goto C 60 dX1_place_56 (by decide) ?_
        refine y_to C _ ?_ (okX1_place_b60 C hB hr ih _ _ _ _ h)
        exact (And.intro rfl (And.intro rfl (And.intro rfl trivial)))
end sX1_place
def wpX1_place (M : yM) (o_ : Nat) (a1 : Option Nat) (post : yM → Prop) : Prop := ∃ d1 : Nat, a1 = some d1 ∧ ∃ x2 : Int32, yF M d1 7 1 (yi x2) ∧ ∃ nf9 : Nat, wpX1_place_b7 o_ post nf9 M (some d1) x2 0
theorem metX1_place {l : Launch} {D : va_G} {s0 : State} {a0 : Array Value} (hB : yB D s0 a0) {M : yM} {o_ : Nat} {a1 : Option Nat} {post : yM → Prop} (h : wpX1_place M o_ a1 post) : yMv l yX1_place (ws_ yX1_place cX1_place 4 none) 6 191 0 0 D s0 [yr (some o_), yr a1] M post := by
  refine y_metv hB (by decide) rfl (Nat.le_of_ble_eq_true rfl) ?_
  intro p e s m below meth c A hr hnm C
  rw [wpX1_place] at h
  refine y_aload_n C 1 rfl rfl dX1_place_0 ?_
  obtain ⟨d1, rfl, h⟩ := h
  obtain ⟨x2, ⟨fs9, g1, g2⟩, h⟩ := h
  refine y_getN (ci := 7) (k := 1) C in_X7 rfl (by decide) q823 (fun _ h => h) g1 g2 dX1_place_1 ?_
  refine y_istore_n C 2 rfl (by decide) dX1_place_4 ?_
  refine y_iconst C 0 dX1_place_5 lit0 ?_
  refine y_istore_n C 3 rfl (by decide) dX1_place_6 ?_
  obtain ⟨nf9, h⟩ := h
  refine y_to C _ ?_ (okX1_place_b7 C hB hr  nf9 _ _ _ _ h)
  exact (And.intro rfl (And.intro rfl (And.intro rfl (And.intro rfl trivial))))
theorem kdX6_isCrossedAt : yX6_isCrossedAt.cls = RX6 ∧ yX6_isCrossedAt.cls ≠ "java/lang/invoke/MethodHandle" ∧ yX6_isCrossedAt.cls ≠ "java/lang/invoke/VarHandle" ∧ (parseMethodDescriptor yX6_isCrossedAt.desc).map (fun d => d.parameters.length) = some 1 := by decide +kernel
def wpX6_isCrossedAt (M : yM) (o_ : Nat) (a1 : Int32) (post : Int32 → Prop) : Prop := ∃ r1 : Option Nat, yF M o_ 6 0 (yr r1) ∧ ∃ d2 : Nat, r1 = some d2 ∧ ∃ x3 : Int32, yF M d2 5 0 (yi x3) ∧ ((a1 ≤ x3 → post 0) ∧ (¬ a1 ≤ x3 → ∃ r4 : Option Nat, yF M o_ 6 1 (yr r4) ∧ ∃ d5 : Nat, r4 = some d5 ∧ ∃ x6 : Int32, yF M d5 5 0 (yi x6) ∧ ((x6 ≤ a1 → post 0) ∧ (¬ x6 ≤ a1 → post 1))))
theorem metX6_isCrossedAt {l : Launch} {D : va_G} {s0 : State} {a0 : Array Value} (hB : yB D s0 a0) {M : yM} {o_ : Nat} {a1 : Int32} {post : Int32 → Prop} (h : wpX6_isCrossedAt M o_ a1 post) : yMi l yX6_isCrossedAt (ws_ yX6_isCrossedAt cX6_isCrossedAt 2 (some .boolean)) 1 80 0 0 D s0 [yr (some o_), yi a1] M (fun r M1 => M1 = M ∧ post r) := by
  refine y_meti hB (by decide) rfl (Nat.le_of_ble_eq_true rfl) ?_
  intro p e s m below meth c A hr hnm C
  rw [wpX6_isCrossedAt] at h
  refine y_iload_n C 1 rfl rfl dX6_isCrossedAt_0 ?_
  refine y_aload_n C 0 rfl rfl dX6_isCrossedAt_1 ?_
  obtain ⟨r1, ⟨fs9, g1, g2⟩, h⟩ := h
  refine y_get (ci := 6) (k := 0) C in_X6 rfl (by decide) q586 (fun _ h => h) g1 g2 dX6_isCrossedAt_2 ?_
  obtain ⟨d2, rfl, h⟩ := h
  obtain ⟨x3, ⟨fs9, g1, g2⟩, h⟩ := h
  refine y_getN (ci := 5) (k := 0) C in_X5 rfl (by decide) q513 (fun _ h => h) g1 g2 dX6_isCrossedAt_5 ?_
  refine y_icmp_le C 26 dX6_isCrossedAt_8 (by decide) (fun c9 => ?_) (fun c9 => ?_)
  · replace h := h.1 c9
    refine y_iconst C 0 dX6_isCrossedAt_26 lit0 ?_
    exact y_iretz C hr rfl rfl (by decide) ⟨rfl, h⟩ dX6_isCrossedAt_27
  · replace h := h.2 c9
    refine y_iload_n C 1 rfl rfl dX6_isCrossedAt_11 ?_
    refine y_aload_n C 0 rfl rfl dX6_isCrossedAt_12 ?_
    obtain ⟨r4, ⟨fs9, g1, g2⟩, h⟩ := h
    refine y_get (ci := 6) (k := 1) C in_X6 rfl (by decide) q591 (fun _ h => h) g1 g2 dX6_isCrossedAt_13 ?_
    obtain ⟨d5, rfl, h⟩ := h
    obtain ⟨x6, ⟨fs9, g1, g2⟩, h⟩ := h
    refine y_getN (ci := 5) (k := 0) C in_X5 rfl (by decide) q513 (fun _ h => h) g1 g2 dX6_isCrossedAt_16 ?_
    refine y_icmp_ge C 26 dX6_isCrossedAt_19 (by decide) (fun c9 => ?_) (fun c9 => ?_)
    · replace h := h.1 c9
      refine y_iconst C 0 dX6_isCrossedAt_26 lit0 ?_
      exact y_iretz C hr rfl rfl (by decide) ⟨rfl, h⟩ dX6_isCrossedAt_27
    · replace h := h.2 c9
      refine y_iconst C 1 dX6_isCrossedAt_22 lit1 ?_
      refine y_goto C 27 dX6_isCrossedAt_23 (by decide) ?_
      exact y_iretz C hr rfl rfl (by decide) ⟨rfl, h⟩ dX6_isCrossedAt_27
theorem kdX9_shorten : yX9_shorten.cls = RX9 ∧ yX9_shorten.cls ≠ "java/lang/invoke/MethodHandle" ∧ yX9_shorten.cls ≠ "java/lang/invoke/VarHandle" ∧ (parseMethodDescriptor yX9_shorten.desc).map (fun d => d.parameters.length) = some 3 := by decide +kernel
def wpX9_shorten (M : yM) (o_ : Nat) (a1 : Int32) (a2 : Int32) (a3 : Int32) (post : yM → Prop) : Prop := ∃ r1 : Option Nat, yF M o_ 8 1 (yr r1) ∧ ∃ x2 : Int32, yF M o_ 8 0 (yi x2) ∧ ∃ r3 : Option Nat, yF M o_ 8 1 (yr r3) ∧ ∃ x4 : Int32, yF M o_ 8 0 (yi x4) ∧ ∃ d5 : Nat, r3 = some d5 ∧ ∃ (n6 : Nat) (f7 : Nat → Int32), M d5 = some (yai n6 f7) ∧ vp_in ((a1 * x4) + a2) n6 ∧ ∃ d8 : Nat, r1 = some d8 ∧ ∃ (n9 : Nat) (f10 : Nat → Int32), M d8 = some (yai n9 f10) ∧ vp_in ((a1 * x2) + a2) n9 ∧ ∀ M11 : yM, M11 = yup M d8 (yai n9 (upd f10 (Int32.toNatClampNeg ((a1 * x2) + a2)) (if a3 < (f7 (Int32.toNatClampNeg ((a1 * x4) + a2))) then a3 else (f7 (Int32.toNatClampNeg ((a1 * x4) + a2)))))) → post M11
theorem metX9_shorten {l : Launch} {D : va_G} {s0 : State} {a0 : Array Value} (hB : yB D s0 a0) {M : yM} {o_ : Nat} {a1 : Int32} {a2 : Int32} {a3 : Int32} {post : yM → Prop} (h : wpX9_shorten M o_ a1 a2 a3 post) : yMv l yX9_shorten (ws_ yX9_shorten cX9_shorten 4 none) 1 80 0 0 D s0 [yr (some o_), yi a1, yi a2, yi a3] M post := by
  refine y_metv hB (by decide) rfl (Nat.le_of_ble_eq_true rfl) ?_
  intro p e s m below meth c A hr hnm C
  rw [wpX9_shorten] at h
  refine y_aload_n C 0 rfl rfl dX9_shorten_0 ?_
  obtain ⟨r1, ⟨fs9, g1, g2⟩, h⟩ := h
  refine y_get (ci := 8) (k := 1) C in_X9 rfl (by decide) q986 (fun _ h => h) g1 g2 dX9_shorten_1 ?_
  refine y_iload_n C 1 rfl rfl dX9_shorten_4 ?_
  refine y_aload_n C 0 rfl rfl dX9_shorten_5 ?_
  obtain ⟨x2, ⟨fs9, g1, g2⟩, h⟩ := h
  refine y_get (ci := 8) (k := 0) C in_X9 rfl (by decide) q985 (fun _ h => h) g1 g2 dX9_shorten_6 ?_
  refine y_imul C dX9_shorten_9 ?_
  refine y_iload_n C 2 rfl rfl dX9_shorten_10 ?_
  refine y_iadd C dX9_shorten_11 ?_
  refine y_aload_n C 0 rfl rfl dX9_shorten_12 ?_
  obtain ⟨r3, ⟨fs9, g1, g2⟩, h⟩ := h
  refine y_get (ci := 8) (k := 1) C in_X9 rfl (by decide) q986 (fun _ h => h) g1 g2 dX9_shorten_13 ?_
  refine y_iload_n C 1 rfl rfl dX9_shorten_16 ?_
  refine y_aload_n C 0 rfl rfl dX9_shorten_17 ?_
  obtain ⟨x4, ⟨fs9, g1, g2⟩, h⟩ := h
  refine y_get (ci := 8) (k := 0) C in_X9 rfl (by decide) q985 (fun _ h => h) g1 g2 dX9_shorten_18 ?_
  refine y_imul C dX9_shorten_21 ?_
  refine y_iload_n C 2 rfl rfl dX9_shorten_22 ?_
  refine y_iadd C dX9_shorten_23 ?_
  obtain ⟨d5, rfl, h⟩ := h
  obtain ⟨n6, f7, g1, g2, h⟩ := h
  refine y_iald C g1 g2 dX9_shorten_24 ?_
  refine y_iload_n C 3 rfl rfl dX9_shorten_25 ?_
  refine y_mmin C q984 q296 q99 q297 (Nat.le_of_ble_eq_true rfl) (Nat.le_of_ble_eq_true rfl) (Nat.le_of_ble_eq_true rfl) dX9_shorten_26 ?_
  obtain ⟨d8, rfl, h⟩ := h
  obtain ⟨n9, f10, g1, g2, h⟩ := h
  replace h := h _ rfl
  refine y_iast C g1 g2 rfl dX9_shorten_29 ?_
  exact y_vret C hr rfl rfl h dX9_shorten_30
theorem kdX9_init : yX9_init.cls = RX9 ∧ yX9_init.cls ≠ "java/lang/invoke/MethodHandle" ∧ yX9_init.cls ≠ "java/lang/invoke/VarHandle" ∧ (parseMethodDescriptor yX9_init.desc).map (fun d => d.parameters.length) = some 3 := by decide +kernel
section sX9_init
variable {p : Program} {l : Launch} {e : Env} {s : State} {m : MethodId} {args : Array Value} {below : List Frame} {meth : Method} {c : Code} {D : va_G} {s0 : State} {a0 : Array Value} {A : Nat → Prop} {mc ms : Nat}
def wpX9_init_b320 (o_ : Nat) (post : yM → Prop) (k213 : yM → Nat → Nat → Int32 → Prop) (k225 : yM → Nat → Nat → Int32 → Int32 → Prop) (M : yM) (rc : Nat) (rs : Nat) (v4 : Int32) (v5 : Int32) : Prop := ∀ x37 : Int32, x37 = v5 + 1 → k225 M rc rs v4 x37
theorem okX9_init_b320 (C : yC p { frames := 4, cells := mc, slots := ms, locals := 147 } s m args meth c cX9_init 8 RX9 D s0 a0 A) (hB : yB D s0 a0) (hr : meth.sig.returnType = none) (hin2 : meth.name = "<init>") {o_ : Nat} {post : yM → Prop} {k213 : yM → Nat → Nat → Int32 → Prop} {k225 : yM → Nat → Nat → Int32 → Int32 → Prop} (hk213 : ∀ (M : yM) (rc : Nat) (rs : Nat) (v4 : Int32), k213 M rc rs v4 → Y p l e { frames := 4, cells := mc, slots := ms, locals := 147 } s m args below meth c (MQ below (yQv D s0 A post) args s mc ms A) D s0 A 8 M rc rs [some (yr (some o_)), none, none, none, some (yi v4), none, none, none] 213 []) (hk225 : ∀ (M : yM) (rc : Nat) (rs : Nat) (v4 : Int32) (v5 : Int32), k225 M rc rs v4 v5 → Y p l e { frames := 4, cells := mc, slots := ms, locals := 147 } s m args below meth c (MQ below (yQv D s0 A post) args s mc ms A) D s0 A 8 M rc rs [some (yr (some o_)), none, none, none, some (yi v4), some (yi v5), none, none] 225 []) : ∀ (M : yM) (rc : Nat) (rs : Nat) (v4 : Int32) (v5 : Int32), wpX9_init_b320 o_ post k213 k225 M rc rs v4 v5 → Y p l e { frames := 4, cells := mc, slots := ms, locals := 147 } s m args below meth c (MQ below (yQv D s0 A post) args s mc ms A) D s0 A 8 M rc rs [some (yr (some o_)), none, none, none, some (yi v4), some (yi v5), none, none] 320 [] := by
  intro M rc rs v4 v5 h
  rw [wpX9_init_b320] at h
  replace h := h _ rfl
  refine y_iinc C 5 _ rfl (y_inc1 _) (by decide) dX9_init_320 ?_
  refine y_goto C 225 dX9_init_323 (by decide) ?_
  refine y_to C _ ?_ (hk225 _ _ _ _ _ h)
  exact (And.intro rfl (And.intro rfl (And.intro rfl trivial)))
def wpX9_init_b225 (o_ : Nat) (post : yM → Prop) (k213 : yM → Nat → Nat → Int32 → Prop) : Nat → yM → Nat → Nat → Int32 → Int32 → Prop
  | 0, _, _, _, _, _ => False
  | nn + 1, M, rc, rs, v4, v5 => ∃ x20 : Int32, yF M o_ 8 0 (yi x20) ∧ ∃ x21 : Int32, yF M o_ 8 0 (yi x21) ∧ (((x20 * x21) ≤ v5 → ∀ x22 : Int32, x22 = v4 + 1 → k213 M rc rs x22) ∧ (¬ (x20 * x21) ≤ v5 → ∃ r23 : Option Nat, yF M o_ 8 1 (yr r23) ∧ ∃ x24 : Int32, yF M o_ 8 0 (yi x24) ∧ ¬ x24 = 0 ∧ ∃ x25 : Int32, yF M o_ 8 0 (yi x25) ∧ ∃ d26 : Nat, r23 = some d26 ∧ ∃ (n27 : Nat) (f28 : Nat → Int32), M d26 = some (yai n27 f28) ∧ vp_in (((v5 / x24) * x25) + v4) n27 ∧ ∀ x29 : Int32, x29 = (f28 (Int32.toNatClampNeg (((v5 / x24) * x25) + v4))) → ∃ r30 : Option Nat, yF M o_ 8 1 (yr r30) ∧ ∃ x31 : Int32, yF M o_ 8 0 (yi x31) ∧ ∃ x32 : Int32, yF M o_ 8 0 (yi x32) ∧ ¬ x32 = 0 ∧ ∃ d33 : Nat, r30 = some d33 ∧ ∃ (n34 : Nat) (f35 : Nat → Int32), M d33 = some (yai n34 f35) ∧ vp_in ((v4 * x31) + (v5 - v5 / x32 * x32)) n34 ∧ ∀ x36 : Int32, x36 = (f35 (Int32.toNatClampNeg ((v4 * x31) + (v5 - v5 / x32 * x32)))) → ((1000000 ≤ x29 → wpX9_init_b320 o_ post k213 (fun M rc rs v4 v5 => wpX9_init_b225 o_ post k213 nn M rc rs v4 v5) M rc rs v4 v5) ∧ (¬ 1000000 ≤ x29 → ((1000000 ≤ x36 → wpX9_init_b320 o_ post k213 (fun M rc rs v4 v5 => wpX9_init_b225 o_ post k213 nn M rc rs v4 v5) M rc rs v4 v5) ∧ (¬ 1000000 ≤ x36 → ∃ x38 : Int32, yF M o_ 8 0 (yi x38) ∧ ¬ x38 = 0 ∧ ∃ x39 : Int32, yF M o_ 8 0 (yi x39) ∧ ¬ x39 = 0 ∧ (∃ vs, M o_ = some (yo 8 vs)) ∧ wpX9_shorten M o_ (v5 / x38) (v5 - v5 / x39 * x39) (x29 + x36) (fun M40 => wpX9_init_b320 o_ post k213 (fun M rc rs v4 v5 => wpX9_init_b225 o_ post k213 nn M rc rs v4 v5) M40 rc rs v4 v5)))))))
theorem okX9_init_b225 (C : yC p { frames := 4, cells := mc, slots := ms, locals := 147 } s m args meth c cX9_init 8 RX9 D s0 a0 A) (hB : yB D s0 a0) (hr : meth.sig.returnType = none) (hin2 : meth.name = "<init>") {o_ : Nat} {post : yM → Prop} {k213 : yM → Nat → Nat → Int32 → Prop} (hk213 : ∀ (M : yM) (rc : Nat) (rs : Nat) (v4 : Int32), k213 M rc rs v4 → Y p l e { frames := 4, cells := mc, slots := ms, locals := 147 } s m args below meth c (MQ below (yQv D s0 A post) args s mc ms A) D s0 A 8 M rc rs [some (yr (some o_)), none, none, none, some (yi v4), none, none, none] 213 []) : ∀ (nn : Nat) (M : yM) (rc : Nat) (rs : Nat) (v4 : Int32) (v5 : Int32), wpX9_init_b225 o_ post k213 nn M rc rs v4 v5 → Y p l e { frames := 4, cells := mc, slots := ms, locals := 147 } s m args below meth c (MQ below (yQv D s0 A post) args s mc ms A) D s0 A 8 M rc rs [some (yr (some o_)), none, none, none, some (yi v4), some (yi v5), none, none] 225 [] := by
  intro nn
  induction nn with
  | zero => intro M rc rs v4 v5 h; exact absurd h (by rw [wpX9_init_b225]; exact id)
  | succ nn ih =>
    intro M rc rs v4 v5 h
    rw [wpX9_init_b225] at h
    refine y_iload C 5 rfl dX9_init_225 ?_
    refine y_aload_n C 0 rfl rfl dX9_init_227 ?_
    obtain ⟨x20, ⟨fs9, g1, g2⟩, h⟩ := h
    refine y_get (ci := 8) (k := 0) C in_X9 rfl (by decide) q985 (fun _ h => h) g1 g2 dX9_init_228 ?_
    refine y_aload_n C 0 rfl rfl dX9_init_231 ?_
    obtain ⟨x21, ⟨fs9, g1, g2⟩, h⟩ := h
    refine y_get (ci := 8) (k := 0) C in_X9 rfl (by decide) q985 (fun _ h => h) g1 g2 dX9_init_232 ?_
    refine y_imul C dX9_init_235 ?_
    refine y_icmp_ge C 326 dX9_init_236 (by decide) (fun c9 => ?_) (fun c9 => ?_)
    · replace h := h.1 c9
      replace h := h _ rfl
      refine y_iinc C 4 _ rfl (y_inc1 _) (by decide) dX9_init_326 ?_
      refine y_goto C 213 dX9_init_329 (by decide) ?_
      refine y_to C _ ?_ (hk213 _ _ _ _ h)
      exact (And.intro rfl (And.intro rfl trivial))
    · replace h := h.2 c9
      refine y_aload_n C 0 rfl rfl dX9_init_239 ?_
      obtain ⟨r23, ⟨fs9, g1, g2⟩, h⟩ := h
      refine y_get (ci := 8) (k := 1) C in_X9 rfl (by decide) q986 (fun _ h => h) g1 g2 dX9_init_240 ?_
      refine y_iload C 5 rfl dX9_init_243 ?_
      refine y_aload_n C 0 rfl rfl dX9_init_245 ?_
      obtain ⟨x24, ⟨fs9, g1, g2⟩, h⟩ := h
      refine y_get (ci := 8) (k := 0) C in_X9 rfl (by decide) q985 (fun _ h => h) g1 g2 dX9_init_246 ?_
      obtain ⟨d9, h⟩ := h
      refine y_idiv C d9 dX9_init_249 ?_
      refine y_aload_n C 0 rfl rfl dX9_init_250 ?_
      obtain ⟨x25, ⟨fs9, g1, g2⟩, h⟩ := h
      refine y_get (ci := 8) (k := 0) C in_X9 rfl (by decide) q985 (fun _ h => h) g1 g2 dX9_init_251 ?_
      refine y_imul C dX9_init_254 ?_
      refine y_iload C 4 rfl dX9_init_255 ?_
      refine y_iadd C dX9_init_257 ?_
      obtain ⟨d26, rfl, h⟩ := h
      obtain ⟨n27, f28, g1, g2, h⟩ := h
      refine y_iald C g1 g2 dX9_init_258 ?_
      replace h := h _ rfl
      refine y_istore C 6 (by decide) dX9_init_259 ?_
      refine y_aload_n C 0 rfl rfl dX9_init_261 ?_
      obtain ⟨r30, ⟨fs9, g1, g2⟩, h⟩ := h
      refine y_get (ci := 8) (k := 1) C in_X9 rfl (by decide) q986 (fun _ h => h) g1 g2 dX9_init_262 ?_
      refine y_iload C 4 rfl dX9_init_265 ?_
      refine y_aload_n C 0 rfl rfl dX9_init_267 ?_
      obtain ⟨x31, ⟨fs9, g1, g2⟩, h⟩ := h
      refine y_get (ci := 8) (k := 0) C in_X9 rfl (by decide) q985 (fun _ h => h) g1 g2 dX9_init_268 ?_
      refine y_imul C dX9_init_271 ?_
      refine y_iload C 5 rfl dX9_init_272 ?_
      refine y_aload_n C 0 rfl rfl dX9_init_274 ?_
      obtain ⟨x32, ⟨fs9, g1, g2⟩, h⟩ := h
      refine y_get (ci := 8) (k := 0) C in_X9 rfl (by decide) q985 (fun _ h => h) g1 g2 dX9_init_275 ?_
      obtain ⟨d9, h⟩ := h
      refine y_irem C d9 dX9_init_278 ?_
      refine y_iadd C dX9_init_279 ?_
      obtain ⟨d33, rfl, h⟩ := h
      obtain ⟨n34, f35, g1, g2, h⟩ := h
      refine y_iald C g1 g2 dX9_init_280 ?_
      replace h := h _ rfl
      refine y_istore C 7 (by decide) dX9_init_281 ?_
      refine y_iload C 6 rfl dX9_init_283 ?_
      refine y_ldc C 1000000 q975 dX9_init_285 ?_
      refine y_icmp_ge C 320 dX9_init_287 (by decide) (fun c9 => ?_) (fun c9 => ?_)
      · replace h := h.1 c9
        refine y_to C _ ?_ (okX9_init_b320 C hB hr hin2 hk213 ih _ _ _ _ _ h)
        exact (And.intro rfl (And.intro rfl (And.intro rfl trivial)))
      · replace h := h.2 c9
        refine y_iload C 7 rfl dX9_init_290 ?_
        refine y_ldc C 1000000 q975 dX9_init_292 ?_
        refine y_icmp_ge C 320 dX9_init_294 (by decide) (fun c9 => ?_) (fun c9 => ?_)
        · replace h := h.1 c9
          refine y_to C _ ?_ (okX9_init_b320 C hB hr hin2 hk213 ih _ _ _ _ _ h)
          exact (And.intro rfl (And.intro rfl (And.intro rfl trivial)))
        · replace h := h.2 c9
          refine y_aload_n C 0 rfl rfl dX9_init_297 ?_
          refine y_iload C 5 rfl dX9_init_298 ?_
          refine y_aload_n C 0 rfl rfl dX9_init_300 ?_
          obtain ⟨x38, ⟨fs9, g1, g2⟩, h⟩ := h
          refine y_get (ci := 8) (k := 0) C in_X9 rfl (by decide) q985 (fun _ h => h) g1 g2 dX9_init_301 ?_
          obtain ⟨d9, h⟩ := h
          refine y_idiv C d9 dX9_init_304 ?_
          refine y_iload C 5 rfl dX9_init_305 ?_
          refine y_aload_n C 0 rfl rfl dX9_init_307 ?_
          obtain ⟨x39, ⟨fs9, g1, g2⟩, h⟩ := h
          refine y_get (ci := 8) (k := 0) C in_X9 rfl (by decide) q985 (fun _ h => h) g1 g2 dX9_init_308 ?_
          obtain ⟨d9, h⟩ := h
          refine y_irem C d9 dX9_init_311 ?_
          refine y_iload C 6 rfl dX9_init_312 ?_
          refine y_iload C 7 rfl dX9_init_314 ?_
          refine y_iadd C dX9_init_316 ?_
          obtain ⟨⟨vs9, g0⟩, h⟩ := h
          refine y_callVv0 C (metX9_shorten hB h) (cwV 3 C.hts (lw_V q980 q982 qs20 q111 q983) rfl rfl rfl kdX9_shorten ⟨Nat.le_of_ble_eq_true rfl, Nat.le_of_ble_eq_true rfl⟩) g0 rfl rfl rfl (Nat.le_of_ble_eq_true rfl) dX9_init_317 (fun M40 hp => ?_)
          replace h := hp
          refine y_to C _ ?_ (okX9_init_b320 C hB hr hin2 hk213 ih _ _ _ _ _ h)
          exact (And.intro rfl (And.intro rfl (And.intro rfl trivial)))
def wpX9_init_b213 (o_ : Nat) (post : yM → Prop) : Nat → yM → Nat → Nat → Int32 → Prop
  | 0, _, _, _, _ => False
  | nn + 1, M, rc, rs, v4 => ∃ x19 : Int32, yF M o_ 8 0 (yi x19) ∧ ((x19 ≤ v4 → post M) ∧ (¬ x19 ≤ v4 → ∃ nf9 : Nat, wpX9_init_b225 o_ post (fun M rc rs v4 => wpX9_init_b213 o_ post nn M rc rs v4) nf9 M rc rs v4 0))
theorem okX9_init_b213 (C : yC p { frames := 4, cells := mc, slots := ms, locals := 147 } s m args meth c cX9_init 8 RX9 D s0 a0 A) (hB : yB D s0 a0) (hr : meth.sig.returnType = none) (hin2 : meth.name = "<init>") {o_ : Nat} {post : yM → Prop}  : ∀ (nn : Nat) (M : yM) (rc : Nat) (rs : Nat) (v4 : Int32), wpX9_init_b213 o_ post nn M rc rs v4 → Y p l e { frames := 4, cells := mc, slots := ms, locals := 147 } s m args below meth c (MQ below (yQv D s0 A post) args s mc ms A) D s0 A 8 M rc rs [some (yr (some o_)), none, none, none, some (yi v4), none, none, none] 213 [] := by
  intro nn
  induction nn with
  | zero => intro M rc rs v4 h; exact absurd h (by rw [wpX9_init_b213]; exact id)
  | succ nn ih =>
    intro M rc rs v4 h
    rw [wpX9_init_b213] at h
    refine y_iload C 4 rfl dX9_init_213 ?_
    refine y_aload_n C 0 rfl rfl dX9_init_215 ?_
    obtain ⟨x19, ⟨fs9, g1, g2⟩, h⟩ := h
    refine y_get (ci := 8) (k := 0) C in_X9 rfl (by decide) q985 (fun _ h => h) g1 g2 dX9_init_216 ?_
    refine y_icmp_ge C 332 dX9_init_219 (by decide) (fun c9 => ?_) (fun c9 => ?_)
    · replace h := h.1 c9
      exact y_vret C hr rfl rfl h dX9_init_332
    · replace h := h.2 c9
      refine y_iconst C 0 dX9_init_222 lit0 ?_
      refine y_istore C 5 (by decide) dX9_init_223 ?_
      obtain ⟨nf9, h⟩ := h
      refine y_to C _ ?_ (okX9_init_b225 C hB hr hin2 ih nf9 _ _ _ _ _ h)
      exact (And.intro rfl (And.intro rfl (And.intro rfl trivial)))
def wpX9_init_b204 (o_ : Nat) (post : yM → Prop) (k86 : yM → Nat → Nat → Option Nat → Int32 → Int32 → Int32 → Prop) (M : yM) (rc : Nat) (rs : Nat) (v1 : Option Nat) (v2 : Int32) (v3 : Int32) (v4 : Int32) : Prop := ∀ x41 : Int32, x41 = v4 + 1 → k86 M rc rs v1 v2 v3 x41
theorem okX9_init_b204 (C : yC p { frames := 4, cells := mc, slots := ms, locals := 147 } s m args meth c cX9_init 8 RX9 D s0 a0 A) (hB : yB D s0 a0) (hr : meth.sig.returnType = none) (hin2 : meth.name = "<init>") {o_ : Nat} {post : yM → Prop} {k86 : yM → Nat → Nat → Option Nat → Int32 → Int32 → Int32 → Prop} (hk86 : ∀ (M : yM) (rc : Nat) (rs : Nat) (v1 : Option Nat) (v2 : Int32) (v3 : Int32) (v4 : Int32), k86 M rc rs v1 v2 v3 v4 → Y p l e { frames := 4, cells := mc, slots := ms, locals := 147 } s m args below meth c (MQ below (yQv D s0 A post) args s mc ms A) D s0 A 8 M rc rs [some (yr (some o_)), some (yr v1), some (yi v2), some (yi v3), some (yi v4), none, none, none] 86 []) : ∀ (M : yM) (rc : Nat) (rs : Nat) (v1 : Option Nat) (v2 : Int32) (v3 : Int32) (v4 : Int32), wpX9_init_b204 o_ post k86 M rc rs v1 v2 v3 v4 → Y p l e { frames := 4, cells := mc, slots := ms, locals := 147 } s m args below meth c (MQ below (yQv D s0 A post) args s mc ms A) D s0 A 8 M rc rs [some (yr (some o_)), some (yr v1), some (yi v2), some (yi v3), some (yi v4), none, none, none] 204 [] := by
  intro M rc rs v1 v2 v3 v4 h
  rw [wpX9_init_b204] at h
  replace h := h _ rfl
  refine y_iinc C 4 _ rfl (y_inc1 _) (by decide) dX9_init_204 ?_
  refine y_goto C 86 dX9_init_207 (by decide) ?_
  refine y_to C _ ?_ (hk86 _ _ _ _ _ _ _ h)
  exact (And.intro rfl (And.intro rfl (And.intro rfl (And.intro rfl (And.intro rfl trivial)))))
def wpX9_init_b195 (o_ : Nat) (post : yM → Prop) (k86 : yM → Nat → Nat → Option Nat → Int32 → Int32 → Int32 → Prop) (M : yM) (rc : Nat) (rs : Nat) (v1 : Option Nat) (v2 : Int32) (v3 : Int32) (v4 : Int32) (v5 : Option Nat) (u1 : Int32) (u2 : Int32) (u3 : Int32) : Prop := ∃ d59 : Nat, v5 = some d59 ∧ (∃ vs, M d59 = some (yo 6 vs)) ∧ wpX6_value M d59 (fun r60 => (∃ vs, M o_ = some (yo 8 vs)) ∧ wpX9_shorten M o_ u1 u2 (u3 - r60) (fun M61 => wpX9_init_b204 o_ post k86 M61 rc rs v1 v2 v3 v4))
theorem okX9_init_b195 (C : yC p { frames := 4, cells := mc, slots := ms, locals := 147 } s m args meth c cX9_init 8 RX9 D s0 a0 A) (hB : yB D s0 a0) (hr : meth.sig.returnType = none) (hin2 : meth.name = "<init>") {o_ : Nat} {post : yM → Prop} {k86 : yM → Nat → Nat → Option Nat → Int32 → Int32 → Int32 → Prop} (hk86 : ∀ (M : yM) (rc : Nat) (rs : Nat) (v1 : Option Nat) (v2 : Int32) (v3 : Int32) (v4 : Int32), k86 M rc rs v1 v2 v3 v4 → Y p l e { frames := 4, cells := mc, slots := ms, locals := 147 } s m args below meth c (MQ below (yQv D s0 A post) args s mc ms A) D s0 A 8 M rc rs [some (yr (some o_)), some (yr v1), some (yi v2), some (yi v3), some (yi v4), none, none, none] 86 []) : ∀ (M : yM) (rc : Nat) (rs : Nat) (v1 : Option Nat) (v2 : Int32) (v3 : Int32) (v4 : Int32) (v5 : Option Nat) (u1 : Int32) (u2 : Int32) (u3 : Int32), wpX9_init_b195 o_ post k86 M rc rs v1 v2 v3 v4 v5 u1 u2 u3 → Y p l e { frames := 4, cells := mc, slots := ms, locals := 147 } s m args below meth c (MQ below (yQv D s0 A post) args s mc ms A) D s0 A 8 M rc rs [some (yr (some o_)), some (yr v1), some (yi v2), some (yi v3), some (yi v4), some (yr v5), none, none] 195 [yi u3, yi u2, yi u1, yr (some o_)] := by
  intro M rc rs v1 v2 v3 v4 v5 u1 u2 u3 h
  rw [wpX9_init_b195] at h
  refine y_aload C 5 rfl dX9_init_195 ?_
  obtain ⟨d59, rfl, h⟩ := h
  obtain ⟨⟨vs9, g0⟩, h⟩ := h
  refine y_callVi0 C (metX6_value hB h) (cwV 0 C.hts (lw_V q979 q732 q733 q107 q734) rfl rfl rfl kdX6_value ⟨Nat.le_of_ble_eq_true rfl, Nat.le_of_ble_eq_true rfl⟩) g0 rfl rfl rfl (Nat.le_of_ble_eq_true rfl) dX9_init_197 (fun r60 M1 hp => ?_)
  clear h
  obtain ⟨rfl, h⟩ := hp
  refine y_isub C dX9_init_200 ?_
  obtain ⟨⟨vs9, g0⟩, h⟩ := h
  refine y_callVv0 C (metX9_shorten hB h) (cwV 3 C.hts (lw_V q980 q982 qs20 q111 q983) rfl rfl rfl kdX9_shorten ⟨Nat.le_of_ble_eq_true rfl, Nat.le_of_ble_eq_true rfl⟩) g0 rfl rfl rfl (Nat.le_of_ble_eq_true rfl) dX9_init_201 (fun M61 hp => ?_)
  replace h := hp
  refine y_to C _ ?_ (okX9_init_b204 C hB hr hin2 hk86 _ _ _ _ _ _ _ h)
  exact (And.intro rfl (And.intro rfl (And.intro rfl (And.intro rfl (And.intro rfl trivial)))))
def wpX9_init_b171 (o_ : Nat) (post : yM → Prop) (k86 : yM → Nat → Nat → Option Nat → Int32 → Int32 → Int32 → Prop) (M : yM) (rc : Nat) (rs : Nat) (v1 : Option Nat) (v2 : Int32) (v3 : Int32) (v4 : Int32) (v5 : Option Nat) (v6 : Int32) (v7 : Int32) (u1 : Int32) (u2 : Int32) (u3 : Int32) (u4 : Int32) : Prop := (∃ vs, M o_ = some (yo 8 vs)) ∧ wpX9_shorten M o_ u1 u2 (u3 + u4) (fun M56 => ((¬ v4 = v3 → ∃ d57 : Nat, v5 = some d57 ∧ ∃ x58 : Int32, yF M56 d57 6 2 (yi x58) ∧ wpX9_init_b195 o_ post k86 M56 rc rs v1 v2 v3 v4 (some d57) v7 v6 x58) ∧ (v4 = v3 → wpX9_init_b195 o_ post k86 M56 rc rs v1 v2 v3 v4 v5 v7 v6 0)))
theorem okX9_init_b171 (C : yC p { frames := 4, cells := mc, slots := ms, locals := 147 } s m args meth c cX9_init 8 RX9 D s0 a0 A) (hB : yB D s0 a0) (hr : meth.sig.returnType = none) (hin2 : meth.name = "<init>") {o_ : Nat} {post : yM → Prop} {k86 : yM → Nat → Nat → Option Nat → Int32 → Int32 → Int32 → Prop} (hk86 : ∀ (M : yM) (rc : Nat) (rs : Nat) (v1 : Option Nat) (v2 : Int32) (v3 : Int32) (v4 : Int32), k86 M rc rs v1 v2 v3 v4 → Y p l e { frames := 4, cells := mc, slots := ms, locals := 147 } s m args below meth c (MQ below (yQv D s0 A post) args s mc ms A) D s0 A 8 M rc rs [some (yr (some o_)), some (yr v1), some (yi v2), some (yi v3), some (yi v4), none, none, none] 86 []) : ∀ (M : yM) (rc : Nat) (rs : Nat) (v1 : Option Nat) (v2 : Int32) (v3 : Int32) (v4 : Int32) (v5 : Option Nat) (v6 : Int32) (v7 : Int32) (u1 : Int32) (u2 : Int32) (u3 : Int32) (u4 : Int32), wpX9_init_b171 o_ post k86 M rc rs v1 v2 v3 v4 v5 v6 v7 u1 u2 u3 u4 → Y p l e { frames := 4, cells := mc, slots := ms, locals := 147 } s m args below meth c (MQ below (yQv D s0 A post) args s mc ms A) D s0 A 8 M rc rs [some (yr (some o_)), some (yr v1), some (yi v2), some (yi v3), some (yi v4), some (yr v5), some (yi v6), some (yi v7)] 171 [yi u4, yi u3, yi u2, yi u1, yr (some o_)] := by
  intro M rc rs v1 v2 v3 v4 v5 v6 v7 u1 u2 u3 u4 h
  rw [wpX9_init_b171] at h
  refine y_iadd C dX9_init_171 ?_
  obtain ⟨⟨vs9, g0⟩, h⟩ := h
  refine y_callVv0 C (metX9_shorten hB h) (cwV 3 C.hts (lw_V q980 q982 qs20 q111 q983) rfl rfl rfl kdX9_shorten ⟨Nat.le_of_ble_eq_true rfl, Nat.le_of_ble_eq_true rfl⟩) g0 rfl rfl rfl (Nat.le_of_ble_eq_true rfl) dX9_init_172 (fun M56 hp => ?_)
  replace h := hp
  refine y_aload_n C 0 rfl rfl dX9_init_175 ?_
  refine y_iload C 7 rfl dX9_init_176 ?_
  refine y_iload C 6 rfl dX9_init_178 ?_
  refine y_iload C 4 rfl dX9_init_180 ?_
  refine y_iload_n C 3 rfl rfl dX9_init_182 ?_
  refine y_icmp_ne C 190 dX9_init_183 (by decide) (fun c9 => ?_) (fun c9 => ?_)
  · replace h := h.1 c9
    refine y_aload C 5 rfl dX9_init_190 ?_
    obtain ⟨d57, rfl, h⟩ := h
    obtain ⟨x58, ⟨fs9, g1, g2⟩, h⟩ := h
    refine y_getN (ci := 6) (k := 2) C in_X6 rfl (by decide) q596 (fun _ h => h) g1 g2 dX9_init_192 ?_
    refine y_to C _ ?_ (okX9_init_b195 C hB hr hin2 hk86 _ _ _ _ _ _ _ _ _ _ _ h)
    exact (And.intro rfl (And.intro rfl (And.intro rfl (And.intro rfl (And.intro rfl (And.intro rfl trivial))))))
  · replace h := h.2 c9
    refine y_iconst C 0 dX9_init_186 lit0 ?_
    refine y_goto C 195 dX9_init_187 (by decide) ?_
    refine y_to C _ ?_ (okX9_init_b195 C hB hr hin2 hk86 _ _ _ _ _ _ _ _ _ _ _ h)
    exact (And.intro rfl (And.intro rfl (And.intro rfl (And.intro rfl (And.intro rfl (And.intro rfl trivial))))))
def wpX9_init_b86 (o_ : Nat) (post : yM → Prop) : Nat → yM → Nat → Nat → Option Nat → Int32 → Int32 → Int32 → Prop
  | 0, _, _, _, _, _, _, _ => False
  | nn + 1, M, rc, rs, v1, v2, v3, v4 => ∃ d15 : Nat, v1 = some d15 ∧ ∃ r16 : Option Nat, yF M d15 1 1 (yr r16) ∧ ∃ d17 : Nat, r16 = some d17 ∧ (∃ vs, M d17 = some (yo 9 vs)) ∧ wpJ2_size M d17 (fun r18 => ((r18 ≤ v4 → ∃ nf9 : Nat, wpX9_init_b213 o_ post nf9 M rc rs 0) ∧ (¬ r18 ≤ v4 → ((v4 = v2 → wpX9_init_b204 o_ post (fun M rc rs v1 v2 v3 v4 => wpX9_init_b86 o_ post nn M rc rs v1 v2 v3 v4) M rc rs (some d15) v2 v3 v4) ∧ (¬ v4 = v2 → ∃ r42 : Option Nat, yF M d15 1 1 (yr r42) ∧ ∃ d43 : Nat, r42 = some d43 ∧ (∃ vs, M d43 = some (yo 9 vs)) ∧ wpJ2_get M d43 v4 (fun r44 => (∀ v, r44 = some v → ∃ vs, M v = some (yo 6 vs)) ∧ ∃ r45 : Option Nat, yF M d15 1 0 (yr r45) ∧ ∃ d46 : Nat, r44 = some d46 ∧ ∃ r47 : Option Nat, yF M d46 6 0 (yr r47) ∧ ∃ d48 : Nat, r45 = some d48 ∧ (∃ vs, M d48 = some (yo 9 vs)) ∧ wpJ2_indexOf M d48 r47 (fun r49 => ∃ r50 : Option Nat, yF M d15 1 0 (yr r50) ∧ ∃ r51 : Option Nat, yF M d46 6 1 (yr r51) ∧ ∃ d52 : Nat, r50 = some d52 ∧ (∃ vs, M d52 = some (yo 9 vs)) ∧ wpJ2_indexOf M d52 r51 (fun r53 => (∃ vs, M d46 = some (yo 6 vs)) ∧ wpX6_value M d46 (fun r54 => ((¬ v4 = v3 → ∃ x55 : Int32, yF M d46 6 3 (yi x55) ∧ wpX9_init_b171 o_ post (fun M rc rs v1 v2 v3 v4 => wpX9_init_b86 o_ post nn M rc rs v1 v2 v3 v4) M rc rs (some d15) v2 v3 v4 (some d46) r49 r53 r49 r53 r54 x55) ∧ (v4 = v3 → wpX9_init_b171 o_ post (fun M rc rs v1 v2 v3 v4 => wpX9_init_b86 o_ post nn M rc rs v1 v2 v3 v4) M rc rs (some d15) v2 v3 v4 (some d46) r49 r53 r49 r53 r54 0)))))))))))
theorem okX9_init_b86 (C : yC p { frames := 4, cells := mc, slots := ms, locals := 147 } s m args meth c cX9_init 8 RX9 D s0 a0 A) (hB : yB D s0 a0) (hr : meth.sig.returnType = none) (hin2 : meth.name = "<init>") {o_ : Nat} {post : yM → Prop}  : ∀ (nn : Nat) (M : yM) (rc : Nat) (rs : Nat) (v1 : Option Nat) (v2 : Int32) (v3 : Int32) (v4 : Int32), wpX9_init_b86 o_ post nn M rc rs v1 v2 v3 v4 → Y p l e { frames := 4, cells := mc, slots := ms, locals := 147 } s m args below meth c (MQ below (yQv D s0 A post) args s mc ms A) D s0 A 8 M rc rs [some (yr (some o_)), some (yr v1), some (yi v2), some (yi v3), some (yi v4), none, none, none] 86 [] := by
  intro nn
  induction nn with
  | zero => intro M rc rs v1 v2 v3 v4 h; exact absurd h (by rw [wpX9_init_b86]; exact id)
  | succ nn ih =>
    intro M rc rs v1 v2 v3 v4 h
    rw [wpX9_init_b86] at h
    refine y_iload C 4 rfl dX9_init_86 ?_
    refine y_aload_n C 1 rfl rfl dX9_init_88 ?_
    obtain ⟨d15, rfl, h⟩ := h
    obtain ⟨r16, ⟨fs9, g1, g2⟩, h⟩ := h
    refine y_getN (ci := 1) (k := 1) C in_X1 rfl (by decide) q159 (fun _ h => h) g1 g2 dX9_init_89 ?_
    obtain ⟨d17, rfl, h⟩ := h
    obtain ⟨⟨vs9, g0⟩, h⟩ := h
    refine y_callVi0 C (metJ2_size hB h) (cwV 0 C.hts (lw_V q974 q494 q495 q90 q496) rfl rfl rfl kdJ2_size ⟨Nat.le_of_ble_eq_true rfl, Nat.le_of_ble_eq_true rfl⟩) g0 rfl rfl rfl (Nat.le_of_ble_eq_true rfl) dX9_init_92 (fun r18 M1 hp => ?_)
    clear h
    obtain ⟨rfl, h⟩ := hp
    refine y_icmp_ge C 210 dX9_init_95 (by decide) (fun c9 => ?_) (fun c9 => ?_)
    · replace h := h.1 c9
      refine y_iconst C 0 dX9_init_210 lit0 ?_
      refine y_istore C 4 (by decide) dX9_init_211 ?_
      obtain ⟨nf9, h⟩ := h
      refine y_to C _ ?_ (okX9_init_b213 C hB hr hin2  nf9 _ _ _ _ h)
      exact (And.intro rfl (And.intro rfl trivial))
    · replace h := h.2 c9
      refine y_iload C 4 rfl dX9_init_98 ?_
      refine y_iload_n C 2 rfl rfl dX9_init_100 ?_
      refine y_icmp_eq C 204 dX9_init_101 (by decide) (fun c9 => ?_) (fun c9 => ?_)
      · replace h := h.1 c9
        refine y_to C _ ?_ (okX9_init_b204 C hB hr hin2 ih _ _ _ _ _ _ _ h)
        exact (And.intro rfl (And.intro rfl (And.intro rfl (And.intro rfl (And.intro rfl trivial)))))
      · replace h := h.2 c9
        refine y_aload_n C 1 rfl rfl dX9_init_104 ?_
        obtain ⟨r42, ⟨fs9, g1, g2⟩, h⟩ := h
        refine y_getN (ci := 1) (k := 1) C in_X1 rfl (by decide) q159 (fun _ h => h) g1 g2 dX9_init_105 ?_
        refine y_iload C 4 rfl dX9_init_108 ?_
        obtain ⟨d43, rfl, h⟩ := h
        obtain ⟨⟨vs9, g0⟩, h⟩ := h
        refine y_callVq0 C (metJ2_get hB h) (cwV 1 C.hts (lw_V q976 q571 q572 q90 q573) rfl rfl rfl kdJ2_get ⟨Nat.le_of_ble_eq_true rfl, Nat.le_of_ble_eq_true rfl⟩) g0 rfl rfl rfl (Nat.le_of_ble_eq_true rfl) dX9_init_110 (fun r44 M1 hp => ?_)
        clear h
        obtain ⟨rfl, h⟩ := hp
        obtain ⟨g1, h⟩ := h
        refine y_ckc (ci := 6) C q977 rfl g1 dX9_init_113 ?_
        refine y_astore C 5 (by decide) dX9_init_116 ?_
        refine y_aload_n C 1 rfl rfl dX9_init_118 ?_
        obtain ⟨r45, ⟨fs9, g1, g2⟩, h⟩ := h
        refine y_getN (ci := 1) (k := 0) C in_X1 rfl (by decide) q154 (fun _ h => h) g1 g2 dX9_init_119 ?_
        refine y_aload C 5 rfl dX9_init_122 ?_
        obtain ⟨d46, rfl, h⟩ := h
        obtain ⟨r47, ⟨fs9, g1, g2⟩, h⟩ := h
        refine y_getN (ci := 6) (k := 0) C in_X6 rfl (by decide) q587 (fun _ h => h) g1 g2 dX9_init_124 ?_
        obtain ⟨d48, rfl, h⟩ := h
        obtain ⟨⟨vs9, g0⟩, h⟩ := h
        refine y_callVi0 C (metJ2_indexOf hB h) (cwV 1 C.hts (lw_V q978 q675 q676 q90 q677) rfl rfl rfl kdJ2_indexOf ⟨Nat.le_of_ble_eq_true rfl, Nat.le_of_ble_eq_true rfl⟩) g0 rfl rfl rfl (Nat.le_of_ble_eq_true rfl) dX9_init_127 (fun r49 M1 hp => ?_)
        clear h
        obtain ⟨rfl, h⟩ := hp
        refine y_istore C 6 (by decide) dX9_init_130 ?_
        refine y_aload_n C 1 rfl rfl dX9_init_132 ?_
        obtain ⟨r50, ⟨fs9, g1, g2⟩, h⟩ := h
        refine y_getN (ci := 1) (k := 0) C in_X1 rfl (by decide) q154 (fun _ h => h) g1 g2 dX9_init_133 ?_
        refine y_aload C 5 rfl dX9_init_136 ?_
        obtain ⟨r51, ⟨fs9, g1, g2⟩, h⟩ := h
        refine y_getN (ci := 6) (k := 1) C in_X6 rfl (by decide) q592 (fun _ h => h) g1 g2 dX9_init_138 ?_
        obtain ⟨d52, rfl, h⟩ := h
        obtain ⟨⟨vs9, g0⟩, h⟩ := h
        refine y_callVi0 C (metJ2_indexOf hB h) (cwV 1 C.hts (lw_V q978 q675 q676 q90 q677) rfl rfl rfl kdJ2_indexOf ⟨Nat.le_of_ble_eq_true rfl, Nat.le_of_ble_eq_true rfl⟩) g0 rfl rfl rfl (Nat.le_of_ble_eq_true rfl) dX9_init_141 (fun r53 M1 hp => ?_)
        clear h
        obtain ⟨rfl, h⟩ := hp
        refine y_istore C 7 (by decide) dX9_init_144 ?_
        refine y_aload_n C 0 rfl rfl dX9_init_146 ?_
        refine y_iload C 6 rfl dX9_init_147 ?_
        refine y_iload C 7 rfl dX9_init_149 ?_
        refine y_aload C 5 rfl dX9_init_151 ?_
        obtain ⟨⟨vs9, g0⟩, h⟩ := h
        refine y_callVi0 C (metX6_value hB h) (cwV 0 C.hts (lw_V q979 q732 q733 q107 q734) rfl rfl rfl kdX6_value ⟨Nat.le_of_ble_eq_true rfl, Nat.le_of_ble_eq_true rfl⟩) g0 rfl rfl rfl (Nat.le_of_ble_eq_true rfl) dX9_init_153 (fun r54 M1 hp => ?_)
        clear h
        obtain ⟨rfl, h⟩ := hp
        refine y_iload C 4 rfl dX9_init_156 ?_
        refine y_iload_n C 3 rfl rfl dX9_init_158 ?_
        refine y_icmp_ne C 166 dX9_init_159 (by decide) (fun c9 => ?_) (fun c9 => ?_)
        · replace h := h.1 c9
          refine y_aload C 5 rfl dX9_init_166 ?_
          obtain ⟨x55, ⟨fs9, g1, g2⟩, h⟩ := h
          refine y_getN (ci := 6) (k := 3) C in_X6 rfl (by decide) q600 (fun _ h => h) g1 g2 dX9_init_168 ?_
          refine y_to C _ ?_ (okX9_init_b171 C hB hr hin2 ih _ _ _ _ _ _ _ _ _ _ _ _ _ _ h)
          exact (And.intro rfl (And.intro rfl (And.intro rfl (And.intro rfl (And.intro rfl (And.intro rfl (And.intro rfl (And.intro rfl trivial))))))))
        · replace h := h.2 c9
          refine y_iconst C 0 dX9_init_162 lit0 ?_
          refine y_goto C 171 dX9_init_163 (by decide) ?_
          refine y_to C _ ?_ (okX9_init_b171 C hB hr hin2 ih _ _ _ _ _ _ _ _ _ _ _ _ _ _ h)
          exact (And.intro rfl (And.intro rfl (And.intro rfl (And.intro rfl (And.intro rfl (And.intro rfl (And.intro rfl (And.intro rfl trivial))))))))
def wpX9_init_b76 (o_ : Nat) (post : yM → Prop) (k33 : yM → Nat → Nat → Option Nat → Int32 → Int32 → Int32 → Prop) (M : yM) (rc : Nat) (rs : Nat) (v1 : Option Nat) (v2 : Int32) (v3 : Int32) (v4 : Int32) (u0 : Option Nat) (u1 : Int32) (u2 : Int32) : Prop := ∃ d65 : Nat, u0 = some d65 ∧ ∃ (n66 : Nat) (f67 : Nat → Int32), M d65 = some (yai n66 f67) ∧ vp_in u1 n66 ∧ ∀ M68 : yM, M68 = yup M d65 (yai n66 (upd f67 (Int32.toNatClampNeg u1) u2)) → ∀ x69 : Int32, x69 = v4 + 1 → k33 M68 rc rs v1 v2 v3 x69
theorem okX9_init_b76 (C : yC p { frames := 4, cells := mc, slots := ms, locals := 147 } s m args meth c cX9_init 8 RX9 D s0 a0 A) (hB : yB D s0 a0) (hr : meth.sig.returnType = none) (hin2 : meth.name = "<init>") {o_ : Nat} {post : yM → Prop} {k33 : yM → Nat → Nat → Option Nat → Int32 → Int32 → Int32 → Prop} (hk33 : ∀ (M : yM) (rc : Nat) (rs : Nat) (v1 : Option Nat) (v2 : Int32) (v3 : Int32) (v4 : Int32), k33 M rc rs v1 v2 v3 v4 → Y p l e { frames := 4, cells := mc, slots := ms, locals := 147 } s m args below meth c (MQ below (yQv D s0 A post) args s mc ms A) D s0 A 8 M rc rs [some (yr (some o_)), some (yr v1), some (yi v2), some (yi v3), some (yi v4), none, none, none] 33 []) : ∀ (M : yM) (rc : Nat) (rs : Nat) (v1 : Option Nat) (v2 : Int32) (v3 : Int32) (v4 : Int32) (u0 : Option Nat) (u1 : Int32) (u2 : Int32), wpX9_init_b76 o_ post k33 M rc rs v1 v2 v3 v4 u0 u1 u2 → Y p l e { frames := 4, cells := mc, slots := ms, locals := 147 } s m args below meth c (MQ below (yQv D s0 A post) args s mc ms A) D s0 A 8 M rc rs [some (yr (some o_)), some (yr v1), some (yi v2), some (yi v3), some (yi v4), none, none, none] 76 [yi u2, yi u1, yr u0] := by
  intro M rc rs v1 v2 v3 v4 u0 u1 u2 h
  rw [wpX9_init_b76] at h
  obtain ⟨d65, rfl, h⟩ := h
  obtain ⟨n66, f67, g1, g2, h⟩ := h
  replace h := h _ rfl
  refine y_iast C g1 g2 rfl dX9_init_76 ?_
  replace h := h _ rfl
  refine y_iinc C 4 _ rfl (y_inc1 _) (by decide) dX9_init_77 ?_
  refine y_goto C 33 dX9_init_80 (by decide) ?_
  refine y_to C _ ?_ (hk33 _ _ _ _ _ _ _ h)
  exact (And.intro rfl (And.intro rfl (And.intro rfl (And.intro rfl (And.intro rfl trivial)))))
def wpX9_init_b33 (o_ : Nat) (post : yM → Prop) : Nat → yM → Nat → Nat → Option Nat → Int32 → Int32 → Int32 → Prop
  | 0, _, _, _, _, _, _, _ => False
  | nn + 1, M, rc, rs, v1, v2, v3, v4 => ∃ x13 : Int32, yF M o_ 8 0 (yi x13) ∧ ∃ x14 : Int32, yF M o_ 8 0 (yi x14) ∧ (((x13 * x14) ≤ v4 → ∃ nf9 : Nat, wpX9_init_b86 o_ post nf9 M rc rs v1 v2 v3 0) ∧ (¬ (x13 * x14) ≤ v4 → ∃ r62 : Option Nat, yF M o_ 8 1 (yr r62) ∧ ∃ x63 : Int32, yF M o_ 8 0 (yi x63) ∧ ¬ x63 = 0 ∧ ∃ x64 : Int32, yF M o_ 8 0 (yi x64) ∧ ¬ x64 = 0 ∧ ((¬ (v4 / x63) = (v4 - v4 / x64 * x64) → wpX9_init_b76 o_ post (fun M rc rs v1 v2 v3 v4 => wpX9_init_b33 o_ post nn M rc rs v1 v2 v3 v4) M rc rs v1 v2 v3 v4 r62 v4 1000000) ∧ ((v4 / x63) = (v4 - v4 / x64 * x64) → wpX9_init_b76 o_ post (fun M rc rs v1 v2 v3 v4 => wpX9_init_b33 o_ post nn M rc rs v1 v2 v3 v4) M rc rs v1 v2 v3 v4 r62 v4 0))))
theorem okX9_init_b33 (C : yC p { frames := 4, cells := mc, slots := ms, locals := 147 } s m args meth c cX9_init 8 RX9 D s0 a0 A) (hB : yB D s0 a0) (hr : meth.sig.returnType = none) (hin2 : meth.name = "<init>") {o_ : Nat} {post : yM → Prop}  : ∀ (nn : Nat) (M : yM) (rc : Nat) (rs : Nat) (v1 : Option Nat) (v2 : Int32) (v3 : Int32) (v4 : Int32), wpX9_init_b33 o_ post nn M rc rs v1 v2 v3 v4 → Y p l e { frames := 4, cells := mc, slots := ms, locals := 147 } s m args below meth c (MQ below (yQv D s0 A post) args s mc ms A) D s0 A 8 M rc rs [some (yr (some o_)), some (yr v1), some (yi v2), some (yi v3), some (yi v4), none, none, none] 33 [] := by
  intro nn
  induction nn with
  | zero => intro M rc rs v1 v2 v3 v4 h; exact absurd h (by rw [wpX9_init_b33]; exact id)
  | succ nn ih =>
    intro M rc rs v1 v2 v3 v4 h
    rw [wpX9_init_b33] at h
    refine y_iload C 4 rfl dX9_init_33 ?_
    refine y_aload_n C 0 rfl rfl dX9_init_35 ?_
    obtain ⟨x13, ⟨fs9, g1, g2⟩, h⟩ := h
    refine y_get (ci := 8) (k := 0) C in_X9 rfl (by decide) q985 (fun _ h => h) g1 g2 dX9_init_36 ?_
    refine y_aload_n C 0 rfl rfl dX9_init_39 ?_
    obtain ⟨x14, ⟨fs9, g1, g2⟩, h⟩ := h
    refine y_get (ci := 8) (k := 0) C in_X9 rfl (by decide) q985 (fun _ h => h) g1 g2 dX9_init_40 ?_
    refine y_imul C dX9_init_43 ?_
    refine y_icmp_ge C 83 dX9_init_44 (by decide) (fun c9 => ?_) (fun c9 => ?_)
    · replace h := h.1 c9
      refine y_iconst C 0 dX9_init_83 lit0 ?_
      refine y_istore C 4 (by decide) dX9_init_84 ?_
      obtain ⟨nf9, h⟩ := h
      refine y_to C _ ?_ (okX9_init_b86 C hB hr hin2  nf9 _ _ _ _ _ _ _ h)
      exact (And.intro rfl (And.intro rfl (And.intro rfl (And.intro rfl (And.intro rfl trivial)))))
    · replace h := h.2 c9
      refine y_aload_n C 0 rfl rfl dX9_init_47 ?_
      obtain ⟨r62, ⟨fs9, g1, g2⟩, h⟩ := h
      refine y_get (ci := 8) (k := 1) C in_X9 rfl (by decide) q986 (fun _ h => h) g1 g2 dX9_init_48 ?_
      refine y_iload C 4 rfl dX9_init_51 ?_
      refine y_iload C 4 rfl dX9_init_53 ?_
      refine y_aload_n C 0 rfl rfl dX9_init_55 ?_
      obtain ⟨x63, ⟨fs9, g1, g2⟩, h⟩ := h
      refine y_get (ci := 8) (k := 0) C in_X9 rfl (by decide) q985 (fun _ h => h) g1 g2 dX9_init_56 ?_
      obtain ⟨d9, h⟩ := h
      refine y_idiv C d9 dX9_init_59 ?_
      refine y_iload C 4 rfl dX9_init_60 ?_
      refine y_aload_n C 0 rfl rfl dX9_init_62 ?_
      obtain ⟨x64, ⟨fs9, g1, g2⟩, h⟩ := h
      refine y_get (ci := 8) (k := 0) C in_X9 rfl (by decide) q985 (fun _ h => h) g1 g2 dX9_init_63 ?_
      obtain ⟨d9, h⟩ := h
      refine y_irem C d9 dX9_init_66 ?_
      refine y_icmp_ne C 74 dX9_init_67 (by decide) (fun c9 => ?_) (fun c9 => ?_)
      · replace h := h.1 c9
        refine y_ldc C 1000000 q975 dX9_init_74 ?_
        refine y_to C _ ?_ (okX9_init_b76 C hB hr hin2 ih _ _ _ _ _ _ _ _ _ _ h)
        exact (And.intro rfl (And.intro rfl (And.intro rfl (And.intro rfl (And.intro rfl trivial)))))
      · replace h := h.2 c9
        refine y_iconst C 0 dX9_init_70 lit0 ?_
        refine y_goto C 76 dX9_init_71 (by decide) ?_
        refine y_to C _ ?_ (okX9_init_b76 C hB hr hin2 ih _ _ _ _ _ _ _ _ _ _ h)
        exact (And.intro rfl (And.intro rfl (And.intro rfl (And.intro rfl (And.intro rfl trivial)))))
end sX9_init
def wpX9_init (M : yM) (mc : Nat) (ms : Nat) (o_ : Nat) (a1 : Option Nat) (a2 : Int32) (a3 : Int32) (post : yM → Prop) : Prop := ∃ d1 : Nat, a1 = some d1 ∧ ∃ r2 : Option Nat, yF M d1 1 0 (yr r2) ∧ ∃ d3 : Nat, r2 = some d3 ∧ (∃ vs, M d3 = some (yo 9 vs)) ∧ wpJ2_size M d3 (fun r4 => ∃ fs5 : List yV, M o_ = some (yo 8 fs5) ∧ 0 < fs5.length ∧ ∀ M6 : yM, M6 = yup M o_ (yo 8 (fs5.set 0 (yi r4))) → ∃ x7 : Int32, yF M6 o_ 8 0 (yi x7) ∧ ∃ x8 : Int32, yF M6 o_ 8 0 (yi x8) ∧ ¬ ((x7 * x8) : Int32) < 0 ∧ (Int32.toNatClampNeg (x7 * x8)) ≤ 65536 ∧ 1 ≤ mc ∧ (Int32.toNatClampNeg (x7 * x8)) ≤ ms ∧ ∀ q9 : Nat, M6 q9 = none → ∀ M10 : yM, M10 = yup M6 q9 (yai (Int32.toNatClampNeg (x7 * x8)) (fun _ => 0)) → ∃ fs11 : List yV, M10 o_ = some (yo 8 fs11) ∧ 1 < fs11.length ∧ ∀ M12 : yM, M12 = yup M10 o_ (yo 8 (fs11.set 1 (yr (some q9)))) → ∃ nf9 : Nat, wpX9_init_b33 o_ post nf9 M12 (mc - 1) (ms - (Int32.toNatClampNeg (x7 * x8))) (some d1) a2 a3 0)
theorem metX9_init {l : Launch} {D : va_G} {s0 : State} {a0 : Array Value} (hB : yB D s0 a0) {M : yM} {mc : Nat} {ms : Nat} {o_ : Nat} {a1 : Option Nat} {a2 : Int32} {a3 : Int32} {post : yM → Prop} (h : wpX9_init M mc ms o_ a1 a2 a3 post) : yMv l yX9_init (ws_ yX9_init cX9_init 8 none) 4 147 mc ms D s0 [yr (some o_), yr a1, yi a2, yi a3] M post := by
  refine y_metv hB (by decide) rfl (Nat.le_of_ble_eq_true rfl) ?_
  intro p e s m below meth c A hr hnm C
  have hin2 : meth.name = "<init>" := hnm
  rw [wpX9_init] at h
  refine y_aload_n C 0 rfl rfl dX9_init_0 ?_
  refine y_objInit C q973 q118 q119 (Nat.le_of_ble_eq_true rfl) (Nat.le_of_ble_eq_true rfl) (Nat.le_of_ble_eq_true rfl) dX9_init_1 ?_
  refine y_aload_n C 0 rfl rfl dX9_init_4 ?_
  refine y_aload_n C 1 rfl rfl dX9_init_5 ?_
  obtain ⟨d1, rfl, h⟩ := h
  obtain ⟨r2, ⟨fs9, g1, g2⟩, h⟩ := h
  refine y_getN (ci := 1) (k := 0) C in_X1 rfl (by decide) q154 (fun _ h => h) g1 g2 dX9_init_6 ?_
  obtain ⟨d3, rfl, h⟩ := h
  obtain ⟨⟨vs9, g0⟩, h⟩ := h
  refine y_callVi0 C (metJ2_size hB h) (cwV 0 C.hts (lw_V q974 q494 q495 q90 q496) rfl rfl rfl kdJ2_size ⟨Nat.le_of_ble_eq_true rfl, Nat.le_of_ble_eq_true rfl⟩) g0 rfl rfl rfl (Nat.le_of_ble_eq_true rfl) dX9_init_9 (fun r4 M1 hp => ?_)
  clear h
  obtain ⟨rfl, h⟩ := hp
  obtain ⟨fs5, g1, g2, h⟩ := h
  replace h := h _ rfl
  refine y_putF (ci := 8) (k := 0) C in_X9 tyX9_ok nmX9 rfl (by decide) q985 (fun _ h => h) rfl hin2 rfl g1 g2 rfl rfl rfl dX9_init_12 ?_
  refine y_aload_n C 0 rfl rfl dX9_init_15 ?_
  refine y_aload_n C 0 rfl rfl dX9_init_16 ?_
  obtain ⟨x7, ⟨fs9, g1, g2⟩, h⟩ := h
  refine y_get (ci := 8) (k := 0) C in_X9 rfl (by decide) q985 (fun _ h => h) g1 g2 dX9_init_17 ?_
  refine y_aload_n C 0 rfl rfl dX9_init_20 ?_
  obtain ⟨x8, ⟨fs9, g1, g2⟩, h⟩ := h
  refine y_get (ci := 8) (k := 0) C in_X9 rfl (by decide) q985 (fun _ h => h) g1 g2 dX9_init_21 ?_
  refine y_imul C dX9_init_24 ?_
  obtain ⟨g1, g2, g3, g4, h⟩ := h
  refine y_newai C q992 g1 g2 g3 g4 dX9_init_25 (fun q9 g5 => ?_)
  replace h := h q9 g5 _ rfl
  obtain ⟨fs11, g1, g2, h⟩ := h
  replace h := h _ rfl
  refine y_putF (ci := 8) (k := 1) C in_X9 tyX9_ok nmX9 rfl (by decide) q986 (fun _ h => h) rfl hin2 rfl g1 g2 rfl rfl rfl dX9_init_27 ?_
  refine y_iconst C 0 dX9_init_30 lit0 ?_
  refine y_istore C 4 (by decide) dX9_init_31 ?_
  obtain ⟨nf9, h⟩ := h
  refine y_to C _ ?_ (okX9_init_b33 C hB hr hin2  nf9 _ _ _ _ _ _ _ h)
  exact (And.intro rfl (And.intro rfl (And.intro rfl (And.intro rfl (And.intro rfl trivial)))))
theorem kdX1_bounds : yX1_bounds.cls = RX1 ∧ yX1_bounds.cls ≠ "java/lang/invoke/MethodHandle" ∧ yX1_bounds.cls ≠ "java/lang/invoke/VarHandle" ∧ (parseMethodDescriptor yX1_bounds.desc).map (fun d => d.parameters.length) = some 0 := by decide +kernel
section sX1_bounds
variable {p : Program} {l : Launch} {e : Env} {s : State} {m : MethodId} {args : Array Value} {below : List Frame} {meth : Method} {c : Code} {D : va_G} {s0 : State} {a0 : Array Value} {A : Nat → Prop} {mc ms : Nat}
def wpX1_bounds_b25 (o_ : Nat) (post : Option Nat → yM → Prop) (M : yM) (rc : Nat) (rs : Nat) : Prop := ∃ r2 : Option Nat, yF M o_ 1 5 (yr r2) ∧ post r2 M
theorem okX1_bounds_b25 (C : yC p { frames := 5, cells := mc, slots := ms, locals := 174 } s m args meth c cX1_bounds 1 RX1 D s0 a0 A) (hB : yB D s0 a0) (hr : meth.sig.returnType = (some (.object "DimensionLines$Bounds"))) {o_ : Nat} {post : Option Nat → yM → Prop}  : ∀ (M : yM) (rc : Nat) (rs : Nat), wpX1_bounds_b25 o_ post M rc rs → Y p l e { frames := 5, cells := mc, slots := ms, locals := 174 } s m args below meth c (MQ below (yQq D s0 A post) args s mc ms A) D s0 A 1 M rc rs [some (yr (some o_))] 25 [] := by
  intro M rc rs h
  rw [wpX1_bounds_b25] at h
  refine y_aload_n C 0 rfl rfl dX1_bounds_25 ?_
  obtain ⟨r2, ⟨fs9, g1, g2⟩, h⟩ := h
  refine y_get (ci := 1) (k := 5) C in_X1 rfl (by decide) q167 (fun _ h => h) g1 g2 dX1_bounds_26 ?_
  exact y_aretq C hr (Or.inl ⟨_, rfl⟩) rfl rfl h dX1_bounds_29
end sX1_bounds
def wpX1_bounds (M : yM) (mc : Nat) (ms : Nat) (o_ : Nat) (post : Option Nat → yM → Prop) : Prop := ∃ r1 : Option Nat, yF M o_ 1 5 (yr r1) ∧ ((¬ r1 = none → wpX1_bounds_b25 o_ post M mc ms) ∧ (r1 = none → 1 ≤ mc ∧ 2 ≤ ms ∧ ∀ q3 : Nat, M q3 = none → ∀ M4 : yM, M4 = yup M q3 (yo 8 [yi 0, yr none]) → ∃ kc5 ks6 : Nat, kc5 ≤ (mc - 1) ∧ ks6 ≤ (ms - 2) ∧ wpX9_init M4 kc5 ks6 q3 (some o_) (-999) (-999) (fun M7 => ∃ fs8 : List yV, M7 o_ = some (yo 1 fs8) ∧ 5 < fs8.length ∧ ∀ M9 : yM, M9 = yup M7 o_ (yo 1 (fs8.set 5 (yr (some q3)))) → wpX1_bounds_b25 o_ post M9 ((mc - 1) - kc5) ((ms - 2) - ks6))))
theorem metX1_bounds {l : Launch} {D : va_G} {s0 : State} {a0 : Array Value} (hB : yB D s0 a0) {M : yM} {mc : Nat} {ms : Nat} {o_ : Nat} {post : Option Nat → yM → Prop} (h : wpX1_bounds M mc ms o_ post) : yMq l yX1_bounds (ws_ yX1_bounds cX1_bounds 1 (some (.object "DimensionLines$Bounds"))) 5 174 mc ms D s0 [yr (some o_)] M post := by
  refine y_metq hB (by decide) rfl (Nat.le_of_ble_eq_true rfl) ?_
  intro p e s m below meth c A hr hnm C
  rw [wpX1_bounds] at h
  refine y_aload_n C 0 rfl rfl dX1_bounds_0 ?_
  obtain ⟨r1, ⟨fs9, g1, g2⟩, h⟩ := h
  refine y_get (ci := 1) (k := 5) C in_X1 rfl (by decide) q167 (fun _ h => h) g1 g2 dX1_bounds_1 ?_
  refine y_ifnonnull C 25 dX1_bounds_4 (by decide) (fun c9 => ?_) (fun c9 => ?_)
  · replace h := h.1 c9
    refine y_to C _ ?_ (okX1_bounds_b25 C hB hr  _ _ _ h)
    exact (And.intro rfl trivial)
  · replace h := h.2 c9
    refine y_aload_n C 0 rfl rfl dX1_bounds_7 ?_
    obtain ⟨g1, g2, h⟩ := h
    refine y_new (ci := 8) C in_X9 tyX9_ok rfl q152 q969 q111 [yi 0, yr none] (fun j hj => by rcases (show j = 0 ∨ j = 1 by omega) with rfl | rfl <;> rfl) g1 g2 dX1_bounds_8 (fun q3 g3 => ?_)
    replace h := h q3 g3 _ rfl
    refine y_dup C rfl dX1_bounds_11 ?_
    refine y_aload_n C 0 rfl rfl dX1_bounds_12 ?_
    refine y_sipush C (-999) dX1_bounds_13 y_sm999 ?_
    refine y_sipush C (-999) dX1_bounds_16 y_sm999 ?_
    obtain ⟨kc5, ks6, g1, g2, h⟩ := h
    refine y_callIv C (metX9_init hB h) (cwI 3 C.hts (lw_meth q972) rfl rfl rfl (C.hts _ q111) (C.hts _ q970) (C.hts _ q971) rfl kdX9_init.2 ⟨Nat.le_of_ble_eq_true rfl, Nat.le_of_ble_eq_true rfl⟩) rfl rfl (Nat.le_of_ble_eq_true rfl) dX1_bounds_19 g1 g2 (fun M7 hp => ?_)
    replace h := hp
    obtain ⟨fs8, g1, g2, h⟩ := h
    replace h := h _ rfl
    refine y_put (ci := 1) (k := 5) C in_X1 tyX1_ok nmX1 rfl (by decide) q167 (fun _ h => h) rfl g1 g2 rfl rfl rfl dX1_bounds_22 ?_
    refine y_to C _ ?_ (okX1_bounds_b25 C hB hr  _ _ _ h)
    exact (And.intro rfl trivial)
theorem kdX9_areBound : yX9_areBound.cls = RX9 ∧ yX9_areBound.cls ≠ "java/lang/invoke/MethodHandle" ∧ yX9_areBound.cls ≠ "java/lang/invoke/VarHandle" ∧ (parseMethodDescriptor yX9_areBound.desc).map (fun d => d.parameters.length) = some 2 := by decide +kernel
def wpX9_areBound (M : yM) (o_ : Nat) (a1 : Int32) (a2 : Int32) (post : Int32 → Prop) : Prop := ∃ r1 : Option Nat, yF M o_ 8 1 (yr r1) ∧ ∃ x2 : Int32, yF M o_ 8 0 (yi x2) ∧ ∃ d3 : Nat, r1 = some d3 ∧ ∃ (n4 : Nat) (f5 : Nat → Int32), M d3 = some (yai n4 f5) ∧ vp_in ((a1 * x2) + a2) n4 ∧ ((1000000 ≤ (f5 (Int32.toNatClampNeg ((a1 * x2) + a2))) → post 0) ∧ (¬ 1000000 ≤ (f5 (Int32.toNatClampNeg ((a1 * x2) + a2))) → post 1))
theorem metX9_areBound {l : Launch} {D : va_G} {s0 : State} {a0 : Array Value} (hB : yB D s0 a0) {M : yM} {o_ : Nat} {a1 : Int32} {a2 : Int32} {post : Int32 → Prop} (h : wpX9_areBound M o_ a1 a2 post) : yMi l yX9_areBound (ws_ yX9_areBound cX9_areBound 3 (some .boolean)) 1 80 0 0 D s0 [yr (some o_), yi a1, yi a2] M (fun r M1 => M1 = M ∧ post r) := by
  refine y_meti hB (by decide) rfl (Nat.le_of_ble_eq_true rfl) ?_
  intro p e s m below meth c A hr hnm C
  rw [wpX9_areBound] at h
  refine y_aload_n C 0 rfl rfl dX9_areBound_0 ?_
  obtain ⟨r1, ⟨fs9, g1, g2⟩, h⟩ := h
  refine y_get (ci := 8) (k := 1) C in_X9 rfl (by decide) q986 (fun _ h => h) g1 g2 dX9_areBound_1 ?_
  refine y_iload_n C 1 rfl rfl dX9_areBound_4 ?_
  refine y_aload_n C 0 rfl rfl dX9_areBound_5 ?_
  obtain ⟨x2, ⟨fs9, g1, g2⟩, h⟩ := h
  refine y_get (ci := 8) (k := 0) C in_X9 rfl (by decide) q985 (fun _ h => h) g1 g2 dX9_areBound_6 ?_
  refine y_imul C dX9_areBound_9 ?_
  refine y_iload_n C 2 rfl rfl dX9_areBound_10 ?_
  refine y_iadd C dX9_areBound_11 ?_
  obtain ⟨d3, rfl, h⟩ := h
  obtain ⟨n4, f5, g1, g2, h⟩ := h
  refine y_iald C g1 g2 dX9_areBound_12 ?_
  refine y_ldc C 1000000 q975 dX9_areBound_13 ?_
  refine y_icmp_ge C 22 dX9_areBound_15 (by decide) (fun c9 => ?_) (fun c9 => ?_)
  · replace h := h.1 c9
    refine y_iconst C 0 dX9_areBound_22 lit0 ?_
    exact y_iretz C hr rfl rfl (by decide) ⟨rfl, h⟩ dX9_areBound_23
  · replace h := h.2 c9
    refine y_iconst C 1 dX9_areBound_18 lit1 ?_
    refine y_goto C 23 dX9_areBound_19 (by decide) ?_
    exact y_iretz C hr rfl rfl (by decide) ⟨rfl, h⟩ dX9_areBound_23
theorem kdX1_isFirst : yX1_isFirst.cls = RX1 ∧ yX1_isFirst.cls ≠ "java/lang/invoke/MethodHandle" ∧ yX1_isFirst.cls ≠ "java/lang/invoke/VarHandle" ∧ (parseMethodDescriptor yX1_isFirst.desc).map (fun d => d.parameters.length) = some 1 := by decide +kernel
section sX1_isFirst
variable {p : Program} {l : Launch} {e : Env} {s : State} {m : MethodId} {args : Array Value} {below : List Frame} {meth : Method} {c : Code} {D : va_G} {s0 : State} {a0 : Array Value} {A : Nat → Prop} {mc ms : Nat}
def wpX1_isFirst_b30 (o_ : Nat) (post : Int32 → yM → Prop) (k4 : yM → Nat → Nat → Int32 → Int32 → Int32 → Prop) (M : yM) (rc : Nat) (rs : Nat) (v1 : Int32) (v3 : Int32) (u0 : Int32) : Prop := ∀ x1 : Int32, x1 = v3 + 1 → k4 M rc rs v1 u0 x1
theorem okX1_isFirst_b30 (C : yC p { frames := 6, cells := mc, slots := ms, locals := 194 } s m args meth c cX1_isFirst 4 RX1 D s0 a0 A) (hB : yB D s0 a0) (hr : meth.sig.returnType = (some .boolean)) {o_ : Nat} {post : Int32 → yM → Prop} {k4 : yM → Nat → Nat → Int32 → Int32 → Int32 → Prop} (hk4 : ∀ (M : yM) (rc : Nat) (rs : Nat) (v1 : Int32) (v2 : Int32) (v3 : Int32), k4 M rc rs v1 v2 v3 → Y p l e { frames := 6, cells := mc, slots := ms, locals := 194 } s m args below meth c (MQ below (yQi D s0 A post) args s mc ms A) D s0 A 4 M rc rs [some (yr (some o_)), some (yi v1), some (yi v2), some (yi v3)] 4 []) : ∀ (M : yM) (rc : Nat) (rs : Nat) (v1 : Int32) (v3 : Int32) (u0 : Int32), wpX1_isFirst_b30 o_ post k4 M rc rs v1 v3 u0 → Y p l e { frames := 6, cells := mc, slots := ms, locals := 194 } s m args below meth c (MQ below (yQi D s0 A post) args s mc ms A) D s0 A 4 M rc rs [some (yr (some o_)), some (yi v1), none, some (yi v3)] 30 [yi u0] := by
  intro M rc rs v1 v3 u0 h
  rw [wpX1_isFirst_b30] at h
  refine y_istore_n C 2 rfl (by decide) dX1_isFirst_30 ?_
  replace h := h _ rfl
  refine y_iinc C 3 _ rfl (y_inc1 _) (by decide) dX1_isFirst_31 ?_
  refine y_goto C 4 dX1_isFirst_34 (by decide) ?_
  refine y_to C _ ?_ (hk4 _ _ _ _ _ _ h)
  exact (And.intro rfl (And.intro rfl (And.intro rfl (And.intro rfl trivial))))
def wpX1_isFirst_b29 (o_ : Nat) (post : Int32 → yM → Prop) (k4 : yM → Nat → Nat → Int32 → Int32 → Int32 → Prop) (M : yM) (rc : Nat) (rs : Nat) (v1 : Int32) (v3 : Int32) : Prop := wpX1_isFirst_b30 o_ post k4 M rc rs v1 v3 0
theorem okX1_isFirst_b29 (C : yC p { frames := 6, cells := mc, slots := ms, locals := 194 } s m args meth c cX1_isFirst 4 RX1 D s0 a0 A) (hB : yB D s0 a0) (hr : meth.sig.returnType = (some .boolean)) {o_ : Nat} {post : Int32 → yM → Prop} {k4 : yM → Nat → Nat → Int32 → Int32 → Int32 → Prop} (hk4 : ∀ (M : yM) (rc : Nat) (rs : Nat) (v1 : Int32) (v2 : Int32) (v3 : Int32), k4 M rc rs v1 v2 v3 → Y p l e { frames := 6, cells := mc, slots := ms, locals := 194 } s m args below meth c (MQ below (yQi D s0 A post) args s mc ms A) D s0 A 4 M rc rs [some (yr (some o_)), some (yi v1), some (yi v2), some (yi v3)] 4 []) : ∀ (M : yM) (rc : Nat) (rs : Nat) (v1 : Int32) (v3 : Int32), wpX1_isFirst_b29 o_ post k4 M rc rs v1 v3 → Y p l e { frames := 6, cells := mc, slots := ms, locals := 194 } s m args below meth c (MQ below (yQi D s0 A post) args s mc ms A) D s0 A 4 M rc rs [some (yr (some o_)), some (yi v1), none, some (yi v3)] 29 [] := by
  intro M rc rs v1 v3 h
  rw [wpX1_isFirst_b29] at h
  refine y_iconst C 0 dX1_isFirst_29 lit0 ?_
  refine y_to C _ ?_ (okX1_isFirst_b30 C hB hr hk4 _ _ _ _ _ _ h)
  exact (And.intro rfl (And.intro rfl (And.intro rfl trivial)))
def wpX1_isFirst_b4 (o_ : Nat) (post : Int32 → yM → Prop) : Nat → yM → Nat → Nat → Int32 → Int32 → Int32 → Prop
  | 0, _, _, _, _, _, _ => False
  | nn + 1, M, rc, rs, v1, v2, v3 => ((v1 ≤ v3 → ((v2 = 0 ∨ v2 = 1) ∧ post v2 M)) ∧ (¬ v1 ≤ v3 → ((v2 = 0 → wpX1_isFirst_b29 o_ post (fun M rc rs v1 v2 v3 => wpX1_isFirst_b4 o_ post nn M rc rs v1 v2 v3) M rc rs v1 v3) ∧ (¬ v2 = 0 → ∃ kc2 ks3 : Nat, kc2 ≤ rc ∧ ks3 ≤ rs ∧ (∃ vs, M o_ = some (yo 1 vs)) ∧ wpX1_bounds M kc2 ks3 o_ (fun r5 M4 => ∃ d6 : Nat, r5 = some d6 ∧ (∃ vs, M4 d6 = some (yo 8 vs)) ∧ wpX9_areBound M4 d6 v3 v1 (fun r7 => ((¬ r7 = 0 → wpX1_isFirst_b29 o_ post (fun M rc rs v1 v2 v3 => wpX1_isFirst_b4 o_ post nn M rc rs v1 v2 v3) M4 (rc - kc2) (rs - ks3) v1 v3) ∧ (r7 = 0 → wpX1_isFirst_b30 o_ post (fun M rc rs v1 v2 v3 => wpX1_isFirst_b4 o_ post nn M rc rs v1 v2 v3) M4 (rc - kc2) (rs - ks3) v1 v3 1))))))))
theorem okX1_isFirst_b4 (C : yC p { frames := 6, cells := mc, slots := ms, locals := 194 } s m args meth c cX1_isFirst 4 RX1 D s0 a0 A) (hB : yB D s0 a0) (hr : meth.sig.returnType = (some .boolean)) {o_ : Nat} {post : Int32 → yM → Prop}  : ∀ (nn : Nat) (M : yM) (rc : Nat) (rs : Nat) (v1 : Int32) (v2 : Int32) (v3 : Int32), wpX1_isFirst_b4 o_ post nn M rc rs v1 v2 v3 → Y p l e { frames := 6, cells := mc, slots := ms, locals := 194 } s m args below meth c (MQ below (yQi D s0 A post) args s mc ms A) D s0 A 4 M rc rs [some (yr (some o_)), some (yi v1), some (yi v2), some (yi v3)] 4 [] := by
  intro nn
  induction nn with
  | zero => intro M rc rs v1 v2 v3 h; exact absurd h (by rw [wpX1_isFirst_b4]; exact id)
  | succ nn ih =>
    intro M rc rs v1 v2 v3 h
    rw [wpX1_isFirst_b4] at h
    refine y_iload_n C 3 rfl rfl dX1_isFirst_4 ?_
    refine y_iload_n C 1 rfl rfl dX1_isFirst_5 ?_
    refine y_icmp_ge C 37 dX1_isFirst_6 (by decide) (fun c9 => ?_) (fun c9 => ?_)
    · replace h := h.1 c9
      refine y_iload_n C 2 rfl rfl dX1_isFirst_37 ?_
      obtain ⟨z9, h⟩ := h
      exact y_iretz C hr rfl rfl z9 h dX1_isFirst_38
    · replace h := h.2 c9
      refine y_iload_n C 2 rfl rfl dX1_isFirst_9 ?_
      refine y_if_eq C 29 dX1_isFirst_10 (by decide) (fun c9 => ?_) (fun c9 => ?_)
      · replace h := h.1 c9
        refine y_to C _ ?_ (okX1_isFirst_b29 C hB hr ih _ _ _ _ _ h)
        exact (And.intro rfl (And.intro rfl (And.intro rfl trivial)))
      · replace h := h.2 c9
        refine y_aload_n C 0 rfl rfl dX1_isFirst_13 ?_
        obtain ⟨kc2, ks3, g1, g2, h⟩ := h
        obtain ⟨⟨vs9, g0⟩, h⟩ := h
        refine y_callVq C (metX1_bounds hB h) (cwV 0 C.hts (lw_V q965 q966 q967 q87 q968) rfl rfl rfl kdX1_bounds ⟨Nat.le_of_ble_eq_true rfl, Nat.le_of_ble_eq_true rfl⟩) g0 rfl rfl rfl (Nat.le_of_ble_eq_true rfl) dX1_isFirst_14 g1 g2 (fun r5 M4 hp => ?_)
        replace h := hp
        refine y_iload_n C 3 rfl rfl dX1_isFirst_17 ?_
        refine y_iload_n C 1 rfl rfl dX1_isFirst_18 ?_
        obtain ⟨d6, rfl, h⟩ := h
        obtain ⟨⟨vs9, g0⟩, h⟩ := h
        refine y_callVi0 C (metX9_areBound hB h) (cwV 2 C.hts (lw_V q993 q994 q995 q111 q996) rfl rfl rfl kdX9_areBound ⟨Nat.le_of_ble_eq_true rfl, Nat.le_of_ble_eq_true rfl⟩) g0 rfl rfl rfl (Nat.le_of_ble_eq_true rfl) dX1_isFirst_19 (fun r7 M1 hp => ?_)
        clear h
        obtain ⟨rfl, h⟩ := hp
        refine y_if_ne C 29 dX1_isFirst_22 (by decide) (fun c9 => ?_) (fun c9 => ?_)
        · replace h := h.1 c9
          refine y_to C _ ?_ (okX1_isFirst_b29 C hB hr ih _ _ _ _ _ h)
          exact (And.intro rfl (And.intro rfl (And.intro rfl trivial)))
        · replace h := h.2 c9
          refine y_iconst C 1 dX1_isFirst_25 lit1 ?_
          refine y_goto C 30 dX1_isFirst_26 (by decide) ?_
          refine y_to C _ ?_ (okX1_isFirst_b30 C hB hr ih _ _ _ _ _ _ h)
          exact (And.intro rfl (And.intro rfl (And.intro rfl trivial)))
end sX1_isFirst
def wpX1_isFirst (M : yM) (mc : Nat) (ms : Nat) (o_ : Nat) (a1 : Int32) (post : Int32 → yM → Prop) : Prop := ∃ nf9 : Nat, wpX1_isFirst_b4 o_ post nf9 M mc ms a1 1 0
theorem metX1_isFirst {l : Launch} {D : va_G} {s0 : State} {a0 : Array Value} (hB : yB D s0 a0) {M : yM} {mc : Nat} {ms : Nat} {o_ : Nat} {a1 : Int32} {post : Int32 → yM → Prop} (h : wpX1_isFirst M mc ms o_ a1 post) : yMi l yX1_isFirst (ws_ yX1_isFirst cX1_isFirst 4 (some .boolean)) 6 194 mc ms D s0 [yr (some o_), yi a1] M post := by
  refine y_meti hB (by decide) rfl (Nat.le_of_ble_eq_true rfl) ?_
  intro p e s m below meth c A hr hnm C
  rw [wpX1_isFirst] at h
  refine y_iconst C 1 dX1_isFirst_0 lit1 ?_
  refine y_istore_n C 2 rfl (by decide) dX1_isFirst_1 ?_
  refine y_iconst C 0 dX1_isFirst_2 lit0 ?_
  refine y_istore_n C 3 rfl (by decide) dX1_isFirst_3 ?_
  obtain ⟨nf9, h⟩ := h
  refine y_to C _ ?_ (okX1_isFirst_b4 C hB hr  nf9 _ _ _ _ _ _ h)
  exact (And.intro rfl (And.intro rfl (And.intro rfl (And.intro rfl trivial))))
section sX1_group0
variable {p : Program} {l : Launch} {e : Env} {s : State} {m : MethodId} {args : Array Value} {below : List Frame} {meth : Method} {c : Code} {D : va_G} {s0 : State} {a0 : Array Value} {A : Nat → Prop} {mc ms : Nat}
def wpX1_group0_b41 (o_ : Nat) (post : Int32 → yM → Prop) (k4 : yM → Nat → Nat → Int32 → Int32 → Int32 → Prop) (M : yM) (rc : Nat) (rs : Nat) (v1 : Int32) (v3 : Int32) (u0 : Int32) (u1 : Int32) : Prop := ∀ x11 : Int32, x11 = (u0 + u1) → ∀ x12 : Int32, x12 = v3 + 1 → k4 M rc rs v1 x11 x12
theorem okX1_group0_b41 (C : yC p { frames := 7, cells := mc, slots := ms, locals := 217 } s m args meth c cX1_group 4 RX1 D s0 a0 A) (hB : yB D s0 a0) (hr : meth.sig.returnType = (some .int)) {o_ : Nat} {post : Int32 → yM → Prop} {k4 : yM → Nat → Nat → Int32 → Int32 → Int32 → Prop} (hk4 : ∀ (M : yM) (rc : Nat) (rs : Nat) (v1 : Int32) (v2 : Int32) (v3 : Int32), k4 M rc rs v1 v2 v3 → Y p l e { frames := 7, cells := mc, slots := ms, locals := 217 } s m args below meth c (MQ below (yQi D s0 A post) args s mc ms A) D s0 A 4 M rc rs [some (yr (some o_)), some (yi v1), some (yi v2), some (yi v3)] 4 []) : ∀ (M : yM) (rc : Nat) (rs : Nat) (v1 : Int32) (v3 : Int32) (u0 : Int32) (u1 : Int32), wpX1_group0_b41 o_ post k4 M rc rs v1 v3 u0 u1 → Y p l e { frames := 7, cells := mc, slots := ms, locals := 217 } s m args below meth c (MQ below (yQi D s0 A post) args s mc ms A) D s0 A 4 M rc rs [some (yr (some o_)), some (yi v1), none, some (yi v3)] 41 [yi u1, yi u0] := by
  intro M rc rs v1 v3 u0 u1 h
  rw [wpX1_group0_b41] at h
  refine y_iadd C dX1_group_41 ?_
  replace h := h _ rfl
  refine y_istore_n C 2 rfl (by decide) dX1_group_42 ?_
  replace h := h _ rfl
  refine y_iinc C 3 _ rfl (y_inc1 _) (by decide) dX1_group_43 ?_
  refine y_goto C 4 dX1_group_46 (by decide) ?_
  refine y_to C _ ?_ (hk4 _ _ _ _ _ _ h)
  exact (And.intro rfl (And.intro rfl (And.intro rfl (And.intro rfl trivial))))
def wpX1_group0_b4 (o_ : Nat) (post : Int32 → yM → Prop) : Nat → yM → Nat → Nat → Int32 → Int32 → Int32 → Prop
  | 0, _, _, _, _, _, _ => False
  | nn + 1, M, rc, rs, v1, v2, v3 => ((v1 ≤ v3 → post v2 M) ∧ (¬ v1 ≤ v3 → ∃ kc1 ks2 : Nat, kc1 ≤ rc ∧ ks2 ≤ rs ∧ (∃ vs, M o_ = some (yo 1 vs)) ∧ wpX1_bounds M kc1 ks2 o_ (fun r4 M3 => ∃ d5 : Nat, r4 = some d5 ∧ (∃ vs, M3 d5 = some (yo 8 vs)) ∧ wpX9_areBound M3 d5 v3 v1 (fun r6 => ((r6 = 0 → ∃ kc7 ks8 : Nat, kc7 ≤ (rc - kc1) ∧ ks8 ≤ (rs - ks2) ∧ (∃ vs, M3 o_ = some (yo 1 vs)) ∧ wpX1_isFirst M3 kc7 ks8 o_ v3 (fun r10 M9 => ((r10 = 0 → wpX1_group0_b41 o_ post (fun M rc rs v1 v2 v3 => wpX1_group0_b4 o_ post nn M rc rs v1 v2 v3) M9 ((rc - kc1) - kc7) ((rs - ks2) - ks8) v1 v3 v2 0) ∧ (¬ r10 = 0 → wpX1_group0_b41 o_ post (fun M rc rs v1 v2 v3 => wpX1_group0_b4 o_ post nn M rc rs v1 v2 v3) M9 ((rc - kc1) - kc7) ((rs - ks2) - ks8) v1 v3 v2 1)))) ∧ (¬ r6 = 0 → False))))))
theorem okX1_group0_b4 (C : yC p { frames := 7, cells := mc, slots := ms, locals := 217 } s m args meth c cX1_group 4 RX1 D s0 a0 A) (hB : yB D s0 a0) (hr : meth.sig.returnType = (some .int)) {o_ : Nat} {post : Int32 → yM → Prop}  : ∀ (nn : Nat) (M : yM) (rc : Nat) (rs : Nat) (v1 : Int32) (v2 : Int32) (v3 : Int32), wpX1_group0_b4 o_ post nn M rc rs v1 v2 v3 → Y p l e { frames := 7, cells := mc, slots := ms, locals := 217 } s m args below meth c (MQ below (yQi D s0 A post) args s mc ms A) D s0 A 4 M rc rs [some (yr (some o_)), some (yi v1), some (yi v2), some (yi v3)] 4 [] := by
  intro nn
  induction nn with
  | zero => intro M rc rs v1 v2 v3 h; exact absurd h (by rw [wpX1_group0_b4]; exact id)
  | succ nn ih =>
    intro M rc rs v1 v2 v3 h
    rw [wpX1_group0_b4] at h
    refine y_iload_n C 3 rfl rfl dX1_group_4 ?_
    refine y_iload_n C 1 rfl rfl dX1_group_5 ?_
    refine y_icmp_ge C 49 dX1_group_6 (by decide) (fun c9 => ?_) (fun c9 => ?_)
    · replace h := h.1 c9
      refine y_iload_n C 2 rfl rfl dX1_group_49 ?_
      exact y_ireti C hr rfl rfl h dX1_group_50
    · replace h := h.2 c9
      refine y_aload_n C 0 rfl rfl dX1_group_9 ?_
      obtain ⟨kc1, ks2, g1, g2, h⟩ := h
      obtain ⟨⟨vs9, g0⟩, h⟩ := h
      refine y_callVq C (metX1_bounds hB h) (cwV 0 C.hts (lw_V q965 q966 q967 q87 q968) rfl rfl rfl kdX1_bounds ⟨Nat.le_of_ble_eq_true rfl, Nat.le_of_ble_eq_true rfl⟩) g0 rfl rfl rfl (Nat.le_of_ble_eq_true rfl) dX1_group_10 g1 g2 (fun r4 M3 hp => ?_)
      replace h := hp
      refine y_iload_n C 3 rfl rfl dX1_group_13 ?_
      refine y_iload_n C 1 rfl rfl dX1_group_14 ?_
      obtain ⟨d5, rfl, h⟩ := h
      obtain ⟨⟨vs9, g0⟩, h⟩ := h
      refine y_callVi0 C (metX9_areBound hB h) (cwV 2 C.hts (lw_V q993 q994 q995 q111 q996) rfl rfl rfl kdX9_areBound ⟨Nat.le_of_ble_eq_true rfl, Nat.le_of_ble_eq_true rfl⟩) g0 rfl rfl rfl (Nat.le_of_ble_eq_true rfl) dX1_group_15 (fun r6 M1 hp => ?_)
      clear h
      obtain ⟨rfl, h⟩ := hp
      refine y_if_eq C 27 dX1_group_18 (by decide) (fun c9 => ?_) (fun c9 => ?_)
      · replace h := h.1 c9
        refine y_iload_n C 2 rfl rfl dX1_group_27 ?_
        refine y_aload_n C 0 rfl rfl dX1_group_28 ?_
        refine y_iload_n C 3 rfl rfl dX1_group_29 ?_
        obtain ⟨kc7, ks8, g1, g2, h⟩ := h
        obtain ⟨⟨vs9, g0⟩, h⟩ := h
        refine y_callVi C (metX1_isFirst hB h) (cwV 1 C.hts (lw_V q998 q1000 qs21 q87 q1001) rfl rfl rfl kdX1_isFirst ⟨Nat.le_of_ble_eq_true rfl, Nat.le_of_ble_eq_true rfl⟩) g0 rfl rfl rfl (Nat.le_of_ble_eq_true rfl) dX1_group_30 g1 g2 (fun r10 M9 hp => ?_)
        replace h := hp
        refine y_if_eq C 40 dX1_group_33 (by decide) (fun c9 => ?_) (fun c9 => ?_)
        · replace h := h.1 c9
          refine y_iconst C 0 dX1_group_40 lit0 ?_
          refine y_to C _ ?_ (okX1_group0_b41 C hB hr ih _ _ _ _ _ _ _ h)
          exact (And.intro rfl (And.intro rfl (And.intro rfl trivial)))
        · replace h := h.2 c9
          refine y_iconst C 1 dX1_group_36 lit1 ?_
          refine y_goto C 41 dX1_group_37 (by decide) ?_
          refine y_to C _ ?_ (okX1_group0_b41 C hB hr ih _ _ _ _ _ _ _ h)
          exact (And.intro rfl (And.intro rfl (And.intro rfl trivial)))
      · replace h := h.2 c9
        refine y_aload_n C 0 rfl rfl dX1_group_21 ?_
        refine y_iload_n C 3 rfl rfl dX1_group_22 ?_
        exact h.elim
end sX1_group0
def wpX1_group0 (M : yM) (mc : Nat) (ms : Nat) (o_ : Nat) (a1 : Int32) (post : Int32 → yM → Prop) : Prop := ∃ nf9 : Nat, wpX1_group0_b4 o_ post nf9 M mc ms a1 0 0
theorem metX1_group0 {l : Launch} {D : va_G} {s0 : State} {a0 : Array Value} (hB : yB D s0 a0) {M : yM} {mc : Nat} {ms : Nat} {o_ : Nat} {a1 : Int32} {post : Int32 → yM → Prop} (h : wpX1_group0 M mc ms o_ a1 post) : yMi l yX1_group (ws_ yX1_group cX1_group 4 (some .int)) 7 217 mc ms D s0 [yr (some o_), yi a1] M post := by
  refine y_meti hB (by decide) rfl (Nat.le_of_ble_eq_true rfl) ?_
  intro p e s m below meth c A hr hnm C
  rw [wpX1_group0] at h
  refine y_iconst C 0 dX1_group_0 lit0 ?_
  refine y_istore_n C 2 rfl (by decide) dX1_group_1 ?_
  refine y_iconst C 0 dX1_group_2 lit0 ?_
  refine y_istore_n C 3 rfl (by decide) dX1_group_3 ?_
  obtain ⟨nf9, h⟩ := h
  refine y_to C _ ?_ (okX1_group0_b4 C hB hr  nf9 _ _ _ _ _ _ h)
  exact (And.intro rfl (And.intro rfl (And.intro rfl (And.intro rfl trivial))))

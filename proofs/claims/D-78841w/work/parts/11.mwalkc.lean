set_option maxRecDepth 100000
def wpX2_isUnit (c_un : Nat → Int32) (a1 : Int32) (post : Int32 → Prop) : Prop := vp_in a1 16 ∧ ((¬ (c_un (Int32.toNatClampNeg a1)) = a1 → post 0) ∧ ((c_un (Int32.toNatClampNeg a1)) = a1 → post 1))
theorem metX2_isUnit {l : Launch} {D : va_G} {s0 : State} {a0 : Array Value} {ad : Nat → Nat} (hd : yAd ad) (hB : yB D s0 a0) {c_pg : Nat → Int32} {c_bm : Int32} {c_tx : Nat → Int32} {c_ty : Int32} {c_ft : Int32} {c_fa : Int32} {c_sp : Int32} {c_nu : Int32} {c_un : Nat → Int32} {c_sf : Nat → Int32} {c_st : Nat → Int32} {c_ll : Nat → Int32} {c_ln : Nat → Int32} {c_ip : Nat → Int32} {c_gr : Nat → Int32} {c_hs : Int64} {a1 : Int32} {post : Int32 → Prop} (h : wpX2_isUnit c_un a1 post) : yMi l yX2_isUnit (ws_ yX2_isUnit cX2_isUnit 2 (some .boolean)) 1 64 0 0 D s0 [yr (some (ad 0)), yi a1] (mM ad c_pg c_bm c_tx c_ty c_ft c_fa c_sp c_nu c_un c_sf c_st c_ll c_ln c_ip c_gr c_hs) (fun r M1 => M1 = mM ad c_pg c_bm c_tx c_ty c_ft c_fa c_sp c_nu c_un c_sf c_st c_ll c_ln c_ip c_gr c_hs ∧ post r) := by
  refine y_meti hB (by decide) rfl (Nat.le_of_ble_eq_true rfl) ?_
  intro p e s m below meth c A hr hnm C
  rw [wpX2_isUnit] at h
  refine y_aload_n C 0 rfl rfl dX2_isUnit_0 ?_
  refine y_get (ci := 2) (k := 8) C in_X2 rfl (by decide) q1177 (fun _ h => h) mM_0 rfl dX2_isUnit_1 ?_
  refine y_iload_n C 1 rfl rfl dX2_isUnit_4 ?_
  obtain ⟨i9, h⟩ := h
  refine y_iald C (mM_3 hd) i9 dX2_isUnit_5 ?_
  refine y_iload_n C 1 rfl rfl dX2_isUnit_6 ?_
  refine y_icmp_ne C 14 dX2_isUnit_7 (by decide) (fun c9 => ?_) (fun c9 => ?_)
  · replace h := h.1 c9
    refine y_iconst C 0 dX2_isUnit_14 lit0 ?_
    exact y_iretz C hr rfl rfl (by decide) ⟨rfl, h⟩ dX2_isUnit_15
  · replace h := h.2 c9
    refine y_iconst C 1 dX2_isUnit_10 lit1 ?_
    refine y_goto C 15 dX2_isUnit_11 (by decide) ?_
    exact y_iretz C hr rfl rfl (by decide) ⟨rfl, h⟩ dX2_isUnit_15
theorem kdX2_isUnit : yX2_isUnit.cls = RX2 ∧ yX2_isUnit.cls ≠ "java/lang/invoke/MethodHandle" ∧ yX2_isUnit.cls ≠ "java/lang/invoke/VarHandle" ∧ (parseMethodDescriptor yX2_isUnit.desc).map (fun d => d.parameters.length) = some 1 := by decide +kernel
def wpX2_isSooner (c_sf : Nat → Int32) (c_st : Nat → Int32) (a1 : Int32) (a2 : Int32) (post : Int32 → Prop) : Prop := vp_in a1 16 ∧ vp_in a1 16 ∧ ∀ x1 : Int32, x1 = ((c_st (Int32.toNatClampNeg a1)) - (c_sf (Int32.toNatClampNeg a1))) → vp_in a2 16 ∧ vp_in a2 16 ∧ ∀ x2 : Int32, x2 = ((c_st (Int32.toNatClampNeg a2)) - (c_sf (Int32.toNatClampNeg a2))) → ((x1 = x2 → vp_in a1 16 ∧ vp_in a2 16 ∧ (((c_sf (Int32.toNatClampNeg a1)) = (c_sf (Int32.toNatClampNeg a2)) → ((a2 ≤ a1 → post 0) ∧ (¬ a2 ≤ a1 → post 1))) ∧ (¬ (c_sf (Int32.toNatClampNeg a1)) = (c_sf (Int32.toNatClampNeg a2)) → vp_in a1 16 ∧ vp_in a2 16 ∧ (((c_sf (Int32.toNatClampNeg a2)) ≤ (c_sf (Int32.toNatClampNeg a1)) → post 0) ∧ (¬ (c_sf (Int32.toNatClampNeg a2)) ≤ (c_sf (Int32.toNatClampNeg a1)) → post 1))))) ∧ (¬ x1 = x2 → ((x2 ≤ x1 → post 0) ∧ (¬ x2 ≤ x1 → post 1))))
theorem metX2_isSooner {l : Launch} {D : va_G} {s0 : State} {a0 : Array Value} {ad : Nat → Nat} (hd : yAd ad) (hB : yB D s0 a0) {c_pg : Nat → Int32} {c_bm : Int32} {c_tx : Nat → Int32} {c_ty : Int32} {c_ft : Int32} {c_fa : Int32} {c_sp : Int32} {c_nu : Int32} {c_un : Nat → Int32} {c_sf : Nat → Int32} {c_st : Nat → Int32} {c_ll : Nat → Int32} {c_ln : Nat → Int32} {c_ip : Nat → Int32} {c_gr : Nat → Int32} {c_hs : Int64} {a1 : Int32} {a2 : Int32} {post : Int32 → Prop} (h : wpX2_isSooner c_sf c_st a1 a2 post) : yMi l yX2_isSooner (ws_ yX2_isSooner cX2_isSooner 5 (some .boolean)) 1 64 0 0 D s0 [yr (some (ad 0)), yi a1, yi a2] (mM ad c_pg c_bm c_tx c_ty c_ft c_fa c_sp c_nu c_un c_sf c_st c_ll c_ln c_ip c_gr c_hs) (fun r M1 => M1 = mM ad c_pg c_bm c_tx c_ty c_ft c_fa c_sp c_nu c_un c_sf c_st c_ll c_ln c_ip c_gr c_hs ∧ post r) := by
  refine y_meti hB (by decide) rfl (Nat.le_of_ble_eq_true rfl) ?_
  intro p e s m below meth c A hr hnm C
  rw [wpX2_isSooner] at h
  refine y_aload_n C 0 rfl rfl dX2_isSooner_0 ?_
  refine y_get (ci := 2) (k := 10) C in_X2 rfl (by decide) q1179 (fun _ h => h) mM_0 rfl dX2_isSooner_1 ?_
  refine y_iload_n C 1 rfl rfl dX2_isSooner_4 ?_
  obtain ⟨i9, h⟩ := h
  refine y_iald C (mM_5 hd) i9 dX2_isSooner_5 ?_
  refine y_aload_n C 0 rfl rfl dX2_isSooner_6 ?_
  refine y_get (ci := 2) (k := 9) C in_X2 rfl (by decide) q1178 (fun _ h => h) mM_0 rfl dX2_isSooner_7 ?_
  refine y_iload_n C 1 rfl rfl dX2_isSooner_10 ?_
  obtain ⟨i9, h⟩ := h
  refine y_iald C (mM_4 hd) i9 dX2_isSooner_11 ?_
  refine y_isub C dX2_isSooner_12 ?_
  replace h := h _ rfl
  refine y_istore_n C 3 rfl (by decide) dX2_isSooner_13 ?_
  refine y_aload_n C 0 rfl rfl dX2_isSooner_14 ?_
  refine y_get (ci := 2) (k := 10) C in_X2 rfl (by decide) q1179 (fun _ h => h) mM_0 rfl dX2_isSooner_15 ?_
  refine y_iload_n C 2 rfl rfl dX2_isSooner_18 ?_
  obtain ⟨i9, h⟩ := h
  refine y_iald C (mM_5 hd) i9 dX2_isSooner_19 ?_
  refine y_aload_n C 0 rfl rfl dX2_isSooner_20 ?_
  refine y_get (ci := 2) (k := 9) C in_X2 rfl (by decide) q1178 (fun _ h => h) mM_0 rfl dX2_isSooner_21 ?_
  refine y_iload_n C 2 rfl rfl dX2_isSooner_24 ?_
  obtain ⟨i9, h⟩ := h
  refine y_iald C (mM_4 hd) i9 dX2_isSooner_25 ?_
  refine y_isub C dX2_isSooner_26 ?_
  replace h := h _ rfl
  refine y_istore C 4 (by decide) dX2_isSooner_27 ?_
  refine y_iload_n C 3 rfl rfl dX2_isSooner_29 ?_
  refine y_iload C 4 rfl dX2_isSooner_30 ?_
  refine y_icmp_eq C 49 dX2_isSooner_32 (by decide) (fun c9 => ?_) (fun c9 => ?_)
  · replace h := h.1 c9
    refine y_aload_n C 0 rfl rfl dX2_isSooner_49 ?_
    refine y_get (ci := 2) (k := 9) C in_X2 rfl (by decide) q1178 (fun _ h => h) mM_0 rfl dX2_isSooner_50 ?_
    refine y_iload_n C 1 rfl rfl dX2_isSooner_53 ?_
    obtain ⟨i9, h⟩ := h
    refine y_iald C (mM_4 hd) i9 dX2_isSooner_54 ?_
    refine y_aload_n C 0 rfl rfl dX2_isSooner_55 ?_
    refine y_get (ci := 2) (k := 9) C in_X2 rfl (by decide) q1178 (fun _ h => h) mM_0 rfl dX2_isSooner_56 ?_
    refine y_iload_n C 2 rfl rfl dX2_isSooner_59 ?_
    obtain ⟨i9, h⟩ := h
    refine y_iald C (mM_4 hd) i9 dX2_isSooner_60 ?_
    refine y_icmp_eq C 87 dX2_isSooner_61 (by decide) (fun c9 => ?_) (fun c9 => ?_)
    · replace h := h.1 c9
      refine y_iload_n C 1 rfl rfl dX2_isSooner_87 ?_
      refine y_iload_n C 2 rfl rfl dX2_isSooner_88 ?_
      refine y_icmp_ge C 96 dX2_isSooner_89 (by decide) (fun c9 => ?_) (fun c9 => ?_)
      · replace h := h.1 c9
        refine y_iconst C 0 dX2_isSooner_96 lit0 ?_
        exact y_iretz C hr rfl rfl (by decide) ⟨rfl, h⟩ dX2_isSooner_97
      · replace h := h.2 c9
        refine y_iconst C 1 dX2_isSooner_92 lit1 ?_
        refine y_goto C 97 dX2_isSooner_93 (by decide) ?_
        exact y_iretz C hr rfl rfl (by decide) ⟨rfl, h⟩ dX2_isSooner_97
    · replace h := h.2 c9
      refine y_aload_n C 0 rfl rfl dX2_isSooner_64 ?_
      refine y_get (ci := 2) (k := 9) C in_X2 rfl (by decide) q1178 (fun _ h => h) mM_0 rfl dX2_isSooner_65 ?_
      refine y_iload_n C 1 rfl rfl dX2_isSooner_68 ?_
      obtain ⟨i9, h⟩ := h
      refine y_iald C (mM_4 hd) i9 dX2_isSooner_69 ?_
      refine y_aload_n C 0 rfl rfl dX2_isSooner_70 ?_
      refine y_get (ci := 2) (k := 9) C in_X2 rfl (by decide) q1178 (fun _ h => h) mM_0 rfl dX2_isSooner_71 ?_
      refine y_iload_n C 2 rfl rfl dX2_isSooner_74 ?_
      obtain ⟨i9, h⟩ := h
      refine y_iald C (mM_4 hd) i9 dX2_isSooner_75 ?_
      refine y_icmp_ge C 83 dX2_isSooner_76 (by decide) (fun c9 => ?_) (fun c9 => ?_)
      · replace h := h.1 c9
        refine y_iconst C 0 dX2_isSooner_83 lit0 ?_
        refine y_goto C 97 dX2_isSooner_84 (by decide) ?_
        exact y_iretz C hr rfl rfl (by decide) ⟨rfl, h⟩ dX2_isSooner_97
      · replace h := h.2 c9
        refine y_iconst C 1 dX2_isSooner_79 lit1 ?_
        refine y_goto C 97 dX2_isSooner_80 (by decide) ?_
        exact y_iretz C hr rfl rfl (by decide) ⟨rfl, h⟩ dX2_isSooner_97
  · replace h := h.2 c9
    refine y_iload_n C 3 rfl rfl dX2_isSooner_35 ?_
    refine y_iload C 4 rfl dX2_isSooner_36 ?_
    refine y_icmp_ge C 45 dX2_isSooner_38 (by decide) (fun c9 => ?_) (fun c9 => ?_)
    · replace h := h.1 c9
      refine y_iconst C 0 dX2_isSooner_45 lit0 ?_
      refine y_goto C 97 dX2_isSooner_46 (by decide) ?_
      exact y_iretz C hr rfl rfl (by decide) ⟨rfl, h⟩ dX2_isSooner_97
    · replace h := h.2 c9
      refine y_iconst C 1 dX2_isSooner_41 lit1 ?_
      refine y_goto C 97 dX2_isSooner_42 (by decide) ?_
      exact y_iretz C hr rfl rfl (by decide) ⟨rfl, h⟩ dX2_isSooner_97
theorem kdX2_isSooner : yX2_isSooner.cls = RX2 ∧ yX2_isSooner.cls ≠ "java/lang/invoke/MethodHandle" ∧ yX2_isSooner.cls ≠ "java/lang/invoke/VarHandle" ∧ (parseMethodDescriptor yX2_isSooner.desc).map (fun d => d.parameters.length) = some 2 := by decide +kernel
section sX2_nextUnit
variable {p : Program} {l : Launch} {e : Env} {s : State} {m : MethodId} {args : Array Value} {below : List Frame} {meth : Method} {c : Code} {D : va_G} {s0 : State} {a0 : Array Value} {A : Nat → Prop} {ad : Nat → Nat} {c_pg : Nat → Int32} {c_bm : Int32} {c_tx : Nat → Int32} {c_ty : Int32} {c_ft : Int32} {c_fa : Int32} {c_sp : Int32} {c_nu : Int32} {c_un : Nat → Int32} {c_sf : Nat → Int32} {c_st : Nat → Int32} {c_ll : Nat → Int32} {c_ln : Nat → Int32} {c_ip : Nat → Int32} {c_gr : Nat → Int32} {c_hs : Int64}
def wpX2_nextUnit_b55 (post : Int32 → Prop) (k6 : (Nat → Int32) → (Nat → Int32) → (Nat → Int32) → (Nat → Int32) → (Nat → Int32) → Int32 → Int32 → Prop) (c_pg : Nat → Int32) (c_un : Nat → Int32) (c_sf : Nat → Int32) (c_st : Nat → Int32) (c_ip : Nat → Int32) (v2 : Int32) (u0 : Int32) : Prop := ∀ x2 : Int32, x2 = v2 + 1 → k6 c_pg c_un c_sf c_st c_ip u0 x2
theorem okX2_nextUnit_b55 (C : yC p { frames := 2, cells := 0, slots := 0, locals := 88 } s m args meth c cX2_nextUnit 3 RX2 D s0 a0 A) (hB : yB D s0 a0) (hd : yAd ad) (hr : meth.sig.returnType = (some .int)) {post : Int32 → Prop} {k6 : (Nat → Int32) → (Nat → Int32) → (Nat → Int32) → (Nat → Int32) → (Nat → Int32) → Int32 → Int32 → Prop} (hk6 : ∀ (c_pg : Nat → Int32) (c_un : Nat → Int32) (c_sf : Nat → Int32) (c_st : Nat → Int32) (c_ip : Nat → Int32) (v1 : Int32) (v2 : Int32), k6 c_pg c_un c_sf c_st c_ip v1 v2 → Y p l e { frames := 2, cells := 0, slots := 0, locals := 88 } s m args below meth c (MQ below (yQi D s0 A (fun r M1 => M1 = mM ad c_pg c_bm c_tx c_ty c_ft c_fa c_sp c_nu c_un c_sf c_st c_ll c_ln c_ip c_gr c_hs ∧ post r)) args s 0 0 A) D s0 A 3 (mM ad c_pg c_bm c_tx c_ty c_ft c_fa c_sp c_nu c_un c_sf c_st c_ll c_ln c_ip c_gr c_hs) 0 0 [some (yr (some (ad 0))), some (yi v1), some (yi v2)] 6 []) : ∀ (c_pg : Nat → Int32) (c_un : Nat → Int32) (c_sf : Nat → Int32) (c_st : Nat → Int32) (c_ip : Nat → Int32) (v2 : Int32) (u0 : Int32), wpX2_nextUnit_b55 post k6 c_pg c_un c_sf c_st c_ip v2 u0 → Y p l e { frames := 2, cells := 0, slots := 0, locals := 88 } s m args below meth c (MQ below (yQi D s0 A (fun r M1 => M1 = mM ad c_pg c_bm c_tx c_ty c_ft c_fa c_sp c_nu c_un c_sf c_st c_ll c_ln c_ip c_gr c_hs ∧ post r)) args s 0 0 A) D s0 A 3 (mM ad c_pg c_bm c_tx c_ty c_ft c_fa c_sp c_nu c_un c_sf c_st c_ll c_ln c_ip c_gr c_hs) 0 0 [some (yr (some (ad 0))), none, some (yi v2)] 55 [yi u0] := by
  intro c_pg c_un c_sf c_st c_ip v2 u0 h
  rw [wpX2_nextUnit_b55] at h
  refine y_istore_n C 1 rfl (by decide) dX2_nextUnit_55 ?_
  replace h := h _ rfl
  refine y_iinc C 2 _ rfl (y_inc1 _) (by decide) dX2_nextUnit_56 ?_
  refine y_goto C 6 dX2_nextUnit_59 (by decide) ?_
  refine y_to C _ ?_ (hk6 _ _ _ _ _ _ _ h)
  exact (And.intro rfl (And.intro rfl (And.intro rfl trivial)))
def wpX2_nextUnit_b54 (post : Int32 → Prop) (k6 : (Nat → Int32) → (Nat → Int32) → (Nat → Int32) → (Nat → Int32) → (Nat → Int32) → Int32 → Int32 → Prop) (c_pg : Nat → Int32) (c_un : Nat → Int32) (c_sf : Nat → Int32) (c_st : Nat → Int32) (c_ip : Nat → Int32) (v1 : Int32) (v2 : Int32) : Prop := wpX2_nextUnit_b55 post k6 c_pg c_un c_sf c_st c_ip v2 v1
theorem okX2_nextUnit_b54 (C : yC p { frames := 2, cells := 0, slots := 0, locals := 88 } s m args meth c cX2_nextUnit 3 RX2 D s0 a0 A) (hB : yB D s0 a0) (hd : yAd ad) (hr : meth.sig.returnType = (some .int)) {post : Int32 → Prop} {k6 : (Nat → Int32) → (Nat → Int32) → (Nat → Int32) → (Nat → Int32) → (Nat → Int32) → Int32 → Int32 → Prop} (hk6 : ∀ (c_pg : Nat → Int32) (c_un : Nat → Int32) (c_sf : Nat → Int32) (c_st : Nat → Int32) (c_ip : Nat → Int32) (v1 : Int32) (v2 : Int32), k6 c_pg c_un c_sf c_st c_ip v1 v2 → Y p l e { frames := 2, cells := 0, slots := 0, locals := 88 } s m args below meth c (MQ below (yQi D s0 A (fun r M1 => M1 = mM ad c_pg c_bm c_tx c_ty c_ft c_fa c_sp c_nu c_un c_sf c_st c_ll c_ln c_ip c_gr c_hs ∧ post r)) args s 0 0 A) D s0 A 3 (mM ad c_pg c_bm c_tx c_ty c_ft c_fa c_sp c_nu c_un c_sf c_st c_ll c_ln c_ip c_gr c_hs) 0 0 [some (yr (some (ad 0))), some (yi v1), some (yi v2)] 6 []) : ∀ (c_pg : Nat → Int32) (c_un : Nat → Int32) (c_sf : Nat → Int32) (c_st : Nat → Int32) (c_ip : Nat → Int32) (v1 : Int32) (v2 : Int32), wpX2_nextUnit_b54 post k6 c_pg c_un c_sf c_st c_ip v1 v2 → Y p l e { frames := 2, cells := 0, slots := 0, locals := 88 } s m args below meth c (MQ below (yQi D s0 A (fun r M1 => M1 = mM ad c_pg c_bm c_tx c_ty c_ft c_fa c_sp c_nu c_un c_sf c_st c_ll c_ln c_ip c_gr c_hs ∧ post r)) args s 0 0 A) D s0 A 3 (mM ad c_pg c_bm c_tx c_ty c_ft c_fa c_sp c_nu c_un c_sf c_st c_ll c_ln c_ip c_gr c_hs) 0 0 [some (yr (some (ad 0))), some (yi v1), some (yi v2)] 54 [] := by
  intro c_pg c_un c_sf c_st c_ip v1 v2 h
  rw [wpX2_nextUnit_b54] at h
  refine y_iload_n C 1 rfl rfl dX2_nextUnit_54 ?_
  refine y_to C _ ?_ (okX2_nextUnit_b55 C hB hd hr hk6 _ _ _ _ _ _ _ h)
  exact (And.intro rfl (And.intro rfl trivial))
def wpX2_nextUnit_b50 (post : Int32 → Prop) (k6 : (Nat → Int32) → (Nat → Int32) → (Nat → Int32) → (Nat → Int32) → (Nat → Int32) → Int32 → Int32 → Prop) (c_pg : Nat → Int32) (c_un : Nat → Int32) (c_sf : Nat → Int32) (c_st : Nat → Int32) (c_ip : Nat → Int32) (v2 : Int32) : Prop := wpX2_nextUnit_b55 post k6 c_pg c_un c_sf c_st c_ip v2 v2
theorem okX2_nextUnit_b50 (C : yC p { frames := 2, cells := 0, slots := 0, locals := 88 } s m args meth c cX2_nextUnit 3 RX2 D s0 a0 A) (hB : yB D s0 a0) (hd : yAd ad) (hr : meth.sig.returnType = (some .int)) {post : Int32 → Prop} {k6 : (Nat → Int32) → (Nat → Int32) → (Nat → Int32) → (Nat → Int32) → (Nat → Int32) → Int32 → Int32 → Prop} (hk6 : ∀ (c_pg : Nat → Int32) (c_un : Nat → Int32) (c_sf : Nat → Int32) (c_st : Nat → Int32) (c_ip : Nat → Int32) (v1 : Int32) (v2 : Int32), k6 c_pg c_un c_sf c_st c_ip v1 v2 → Y p l e { frames := 2, cells := 0, slots := 0, locals := 88 } s m args below meth c (MQ below (yQi D s0 A (fun r M1 => M1 = mM ad c_pg c_bm c_tx c_ty c_ft c_fa c_sp c_nu c_un c_sf c_st c_ll c_ln c_ip c_gr c_hs ∧ post r)) args s 0 0 A) D s0 A 3 (mM ad c_pg c_bm c_tx c_ty c_ft c_fa c_sp c_nu c_un c_sf c_st c_ll c_ln c_ip c_gr c_hs) 0 0 [some (yr (some (ad 0))), some (yi v1), some (yi v2)] 6 []) : ∀ (c_pg : Nat → Int32) (c_un : Nat → Int32) (c_sf : Nat → Int32) (c_st : Nat → Int32) (c_ip : Nat → Int32) (v2 : Int32), wpX2_nextUnit_b50 post k6 c_pg c_un c_sf c_st c_ip v2 → Y p l e { frames := 2, cells := 0, slots := 0, locals := 88 } s m args below meth c (MQ below (yQi D s0 A (fun r M1 => M1 = mM ad c_pg c_bm c_tx c_ty c_ft c_fa c_sp c_nu c_un c_sf c_st c_ll c_ln c_ip c_gr c_hs ∧ post r)) args s 0 0 A) D s0 A 3 (mM ad c_pg c_bm c_tx c_ty c_ft c_fa c_sp c_nu c_un c_sf c_st c_ll c_ln c_ip c_gr c_hs) 0 0 [some (yr (some (ad 0))), none, some (yi v2)] 50 [] := by
  intro c_pg c_un c_sf c_st c_ip v2 h
  rw [wpX2_nextUnit_b50] at h
  refine y_iload_n C 2 rfl rfl dX2_nextUnit_50 ?_
  refine y_goto C 55 dX2_nextUnit_51 (by decide) ?_
  refine y_to C _ ?_ (okX2_nextUnit_b55 C hB hd hr hk6 _ _ _ _ _ _ _ h)
  exact (And.intro rfl (And.intro rfl trivial))
def wpX2_nextUnit_b6 (post : Int32 → Prop) : Nat → (Nat → Int32) → (Nat → Int32) → (Nat → Int32) → (Nat → Int32) → (Nat → Int32) → Int32 → Int32 → Prop
  | 0, _, _, _, _, _, _, _ => False
  | nn + 1, c_pg, c_un, c_sf, c_st, c_ip, v1, v2 => vp_in 13 1120 ∧ (((c_pg (Int32.toNatClampNeg 13)) ≤ v2 → post v1) ∧ (¬ (c_pg (Int32.toNatClampNeg 13)) ≤ v2 → wpX2_isUnit c_un v2 (fun r1 => ((r1 = 0 → wpX2_nextUnit_b54 post (fun c_pg c_un c_sf c_st c_ip v1 v2 => wpX2_nextUnit_b6 post nn c_pg c_un c_sf c_st c_ip v1 v2) c_pg c_un c_sf c_st c_ip v1 v2) ∧ (¬ r1 = 0 → vp_in v2 16 ∧ ((¬ (c_ip (Int32.toNatClampNeg v2)) = 0 → wpX2_nextUnit_b54 post (fun c_pg c_un c_sf c_st c_ip v1 v2 => wpX2_nextUnit_b6 post nn c_pg c_un c_sf c_st c_ip v1 v2) c_pg c_un c_sf c_st c_ip v1 v2) ∧ ((c_ip (Int32.toNatClampNeg v2)) = 0 → ((v1 = (-999) → wpX2_nextUnit_b50 post (fun c_pg c_un c_sf c_st c_ip v1 v2 => wpX2_nextUnit_b6 post nn c_pg c_un c_sf c_st c_ip v1 v2) c_pg c_un c_sf c_st c_ip v2) ∧ (¬ v1 = (-999) → wpX2_isSooner c_sf c_st v2 v1 (fun r3 => ((r3 = 0 → wpX2_nextUnit_b54 post (fun c_pg c_un c_sf c_st c_ip v1 v2 => wpX2_nextUnit_b6 post nn c_pg c_un c_sf c_st c_ip v1 v2) c_pg c_un c_sf c_st c_ip v1 v2) ∧ (¬ r3 = 0 → wpX2_nextUnit_b50 post (fun c_pg c_un c_sf c_st c_ip v1 v2 => wpX2_nextUnit_b6 post nn c_pg c_un c_sf c_st c_ip v1 v2) c_pg c_un c_sf c_st c_ip v2))))))))))))
theorem okX2_nextUnit_b6 (C : yC p { frames := 2, cells := 0, slots := 0, locals := 88 } s m args meth c cX2_nextUnit 3 RX2 D s0 a0 A) (hB : yB D s0 a0) (hd : yAd ad) (hr : meth.sig.returnType = (some .int)) {post : Int32 → Prop}  : ∀ (nn : Nat) (c_pg : Nat → Int32) (c_un : Nat → Int32) (c_sf : Nat → Int32) (c_st : Nat → Int32) (c_ip : Nat → Int32) (v1 : Int32) (v2 : Int32), wpX2_nextUnit_b6 post nn c_pg c_un c_sf c_st c_ip v1 v2 → Y p l e { frames := 2, cells := 0, slots := 0, locals := 88 } s m args below meth c (MQ below (yQi D s0 A (fun r M1 => M1 = mM ad c_pg c_bm c_tx c_ty c_ft c_fa c_sp c_nu c_un c_sf c_st c_ll c_ln c_ip c_gr c_hs ∧ post r)) args s 0 0 A) D s0 A 3 (mM ad c_pg c_bm c_tx c_ty c_ft c_fa c_sp c_nu c_un c_sf c_st c_ll c_ln c_ip c_gr c_hs) 0 0 [some (yr (some (ad 0))), some (yi v1), some (yi v2)] 6 [] := by
  intro nn
  induction nn with
  | zero => intro c_pg c_un c_sf c_st c_ip v1 v2 h; exact absurd h (by rw [wpX2_nextUnit_b6]; exact id)
  | succ nn ih =>
    intro c_pg c_un c_sf c_st c_ip v1 v2 h
    rw [wpX2_nextUnit_b6] at h
    refine y_iload_n C 2 rfl rfl dX2_nextUnit_6 ?_
    refine y_aload_n C 0 rfl rfl dX2_nextUnit_7 ?_
    refine y_get (ci := 2) (k := 0) C in_X2 rfl (by decide) q1169 (fun _ h => h) mM_0 rfl dX2_nextUnit_8 ?_
    refine y_bipush C 13 dX2_nextUnit_11 y_b13 ?_
    obtain ⟨i9, h⟩ := h
    refine y_iald C (mM_1 hd) i9 dX2_nextUnit_13 ?_
    refine y_icmp_ge C 62 dX2_nextUnit_14 (by decide) (fun c9 => ?_) (fun c9 => ?_)
    · replace h := h.1 c9
      refine y_iload_n C 1 rfl rfl dX2_nextUnit_62 ?_
      exact y_ireti C hr rfl rfl ⟨rfl, h⟩ dX2_nextUnit_63
    · replace h := h.2 c9
      refine y_aload_n C 0 rfl rfl dX2_nextUnit_17 ?_
      refine y_iload_n C 2 rfl rfl dX2_nextUnit_18 ?_
      refine y_callVi0 C (metX2_isUnit hd hB h) (cwV 1 C.hts (lw_V q1431 q1433 qs59 q91 q1434) rfl rfl rfl kdX2_isUnit ⟨Nat.le_of_ble_eq_true rfl, Nat.le_of_ble_eq_true rfl⟩) mM_0 rfl rfl rfl (Nat.le_of_ble_eq_true rfl) dX2_nextUnit_19 (fun r1 M1 hp => ?_)
      clear h
      obtain ⟨rfl, h⟩ := hp
      refine y_if_eq C 54 dX2_nextUnit_22 (by decide) (fun c9 => ?_) (fun c9 => ?_)
      · replace h := h.1 c9
        refine y_to C _ ?_ (okX2_nextUnit_b54 C hB hd hr ih _ _ _ _ _ _ _ h)
        exact (And.intro rfl (And.intro rfl (And.intro rfl trivial)))
      · replace h := h.2 c9
        refine y_aload_n C 0 rfl rfl dX2_nextUnit_25 ?_
        refine y_get (ci := 2) (k := 13) C in_X2 rfl (by decide) q1182 (fun _ h => h) mM_0 rfl dX2_nextUnit_26 ?_
        refine y_iload_n C 2 rfl rfl dX2_nextUnit_29 ?_
        obtain ⟨i9, h⟩ := h
        refine y_zald C (mM_8 hd) i9 dX2_nextUnit_30 ?_
        refine y_if_ne C 54 dX2_nextUnit_31 (by decide) (fun c9 => ?_) (fun c9 => ?_)
        · replace h := h.1 c9
          refine y_to C _ ?_ (okX2_nextUnit_b54 C hB hd hr ih _ _ _ _ _ _ _ h)
          exact (And.intro rfl (And.intro rfl (And.intro rfl trivial)))
        · replace h := h.2 c9
          refine y_iload_n C 1 rfl rfl dX2_nextUnit_34 ?_
          refine y_sipush C (-999) dX2_nextUnit_35 y_sm999 ?_
          refine y_icmp_eq C 50 dX2_nextUnit_38 (by decide) (fun c9 => ?_) (fun c9 => ?_)
          · replace h := h.1 c9
            refine y_to C _ ?_ (okX2_nextUnit_b50 C hB hd hr ih _ _ _ _ _ _ h)
            exact (And.intro rfl (And.intro rfl trivial))
          · replace h := h.2 c9
            refine y_aload_n C 0 rfl rfl dX2_nextUnit_41 ?_
            refine y_iload_n C 2 rfl rfl dX2_nextUnit_42 ?_
            refine y_iload_n C 1 rfl rfl dX2_nextUnit_43 ?_
            refine y_callVi0 C (metX2_isSooner hd hB h) (cwV 2 C.hts (lw_V q1435 q1437 qs60 q91 q1438) rfl rfl rfl kdX2_isSooner ⟨Nat.le_of_ble_eq_true rfl, Nat.le_of_ble_eq_true rfl⟩) mM_0 rfl rfl rfl (Nat.le_of_ble_eq_true rfl) dX2_nextUnit_44 (fun r3 M1 hp => ?_)
            clear h
            obtain ⟨rfl, h⟩ := hp
            refine y_if_eq C 54 dX2_nextUnit_47 (by decide) (fun c9 => ?_) (fun c9 => ?_)
            · replace h := h.1 c9
              refine y_to C _ ?_ (okX2_nextUnit_b54 C hB hd hr ih _ _ _ _ _ _ _ h)
              exact (And.intro rfl (And.intro rfl (And.intro rfl trivial)))
            · replace h := h.2 c9
              refine y_to C _ ?_ (okX2_nextUnit_b50 C hB hd hr ih _ _ _ _ _ _ h)
              exact (And.intro rfl (And.intro rfl trivial))
end sX2_nextUnit
def wpX2_nextUnit (c_pg : Nat → Int32) (c_un : Nat → Int32) (c_sf : Nat → Int32) (c_st : Nat → Int32) (c_ip : Nat → Int32)  (post : Int32 → Prop) : Prop := ∃ nf9 : Nat, wpX2_nextUnit_b6 post nf9 c_pg c_un c_sf c_st c_ip (-999) 0
theorem metX2_nextUnit {l : Launch} {D : va_G} {s0 : State} {a0 : Array Value} {ad : Nat → Nat} (hd : yAd ad) (hB : yB D s0 a0) {c_pg : Nat → Int32} {c_bm : Int32} {c_tx : Nat → Int32} {c_ty : Int32} {c_ft : Int32} {c_fa : Int32} {c_sp : Int32} {c_nu : Int32} {c_un : Nat → Int32} {c_sf : Nat → Int32} {c_st : Nat → Int32} {c_ll : Nat → Int32} {c_ln : Nat → Int32} {c_ip : Nat → Int32} {c_gr : Nat → Int32} {c_hs : Int64}  {post : Int32 → Prop} (h : wpX2_nextUnit c_pg c_un c_sf c_st c_ip  post) : yMi l yX2_nextUnit (ws_ yX2_nextUnit cX2_nextUnit 3 (some .int)) 2 88 0 0 D s0 [yr (some (ad 0))] (mM ad c_pg c_bm c_tx c_ty c_ft c_fa c_sp c_nu c_un c_sf c_st c_ll c_ln c_ip c_gr c_hs) (fun r M1 => M1 = mM ad c_pg c_bm c_tx c_ty c_ft c_fa c_sp c_nu c_un c_sf c_st c_ll c_ln c_ip c_gr c_hs ∧ post r) := by
  refine y_meti hB (by decide) rfl (Nat.le_of_ble_eq_true rfl) ?_
  intro p e s m below meth c A hr hnm C
  rw [wpX2_nextUnit] at h
  refine y_sipush C (-999) dX2_nextUnit_0 y_sm999 ?_
  refine y_istore_n C 1 rfl (by decide) dX2_nextUnit_3 ?_
  refine y_iconst C 0 dX2_nextUnit_4 lit0 ?_
  refine y_istore_n C 2 rfl (by decide) dX2_nextUnit_5 ?_
  obtain ⟨nf9, h⟩ := h
  refine y_to C _ ?_ (okX2_nextUnit_b6 C hB hd hr  nf9 _ _ _ _ _ _ _ h)
  exact (And.intro rfl (And.intro rfl (And.intro rfl trivial)))
theorem kdX2_nextUnit : yX2_nextUnit.cls = RX2 ∧ yX2_nextUnit.cls ≠ "java/lang/invoke/MethodHandle" ∧ yX2_nextUnit.cls ≠ "java/lang/invoke/VarHandle" ∧ (parseMethodDescriptor yX2_nextUnit.desc).map (fun d => d.parameters.length) = some 0 := by decide +kernel
def wpX2_covers (c_sf : Nat → Int32) (c_st : Nat → Int32) (a1 : Int32) (a2 : Int32) (post : Int32 → Prop) : Prop := vp_in a1 16 ∧ vp_in a2 16 ∧ (((c_sf (Int32.toNatClampNeg a2)) < (c_sf (Int32.toNatClampNeg a1)) → post 0) ∧ (¬ (c_sf (Int32.toNatClampNeg a2)) < (c_sf (Int32.toNatClampNeg a1)) → vp_in a2 16 ∧ vp_in a1 16 ∧ (((c_st (Int32.toNatClampNeg a1)) < (c_st (Int32.toNatClampNeg a2)) → post 0) ∧ (¬ (c_st (Int32.toNatClampNeg a1)) < (c_st (Int32.toNatClampNeg a2)) → post 1))))
theorem metX2_covers {l : Launch} {D : va_G} {s0 : State} {a0 : Array Value} {ad : Nat → Nat} (hd : yAd ad) (hB : yB D s0 a0) {c_pg : Nat → Int32} {c_bm : Int32} {c_tx : Nat → Int32} {c_ty : Int32} {c_ft : Int32} {c_fa : Int32} {c_sp : Int32} {c_nu : Int32} {c_un : Nat → Int32} {c_sf : Nat → Int32} {c_st : Nat → Int32} {c_ll : Nat → Int32} {c_ln : Nat → Int32} {c_ip : Nat → Int32} {c_gr : Nat → Int32} {c_hs : Int64} {a1 : Int32} {a2 : Int32} {post : Int32 → Prop} (h : wpX2_covers c_sf c_st a1 a2 post) : yMi l yX2_covers (ws_ yX2_covers cX2_covers 3 (some .boolean)) 1 64 0 0 D s0 [yr (some (ad 0)), yi a1, yi a2] (mM ad c_pg c_bm c_tx c_ty c_ft c_fa c_sp c_nu c_un c_sf c_st c_ll c_ln c_ip c_gr c_hs) (fun r M1 => M1 = mM ad c_pg c_bm c_tx c_ty c_ft c_fa c_sp c_nu c_un c_sf c_st c_ll c_ln c_ip c_gr c_hs ∧ post r) := by
  refine y_meti hB (by decide) rfl (Nat.le_of_ble_eq_true rfl) ?_
  intro p e s m below meth c A hr hnm C
  rw [wpX2_covers] at h
  refine y_aload_n C 0 rfl rfl dX2_covers_0 ?_
  refine y_get (ci := 2) (k := 9) C in_X2 rfl (by decide) q1178 (fun _ h => h) mM_0 rfl dX2_covers_1 ?_
  refine y_iload_n C 1 rfl rfl dX2_covers_4 ?_
  obtain ⟨i9, h⟩ := h
  refine y_iald C (mM_4 hd) i9 dX2_covers_5 ?_
  refine y_aload_n C 0 rfl rfl dX2_covers_6 ?_
  refine y_get (ci := 2) (k := 9) C in_X2 rfl (by decide) q1178 (fun _ h => h) mM_0 rfl dX2_covers_7 ?_
  refine y_iload_n C 2 rfl rfl dX2_covers_10 ?_
  obtain ⟨i9, h⟩ := h
  refine y_iald C (mM_4 hd) i9 dX2_covers_11 ?_
  refine y_icmp_gt C 34 dX2_covers_12 (by decide) (fun c9 => ?_) (fun c9 => ?_)
  · replace h := h.1 c9
    refine y_iconst C 0 dX2_covers_34 lit0 ?_
    exact y_iretz C hr rfl rfl (by decide) ⟨rfl, h⟩ dX2_covers_35
  · replace h := h.2 c9
    refine y_aload_n C 0 rfl rfl dX2_covers_15 ?_
    refine y_get (ci := 2) (k := 10) C in_X2 rfl (by decide) q1179 (fun _ h => h) mM_0 rfl dX2_covers_16 ?_
    refine y_iload_n C 2 rfl rfl dX2_covers_19 ?_
    obtain ⟨i9, h⟩ := h
    refine y_iald C (mM_5 hd) i9 dX2_covers_20 ?_
    refine y_aload_n C 0 rfl rfl dX2_covers_21 ?_
    refine y_get (ci := 2) (k := 10) C in_X2 rfl (by decide) q1179 (fun _ h => h) mM_0 rfl dX2_covers_22 ?_
    refine y_iload_n C 1 rfl rfl dX2_covers_25 ?_
    obtain ⟨i9, h⟩ := h
    refine y_iald C (mM_5 hd) i9 dX2_covers_26 ?_
    refine y_icmp_gt C 34 dX2_covers_27 (by decide) (fun c9 => ?_) (fun c9 => ?_)
    · replace h := h.1 c9
      refine y_iconst C 0 dX2_covers_34 lit0 ?_
      exact y_iretz C hr rfl rfl (by decide) ⟨rfl, h⟩ dX2_covers_35
    · replace h := h.2 c9
      refine y_iconst C 1 dX2_covers_30 lit1 ?_
      refine y_goto C 35 dX2_covers_31 (by decide) ?_
      exact y_iretz C hr rfl rfl (by decide) ⟨rfl, h⟩ dX2_covers_35
theorem kdX2_covers : yX2_covers.cls = RX2 ∧ yX2_covers.cls ≠ "java/lang/invoke/MethodHandle" ∧ yX2_covers.cls ≠ "java/lang/invoke/VarHandle" ∧ (parseMethodDescriptor yX2_covers.desc).map (fun d => d.parameters.length) = some 2 := by decide +kernel
section sX2_width
variable {p : Program} {l : Launch} {e : Env} {s : State} {m : MethodId} {args : Array Value} {below : List Frame} {meth : Method} {c : Code} {D : va_G} {s0 : State} {a0 : Array Value} {A : Nat → Prop} {ad : Nat → Nat} {c_pg : Nat → Int32} {c_bm : Int32} {c_tx : Nat → Int32} {c_ty : Int32} {c_ft : Int32} {c_fa : Int32} {c_sp : Int32} {c_nu : Int32} {c_un : Nat → Int32} {c_sf : Nat → Int32} {c_st : Nat → Int32} {c_ll : Nat → Int32} {c_ln : Nat → Int32} {c_ip : Nat → Int32} {c_gr : Nat → Int32} {c_hs : Int64}
def wpX2_width_b34 (post : Int32 → Prop) (c_pg : Nat → Int32) (u0 : Int32) (u1 : Int32) : Prop := post (u0 * u1)
theorem okX2_width_b34 (C : yC p { frames := 4, cells := 0, slots := 0, locals := 128 } s m args meth c cX2_width 3 RX2 D s0 a0 A) (hB : yB D s0 a0) (hd : yAd ad) (hr : meth.sig.returnType = (some .int)) {post : Int32 → Prop}  : ∀ (c_pg : Nat → Int32) (u0 : Int32) (u1 : Int32), wpX2_width_b34 post c_pg u0 u1 → Y p l e { frames := 4, cells := 0, slots := 0, locals := 128 } s m args below meth c (MQ below (yQi D s0 A (fun r M1 => M1 = mM ad c_pg c_bm c_tx c_ty c_ft c_fa c_sp c_nu c_un c_sf c_st c_ll c_ln c_ip c_gr c_hs ∧ post r)) args s 0 0 A) D s0 A 3 (mM ad c_pg c_bm c_tx c_ty c_ft c_fa c_sp c_nu c_un c_sf c_st c_ll c_ln c_ip c_gr c_hs) 0 0 [none, none, none] 34 [yi u1, yi u0] := by
  intro c_pg u0 u1 h
  rw [wpX2_width_b34] at h
  refine y_imul C dX2_width_34 ?_
  exact y_ireti C hr rfl rfl ⟨rfl, h⟩ dX2_width_35
end sX2_width
def wpX2_width (c_pg : Nat → Int32) (a1 : Int32) (post : Int32 → Prop) : Prop := wpX2_value c_pg a1 (fun r1 => vp_in 110 1120 ∧ ((r1 ≤ 99 → ((r1 ≤ 9 → wpX2_width_b34 post c_pg (c_pg (Int32.toNatClampNeg 110)) 1) ∧ (¬ r1 ≤ 9 → wpX2_width_b34 post c_pg (c_pg (Int32.toNatClampNeg 110)) 2))) ∧ (¬ r1 ≤ 99 → wpX2_width_b34 post c_pg (c_pg (Int32.toNatClampNeg 110)) 3)))
theorem metX2_width {l : Launch} {D : va_G} {s0 : State} {a0 : Array Value} {ad : Nat → Nat} (hd : yAd ad) (hB : yB D s0 a0) {c_pg : Nat → Int32} {c_bm : Int32} {c_tx : Nat → Int32} {c_ty : Int32} {c_ft : Int32} {c_fa : Int32} {c_sp : Int32} {c_nu : Int32} {c_un : Nat → Int32} {c_sf : Nat → Int32} {c_st : Nat → Int32} {c_ll : Nat → Int32} {c_ln : Nat → Int32} {c_ip : Nat → Int32} {c_gr : Nat → Int32} {c_hs : Int64} {a1 : Int32} {post : Int32 → Prop} (h : wpX2_width c_pg a1 post) : yMi l yX2_width (ws_ yX2_width cX2_width 3 (some .int)) 4 128 0 0 D s0 [yr (some (ad 0)), yi a1] (mM ad c_pg c_bm c_tx c_ty c_ft c_fa c_sp c_nu c_un c_sf c_st c_ll c_ln c_ip c_gr c_hs) (fun r M1 => M1 = mM ad c_pg c_bm c_tx c_ty c_ft c_fa c_sp c_nu c_un c_sf c_st c_ll c_ln c_ip c_gr c_hs ∧ post r) := by
  refine y_meti hB (by decide) rfl (Nat.le_of_ble_eq_true rfl) ?_
  intro p e s m below meth c A hr hnm C
  rw [wpX2_width] at h
  refine y_aload_n C 0 rfl rfl dX2_width_0 ?_
  refine y_iload_n C 1 rfl rfl dX2_width_1 ?_
  refine y_callVi0 C (metX2_value hd hB h) (cwV 1 C.hts (lw_V q1383 q1385 qs47 q91 q1386) rfl rfl rfl kdX2_value ⟨Nat.le_of_ble_eq_true rfl, Nat.le_of_ble_eq_true rfl⟩) mM_0 rfl rfl rfl (Nat.le_of_ble_eq_true rfl) dX2_width_2 (fun r1 M1 hp => ?_)
  clear h
  obtain ⟨rfl, h⟩ := hp
  refine y_istore_n C 2 rfl (by decide) dX2_width_5 ?_
  refine y_aload_n C 0 rfl rfl dX2_width_6 ?_
  refine y_get (ci := 2) (k := 0) C in_X2 rfl (by decide) q1169 (fun _ h => h) mM_0 rfl dX2_width_7 ?_
  refine y_bipush C 110 dX2_width_10 y_b110 ?_
  obtain ⟨i9, h⟩ := h
  refine y_iald C (mM_1 hd) i9 dX2_width_12 ?_
  refine y_iload_n C 2 rfl rfl dX2_width_13 ?_
  refine y_bipush C 99 dX2_width_14 y_b99 ?_
  refine y_icmp_le C 23 dX2_width_16 (by decide) (fun c9 => ?_) (fun c9 => ?_)
  · replace h := h.1 c9
    refine y_iload_n C 2 rfl rfl dX2_width_23 ?_
    refine y_bipush C 9 dX2_width_24 y_b9 ?_
    refine y_icmp_le C 33 dX2_width_26 (by decide) (fun c9 => ?_) (fun c9 => ?_)
    · replace h := h.1 c9
      refine y_iconst C 1 dX2_width_33 lit1 ?_
      refine y_to C _ ?_ (okX2_width_b34 C hB hd hr  _ _ _ h)
      exact trivial
    · replace h := h.2 c9
      refine y_iconst C 2 dX2_width_29 lit2 ?_
      refine y_goto C 34 dX2_width_30 (by decide) ?_
      refine y_to C _ ?_ (okX2_width_b34 C hB hd hr  _ _ _ h)
      exact trivial
  · replace h := h.2 c9
    refine y_iconst C 3 dX2_width_19 lit3 ?_
    refine y_goto C 34 dX2_width_20 (by decide) ?_
    refine y_to C _ ?_ (okX2_width_b34 C hB hd hr  _ _ _ h)
    exact trivial
theorem kdX2_width : yX2_width.cls = RX2 ∧ yX2_width.cls ≠ "java/lang/invoke/MethodHandle" ∧ yX2_width.cls ≠ "java/lang/invoke/VarHandle" ∧ (parseMethodDescriptor yX2_width.desc).map (fun d => d.parameters.length) = some 1 := by decide +kernel
def wpX2_form (c_pg : Nat → Int32) (a1 : Int32) (post : Int32 → Prop) : Prop := wpX2_value c_pg a1 (fun r1 => wpX2_width c_pg a1 (fun r2 => vp_in 111 1120 ∧ ((r1 < (r2 + (2 * (c_pg (Int32.toNatClampNeg 111)))) → wpX2_value c_pg a1 (fun r3 => wpX2_width c_pg a1 (fun r4 => ((r3 < r4 → post 2) ∧ (¬ r3 < r4 → post 1))))) ∧ (¬ r1 < (r2 + (2 * (c_pg (Int32.toNatClampNeg 111)))) → post 0))))
theorem metX2_form {l : Launch} {D : va_G} {s0 : State} {a0 : Array Value} {ad : Nat → Nat} (hd : yAd ad) (hB : yB D s0 a0) {c_pg : Nat → Int32} {c_bm : Int32} {c_tx : Nat → Int32} {c_ty : Int32} {c_ft : Int32} {c_fa : Int32} {c_sp : Int32} {c_nu : Int32} {c_un : Nat → Int32} {c_sf : Nat → Int32} {c_st : Nat → Int32} {c_ll : Nat → Int32} {c_ln : Nat → Int32} {c_ip : Nat → Int32} {c_gr : Nat → Int32} {c_hs : Int64} {a1 : Int32} {post : Int32 → Prop} (h : wpX2_form c_pg a1 post) : yMi l yX2_form (ws_ yX2_form cX2_form 2 (some .int)) 5 150 0 0 D s0 [yr (some (ad 0)), yi a1] (mM ad c_pg c_bm c_tx c_ty c_ft c_fa c_sp c_nu c_un c_sf c_st c_ll c_ln c_ip c_gr c_hs) (fun r M1 => M1 = mM ad c_pg c_bm c_tx c_ty c_ft c_fa c_sp c_nu c_un c_sf c_st c_ll c_ln c_ip c_gr c_hs ∧ post r) := by
  refine y_meti hB (by decide) rfl (Nat.le_of_ble_eq_true rfl) ?_
  intro p e s m below meth c A hr hnm C
  rw [wpX2_form] at h
  refine y_aload_n C 0 rfl rfl dX2_form_0 ?_
  refine y_iload_n C 1 rfl rfl dX2_form_1 ?_
  refine y_callVi0 C (metX2_value hd hB h) (cwV 1 C.hts (lw_V q1383 q1385 qs47 q91 q1386) rfl rfl rfl kdX2_value ⟨Nat.le_of_ble_eq_true rfl, Nat.le_of_ble_eq_true rfl⟩) mM_0 rfl rfl rfl (Nat.le_of_ble_eq_true rfl) dX2_form_2 (fun r1 M1 hp => ?_)
  clear h
  obtain ⟨rfl, h⟩ := hp
  refine y_aload_n C 0 rfl rfl dX2_form_5 ?_
  refine y_iload_n C 1 rfl rfl dX2_form_6 ?_
  refine y_callVi0 C (metX2_width hd hB h) (cwV 1 C.hts (lw_V q1455 q1457 qs65 q91 q1458) rfl rfl rfl kdX2_width ⟨Nat.le_of_ble_eq_true rfl, Nat.le_of_ble_eq_true rfl⟩) mM_0 rfl rfl rfl (Nat.le_of_ble_eq_true rfl) dX2_form_7 (fun r2 M1 hp => ?_)
  clear h
  obtain ⟨rfl, h⟩ := hp
  refine y_iconst C 2 dX2_form_10 lit2 ?_
  refine y_aload_n C 0 rfl rfl dX2_form_11 ?_
  refine y_get (ci := 2) (k := 0) C in_X2 rfl (by decide) q1169 (fun _ h => h) mM_0 rfl dX2_form_12 ?_
  refine y_bipush C 111 dX2_form_15 y_b111 ?_
  obtain ⟨i9, h⟩ := h
  refine y_iald C (mM_1 hd) i9 dX2_form_17 ?_
  refine y_imul C dX2_form_18 ?_
  refine y_iadd C dX2_form_19 ?_
  refine y_icmp_lt C 27 dX2_form_20 (by decide) (fun c9 => ?_) (fun c9 => ?_)
  · replace h := h.1 c9
    refine y_aload_n C 0 rfl rfl dX2_form_27 ?_
    refine y_iload_n C 1 rfl rfl dX2_form_28 ?_
    refine y_callVi0 C (metX2_value hd hB h) (cwV 1 C.hts (lw_V q1383 q1385 qs47 q91 q1386) rfl rfl rfl kdX2_value ⟨Nat.le_of_ble_eq_true rfl, Nat.le_of_ble_eq_true rfl⟩) mM_0 rfl rfl rfl (Nat.le_of_ble_eq_true rfl) dX2_form_29 (fun r3 M1 hp => ?_)
    clear h
    obtain ⟨rfl, h⟩ := hp
    refine y_aload_n C 0 rfl rfl dX2_form_32 ?_
    refine y_iload_n C 1 rfl rfl dX2_form_33 ?_
    refine y_callVi0 C (metX2_width hd hB h) (cwV 1 C.hts (lw_V q1455 q1457 qs65 q91 q1458) rfl rfl rfl kdX2_width ⟨Nat.le_of_ble_eq_true rfl, Nat.le_of_ble_eq_true rfl⟩) mM_0 rfl rfl rfl (Nat.le_of_ble_eq_true rfl) dX2_form_34 (fun r4 M1 hp => ?_)
    clear h
    obtain ⟨rfl, h⟩ := hp
    refine y_icmp_lt C 44 dX2_form_37 (by decide) (fun c9 => ?_) (fun c9 => ?_)
    · replace h := h.1 c9
      refine y_iconst C 2 dX2_form_44 lit2 ?_
      exact y_ireti C hr rfl rfl ⟨rfl, h⟩ dX2_form_45
    · replace h := h.2 c9
      refine y_iconst C 1 dX2_form_40 lit1 ?_
      refine y_goto C 45 dX2_form_41 (by decide) ?_
      exact y_ireti C hr rfl rfl ⟨rfl, h⟩ dX2_form_45
  · replace h := h.2 c9
    refine y_iconst C 0 dX2_form_23 lit0 ?_
    refine y_goto C 45 dX2_form_24 (by decide) ?_
    exact y_ireti C hr rfl rfl ⟨rfl, h⟩ dX2_form_45
theorem kdX2_form : yX2_form.cls = RX2 ∧ yX2_form.cls ≠ "java/lang/invoke/MethodHandle" ∧ yX2_form.cls ≠ "java/lang/invoke/VarHandle" ∧ (parseMethodDescriptor yX2_form.desc).map (fun d => d.parameters.length) = some 1 := by decide +kernel
section sX2_begins
variable {p : Program} {l : Launch} {e : Env} {s : State} {m : MethodId} {args : Array Value} {below : List Frame} {meth : Method} {c : Code} {D : va_G} {s0 : State} {a0 : Array Value} {A : Nat → Prop} {ad : Nat → Nat} {c_pg : Nat → Int32} {c_bm : Int32} {c_tx : Nat → Int32} {c_ty : Int32} {c_ft : Int32} {c_fa : Int32} {c_sp : Int32} {c_nu : Int32} {c_un : Nat → Int32} {c_sf : Nat → Int32} {c_st : Nat → Int32} {c_ll : Nat → Int32} {c_ln : Nat → Int32} {c_ip : Nat → Int32} {c_gr : Nat → Int32} {c_hs : Int64}
def wpX2_begins_b24 (post : Int32 → Prop) (c_pg : Nat → Int32) (u0 : Int32) (u1 : Int32) : Prop := post (u0 - u1)
theorem okX2_begins_b24 (C : yC p { frames := 6, cells := 0, slots := 0, locals := 171 } s m args meth c cX2_begins 2 RX2 D s0 a0 A) (hB : yB D s0 a0) (hd : yAd ad) (hr : meth.sig.returnType = (some .int)) {post : Int32 → Prop}  : ∀ (c_pg : Nat → Int32) (u0 : Int32) (u1 : Int32), wpX2_begins_b24 post c_pg u0 u1 → Y p l e { frames := 6, cells := 0, slots := 0, locals := 171 } s m args below meth c (MQ below (yQi D s0 A (fun r M1 => M1 = mM ad c_pg c_bm c_tx c_ty c_ft c_fa c_sp c_nu c_un c_sf c_st c_ll c_ln c_ip c_gr c_hs ∧ post r)) args s 0 0 A) D s0 A 2 (mM ad c_pg c_bm c_tx c_ty c_ft c_fa c_sp c_nu c_un c_sf c_st c_ll c_ln c_ip c_gr c_hs) 0 0 [none, none] 24 [yi u1, yi u0] := by
  intro c_pg u0 u1 h
  rw [wpX2_begins_b24] at h
  refine y_isub C dX2_begins_24 ?_
  exact y_ireti C hr rfl rfl ⟨rfl, h⟩ dX2_begins_25
end sX2_begins
def wpX2_begins (c_pg : Nat → Int32) (a1 : Int32) (post : Int32 → Prop) : Prop := wpX2_from c_pg a1 (fun r1 => wpX2_form c_pg a1 (fun r2 => ((¬ r2 = 0 → vp_in 111 1120 ∧ wpX2_begins_b24 post c_pg r1 (c_pg (Int32.toNatClampNeg 111))) ∧ (r2 = 0 → wpX2_begins_b24 post c_pg r1 0))))
theorem metX2_begins {l : Launch} {D : va_G} {s0 : State} {a0 : Array Value} {ad : Nat → Nat} (hd : yAd ad) (hB : yB D s0 a0) {c_pg : Nat → Int32} {c_bm : Int32} {c_tx : Nat → Int32} {c_ty : Int32} {c_ft : Int32} {c_fa : Int32} {c_sp : Int32} {c_nu : Int32} {c_un : Nat → Int32} {c_sf : Nat → Int32} {c_st : Nat → Int32} {c_ll : Nat → Int32} {c_ln : Nat → Int32} {c_ip : Nat → Int32} {c_gr : Nat → Int32} {c_hs : Int64} {a1 : Int32} {post : Int32 → Prop} (h : wpX2_begins c_pg a1 post) : yMi l yX2_begins (ws_ yX2_begins cX2_begins 2 (some .int)) 6 171 0 0 D s0 [yr (some (ad 0)), yi a1] (mM ad c_pg c_bm c_tx c_ty c_ft c_fa c_sp c_nu c_un c_sf c_st c_ll c_ln c_ip c_gr c_hs) (fun r M1 => M1 = mM ad c_pg c_bm c_tx c_ty c_ft c_fa c_sp c_nu c_un c_sf c_st c_ll c_ln c_ip c_gr c_hs ∧ post r) := by
  refine y_meti hB (by decide) rfl (Nat.le_of_ble_eq_true rfl) ?_
  intro p e s m below meth c A hr hnm C
  rw [wpX2_begins] at h
  refine y_aload_n C 0 rfl rfl dX2_begins_0 ?_
  refine y_iload_n C 1 rfl rfl dX2_begins_1 ?_
  refine y_callVi0 C (metX2_from hd hB h) (cwV 1 C.hts (lw_V q1391 q1393 qs49 q91 q1394) rfl rfl rfl kdX2_from ⟨Nat.le_of_ble_eq_true rfl, Nat.le_of_ble_eq_true rfl⟩) mM_0 rfl rfl rfl (Nat.le_of_ble_eq_true rfl) dX2_begins_2 (fun r1 M1 hp => ?_)
  clear h
  obtain ⟨rfl, h⟩ := hp
  refine y_aload_n C 0 rfl rfl dX2_begins_5 ?_
  refine y_iload_n C 1 rfl rfl dX2_begins_6 ?_
  refine y_callVi0 C (metX2_form hd hB h) (cwV 1 C.hts (lw_V q1451 q1453 qs64 q91 q1454) rfl rfl rfl kdX2_form ⟨Nat.le_of_ble_eq_true rfl, Nat.le_of_ble_eq_true rfl⟩) mM_0 rfl rfl rfl (Nat.le_of_ble_eq_true rfl) dX2_begins_7 (fun r2 M1 hp => ?_)
  clear h
  obtain ⟨rfl, h⟩ := hp
  refine y_if_ne C 17 dX2_begins_10 (by decide) (fun c9 => ?_) (fun c9 => ?_)
  · replace h := h.1 c9
    refine y_aload_n C 0 rfl rfl dX2_begins_17 ?_
    refine y_get (ci := 2) (k := 0) C in_X2 rfl (by decide) q1169 (fun _ h => h) mM_0 rfl dX2_begins_18 ?_
    refine y_bipush C 111 dX2_begins_21 y_b111 ?_
    obtain ⟨i9, h⟩ := h
    refine y_iald C (mM_1 hd) i9 dX2_begins_23 ?_
    refine y_to C _ ?_ (okX2_begins_b24 C hB hd hr  _ _ _ h)
    exact trivial
  · replace h := h.2 c9
    refine y_iconst C 0 dX2_begins_13 lit0 ?_
    refine y_goto C 24 dX2_begins_14 (by decide) ?_
    refine y_to C _ ?_ (okX2_begins_b24 C hB hd hr  _ _ _ h)
    exact trivial
theorem kdX2_begins : yX2_begins.cls = RX2 ∧ yX2_begins.cls ≠ "java/lang/invoke/MethodHandle" ∧ yX2_begins.cls ≠ "java/lang/invoke/VarHandle" ∧ (parseMethodDescriptor yX2_begins.desc).map (fun d => d.parameters.length) = some 1 := by decide +kernel
section sX2_reaches
variable {p : Program} {l : Launch} {e : Env} {s : State} {m : MethodId} {args : Array Value} {below : List Frame} {meth : Method} {c : Code} {D : va_G} {s0 : State} {a0 : Array Value} {A : Nat → Prop} {ad : Nat → Nat} {c_pg : Nat → Int32} {c_bm : Int32} {c_tx : Nat → Int32} {c_ty : Int32} {c_ft : Int32} {c_fa : Int32} {c_sp : Int32} {c_nu : Int32} {c_un : Nat → Int32} {c_sf : Nat → Int32} {c_st : Nat → Int32} {c_ll : Nat → Int32} {c_ln : Nat → Int32} {c_ip : Nat → Int32} {c_gr : Nat → Int32} {c_hs : Int64}
def wpX2_reaches_b43 (post : Int32 → Prop) (c_pg : Nat → Int32) (u0 : Int32) (u1 : Int32) : Prop := post (u0 + u1)
theorem okX2_reaches_b43 (C : yC p { frames := 6, cells := 0, slots := 0, locals := 171 } s m args meth c cX2_reaches 2 RX2 D s0 a0 A) (hB : yB D s0 a0) (hd : yAd ad) (hr : meth.sig.returnType = (some .int)) {post : Int32 → Prop}  : ∀ (c_pg : Nat → Int32) (u0 : Int32) (u1 : Int32), wpX2_reaches_b43 post c_pg u0 u1 → Y p l e { frames := 6, cells := 0, slots := 0, locals := 171 } s m args below meth c (MQ below (yQi D s0 A (fun r M1 => M1 = mM ad c_pg c_bm c_tx c_ty c_ft c_fa c_sp c_nu c_un c_sf c_st c_ll c_ln c_ip c_gr c_hs ∧ post r)) args s 0 0 A) D s0 A 2 (mM ad c_pg c_bm c_tx c_ty c_ft c_fa c_sp c_nu c_un c_sf c_st c_ll c_ln c_ip c_gr c_hs) 0 0 [none, none] 43 [yi u1, yi u0] := by
  intro c_pg u0 u1 h
  rw [wpX2_reaches_b43] at h
  refine y_iadd C dX2_reaches_43 ?_
  exact y_ireti C hr rfl rfl ⟨rfl, h⟩ dX2_reaches_44
def wpX2_reaches_b24 (post : Int32 → Prop) (c_pg : Nat → Int32) (v1 : Int32) (u0 : Int32) (u1 : Int32) : Prop := wpX2_form c_pg v1 (fun r3 => ((¬ r3 = 2 → wpX2_reaches_b43 post c_pg (u0 + u1) 0) ∧ (r3 = 2 → wpX2_width c_pg v1 (fun r4 => wpX2_reaches_b43 post c_pg (u0 + u1) r4))))
theorem okX2_reaches_b24 (C : yC p { frames := 6, cells := 0, slots := 0, locals := 171 } s m args meth c cX2_reaches 2 RX2 D s0 a0 A) (hB : yB D s0 a0) (hd : yAd ad) (hr : meth.sig.returnType = (some .int)) {post : Int32 → Prop}  : ∀ (c_pg : Nat → Int32) (v1 : Int32) (u0 : Int32) (u1 : Int32), wpX2_reaches_b24 post c_pg v1 u0 u1 → Y p l e { frames := 6, cells := 0, slots := 0, locals := 171 } s m args below meth c (MQ below (yQi D s0 A (fun r M1 => M1 = mM ad c_pg c_bm c_tx c_ty c_ft c_fa c_sp c_nu c_un c_sf c_st c_ll c_ln c_ip c_gr c_hs ∧ post r)) args s 0 0 A) D s0 A 2 (mM ad c_pg c_bm c_tx c_ty c_ft c_fa c_sp c_nu c_un c_sf c_st c_ll c_ln c_ip c_gr c_hs) 0 0 [some (yr (some (ad 0))), some (yi v1)] 24 [yi u1, yi u0] := by
  intro c_pg v1 u0 u1 h
  rw [wpX2_reaches_b24] at h
  refine y_iadd C dX2_reaches_24 ?_
  refine y_aload_n C 0 rfl rfl dX2_reaches_25 ?_
  refine y_iload_n C 1 rfl rfl dX2_reaches_26 ?_
  refine y_callVi0 C (metX2_form hd hB h) (cwV 1 C.hts (lw_V q1451 q1453 qs64 q91 q1454) rfl rfl rfl kdX2_form ⟨Nat.le_of_ble_eq_true rfl, Nat.le_of_ble_eq_true rfl⟩) mM_0 rfl rfl rfl (Nat.le_of_ble_eq_true rfl) dX2_reaches_27 (fun r3 M1 hp => ?_)
  clear h
  obtain ⟨rfl, h⟩ := hp
  refine y_iconst C 2 dX2_reaches_30 lit2 ?_
  refine y_icmp_ne C 42 dX2_reaches_31 (by decide) (fun c9 => ?_) (fun c9 => ?_)
  · replace h := h.1 c9
    refine y_iconst C 0 dX2_reaches_42 lit0 ?_
    refine y_to C _ ?_ (okX2_reaches_b43 C hB hd hr  _ _ _ h)
    exact trivial
  · replace h := h.2 c9
    refine y_aload_n C 0 rfl rfl dX2_reaches_34 ?_
    refine y_iload_n C 1 rfl rfl dX2_reaches_35 ?_
    refine y_callVi0 C (metX2_width hd hB h) (cwV 1 C.hts (lw_V q1455 q1457 qs65 q91 q1458) rfl rfl rfl kdX2_width ⟨Nat.le_of_ble_eq_true rfl, Nat.le_of_ble_eq_true rfl⟩) mM_0 rfl rfl rfl (Nat.le_of_ble_eq_true rfl) dX2_reaches_36 (fun r4 M1 hp => ?_)
    clear h
    obtain ⟨rfl, h⟩ := hp
    refine y_goto C 43 dX2_reaches_39 (by decide) ?_
    refine y_to C _ ?_ (okX2_reaches_b43 C hB hd hr  _ _ _ h)
    exact trivial
end sX2_reaches
def wpX2_reaches (c_pg : Nat → Int32) (a1 : Int32) (post : Int32 → Prop) : Prop := wpX2_to c_pg a1 (fun r1 => wpX2_form c_pg a1 (fun r2 => ((¬ r2 = 0 → vp_in 111 1120 ∧ wpX2_reaches_b24 post c_pg a1 r1 (c_pg (Int32.toNatClampNeg 111))) ∧ (r2 = 0 → wpX2_reaches_b24 post c_pg a1 r1 0))))
theorem metX2_reaches {l : Launch} {D : va_G} {s0 : State} {a0 : Array Value} {ad : Nat → Nat} (hd : yAd ad) (hB : yB D s0 a0) {c_pg : Nat → Int32} {c_bm : Int32} {c_tx : Nat → Int32} {c_ty : Int32} {c_ft : Int32} {c_fa : Int32} {c_sp : Int32} {c_nu : Int32} {c_un : Nat → Int32} {c_sf : Nat → Int32} {c_st : Nat → Int32} {c_ll : Nat → Int32} {c_ln : Nat → Int32} {c_ip : Nat → Int32} {c_gr : Nat → Int32} {c_hs : Int64} {a1 : Int32} {post : Int32 → Prop} (h : wpX2_reaches c_pg a1 post) : yMi l yX2_reaches (ws_ yX2_reaches cX2_reaches 2 (some .int)) 6 171 0 0 D s0 [yr (some (ad 0)), yi a1] (mM ad c_pg c_bm c_tx c_ty c_ft c_fa c_sp c_nu c_un c_sf c_st c_ll c_ln c_ip c_gr c_hs) (fun r M1 => M1 = mM ad c_pg c_bm c_tx c_ty c_ft c_fa c_sp c_nu c_un c_sf c_st c_ll c_ln c_ip c_gr c_hs ∧ post r) := by
  refine y_meti hB (by decide) rfl (Nat.le_of_ble_eq_true rfl) ?_
  intro p e s m below meth c A hr hnm C
  rw [wpX2_reaches] at h
  refine y_aload_n C 0 rfl rfl dX2_reaches_0 ?_
  refine y_iload_n C 1 rfl rfl dX2_reaches_1 ?_
  refine y_callVi0 C (metX2_to hd hB h) (cwV 1 C.hts (lw_V q1387 q1389 qs48 q91 q1390) rfl rfl rfl kdX2_to ⟨Nat.le_of_ble_eq_true rfl, Nat.le_of_ble_eq_true rfl⟩) mM_0 rfl rfl rfl (Nat.le_of_ble_eq_true rfl) dX2_reaches_2 (fun r1 M1 hp => ?_)
  clear h
  obtain ⟨rfl, h⟩ := hp
  refine y_aload_n C 0 rfl rfl dX2_reaches_5 ?_
  refine y_iload_n C 1 rfl rfl dX2_reaches_6 ?_
  refine y_callVi0 C (metX2_form hd hB h) (cwV 1 C.hts (lw_V q1451 q1453 qs64 q91 q1454) rfl rfl rfl kdX2_form ⟨Nat.le_of_ble_eq_true rfl, Nat.le_of_ble_eq_true rfl⟩) mM_0 rfl rfl rfl (Nat.le_of_ble_eq_true rfl) dX2_reaches_7 (fun r2 M1 hp => ?_)
  clear h
  obtain ⟨rfl, h⟩ := hp
  refine y_if_ne C 17 dX2_reaches_10 (by decide) (fun c9 => ?_) (fun c9 => ?_)
  · replace h := h.1 c9
    refine y_aload_n C 0 rfl rfl dX2_reaches_17 ?_
    refine y_get (ci := 2) (k := 0) C in_X2 rfl (by decide) q1169 (fun _ h => h) mM_0 rfl dX2_reaches_18 ?_
    refine y_bipush C 111 dX2_reaches_21 y_b111 ?_
    obtain ⟨i9, h⟩ := h
    refine y_iald C (mM_1 hd) i9 dX2_reaches_23 ?_
    refine y_to C _ ?_ (okX2_reaches_b24 C hB hd hr  _ _ _ _ h)
    exact (And.intro rfl (And.intro rfl trivial))
  · replace h := h.2 c9
    refine y_iconst C 0 dX2_reaches_13 lit0 ?_
    refine y_goto C 24 dX2_reaches_14 (by decide) ?_
    refine y_to C _ ?_ (okX2_reaches_b24 C hB hd hr  _ _ _ _ h)
    exact (And.intro rfl (And.intro rfl trivial))
theorem kdX2_reaches : yX2_reaches.cls = RX2 ∧ yX2_reaches.cls ≠ "java/lang/invoke/MethodHandle" ∧ yX2_reaches.cls ≠ "java/lang/invoke/VarHandle" ∧ (parseMethodDescriptor yX2_reaches.desc).map (fun d => d.parameters.length) = some 1 := by decide +kernel
section sX2_meets
variable {p : Program} {l : Launch} {e : Env} {s : State} {m : MethodId} {args : Array Value} {below : List Frame} {meth : Method} {c : Code} {D : va_G} {s0 : State} {a0 : Array Value} {A : Nat → Prop} {ad : Nat → Nat} {c_pg : Nat → Int32} {c_bm : Int32} {c_tx : Nat → Int32} {c_ty : Int32} {c_ft : Int32} {c_fa : Int32} {c_sp : Int32} {c_nu : Int32} {c_un : Nat → Int32} {c_sf : Nat → Int32} {c_st : Nat → Int32} {c_ll : Nat → Int32} {c_ln : Nat → Int32} {c_ip : Nat → Int32} {c_gr : Nat → Int32} {c_hs : Int64}
def wpX2_meets_b132 (post : Int32 → Prop) (k5 : (Nat → Int32) → (Nat → Int32) → (Nat → Int32) → (Nat → Int32) → Int32 → Int32 → Int32 → Int32 → Prop) (c_pg : Nat → Int32) (c_un : Nat → Int32) (c_ln : Nat → Int32) (c_ip : Nat → Int32) (v1 : Int32) (v2 : Int32) (v3 : Int32) (v4 : Int32) : Prop := ∀ x1 : Int32, x1 = v4 + 1 → k5 c_pg c_un c_ln c_ip v1 v2 v3 x1
theorem okX2_meets_b132 (C : yC p { frames := 7, cells := 0, slots := 0, locals := 192 } s m args meth c cX2_meets 7 RX2 D s0 a0 A) (hB : yB D s0 a0) (hd : yAd ad) (hr : meth.sig.returnType = (some .boolean)) {post : Int32 → Prop} {k5 : (Nat → Int32) → (Nat → Int32) → (Nat → Int32) → (Nat → Int32) → Int32 → Int32 → Int32 → Int32 → Prop} (hk5 : ∀ (c_pg : Nat → Int32) (c_un : Nat → Int32) (c_ln : Nat → Int32) (c_ip : Nat → Int32) (v1 : Int32) (v2 : Int32) (v3 : Int32) (v4 : Int32), k5 c_pg c_un c_ln c_ip v1 v2 v3 v4 → Y p l e { frames := 7, cells := 0, slots := 0, locals := 192 } s m args below meth c (MQ below (yQi D s0 A (fun r M1 => M1 = mM ad c_pg c_bm c_tx c_ty c_ft c_fa c_sp c_nu c_un c_sf c_st c_ll c_ln c_ip c_gr c_hs ∧ post r)) args s 0 0 A) D s0 A 7 (mM ad c_pg c_bm c_tx c_ty c_ft c_fa c_sp c_nu c_un c_sf c_st c_ll c_ln c_ip c_gr c_hs) 0 0 [some (yr (some (ad 0))), some (yi v1), some (yi v2), some (yi v3), some (yi v4), none, none] 5 []) : ∀ (c_pg : Nat → Int32) (c_un : Nat → Int32) (c_ln : Nat → Int32) (c_ip : Nat → Int32) (v1 : Int32) (v2 : Int32) (v3 : Int32) (v4 : Int32), wpX2_meets_b132 post k5 c_pg c_un c_ln c_ip v1 v2 v3 v4 → Y p l e { frames := 7, cells := 0, slots := 0, locals := 192 } s m args below meth c (MQ below (yQi D s0 A (fun r M1 => M1 = mM ad c_pg c_bm c_tx c_ty c_ft c_fa c_sp c_nu c_un c_sf c_st c_ll c_ln c_ip c_gr c_hs ∧ post r)) args s 0 0 A) D s0 A 7 (mM ad c_pg c_bm c_tx c_ty c_ft c_fa c_sp c_nu c_un c_sf c_st c_ll c_ln c_ip c_gr c_hs) 0 0 [some (yr (some (ad 0))), some (yi v1), some (yi v2), some (yi v3), some (yi v4), none, none] 132 [] := by
  intro c_pg c_un c_ln c_ip v1 v2 v3 v4 h
  rw [wpX2_meets_b132] at h
  replace h := h _ rfl
  refine y_iinc C 4 _ rfl (y_inc1 _) (by decide) dX2_meets_132 ?_
  refine y_goto C 5 dX2_meets_135 (by decide) ?_
  refine y_to C _ ?_ (hk5 _ _ _ _ _ _ _ _ h)
  exact (And.intro rfl (And.intro rfl (And.intro rfl (And.intro rfl (And.intro rfl trivial)))))
def wpX2_meets_b125 (post : Int32 → Prop) (k5 : (Nat → Int32) → (Nat → Int32) → (Nat → Int32) → (Nat → Int32) → Int32 → Int32 → Int32 → Int32 → Prop) (k20 : (Nat → Int32) → (Nat → Int32) → (Nat → Int32) → (Nat → Int32) → Int32 → Int32 → Int32 → Int32 → Int32 → Prop) (c_pg : Nat → Int32) (c_un : Nat → Int32) (c_ln : Nat → Int32) (c_ip : Nat → Int32) (v1 : Int32) (v2 : Int32) (v4 : Int32) (v5 : Int32) (u0 : Int32) : Prop := ∀ x2 : Int32, x2 = v5 + 1 → k20 c_pg c_un c_ln c_ip v1 v2 u0 v4 x2
theorem okX2_meets_b125 (C : yC p { frames := 7, cells := 0, slots := 0, locals := 192 } s m args meth c cX2_meets 7 RX2 D s0 a0 A) (hB : yB D s0 a0) (hd : yAd ad) (hr : meth.sig.returnType = (some .boolean)) {post : Int32 → Prop} {k5 : (Nat → Int32) → (Nat → Int32) → (Nat → Int32) → (Nat → Int32) → Int32 → Int32 → Int32 → Int32 → Prop} {k20 : (Nat → Int32) → (Nat → Int32) → (Nat → Int32) → (Nat → Int32) → Int32 → Int32 → Int32 → Int32 → Int32 → Prop} (hk5 : ∀ (c_pg : Nat → Int32) (c_un : Nat → Int32) (c_ln : Nat → Int32) (c_ip : Nat → Int32) (v1 : Int32) (v2 : Int32) (v3 : Int32) (v4 : Int32), k5 c_pg c_un c_ln c_ip v1 v2 v3 v4 → Y p l e { frames := 7, cells := 0, slots := 0, locals := 192 } s m args below meth c (MQ below (yQi D s0 A (fun r M1 => M1 = mM ad c_pg c_bm c_tx c_ty c_ft c_fa c_sp c_nu c_un c_sf c_st c_ll c_ln c_ip c_gr c_hs ∧ post r)) args s 0 0 A) D s0 A 7 (mM ad c_pg c_bm c_tx c_ty c_ft c_fa c_sp c_nu c_un c_sf c_st c_ll c_ln c_ip c_gr c_hs) 0 0 [some (yr (some (ad 0))), some (yi v1), some (yi v2), some (yi v3), some (yi v4), none, none] 5 []) (hk20 : ∀ (c_pg : Nat → Int32) (c_un : Nat → Int32) (c_ln : Nat → Int32) (c_ip : Nat → Int32) (v1 : Int32) (v2 : Int32) (v3 : Int32) (v4 : Int32) (v5 : Int32), k20 c_pg c_un c_ln c_ip v1 v2 v3 v4 v5 → Y p l e { frames := 7, cells := 0, slots := 0, locals := 192 } s m args below meth c (MQ below (yQi D s0 A (fun r M1 => M1 = mM ad c_pg c_bm c_tx c_ty c_ft c_fa c_sp c_nu c_un c_sf c_st c_ll c_ln c_ip c_gr c_hs ∧ post r)) args s 0 0 A) D s0 A 7 (mM ad c_pg c_bm c_tx c_ty c_ft c_fa c_sp c_nu c_un c_sf c_st c_ll c_ln c_ip c_gr c_hs) 0 0 [some (yr (some (ad 0))), some (yi v1), some (yi v2), some (yi v3), some (yi v4), some (yi v5), none] 20 []) : ∀ (c_pg : Nat → Int32) (c_un : Nat → Int32) (c_ln : Nat → Int32) (c_ip : Nat → Int32) (v1 : Int32) (v2 : Int32) (v4 : Int32) (v5 : Int32) (u0 : Int32), wpX2_meets_b125 post k5 k20 c_pg c_un c_ln c_ip v1 v2 v4 v5 u0 → Y p l e { frames := 7, cells := 0, slots := 0, locals := 192 } s m args below meth c (MQ below (yQi D s0 A (fun r M1 => M1 = mM ad c_pg c_bm c_tx c_ty c_ft c_fa c_sp c_nu c_un c_sf c_st c_ll c_ln c_ip c_gr c_hs ∧ post r)) args s 0 0 A) D s0 A 7 (mM ad c_pg c_bm c_tx c_ty c_ft c_fa c_sp c_nu c_un c_sf c_st c_ll c_ln c_ip c_gr c_hs) 0 0 [some (yr (some (ad 0))), some (yi v1), some (yi v2), none, some (yi v4), some (yi v5), none] 125 [yi u0] := by
  intro c_pg c_un c_ln c_ip v1 v2 v4 v5 u0 h
  rw [wpX2_meets_b125] at h
  refine y_istore_n C 3 rfl (by decide) dX2_meets_125 ?_
  replace h := h _ rfl
  refine y_iinc C 5 _ rfl (y_inc1 _) (by decide) dX2_meets_126 ?_
  refine y_goto C 20 dX2_meets_129 (by decide) ?_
  refine y_to C _ ?_ (hk20 _ _ _ _ _ _ _ _ _ h)
  exact (And.intro rfl (And.intro rfl (And.intro rfl (And.intro rfl (And.intro rfl (And.intro rfl trivial))))))
def wpX2_meets_b120 (post : Int32 → Prop) (k5 : (Nat → Int32) → (Nat → Int32) → (Nat → Int32) → (Nat → Int32) → Int32 → Int32 → Int32 → Int32 → Prop) (k20 : (Nat → Int32) → (Nat → Int32) → (Nat → Int32) → (Nat → Int32) → Int32 → Int32 → Int32 → Int32 → Int32 → Prop) (c_pg : Nat → Int32) (c_un : Nat → Int32) (c_ln : Nat → Int32) (c_ip : Nat → Int32) (v1 : Int32) (v2 : Int32) (v4 : Int32) (v5 : Int32) : Prop := wpX2_meets_b125 post k5 k20 c_pg c_un c_ln c_ip v1 v2 v4 v5 1
theorem okX2_meets_b120 (C : yC p { frames := 7, cells := 0, slots := 0, locals := 192 } s m args meth c cX2_meets 7 RX2 D s0 a0 A) (hB : yB D s0 a0) (hd : yAd ad) (hr : meth.sig.returnType = (some .boolean)) {post : Int32 → Prop} {k5 : (Nat → Int32) → (Nat → Int32) → (Nat → Int32) → (Nat → Int32) → Int32 → Int32 → Int32 → Int32 → Prop} {k20 : (Nat → Int32) → (Nat → Int32) → (Nat → Int32) → (Nat → Int32) → Int32 → Int32 → Int32 → Int32 → Int32 → Prop} (hk5 : ∀ (c_pg : Nat → Int32) (c_un : Nat → Int32) (c_ln : Nat → Int32) (c_ip : Nat → Int32) (v1 : Int32) (v2 : Int32) (v3 : Int32) (v4 : Int32), k5 c_pg c_un c_ln c_ip v1 v2 v3 v4 → Y p l e { frames := 7, cells := 0, slots := 0, locals := 192 } s m args below meth c (MQ below (yQi D s0 A (fun r M1 => M1 = mM ad c_pg c_bm c_tx c_ty c_ft c_fa c_sp c_nu c_un c_sf c_st c_ll c_ln c_ip c_gr c_hs ∧ post r)) args s 0 0 A) D s0 A 7 (mM ad c_pg c_bm c_tx c_ty c_ft c_fa c_sp c_nu c_un c_sf c_st c_ll c_ln c_ip c_gr c_hs) 0 0 [some (yr (some (ad 0))), some (yi v1), some (yi v2), some (yi v3), some (yi v4), none, none] 5 []) (hk20 : ∀ (c_pg : Nat → Int32) (c_un : Nat → Int32) (c_ln : Nat → Int32) (c_ip : Nat → Int32) (v1 : Int32) (v2 : Int32) (v3 : Int32) (v4 : Int32) (v5 : Int32), k20 c_pg c_un c_ln c_ip v1 v2 v3 v4 v5 → Y p l e { frames := 7, cells := 0, slots := 0, locals := 192 } s m args below meth c (MQ below (yQi D s0 A (fun r M1 => M1 = mM ad c_pg c_bm c_tx c_ty c_ft c_fa c_sp c_nu c_un c_sf c_st c_ll c_ln c_ip c_gr c_hs ∧ post r)) args s 0 0 A) D s0 A 7 (mM ad c_pg c_bm c_tx c_ty c_ft c_fa c_sp c_nu c_un c_sf c_st c_ll c_ln c_ip c_gr c_hs) 0 0 [some (yr (some (ad 0))), some (yi v1), some (yi v2), some (yi v3), some (yi v4), some (yi v5), none] 20 []) : ∀ (c_pg : Nat → Int32) (c_un : Nat → Int32) (c_ln : Nat → Int32) (c_ip : Nat → Int32) (v1 : Int32) (v2 : Int32) (v4 : Int32) (v5 : Int32), wpX2_meets_b120 post k5 k20 c_pg c_un c_ln c_ip v1 v2 v4 v5 → Y p l e { frames := 7, cells := 0, slots := 0, locals := 192 } s m args below meth c (MQ below (yQi D s0 A (fun r M1 => M1 = mM ad c_pg c_bm c_tx c_ty c_ft c_fa c_sp c_nu c_un c_sf c_st c_ll c_ln c_ip c_gr c_hs ∧ post r)) args s 0 0 A) D s0 A 7 (mM ad c_pg c_bm c_tx c_ty c_ft c_fa c_sp c_nu c_un c_sf c_st c_ll c_ln c_ip c_gr c_hs) 0 0 [some (yr (some (ad 0))), some (yi v1), some (yi v2), none, some (yi v4), some (yi v5), none] 120 [] := by
  intro c_pg c_un c_ln c_ip v1 v2 v4 v5 h
  rw [wpX2_meets_b120] at h
  refine y_iconst C 1 dX2_meets_120 lit1 ?_
  refine y_goto C 125 dX2_meets_121 (by decide) ?_
  refine y_to C _ ?_ (okX2_meets_b125 C hB hd hr hk5 hk20 _ _ _ _ _ _ _ _ _ h)
  exact (And.intro rfl (And.intro rfl (And.intro rfl (And.intro rfl (And.intro rfl trivial)))))
def wpX2_meets_b124 (post : Int32 → Prop) (k5 : (Nat → Int32) → (Nat → Int32) → (Nat → Int32) → (Nat → Int32) → Int32 → Int32 → Int32 → Int32 → Prop) (k20 : (Nat → Int32) → (Nat → Int32) → (Nat → Int32) → (Nat → Int32) → Int32 → Int32 → Int32 → Int32 → Int32 → Prop) (c_pg : Nat → Int32) (c_un : Nat → Int32) (c_ln : Nat → Int32) (c_ip : Nat → Int32) (v1 : Int32) (v2 : Int32) (v4 : Int32) (v5 : Int32) : Prop := wpX2_meets_b125 post k5 k20 c_pg c_un c_ln c_ip v1 v2 v4 v5 0
theorem okX2_meets_b124 (C : yC p { frames := 7, cells := 0, slots := 0, locals := 192 } s m args meth c cX2_meets 7 RX2 D s0 a0 A) (hB : yB D s0 a0) (hd : yAd ad) (hr : meth.sig.returnType = (some .boolean)) {post : Int32 → Prop} {k5 : (Nat → Int32) → (Nat → Int32) → (Nat → Int32) → (Nat → Int32) → Int32 → Int32 → Int32 → Int32 → Prop} {k20 : (Nat → Int32) → (Nat → Int32) → (Nat → Int32) → (Nat → Int32) → Int32 → Int32 → Int32 → Int32 → Int32 → Prop} (hk5 : ∀ (c_pg : Nat → Int32) (c_un : Nat → Int32) (c_ln : Nat → Int32) (c_ip : Nat → Int32) (v1 : Int32) (v2 : Int32) (v3 : Int32) (v4 : Int32), k5 c_pg c_un c_ln c_ip v1 v2 v3 v4 → Y p l e { frames := 7, cells := 0, slots := 0, locals := 192 } s m args below meth c (MQ below (yQi D s0 A (fun r M1 => M1 = mM ad c_pg c_bm c_tx c_ty c_ft c_fa c_sp c_nu c_un c_sf c_st c_ll c_ln c_ip c_gr c_hs ∧ post r)) args s 0 0 A) D s0 A 7 (mM ad c_pg c_bm c_tx c_ty c_ft c_fa c_sp c_nu c_un c_sf c_st c_ll c_ln c_ip c_gr c_hs) 0 0 [some (yr (some (ad 0))), some (yi v1), some (yi v2), some (yi v3), some (yi v4), none, none] 5 []) (hk20 : ∀ (c_pg : Nat → Int32) (c_un : Nat → Int32) (c_ln : Nat → Int32) (c_ip : Nat → Int32) (v1 : Int32) (v2 : Int32) (v3 : Int32) (v4 : Int32) (v5 : Int32), k20 c_pg c_un c_ln c_ip v1 v2 v3 v4 v5 → Y p l e { frames := 7, cells := 0, slots := 0, locals := 192 } s m args below meth c (MQ below (yQi D s0 A (fun r M1 => M1 = mM ad c_pg c_bm c_tx c_ty c_ft c_fa c_sp c_nu c_un c_sf c_st c_ll c_ln c_ip c_gr c_hs ∧ post r)) args s 0 0 A) D s0 A 7 (mM ad c_pg c_bm c_tx c_ty c_ft c_fa c_sp c_nu c_un c_sf c_st c_ll c_ln c_ip c_gr c_hs) 0 0 [some (yr (some (ad 0))), some (yi v1), some (yi v2), some (yi v3), some (yi v4), some (yi v5), none] 20 []) : ∀ (c_pg : Nat → Int32) (c_un : Nat → Int32) (c_ln : Nat → Int32) (c_ip : Nat → Int32) (v1 : Int32) (v2 : Int32) (v4 : Int32) (v5 : Int32), wpX2_meets_b124 post k5 k20 c_pg c_un c_ln c_ip v1 v2 v4 v5 → Y p l e { frames := 7, cells := 0, slots := 0, locals := 192 } s m args below meth c (MQ below (yQi D s0 A (fun r M1 => M1 = mM ad c_pg c_bm c_tx c_ty c_ft c_fa c_sp c_nu c_un c_sf c_st c_ll c_ln c_ip c_gr c_hs ∧ post r)) args s 0 0 A) D s0 A 7 (mM ad c_pg c_bm c_tx c_ty c_ft c_fa c_sp c_nu c_un c_sf c_st c_ll c_ln c_ip c_gr c_hs) 0 0 [some (yr (some (ad 0))), some (yi v1), some (yi v2), none, some (yi v4), some (yi v5), none] 124 [] := by
  intro c_pg c_un c_ln c_ip v1 v2 v4 v5 h
  rw [wpX2_meets_b124] at h
  refine y_iconst C 0 dX2_meets_124 lit0 ?_
  refine y_to C _ ?_ (okX2_meets_b125 C hB hd hr hk5 hk20 _ _ _ _ _ _ _ _ _ h)
  exact (And.intro rfl (And.intro rfl (And.intro rfl (And.intro rfl (And.intro rfl trivial)))))
def wpX2_meets_b79 (post : Int32 → Prop) (k5 : (Nat → Int32) → (Nat → Int32) → (Nat → Int32) → (Nat → Int32) → Int32 → Int32 → Int32 → Int32 → Prop) (k20 : (Nat → Int32) → (Nat → Int32) → (Nat → Int32) → (Nat → Int32) → Int32 → Int32 → Int32 → Int32 → Int32 → Prop) (c_pg : Nat → Int32) (c_un : Nat → Int32) (c_ln : Nat → Int32) (c_ip : Nat → Int32) (v1 : Int32) (v2 : Int32) (v3 : Int32) (v4 : Int32) (v5 : Int32) (u0 : Int32) : Prop := ((¬ v3 = 0 → wpX2_meets_b120 post k5 k20 c_pg c_un c_ln c_ip v1 v2 v4 v5) ∧ (v3 = 0 → ((u0 = 0 → wpX2_meets_b124 post k5 k20 c_pg c_un c_ln c_ip v1 v2 v4 v5) ∧ (¬ u0 = 0 → wpX2_begins c_pg v4 (fun r3 => wpX2_reaches c_pg v5 (fun r4 => ((r4 < r3 → wpX2_meets_b124 post k5 k20 c_pg c_un c_ln c_ip v1 v2 v4 v5) ∧ (¬ r4 < r3 → wpX2_begins c_pg v5 (fun r5 => wpX2_reaches c_pg v4 (fun r6 => ((r6 < r5 → wpX2_meets_b124 post k5 k20 c_pg c_un c_ln c_ip v1 v2 v4 v5) ∧ (¬ r6 < r5 → wpX2_meets_b120 post k5 k20 c_pg c_un c_ln c_ip v1 v2 v4 v5))))))))))))
theorem okX2_meets_b79 (C : yC p { frames := 7, cells := 0, slots := 0, locals := 192 } s m args meth c cX2_meets 7 RX2 D s0 a0 A) (hB : yB D s0 a0) (hd : yAd ad) (hr : meth.sig.returnType = (some .boolean)) {post : Int32 → Prop} {k5 : (Nat → Int32) → (Nat → Int32) → (Nat → Int32) → (Nat → Int32) → Int32 → Int32 → Int32 → Int32 → Prop} {k20 : (Nat → Int32) → (Nat → Int32) → (Nat → Int32) → (Nat → Int32) → Int32 → Int32 → Int32 → Int32 → Int32 → Prop} (hk5 : ∀ (c_pg : Nat → Int32) (c_un : Nat → Int32) (c_ln : Nat → Int32) (c_ip : Nat → Int32) (v1 : Int32) (v2 : Int32) (v3 : Int32) (v4 : Int32), k5 c_pg c_un c_ln c_ip v1 v2 v3 v4 → Y p l e { frames := 7, cells := 0, slots := 0, locals := 192 } s m args below meth c (MQ below (yQi D s0 A (fun r M1 => M1 = mM ad c_pg c_bm c_tx c_ty c_ft c_fa c_sp c_nu c_un c_sf c_st c_ll c_ln c_ip c_gr c_hs ∧ post r)) args s 0 0 A) D s0 A 7 (mM ad c_pg c_bm c_tx c_ty c_ft c_fa c_sp c_nu c_un c_sf c_st c_ll c_ln c_ip c_gr c_hs) 0 0 [some (yr (some (ad 0))), some (yi v1), some (yi v2), some (yi v3), some (yi v4), none, none] 5 []) (hk20 : ∀ (c_pg : Nat → Int32) (c_un : Nat → Int32) (c_ln : Nat → Int32) (c_ip : Nat → Int32) (v1 : Int32) (v2 : Int32) (v3 : Int32) (v4 : Int32) (v5 : Int32), k20 c_pg c_un c_ln c_ip v1 v2 v3 v4 v5 → Y p l e { frames := 7, cells := 0, slots := 0, locals := 192 } s m args below meth c (MQ below (yQi D s0 A (fun r M1 => M1 = mM ad c_pg c_bm c_tx c_ty c_ft c_fa c_sp c_nu c_un c_sf c_st c_ll c_ln c_ip c_gr c_hs ∧ post r)) args s 0 0 A) D s0 A 7 (mM ad c_pg c_bm c_tx c_ty c_ft c_fa c_sp c_nu c_un c_sf c_st c_ll c_ln c_ip c_gr c_hs) 0 0 [some (yr (some (ad 0))), some (yi v1), some (yi v2), some (yi v3), some (yi v4), some (yi v5), none] 20 []) : ∀ (c_pg : Nat → Int32) (c_un : Nat → Int32) (c_ln : Nat → Int32) (c_ip : Nat → Int32) (v1 : Int32) (v2 : Int32) (v3 : Int32) (v4 : Int32) (v5 : Int32) (u0 : Int32), wpX2_meets_b79 post k5 k20 c_pg c_un c_ln c_ip v1 v2 v3 v4 v5 u0 → Y p l e { frames := 7, cells := 0, slots := 0, locals := 192 } s m args below meth c (MQ below (yQi D s0 A (fun r M1 => M1 = mM ad c_pg c_bm c_tx c_ty c_ft c_fa c_sp c_nu c_un c_sf c_st c_ll c_ln c_ip c_gr c_hs ∧ post r)) args s 0 0 A) D s0 A 7 (mM ad c_pg c_bm c_tx c_ty c_ft c_fa c_sp c_nu c_un c_sf c_st c_ll c_ln c_ip c_gr c_hs) 0 0 [some (yr (some (ad 0))), some (yi v1), some (yi v2), some (yi v3), some (yi v4), some (yi v5), none] 79 [yi u0] := by
  intro c_pg c_un c_ln c_ip v1 v2 v3 v4 v5 u0 h
  rw [wpX2_meets_b79] at h
  refine y_istore C 6 (by decide) dX2_meets_79 ?_
  refine y_iload_n C 3 rfl rfl dX2_meets_81 ?_
  refine y_if_ne C 120 dX2_meets_82 (by decide) (fun c9 => ?_) (fun c9 => ?_)
  · replace h := h.1 c9
    refine y_to C _ ?_ (okX2_meets_b120 C hB hd hr hk5 hk20 _ _ _ _ _ _ _ _ h)
    exact (And.intro rfl (And.intro rfl (And.intro rfl (And.intro rfl (And.intro rfl trivial)))))
  · replace h := h.2 c9
    refine y_iload C 6 rfl dX2_meets_85 ?_
    refine y_if_eq C 124 dX2_meets_87 (by decide) (fun c9 => ?_) (fun c9 => ?_)
    · replace h := h.1 c9
      refine y_to C _ ?_ (okX2_meets_b124 C hB hd hr hk5 hk20 _ _ _ _ _ _ _ _ h)
      exact (And.intro rfl (And.intro rfl (And.intro rfl (And.intro rfl (And.intro rfl trivial)))))
    · replace h := h.2 c9
      refine y_aload_n C 0 rfl rfl dX2_meets_90 ?_
      refine y_iload C 4 rfl dX2_meets_91 ?_
      refine y_callVi0 C (metX2_begins hd hB h) (cwV 1 C.hts (lw_V q1447 q1449 qs63 q91 q1450) rfl rfl rfl kdX2_begins ⟨Nat.le_of_ble_eq_true rfl, Nat.le_of_ble_eq_true rfl⟩) mM_0 rfl rfl rfl (Nat.le_of_ble_eq_true rfl) dX2_meets_93 (fun r3 M1 hp => ?_)
      clear h
      obtain ⟨rfl, h⟩ := hp
      refine y_aload_n C 0 rfl rfl dX2_meets_96 ?_
      refine y_iload C 5 rfl dX2_meets_97 ?_
      refine y_callVi0 C (metX2_reaches hd hB h) (cwV 1 C.hts (lw_V q1459 q1461 qs66 q91 q1462) rfl rfl rfl kdX2_reaches ⟨Nat.le_of_ble_eq_true rfl, Nat.le_of_ble_eq_true rfl⟩) mM_0 rfl rfl rfl (Nat.le_of_ble_eq_true rfl) dX2_meets_99 (fun r4 M1 hp => ?_)
      clear h
      obtain ⟨rfl, h⟩ := hp
      refine y_icmp_gt C 124 dX2_meets_102 (by decide) (fun c9 => ?_) (fun c9 => ?_)
      · replace h := h.1 c9
        refine y_to C _ ?_ (okX2_meets_b124 C hB hd hr hk5 hk20 _ _ _ _ _ _ _ _ h)
        exact (And.intro rfl (And.intro rfl (And.intro rfl (And.intro rfl (And.intro rfl trivial)))))
      · replace h := h.2 c9
        refine y_aload_n C 0 rfl rfl dX2_meets_105 ?_
        refine y_iload C 5 rfl dX2_meets_106 ?_
        refine y_callVi0 C (metX2_begins hd hB h) (cwV 1 C.hts (lw_V q1447 q1449 qs63 q91 q1450) rfl rfl rfl kdX2_begins ⟨Nat.le_of_ble_eq_true rfl, Nat.le_of_ble_eq_true rfl⟩) mM_0 rfl rfl rfl (Nat.le_of_ble_eq_true rfl) dX2_meets_108 (fun r5 M1 hp => ?_)
        clear h
        obtain ⟨rfl, h⟩ := hp
        refine y_aload_n C 0 rfl rfl dX2_meets_111 ?_
        refine y_iload C 4 rfl dX2_meets_112 ?_
        refine y_callVi0 C (metX2_reaches hd hB h) (cwV 1 C.hts (lw_V q1459 q1461 qs66 q91 q1462) rfl rfl rfl kdX2_reaches ⟨Nat.le_of_ble_eq_true rfl, Nat.le_of_ble_eq_true rfl⟩) mM_0 rfl rfl rfl (Nat.le_of_ble_eq_true rfl) dX2_meets_114 (fun r6 M1 hp => ?_)
        clear h
        obtain ⟨rfl, h⟩ := hp
        refine y_icmp_gt C 124 dX2_meets_117 (by decide) (fun c9 => ?_) (fun c9 => ?_)
        · replace h := h.1 c9
          refine y_to C _ ?_ (okX2_meets_b124 C hB hd hr hk5 hk20 _ _ _ _ _ _ _ _ h)
          exact (And.intro rfl (And.intro rfl (And.intro rfl (And.intro rfl (And.intro rfl trivial)))))
        · replace h := h.2 c9
          refine y_to C _ ?_ (okX2_meets_b120 C hB hd hr hk5 hk20 _ _ _ _ _ _ _ _ h)
          exact (And.intro rfl (And.intro rfl (And.intro rfl (And.intro rfl (And.intro rfl trivial)))))
def wpX2_meets_b78 (post : Int32 → Prop) (k5 : (Nat → Int32) → (Nat → Int32) → (Nat → Int32) → (Nat → Int32) → Int32 → Int32 → Int32 → Int32 → Prop) (k20 : (Nat → Int32) → (Nat → Int32) → (Nat → Int32) → (Nat → Int32) → Int32 → Int32 → Int32 → Int32 → Int32 → Prop) (c_pg : Nat → Int32) (c_un : Nat → Int32) (c_ln : Nat → Int32) (c_ip : Nat → Int32) (v1 : Int32) (v2 : Int32) (v3 : Int32) (v4 : Int32) (v5 : Int32) : Prop := wpX2_meets_b79 post k5 k20 c_pg c_un c_ln c_ip v1 v2 v3 v4 v5 0
theorem okX2_meets_b78 (C : yC p { frames := 7, cells := 0, slots := 0, locals := 192 } s m args meth c cX2_meets 7 RX2 D s0 a0 A) (hB : yB D s0 a0) (hd : yAd ad) (hr : meth.sig.returnType = (some .boolean)) {post : Int32 → Prop} {k5 : (Nat → Int32) → (Nat → Int32) → (Nat → Int32) → (Nat → Int32) → Int32 → Int32 → Int32 → Int32 → Prop} {k20 : (Nat → Int32) → (Nat → Int32) → (Nat → Int32) → (Nat → Int32) → Int32 → Int32 → Int32 → Int32 → Int32 → Prop} (hk5 : ∀ (c_pg : Nat → Int32) (c_un : Nat → Int32) (c_ln : Nat → Int32) (c_ip : Nat → Int32) (v1 : Int32) (v2 : Int32) (v3 : Int32) (v4 : Int32), k5 c_pg c_un c_ln c_ip v1 v2 v3 v4 → Y p l e { frames := 7, cells := 0, slots := 0, locals := 192 } s m args below meth c (MQ below (yQi D s0 A (fun r M1 => M1 = mM ad c_pg c_bm c_tx c_ty c_ft c_fa c_sp c_nu c_un c_sf c_st c_ll c_ln c_ip c_gr c_hs ∧ post r)) args s 0 0 A) D s0 A 7 (mM ad c_pg c_bm c_tx c_ty c_ft c_fa c_sp c_nu c_un c_sf c_st c_ll c_ln c_ip c_gr c_hs) 0 0 [some (yr (some (ad 0))), some (yi v1), some (yi v2), some (yi v3), some (yi v4), none, none] 5 []) (hk20 : ∀ (c_pg : Nat → Int32) (c_un : Nat → Int32) (c_ln : Nat → Int32) (c_ip : Nat → Int32) (v1 : Int32) (v2 : Int32) (v3 : Int32) (v4 : Int32) (v5 : Int32), k20 c_pg c_un c_ln c_ip v1 v2 v3 v4 v5 → Y p l e { frames := 7, cells := 0, slots := 0, locals := 192 } s m args below meth c (MQ below (yQi D s0 A (fun r M1 => M1 = mM ad c_pg c_bm c_tx c_ty c_ft c_fa c_sp c_nu c_un c_sf c_st c_ll c_ln c_ip c_gr c_hs ∧ post r)) args s 0 0 A) D s0 A 7 (mM ad c_pg c_bm c_tx c_ty c_ft c_fa c_sp c_nu c_un c_sf c_st c_ll c_ln c_ip c_gr c_hs) 0 0 [some (yr (some (ad 0))), some (yi v1), some (yi v2), some (yi v3), some (yi v4), some (yi v5), none] 20 []) : ∀ (c_pg : Nat → Int32) (c_un : Nat → Int32) (c_ln : Nat → Int32) (c_ip : Nat → Int32) (v1 : Int32) (v2 : Int32) (v3 : Int32) (v4 : Int32) (v5 : Int32), wpX2_meets_b78 post k5 k20 c_pg c_un c_ln c_ip v1 v2 v3 v4 v5 → Y p l e { frames := 7, cells := 0, slots := 0, locals := 192 } s m args below meth c (MQ below (yQi D s0 A (fun r M1 => M1 = mM ad c_pg c_bm c_tx c_ty c_ft c_fa c_sp c_nu c_un c_sf c_st c_ll c_ln c_ip c_gr c_hs ∧ post r)) args s 0 0 A) D s0 A 7 (mM ad c_pg c_bm c_tx c_ty c_ft c_fa c_sp c_nu c_un c_sf c_st c_ll c_ln c_ip c_gr c_hs) 0 0 [some (yr (some (ad 0))), some (yi v1), some (yi v2), some (yi v3), some (yi v4), some (yi v5), none] 78 [] := by
  intro c_pg c_un c_ln c_ip v1 v2 v3 v4 v5 h
  rw [wpX2_meets_b78] at h
  refine y_iconst C 0 dX2_meets_78 lit0 ?_
  refine y_to C _ ?_ (okX2_meets_b79 C hB hd hr hk5 hk20 _ _ _ _ _ _ _ _ _ _ h)
  exact (And.intro rfl (And.intro rfl (And.intro rfl (And.intro rfl (And.intro rfl (And.intro rfl trivial))))))
def wpX2_meets_b20 (post : Int32 → Prop) (k5 : (Nat → Int32) → (Nat → Int32) → (Nat → Int32) → (Nat → Int32) → Int32 → Int32 → Int32 → Int32 → Prop) : Nat → (Nat → Int32) → (Nat → Int32) → (Nat → Int32) → (Nat → Int32) → Int32 → Int32 → Int32 → Int32 → Int32 → Prop
  | 0, _, _, _, _, _, _, _, _, _ => False
  | nn + 1, c_pg, c_un, c_ln, c_ip, v1, v2, v3, v4, v5 => vp_in 13 1120 ∧ (((c_pg (Int32.toNatClampNeg 13)) ≤ v5 → wpX2_meets_b132 post k5 c_pg c_un c_ln c_ip v1 v2 v3 v4) ∧ (¬ (c_pg (Int32.toNatClampNeg 13)) ≤ v5 → vp_in v4 16 ∧ ((¬ (c_un (Int32.toNatClampNeg v4)) = v1 → wpX2_meets_b132 post k5 c_pg c_un c_ln c_ip v1 v2 v3 v4) ∧ ((c_un (Int32.toNatClampNeg v4)) = v1 → vp_in v5 16 ∧ vp_in (c_un (Int32.toNatClampNeg v5)) 16 ∧ (((c_ip (Int32.toNatClampNeg (c_un (Int32.toNatClampNeg v5)))) = 0 → wpX2_meets_b78 post k5 (fun c_pg c_un c_ln c_ip v1 v2 v3 v4 v5 => wpX2_meets_b20 post k5 nn c_pg c_un c_ln c_ip v1 v2 v3 v4 v5) c_pg c_un c_ln c_ip v1 v2 v3 v4 v5) ∧ (¬ (c_ip (Int32.toNatClampNeg (c_un (Int32.toNatClampNeg v5)))) = 0 → vp_in v5 16 ∧ vp_in (c_un (Int32.toNatClampNeg v5)) 16 ∧ ((¬ (c_ln (Int32.toNatClampNeg (c_un (Int32.toNatClampNeg v5)))) = v2 → wpX2_meets_b78 post k5 (fun c_pg c_un c_ln c_ip v1 v2 v3 v4 v5 => wpX2_meets_b20 post k5 nn c_pg c_un c_ln c_ip v1 v2 v3 v4 v5) c_pg c_un c_ln c_ip v1 v2 v3 v4 v5) ∧ ((c_ln (Int32.toNatClampNeg (c_un (Int32.toNatClampNeg v5)))) = v2 → wpX2_meets_b79 post k5 (fun c_pg c_un c_ln c_ip v1 v2 v3 v4 v5 => wpX2_meets_b20 post k5 nn c_pg c_un c_ln c_ip v1 v2 v3 v4 v5) c_pg c_un c_ln c_ip v1 v2 v3 v4 v5 1))))))))
theorem okX2_meets_b20 (C : yC p { frames := 7, cells := 0, slots := 0, locals := 192 } s m args meth c cX2_meets 7 RX2 D s0 a0 A) (hB : yB D s0 a0) (hd : yAd ad) (hr : meth.sig.returnType = (some .boolean)) {post : Int32 → Prop} {k5 : (Nat → Int32) → (Nat → Int32) → (Nat → Int32) → (Nat → Int32) → Int32 → Int32 → Int32 → Int32 → Prop} (hk5 : ∀ (c_pg : Nat → Int32) (c_un : Nat → Int32) (c_ln : Nat → Int32) (c_ip : Nat → Int32) (v1 : Int32) (v2 : Int32) (v3 : Int32) (v4 : Int32), k5 c_pg c_un c_ln c_ip v1 v2 v3 v4 → Y p l e { frames := 7, cells := 0, slots := 0, locals := 192 } s m args below meth c (MQ below (yQi D s0 A (fun r M1 => M1 = mM ad c_pg c_bm c_tx c_ty c_ft c_fa c_sp c_nu c_un c_sf c_st c_ll c_ln c_ip c_gr c_hs ∧ post r)) args s 0 0 A) D s0 A 7 (mM ad c_pg c_bm c_tx c_ty c_ft c_fa c_sp c_nu c_un c_sf c_st c_ll c_ln c_ip c_gr c_hs) 0 0 [some (yr (some (ad 0))), some (yi v1), some (yi v2), some (yi v3), some (yi v4), none, none] 5 []) : ∀ (nn : Nat) (c_pg : Nat → Int32) (c_un : Nat → Int32) (c_ln : Nat → Int32) (c_ip : Nat → Int32) (v1 : Int32) (v2 : Int32) (v3 : Int32) (v4 : Int32) (v5 : Int32), wpX2_meets_b20 post k5 nn c_pg c_un c_ln c_ip v1 v2 v3 v4 v5 → Y p l e { frames := 7, cells := 0, slots := 0, locals := 192 } s m args below meth c (MQ below (yQi D s0 A (fun r M1 => M1 = mM ad c_pg c_bm c_tx c_ty c_ft c_fa c_sp c_nu c_un c_sf c_st c_ll c_ln c_ip c_gr c_hs ∧ post r)) args s 0 0 A) D s0 A 7 (mM ad c_pg c_bm c_tx c_ty c_ft c_fa c_sp c_nu c_un c_sf c_st c_ll c_ln c_ip c_gr c_hs) 0 0 [some (yr (some (ad 0))), some (yi v1), some (yi v2), some (yi v3), some (yi v4), some (yi v5), none] 20 [] := by
  intro nn
  induction nn with
  | zero => intro c_pg c_un c_ln c_ip v1 v2 v3 v4 v5 h; exact absurd h (by rw [wpX2_meets_b20]; exact id)
  | succ nn ih =>
    intro c_pg c_un c_ln c_ip v1 v2 v3 v4 v5 h
    rw [wpX2_meets_b20] at h
    refine y_iload C 5 rfl dX2_meets_20 ?_
    refine y_aload_n C 0 rfl rfl dX2_meets_22 ?_
    refine y_get (ci := 2) (k := 0) C in_X2 rfl (by decide) q1169 (fun _ h => h) mM_0 rfl dX2_meets_23 ?_
    refine y_bipush C 13 dX2_meets_26 y_b13 ?_
    obtain ⟨i9, h⟩ := h
    refine y_iald C (mM_1 hd) i9 dX2_meets_28 ?_
    refine y_icmp_ge C 132 dX2_meets_29 (by decide) (fun c9 => ?_) (fun c9 => ?_)
    · replace h := h.1 c9
      refine y_to C _ ?_ (okX2_meets_b132 C hB hd hr hk5 _ _ _ _ _ _ _ _ h)
      exact (And.intro rfl (And.intro rfl (And.intro rfl (And.intro rfl (And.intro rfl trivial)))))
    · replace h := h.2 c9
      refine y_aload_n C 0 rfl rfl dX2_meets_32 ?_
      refine y_get (ci := 2) (k := 8) C in_X2 rfl (by decide) q1177 (fun _ h => h) mM_0 rfl dX2_meets_33 ?_
      refine y_iload C 4 rfl dX2_meets_36 ?_
      obtain ⟨i9, h⟩ := h
      refine y_iald C (mM_3 hd) i9 dX2_meets_38 ?_
      refine y_iload_n C 1 rfl rfl dX2_meets_39 ?_
      refine y_icmp_ne C 132 dX2_meets_40 (by decide) (fun c9 => ?_) (fun c9 => ?_)
      · replace h := h.1 c9
        refine y_to C _ ?_ (okX2_meets_b132 C hB hd hr hk5 _ _ _ _ _ _ _ _ h)
        exact (And.intro rfl (And.intro rfl (And.intro rfl (And.intro rfl (And.intro rfl trivial)))))
      · replace h := h.2 c9
        refine y_aload_n C 0 rfl rfl dX2_meets_43 ?_
        refine y_get (ci := 2) (k := 13) C in_X2 rfl (by decide) q1182 (fun _ h => h) mM_0 rfl dX2_meets_44 ?_
        refine y_aload_n C 0 rfl rfl dX2_meets_47 ?_
        refine y_get (ci := 2) (k := 8) C in_X2 rfl (by decide) q1177 (fun _ h => h) mM_0 rfl dX2_meets_48 ?_
        refine y_iload C 5 rfl dX2_meets_51 ?_
        obtain ⟨i9, h⟩ := h
        refine y_iald C (mM_3 hd) i9 dX2_meets_53 ?_
        obtain ⟨i9, h⟩ := h
        refine y_zald C (mM_8 hd) i9 dX2_meets_54 ?_
        refine y_if_eq C 78 dX2_meets_55 (by decide) (fun c9 => ?_) (fun c9 => ?_)
        · replace h := h.1 c9
          refine y_to C _ ?_ (okX2_meets_b78 C hB hd hr hk5 ih _ _ _ _ _ _ _ _ _ h)
          exact (And.intro rfl (And.intro rfl (And.intro rfl (And.intro rfl (And.intro rfl (And.intro rfl trivial))))))
        · replace h := h.2 c9
          refine y_aload_n C 0 rfl rfl dX2_meets_58 ?_
          refine y_get (ci := 2) (k := 12) C in_X2 rfl (by decide) q1181 (fun _ h => h) mM_0 rfl dX2_meets_59 ?_
          refine y_aload_n C 0 rfl rfl dX2_meets_62 ?_
          refine y_get (ci := 2) (k := 8) C in_X2 rfl (by decide) q1177 (fun _ h => h) mM_0 rfl dX2_meets_63 ?_
          refine y_iload C 5 rfl dX2_meets_66 ?_
          obtain ⟨i9, h⟩ := h
          refine y_iald C (mM_3 hd) i9 dX2_meets_68 ?_
          obtain ⟨i9, h⟩ := h
          refine y_iald C (mM_7 hd) i9 dX2_meets_69 ?_
          refine y_iload_n C 2 rfl rfl dX2_meets_70 ?_
          refine y_icmp_ne C 78 dX2_meets_71 (by decide) (fun c9 => ?_) (fun c9 => ?_)
          · replace h := h.1 c9
            refine y_to C _ ?_ (okX2_meets_b78 C hB hd hr hk5 ih _ _ _ _ _ _ _ _ _ h)
            exact (And.intro rfl (And.intro rfl (And.intro rfl (And.intro rfl (And.intro rfl (And.intro rfl trivial))))))
          · replace h := h.2 c9
            refine y_iconst C 1 dX2_meets_74 lit1 ?_
            refine y_goto C 79 dX2_meets_75 (by decide) ?_
            refine y_to C _ ?_ (okX2_meets_b79 C hB hd hr hk5 ih _ _ _ _ _ _ _ _ _ _ h)
            exact (And.intro rfl (And.intro rfl (And.intro rfl (And.intro rfl (And.intro rfl (And.intro rfl trivial))))))
def wpX2_meets_b5 (post : Int32 → Prop) : Nat → (Nat → Int32) → (Nat → Int32) → (Nat → Int32) → (Nat → Int32) → Int32 → Int32 → Int32 → Int32 → Prop
  | 0, _, _, _, _, _, _, _, _ => False
  | nn + 1, c_pg, c_un, c_ln, c_ip, v1, v2, v3, v4 => vp_in 13 1120 ∧ (((c_pg (Int32.toNatClampNeg 13)) ≤ v4 → ((v3 = 0 ∨ v3 = 1) ∧ post v3)) ∧ (¬ (c_pg (Int32.toNatClampNeg 13)) ≤ v4 → ∃ nf9 : Nat, wpX2_meets_b20 post (fun c_pg c_un c_ln c_ip v1 v2 v3 v4 => wpX2_meets_b5 post nn c_pg c_un c_ln c_ip v1 v2 v3 v4) nf9 c_pg c_un c_ln c_ip v1 v2 v3 v4 0))
theorem okX2_meets_b5 (C : yC p { frames := 7, cells := 0, slots := 0, locals := 192 } s m args meth c cX2_meets 7 RX2 D s0 a0 A) (hB : yB D s0 a0) (hd : yAd ad) (hr : meth.sig.returnType = (some .boolean)) {post : Int32 → Prop}  : ∀ (nn : Nat) (c_pg : Nat → Int32) (c_un : Nat → Int32) (c_ln : Nat → Int32) (c_ip : Nat → Int32) (v1 : Int32) (v2 : Int32) (v3 : Int32) (v4 : Int32), wpX2_meets_b5 post nn c_pg c_un c_ln c_ip v1 v2 v3 v4 → Y p l e { frames := 7, cells := 0, slots := 0, locals := 192 } s m args below meth c (MQ below (yQi D s0 A (fun r M1 => M1 = mM ad c_pg c_bm c_tx c_ty c_ft c_fa c_sp c_nu c_un c_sf c_st c_ll c_ln c_ip c_gr c_hs ∧ post r)) args s 0 0 A) D s0 A 7 (mM ad c_pg c_bm c_tx c_ty c_ft c_fa c_sp c_nu c_un c_sf c_st c_ll c_ln c_ip c_gr c_hs) 0 0 [some (yr (some (ad 0))), some (yi v1), some (yi v2), some (yi v3), some (yi v4), none, none] 5 [] := by
  intro nn
  induction nn with
  | zero => intro c_pg c_un c_ln c_ip v1 v2 v3 v4 h; exact absurd h (by rw [wpX2_meets_b5]; exact id)
  | succ nn ih =>
    intro c_pg c_un c_ln c_ip v1 v2 v3 v4 h
    rw [wpX2_meets_b5] at h
    refine y_iload C 4 rfl dX2_meets_5 ?_
    refine y_aload_n C 0 rfl rfl dX2_meets_7 ?_
    refine y_get (ci := 2) (k := 0) C in_X2 rfl (by decide) q1169 (fun _ h => h) mM_0 rfl dX2_meets_8 ?_
    refine y_bipush C 13 dX2_meets_11 y_b13 ?_
    obtain ⟨i9, h⟩ := h
    refine y_iald C (mM_1 hd) i9 dX2_meets_13 ?_
    refine y_icmp_ge C 138 dX2_meets_14 (by decide) (fun c9 => ?_) (fun c9 => ?_)
    · replace h := h.1 c9
      refine y_iload_n C 3 rfl rfl dX2_meets_138 ?_
      obtain ⟨z9, h⟩ := h
      exact y_iretz C hr rfl rfl z9 ⟨rfl, h⟩ dX2_meets_139
    · replace h := h.2 c9
      refine y_iconst C 0 dX2_meets_17 lit0 ?_
      refine y_istore C 5 (by decide) dX2_meets_18 ?_
      obtain ⟨nf9, h⟩ := h
      refine y_to C _ ?_ (okX2_meets_b20 C hB hd hr ih nf9 _ _ _ _ _ _ _ _ _ h)
      exact (And.intro rfl (And.intro rfl (And.intro rfl (And.intro rfl (And.intro rfl (And.intro rfl trivial))))))
end sX2_meets
def wpX2_meets (c_pg : Nat → Int32) (c_un : Nat → Int32) (c_ln : Nat → Int32) (c_ip : Nat → Int32) (a1 : Int32) (a2 : Int32) (post : Int32 → Prop) : Prop := ∃ nf9 : Nat, wpX2_meets_b5 post nf9 c_pg c_un c_ln c_ip a1 a2 0 0
theorem metX2_meets {l : Launch} {D : va_G} {s0 : State} {a0 : Array Value} {ad : Nat → Nat} (hd : yAd ad) (hB : yB D s0 a0) {c_pg : Nat → Int32} {c_bm : Int32} {c_tx : Nat → Int32} {c_ty : Int32} {c_ft : Int32} {c_fa : Int32} {c_sp : Int32} {c_nu : Int32} {c_un : Nat → Int32} {c_sf : Nat → Int32} {c_st : Nat → Int32} {c_ll : Nat → Int32} {c_ln : Nat → Int32} {c_ip : Nat → Int32} {c_gr : Nat → Int32} {c_hs : Int64} {a1 : Int32} {a2 : Int32} {post : Int32 → Prop} (h : wpX2_meets c_pg c_un c_ln c_ip a1 a2 post) : yMi l yX2_meets (ws_ yX2_meets cX2_meets 7 (some .boolean)) 7 192 0 0 D s0 [yr (some (ad 0)), yi a1, yi a2] (mM ad c_pg c_bm c_tx c_ty c_ft c_fa c_sp c_nu c_un c_sf c_st c_ll c_ln c_ip c_gr c_hs) (fun r M1 => M1 = mM ad c_pg c_bm c_tx c_ty c_ft c_fa c_sp c_nu c_un c_sf c_st c_ll c_ln c_ip c_gr c_hs ∧ post r) := by
  refine y_meti hB (by decide) rfl (Nat.le_of_ble_eq_true rfl) ?_
  intro p e s m below meth c A hr hnm C
  rw [wpX2_meets] at h
  refine y_iconst C 0 dX2_meets_0 lit0 ?_
  refine y_istore_n C 3 rfl (by decide) dX2_meets_1 ?_
  refine y_iconst C 0 dX2_meets_2 lit0 ?_
  refine y_istore C 4 (by decide) dX2_meets_3 ?_
  obtain ⟨nf9, h⟩ := h
  refine y_to C _ ?_ (okX2_meets_b5 C hB hd hr  nf9 _ _ _ _ _ _ _ _ h)
  exact (And.intro rfl (And.intro rfl (And.intro rfl (And.intro rfl (And.intro rfl trivial)))))
theorem kdX2_meets : yX2_meets.cls = RX2 ∧ yX2_meets.cls ≠ "java/lang/invoke/MethodHandle" ∧ yX2_meets.cls ≠ "java/lang/invoke/VarHandle" ∧ (parseMethodDescriptor yX2_meets.desc).map (fun d => d.parameters.length) = some 2 := by decide +kernel
section sX2_laysLanes
variable {p : Program} {l : Launch} {e : Env} {s : State} {m : MethodId} {args : Array Value} {below : List Frame} {meth : Method} {c : Code} {D : va_G} {s0 : State} {a0 : Array Value} {A : Nat → Prop} {ad : Nat → Nat} {c_pg : Nat → Int32} {c_bm : Int32} {c_tx : Nat → Int32} {c_ty : Int32} {c_ft : Int32} {c_fa : Int32} {c_sp : Int32} {c_nu : Int32} {c_un : Nat → Int32} {c_sf : Nat → Int32} {c_st : Nat → Int32} {c_ll : Nat → Int32} {c_ln : Nat → Int32} {c_ip : Nat → Int32} {c_gr : Nat → Int32} {c_hs : Int64}
def wpX2_laysLanes_b91 (post : (Nat → Int32) → (Nat → Int32) → (Nat → Int32) → (Nat → Int32) → (Nat → Int32) → (Nat → Int32) → Prop) (k9 : (Nat → Int32) → (Nat → Int32) → (Nat → Int32) → (Nat → Int32) → (Nat → Int32) → (Nat → Int32) → (Nat → Int32) → Int32 → Prop) : Nat → (Nat → Int32) → (Nat → Int32) → (Nat → Int32) → (Nat → Int32) → (Nat → Int32) → (Nat → Int32) → (Nat → Int32) → Int32 → Int32 → Prop
  | 0, _, _, _, _, _, _, _, _, _ => False
  | nn + 1, c_pg, c_un, c_sf, c_st, c_ll, c_ln, c_ip, v1, v2 => wpX2_meets c_pg c_un c_ln c_ip v1 v2 (fun r8 => ((r8 = 0 → vp_in v1 16 ∧ ∀ f9 : Nat → Int32, f9 = upd c_ln (Int32.toNatClampNeg v1) v2 → vp_in v1 16 ∧ ∀ f10 : Nat → Int32, f10 = upd c_ip (Int32.toNatClampNeg v1) (vp_nar .boolean 1) → wpX2_nextUnit c_pg c_un c_sf c_st f10 (fun r11 => k9 c_pg c_un c_sf c_st c_ll f9 f10 r11)) ∧ (¬ r8 = 0 → ∀ x12 : Int32, x12 = v2 + 1 → wpX2_laysLanes_b91 post k9 nn c_pg c_un c_sf c_st c_ll c_ln c_ip v1 x12)))
theorem okX2_laysLanes_b91 (C : yC p { frames := 8, cells := 0, slots := 0, locals := 218 } s m args meth c cX2_laysLanes 4 RX2 D s0 a0 A) (hB : yB D s0 a0) (hd : yAd ad) (hr : meth.sig.returnType = none) {post : (Nat → Int32) → (Nat → Int32) → (Nat → Int32) → (Nat → Int32) → (Nat → Int32) → (Nat → Int32) → Prop} {k9 : (Nat → Int32) → (Nat → Int32) → (Nat → Int32) → (Nat → Int32) → (Nat → Int32) → (Nat → Int32) → (Nat → Int32) → Int32 → Prop} (hk9 : ∀ (c_pg : Nat → Int32) (c_un : Nat → Int32) (c_sf : Nat → Int32) (c_st : Nat → Int32) (c_ll : Nat → Int32) (c_ln : Nat → Int32) (c_ip : Nat → Int32) (v1 : Int32), k9 c_pg c_un c_sf c_st c_ll c_ln c_ip v1 → Y p l e { frames := 8, cells := 0, slots := 0, locals := 218 } s m args below meth c (MQ below (yQv D s0 A (fun M1 => ∃ (w_un : Nat → Int32) (w_sf : Nat → Int32) (w_st : Nat → Int32) (w_ll : Nat → Int32) (w_ln : Nat → Int32) (w_ip : Nat → Int32), M1 = mM ad c_pg c_bm c_tx c_ty c_ft c_fa c_sp c_nu w_un w_sf w_st w_ll w_ln w_ip c_gr c_hs ∧ post w_un w_sf w_st w_ll w_ln w_ip)) args s 0 0 A) D s0 A 4 (mM ad c_pg c_bm c_tx c_ty c_ft c_fa c_sp c_nu c_un c_sf c_st c_ll c_ln c_ip c_gr c_hs) 0 0 [some (yr (some (ad 0))), some (yi v1), none, none] 9 []) : ∀ (nn : Nat) (c_pg : Nat → Int32) (c_un : Nat → Int32) (c_sf : Nat → Int32) (c_st : Nat → Int32) (c_ll : Nat → Int32) (c_ln : Nat → Int32) (c_ip : Nat → Int32) (v1 : Int32) (v2 : Int32), wpX2_laysLanes_b91 post k9 nn c_pg c_un c_sf c_st c_ll c_ln c_ip v1 v2 → Y p l e { frames := 8, cells := 0, slots := 0, locals := 218 } s m args below meth c (MQ below (yQv D s0 A (fun M1 => ∃ (w_un : Nat → Int32) (w_sf : Nat → Int32) (w_st : Nat → Int32) (w_ll : Nat → Int32) (w_ln : Nat → Int32) (w_ip : Nat → Int32), M1 = mM ad c_pg c_bm c_tx c_ty c_ft c_fa c_sp c_nu w_un w_sf w_st w_ll w_ln w_ip c_gr c_hs ∧ post w_un w_sf w_st w_ll w_ln w_ip)) args s 0 0 A) D s0 A 4 (mM ad c_pg c_bm c_tx c_ty c_ft c_fa c_sp c_nu c_un c_sf c_st c_ll c_ln c_ip c_gr c_hs) 0 0 [some (yr (some (ad 0))), some (yi v1), some (yi v2), none] 91 [] := by
  intro nn
  induction nn with
  | zero => intro c_pg c_un c_sf c_st c_ll c_ln c_ip v1 v2 h; exact absurd h (by rw [wpX2_laysLanes_b91]; exact id)
  | succ nn ih =>
    intro c_pg c_un c_sf c_st c_ll c_ln c_ip v1 v2 h
    rw [wpX2_laysLanes_b91] at h
    refine y_aload_n C 0 rfl rfl dX2_laysLanes_91 ?_
    refine y_iload_n C 1 rfl rfl dX2_laysLanes_92 ?_
    refine y_iload_n C 2 rfl rfl dX2_laysLanes_93 ?_
    refine y_callVi0 C (metX2_meets hd hB h) (cwV 2 C.hts (lw_V q1443 q1445 qs62 q91 q1446) rfl rfl rfl kdX2_meets ⟨Nat.le_of_ble_eq_true rfl, Nat.le_of_ble_eq_true rfl⟩) mM_0 rfl rfl rfl (Nat.le_of_ble_eq_true rfl) dX2_laysLanes_94 (fun r8 M1 hp => ?_)
    clear h
    obtain ⟨rfl, h⟩ := hp
    refine y_if_eq C 106 dX2_laysLanes_97 (by decide) (fun c9 => ?_) (fun c9 => ?_)
    · replace h := h.1 c9
      refine y_aload_n C 0 rfl rfl dX2_laysLanes_106 ?_
      refine y_get (ci := 2) (k := 12) C in_X2 rfl (by decide) q1181 (fun _ h => h) mM_0 rfl dX2_laysLanes_107 ?_
      refine y_iload_n C 1 rfl rfl dX2_laysLanes_110 ?_
      refine y_iload_n C 2 rfl rfl dX2_laysLanes_111 ?_
      obtain ⟨i9, h⟩ := h
      replace h := h _ rfl
      refine y_iast C (mM_7 hd) i9 (mU_ln hd _) dX2_laysLanes_112 ?_
      refine y_aload_n C 0 rfl rfl dX2_laysLanes_113 ?_
      refine y_get (ci := 2) (k := 13) C in_X2 rfl (by decide) q1182 (fun _ h => h) mM_0 rfl dX2_laysLanes_114 ?_
      refine y_iload_n C 1 rfl rfl dX2_laysLanes_117 ?_
      refine y_iconst C 1 dX2_laysLanes_118 lit1 ?_
      obtain ⟨i9, h⟩ := h
      replace h := h _ rfl
      refine y_zast C (mM_8 hd) i9 (mU_ip hd _) dX2_laysLanes_119 ?_
      refine y_aload_n C 0 rfl rfl dX2_laysLanes_120 ?_
      refine y_callVi0 C (metX2_nextUnit hd hB h) (cwV 0 C.hts (lw_V q1427 q1429 qs58 q91 q1430) rfl rfl rfl kdX2_nextUnit ⟨Nat.le_of_ble_eq_true rfl, Nat.le_of_ble_eq_true rfl⟩) mM_0 rfl rfl rfl (Nat.le_of_ble_eq_true rfl) dX2_laysLanes_121 (fun r11 M1 hp => ?_)
      clear h
      obtain ⟨rfl, h⟩ := hp
      refine y_istore_n C 1 rfl (by decide) dX2_laysLanes_124 ?_
      refine y_goto C 9 dX2_laysLanes_125 (by decide) ?_
      refine y_to C _ ?_ (hk9 _ _ _ _ _ _ _ _ h)
      exact (And.intro rfl (And.intro rfl trivial))
    · replace h := h.2 c9
      replace h := h _ rfl
      refine y_iinc C 2 _ rfl (y_inc1 _) (by decide) dX2_laysLanes_100 ?_
      refine y_goto C 91 dX2_laysLanes_103 (by decide) ?_
      refine y_to C _ ?_ (ih _ _ _ _ _ _ _ _ _ h)
      exact (And.intro rfl (And.intro rfl (And.intro rfl trivial)))
def wpX2_laysLanes_b84 (post : (Nat → Int32) → (Nat → Int32) → (Nat → Int32) → (Nat → Int32) → (Nat → Int32) → (Nat → Int32) → Prop) (k9 : (Nat → Int32) → (Nat → Int32) → (Nat → Int32) → (Nat → Int32) → (Nat → Int32) → (Nat → Int32) → (Nat → Int32) → Int32 → Prop) (k25 : (Nat → Int32) → (Nat → Int32) → (Nat → Int32) → (Nat → Int32) → (Nat → Int32) → (Nat → Int32) → (Nat → Int32) → Int32 → Int32 → Int32 → Prop) (c_pg : Nat → Int32) (c_un : Nat → Int32) (c_sf : Nat → Int32) (c_st : Nat → Int32) (c_ll : Nat → Int32) (c_ln : Nat → Int32) (c_ip : Nat → Int32) (v1 : Int32) (v3 : Int32) (u0 : Int32) : Prop := ∀ x14 : Int32, x14 = v3 + 1 → k25 c_pg c_un c_sf c_st c_ll c_ln c_ip v1 u0 x14
theorem okX2_laysLanes_b84 (C : yC p { frames := 8, cells := 0, slots := 0, locals := 218 } s m args meth c cX2_laysLanes 4 RX2 D s0 a0 A) (hB : yB D s0 a0) (hd : yAd ad) (hr : meth.sig.returnType = none) {post : (Nat → Int32) → (Nat → Int32) → (Nat → Int32) → (Nat → Int32) → (Nat → Int32) → (Nat → Int32) → Prop} {k9 : (Nat → Int32) → (Nat → Int32) → (Nat → Int32) → (Nat → Int32) → (Nat → Int32) → (Nat → Int32) → (Nat → Int32) → Int32 → Prop} {k25 : (Nat → Int32) → (Nat → Int32) → (Nat → Int32) → (Nat → Int32) → (Nat → Int32) → (Nat → Int32) → (Nat → Int32) → Int32 → Int32 → Int32 → Prop} (hk9 : ∀ (c_pg : Nat → Int32) (c_un : Nat → Int32) (c_sf : Nat → Int32) (c_st : Nat → Int32) (c_ll : Nat → Int32) (c_ln : Nat → Int32) (c_ip : Nat → Int32) (v1 : Int32), k9 c_pg c_un c_sf c_st c_ll c_ln c_ip v1 → Y p l e { frames := 8, cells := 0, slots := 0, locals := 218 } s m args below meth c (MQ below (yQv D s0 A (fun M1 => ∃ (w_un : Nat → Int32) (w_sf : Nat → Int32) (w_st : Nat → Int32) (w_ll : Nat → Int32) (w_ln : Nat → Int32) (w_ip : Nat → Int32), M1 = mM ad c_pg c_bm c_tx c_ty c_ft c_fa c_sp c_nu w_un w_sf w_st w_ll w_ln w_ip c_gr c_hs ∧ post w_un w_sf w_st w_ll w_ln w_ip)) args s 0 0 A) D s0 A 4 (mM ad c_pg c_bm c_tx c_ty c_ft c_fa c_sp c_nu c_un c_sf c_st c_ll c_ln c_ip c_gr c_hs) 0 0 [some (yr (some (ad 0))), some (yi v1), none, none] 9 []) (hk25 : ∀ (c_pg : Nat → Int32) (c_un : Nat → Int32) (c_sf : Nat → Int32) (c_st : Nat → Int32) (c_ll : Nat → Int32) (c_ln : Nat → Int32) (c_ip : Nat → Int32) (v1 : Int32) (v2 : Int32) (v3 : Int32), k25 c_pg c_un c_sf c_st c_ll c_ln c_ip v1 v2 v3 → Y p l e { frames := 8, cells := 0, slots := 0, locals := 218 } s m args below meth c (MQ below (yQv D s0 A (fun M1 => ∃ (w_un : Nat → Int32) (w_sf : Nat → Int32) (w_st : Nat → Int32) (w_ll : Nat → Int32) (w_ln : Nat → Int32) (w_ip : Nat → Int32), M1 = mM ad c_pg c_bm c_tx c_ty c_ft c_fa c_sp c_nu w_un w_sf w_st w_ll w_ln w_ip c_gr c_hs ∧ post w_un w_sf w_st w_ll w_ln w_ip)) args s 0 0 A) D s0 A 4 (mM ad c_pg c_bm c_tx c_ty c_ft c_fa c_sp c_nu c_un c_sf c_st c_ll c_ln c_ip c_gr c_hs) 0 0 [some (yr (some (ad 0))), some (yi v1), some (yi v2), some (yi v3)] 25 []) : ∀ (c_pg : Nat → Int32) (c_un : Nat → Int32) (c_sf : Nat → Int32) (c_st : Nat → Int32) (c_ll : Nat → Int32) (c_ln : Nat → Int32) (c_ip : Nat → Int32) (v1 : Int32) (v3 : Int32) (u0 : Int32), wpX2_laysLanes_b84 post k9 k25 c_pg c_un c_sf c_st c_ll c_ln c_ip v1 v3 u0 → Y p l e { frames := 8, cells := 0, slots := 0, locals := 218 } s m args below meth c (MQ below (yQv D s0 A (fun M1 => ∃ (w_un : Nat → Int32) (w_sf : Nat → Int32) (w_st : Nat → Int32) (w_ll : Nat → Int32) (w_ln : Nat → Int32) (w_ip : Nat → Int32), M1 = mM ad c_pg c_bm c_tx c_ty c_ft c_fa c_sp c_nu w_un w_sf w_st w_ll w_ln w_ip c_gr c_hs ∧ post w_un w_sf w_st w_ll w_ln w_ip)) args s 0 0 A) D s0 A 4 (mM ad c_pg c_bm c_tx c_ty c_ft c_fa c_sp c_nu c_un c_sf c_st c_ll c_ln c_ip c_gr c_hs) 0 0 [some (yr (some (ad 0))), some (yi v1), none, some (yi v3)] 84 [yi u0] := by
  intro c_pg c_un c_sf c_st c_ll c_ln c_ip v1 v3 u0 h
  rw [wpX2_laysLanes_b84] at h
  refine y_istore_n C 2 rfl (by decide) dX2_laysLanes_84 ?_
  replace h := h _ rfl
  refine y_iinc C 3 _ rfl (y_inc1 _) (by decide) dX2_laysLanes_85 ?_
  refine y_goto C 25 dX2_laysLanes_88 (by decide) ?_
  refine y_to C _ ?_ (hk25 _ _ _ _ _ _ _ _ _ _ h)
  exact (And.intro rfl (And.intro rfl (And.intro rfl (And.intro rfl trivial))))
def wpX2_laysLanes_b83 (post : (Nat → Int32) → (Nat → Int32) → (Nat → Int32) → (Nat → Int32) → (Nat → Int32) → (Nat → Int32) → Prop) (k9 : (Nat → Int32) → (Nat → Int32) → (Nat → Int32) → (Nat → Int32) → (Nat → Int32) → (Nat → Int32) → (Nat → Int32) → Int32 → Prop) (k25 : (Nat → Int32) → (Nat → Int32) → (Nat → Int32) → (Nat → Int32) → (Nat → Int32) → (Nat → Int32) → (Nat → Int32) → Int32 → Int32 → Int32 → Prop) (c_pg : Nat → Int32) (c_un : Nat → Int32) (c_sf : Nat → Int32) (c_st : Nat → Int32) (c_ll : Nat → Int32) (c_ln : Nat → Int32) (c_ip : Nat → Int32) (v1 : Int32) (v2 : Int32) (v3 : Int32) : Prop := wpX2_laysLanes_b84 post k9 k25 c_pg c_un c_sf c_st c_ll c_ln c_ip v1 v3 v2
theorem okX2_laysLanes_b83 (C : yC p { frames := 8, cells := 0, slots := 0, locals := 218 } s m args meth c cX2_laysLanes 4 RX2 D s0 a0 A) (hB : yB D s0 a0) (hd : yAd ad) (hr : meth.sig.returnType = none) {post : (Nat → Int32) → (Nat → Int32) → (Nat → Int32) → (Nat → Int32) → (Nat → Int32) → (Nat → Int32) → Prop} {k9 : (Nat → Int32) → (Nat → Int32) → (Nat → Int32) → (Nat → Int32) → (Nat → Int32) → (Nat → Int32) → (Nat → Int32) → Int32 → Prop} {k25 : (Nat → Int32) → (Nat → Int32) → (Nat → Int32) → (Nat → Int32) → (Nat → Int32) → (Nat → Int32) → (Nat → Int32) → Int32 → Int32 → Int32 → Prop} (hk9 : ∀ (c_pg : Nat → Int32) (c_un : Nat → Int32) (c_sf : Nat → Int32) (c_st : Nat → Int32) (c_ll : Nat → Int32) (c_ln : Nat → Int32) (c_ip : Nat → Int32) (v1 : Int32), k9 c_pg c_un c_sf c_st c_ll c_ln c_ip v1 → Y p l e { frames := 8, cells := 0, slots := 0, locals := 218 } s m args below meth c (MQ below (yQv D s0 A (fun M1 => ∃ (w_un : Nat → Int32) (w_sf : Nat → Int32) (w_st : Nat → Int32) (w_ll : Nat → Int32) (w_ln : Nat → Int32) (w_ip : Nat → Int32), M1 = mM ad c_pg c_bm c_tx c_ty c_ft c_fa c_sp c_nu w_un w_sf w_st w_ll w_ln w_ip c_gr c_hs ∧ post w_un w_sf w_st w_ll w_ln w_ip)) args s 0 0 A) D s0 A 4 (mM ad c_pg c_bm c_tx c_ty c_ft c_fa c_sp c_nu c_un c_sf c_st c_ll c_ln c_ip c_gr c_hs) 0 0 [some (yr (some (ad 0))), some (yi v1), none, none] 9 []) (hk25 : ∀ (c_pg : Nat → Int32) (c_un : Nat → Int32) (c_sf : Nat → Int32) (c_st : Nat → Int32) (c_ll : Nat → Int32) (c_ln : Nat → Int32) (c_ip : Nat → Int32) (v1 : Int32) (v2 : Int32) (v3 : Int32), k25 c_pg c_un c_sf c_st c_ll c_ln c_ip v1 v2 v3 → Y p l e { frames := 8, cells := 0, slots := 0, locals := 218 } s m args below meth c (MQ below (yQv D s0 A (fun M1 => ∃ (w_un : Nat → Int32) (w_sf : Nat → Int32) (w_st : Nat → Int32) (w_ll : Nat → Int32) (w_ln : Nat → Int32) (w_ip : Nat → Int32), M1 = mM ad c_pg c_bm c_tx c_ty c_ft c_fa c_sp c_nu w_un w_sf w_st w_ll w_ln w_ip c_gr c_hs ∧ post w_un w_sf w_st w_ll w_ln w_ip)) args s 0 0 A) D s0 A 4 (mM ad c_pg c_bm c_tx c_ty c_ft c_fa c_sp c_nu c_un c_sf c_st c_ll c_ln c_ip c_gr c_hs) 0 0 [some (yr (some (ad 0))), some (yi v1), some (yi v2), some (yi v3)] 25 []) : ∀ (c_pg : Nat → Int32) (c_un : Nat → Int32) (c_sf : Nat → Int32) (c_st : Nat → Int32) (c_ll : Nat → Int32) (c_ln : Nat → Int32) (c_ip : Nat → Int32) (v1 : Int32) (v2 : Int32) (v3 : Int32), wpX2_laysLanes_b83 post k9 k25 c_pg c_un c_sf c_st c_ll c_ln c_ip v1 v2 v3 → Y p l e { frames := 8, cells := 0, slots := 0, locals := 218 } s m args below meth c (MQ below (yQv D s0 A (fun M1 => ∃ (w_un : Nat → Int32) (w_sf : Nat → Int32) (w_st : Nat → Int32) (w_ll : Nat → Int32) (w_ln : Nat → Int32) (w_ip : Nat → Int32), M1 = mM ad c_pg c_bm c_tx c_ty c_ft c_fa c_sp c_nu w_un w_sf w_st w_ll w_ln w_ip c_gr c_hs ∧ post w_un w_sf w_st w_ll w_ln w_ip)) args s 0 0 A) D s0 A 4 (mM ad c_pg c_bm c_tx c_ty c_ft c_fa c_sp c_nu c_un c_sf c_st c_ll c_ln c_ip c_gr c_hs) 0 0 [some (yr (some (ad 0))), some (yi v1), some (yi v2), some (yi v3)] 83 [] := by
  intro c_pg c_un c_sf c_st c_ll c_ln c_ip v1 v2 v3 h
  rw [wpX2_laysLanes_b83] at h
  refine y_iload_n C 2 rfl rfl dX2_laysLanes_83 ?_
  refine y_to C _ ?_ (okX2_laysLanes_b84 C hB hd hr hk9 hk25 _ _ _ _ _ _ _ _ _ _ h)
  exact (And.intro rfl (And.intro rfl (And.intro rfl trivial)))
def wpX2_laysLanes_b25 (post : (Nat → Int32) → (Nat → Int32) → (Nat → Int32) → (Nat → Int32) → (Nat → Int32) → (Nat → Int32) → Prop) (k9 : (Nat → Int32) → (Nat → Int32) → (Nat → Int32) → (Nat → Int32) → (Nat → Int32) → (Nat → Int32) → (Nat → Int32) → Int32 → Prop) : Nat → (Nat → Int32) → (Nat → Int32) → (Nat → Int32) → (Nat → Int32) → (Nat → Int32) → (Nat → Int32) → (Nat → Int32) → Int32 → Int32 → Int32 → Prop
  | 0, _, _, _, _, _, _, _, _, _, _ => False
  | nn + 1, c_pg, c_un, c_sf, c_st, c_ll, c_ln, c_ip, v1, v2, v3 => vp_in 13 1120 ∧ (((c_pg (Int32.toNatClampNeg 13)) ≤ v3 → ∃ nf9 : Nat, wpX2_laysLanes_b91 post k9 nf9 c_pg c_un c_sf c_st c_ll c_ln c_ip v1 v2) ∧ (¬ (c_pg (Int32.toNatClampNeg 13)) ≤ v3 → wpX2_isUnit c_un v3 (fun r13 => ((r13 = 0 → wpX2_laysLanes_b83 post k9 (fun c_pg c_un c_sf c_st c_ll c_ln c_ip v1 v2 v3 => wpX2_laysLanes_b25 post k9 nn c_pg c_un c_sf c_st c_ll c_ln c_ip v1 v2 v3) c_pg c_un c_sf c_st c_ll c_ln c_ip v1 v2 v3) ∧ (¬ r13 = 0 → vp_in v3 16 ∧ (((c_ip (Int32.toNatClampNeg v3)) = 0 → wpX2_laysLanes_b83 post k9 (fun c_pg c_un c_sf c_st c_ll c_ln c_ip v1 v2 v3 => wpX2_laysLanes_b25 post k9 nn c_pg c_un c_sf c_st c_ll c_ln c_ip v1 v2 v3) c_pg c_un c_sf c_st c_ll c_ln c_ip v1 v2 v3) ∧ (¬ (c_ip (Int32.toNatClampNeg v3)) = 0 → wpX2_covers c_sf c_st v1 v3 (fun r15 => ((r15 = 0 → wpX2_laysLanes_b83 post k9 (fun c_pg c_un c_sf c_st c_ll c_ln c_ip v1 v2 v3 => wpX2_laysLanes_b25 post k9 nn c_pg c_un c_sf c_st c_ll c_ln c_ip v1 v2 v3) c_pg c_un c_sf c_st c_ll c_ln c_ip v1 v2 v3) ∧ (¬ r15 = 0 → vp_in v3 16 ∧ (((c_ln (Int32.toNatClampNeg v3)) < v2 → wpX2_laysLanes_b83 post k9 (fun c_pg c_un c_sf c_st c_ll c_ln c_ip v1 v2 v3 => wpX2_laysLanes_b25 post k9 nn c_pg c_un c_sf c_st c_ll c_ln c_ip v1 v2 v3) c_pg c_un c_sf c_st c_ll c_ln c_ip v1 v2 v3) ∧ (¬ (c_ln (Int32.toNatClampNeg v3)) < v2 → vp_in v3 16 ∧ wpX2_laysLanes_b84 post k9 (fun c_pg c_un c_sf c_st c_ll c_ln c_ip v1 v2 v3 => wpX2_laysLanes_b25 post k9 nn c_pg c_un c_sf c_st c_ll c_ln c_ip v1 v2 v3) c_pg c_un c_sf c_st c_ll c_ln c_ip v1 v3 ((c_ln (Int32.toNatClampNeg v3)) + 1)))))))))))))
theorem okX2_laysLanes_b25 (C : yC p { frames := 8, cells := 0, slots := 0, locals := 218 } s m args meth c cX2_laysLanes 4 RX2 D s0 a0 A) (hB : yB D s0 a0) (hd : yAd ad) (hr : meth.sig.returnType = none) {post : (Nat → Int32) → (Nat → Int32) → (Nat → Int32) → (Nat → Int32) → (Nat → Int32) → (Nat → Int32) → Prop} {k9 : (Nat → Int32) → (Nat → Int32) → (Nat → Int32) → (Nat → Int32) → (Nat → Int32) → (Nat → Int32) → (Nat → Int32) → Int32 → Prop} (hk9 : ∀ (c_pg : Nat → Int32) (c_un : Nat → Int32) (c_sf : Nat → Int32) (c_st : Nat → Int32) (c_ll : Nat → Int32) (c_ln : Nat → Int32) (c_ip : Nat → Int32) (v1 : Int32), k9 c_pg c_un c_sf c_st c_ll c_ln c_ip v1 → Y p l e { frames := 8, cells := 0, slots := 0, locals := 218 } s m args below meth c (MQ below (yQv D s0 A (fun M1 => ∃ (w_un : Nat → Int32) (w_sf : Nat → Int32) (w_st : Nat → Int32) (w_ll : Nat → Int32) (w_ln : Nat → Int32) (w_ip : Nat → Int32), M1 = mM ad c_pg c_bm c_tx c_ty c_ft c_fa c_sp c_nu w_un w_sf w_st w_ll w_ln w_ip c_gr c_hs ∧ post w_un w_sf w_st w_ll w_ln w_ip)) args s 0 0 A) D s0 A 4 (mM ad c_pg c_bm c_tx c_ty c_ft c_fa c_sp c_nu c_un c_sf c_st c_ll c_ln c_ip c_gr c_hs) 0 0 [some (yr (some (ad 0))), some (yi v1), none, none] 9 []) : ∀ (nn : Nat) (c_pg : Nat → Int32) (c_un : Nat → Int32) (c_sf : Nat → Int32) (c_st : Nat → Int32) (c_ll : Nat → Int32) (c_ln : Nat → Int32) (c_ip : Nat → Int32) (v1 : Int32) (v2 : Int32) (v3 : Int32), wpX2_laysLanes_b25 post k9 nn c_pg c_un c_sf c_st c_ll c_ln c_ip v1 v2 v3 → Y p l e { frames := 8, cells := 0, slots := 0, locals := 218 } s m args below meth c (MQ below (yQv D s0 A (fun M1 => ∃ (w_un : Nat → Int32) (w_sf : Nat → Int32) (w_st : Nat → Int32) (w_ll : Nat → Int32) (w_ln : Nat → Int32) (w_ip : Nat → Int32), M1 = mM ad c_pg c_bm c_tx c_ty c_ft c_fa c_sp c_nu w_un w_sf w_st w_ll w_ln w_ip c_gr c_hs ∧ post w_un w_sf w_st w_ll w_ln w_ip)) args s 0 0 A) D s0 A 4 (mM ad c_pg c_bm c_tx c_ty c_ft c_fa c_sp c_nu c_un c_sf c_st c_ll c_ln c_ip c_gr c_hs) 0 0 [some (yr (some (ad 0))), some (yi v1), some (yi v2), some (yi v3)] 25 [] := by
  intro nn
  induction nn with
  | zero => intro c_pg c_un c_sf c_st c_ll c_ln c_ip v1 v2 v3 h; exact absurd h (by rw [wpX2_laysLanes_b25]; exact id)
  | succ nn ih =>
    intro c_pg c_un c_sf c_st c_ll c_ln c_ip v1 v2 v3 h
    rw [wpX2_laysLanes_b25] at h
    refine y_iload_n C 3 rfl rfl dX2_laysLanes_25 ?_
    refine y_aload_n C 0 rfl rfl dX2_laysLanes_26 ?_
    refine y_get (ci := 2) (k := 0) C in_X2 rfl (by decide) q1169 (fun _ h => h) mM_0 rfl dX2_laysLanes_27 ?_
    refine y_bipush C 13 dX2_laysLanes_30 y_b13 ?_
    obtain ⟨i9, h⟩ := h
    refine y_iald C (mM_1 hd) i9 dX2_laysLanes_32 ?_
    refine y_icmp_ge C 91 dX2_laysLanes_33 (by decide) (fun c9 => ?_) (fun c9 => ?_)
    · replace h := h.1 c9
      obtain ⟨nf9, h⟩ := h
      refine y_to C _ ?_ (okX2_laysLanes_b91 C hB hd hr hk9 nf9 _ _ _ _ _ _ _ _ _ h)
      exact (And.intro rfl (And.intro rfl (And.intro rfl trivial)))
    · replace h := h.2 c9
      refine y_aload_n C 0 rfl rfl dX2_laysLanes_36 ?_
      refine y_iload_n C 3 rfl rfl dX2_laysLanes_37 ?_
      refine y_callVi0 C (metX2_isUnit hd hB h) (cwV 1 C.hts (lw_V q1431 q1433 qs59 q91 q1434) rfl rfl rfl kdX2_isUnit ⟨Nat.le_of_ble_eq_true rfl, Nat.le_of_ble_eq_true rfl⟩) mM_0 rfl rfl rfl (Nat.le_of_ble_eq_true rfl) dX2_laysLanes_38 (fun r13 M1 hp => ?_)
      clear h
      obtain ⟨rfl, h⟩ := hp
      refine y_if_eq C 83 dX2_laysLanes_41 (by decide) (fun c9 => ?_) (fun c9 => ?_)
      · replace h := h.1 c9
        refine y_to C _ ?_ (okX2_laysLanes_b83 C hB hd hr hk9 ih _ _ _ _ _ _ _ _ _ _ h)
        exact (And.intro rfl (And.intro rfl (And.intro rfl (And.intro rfl trivial))))
      · replace h := h.2 c9
        refine y_aload_n C 0 rfl rfl dX2_laysLanes_44 ?_
        refine y_get (ci := 2) (k := 13) C in_X2 rfl (by decide) q1182 (fun _ h => h) mM_0 rfl dX2_laysLanes_45 ?_
        refine y_iload_n C 3 rfl rfl dX2_laysLanes_48 ?_
        obtain ⟨i9, h⟩ := h
        refine y_zald C (mM_8 hd) i9 dX2_laysLanes_49 ?_
        refine y_if_eq C 83 dX2_laysLanes_50 (by decide) (fun c9 => ?_) (fun c9 => ?_)
        · replace h := h.1 c9
          refine y_to C _ ?_ (okX2_laysLanes_b83 C hB hd hr hk9 ih _ _ _ _ _ _ _ _ _ _ h)
          exact (And.intro rfl (And.intro rfl (And.intro rfl (And.intro rfl trivial))))
        · replace h := h.2 c9
          refine y_aload_n C 0 rfl rfl dX2_laysLanes_53 ?_
          refine y_iload_n C 1 rfl rfl dX2_laysLanes_54 ?_
          refine y_iload_n C 3 rfl rfl dX2_laysLanes_55 ?_
          refine y_callVi0 C (metX2_covers hd hB h) (cwV 2 C.hts (lw_V q1439 q1441 qs61 q91 q1442) rfl rfl rfl kdX2_covers ⟨Nat.le_of_ble_eq_true rfl, Nat.le_of_ble_eq_true rfl⟩) mM_0 rfl rfl rfl (Nat.le_of_ble_eq_true rfl) dX2_laysLanes_56 (fun r15 M1 hp => ?_)
          clear h
          obtain ⟨rfl, h⟩ := hp
          refine y_if_eq C 83 dX2_laysLanes_59 (by decide) (fun c9 => ?_) (fun c9 => ?_)
          · replace h := h.1 c9
            refine y_to C _ ?_ (okX2_laysLanes_b83 C hB hd hr hk9 ih _ _ _ _ _ _ _ _ _ _ h)
            exact (And.intro rfl (And.intro rfl (And.intro rfl (And.intro rfl trivial))))
          · replace h := h.2 c9
            refine y_aload_n C 0 rfl rfl dX2_laysLanes_62 ?_
            refine y_get (ci := 2) (k := 12) C in_X2 rfl (by decide) q1181 (fun _ h => h) mM_0 rfl dX2_laysLanes_63 ?_
            refine y_iload_n C 3 rfl rfl dX2_laysLanes_66 ?_
            obtain ⟨i9, h⟩ := h
            refine y_iald C (mM_7 hd) i9 dX2_laysLanes_67 ?_
            refine y_iload_n C 2 rfl rfl dX2_laysLanes_68 ?_
            refine y_icmp_lt C 83 dX2_laysLanes_69 (by decide) (fun c9 => ?_) (fun c9 => ?_)
            · replace h := h.1 c9
              refine y_to C _ ?_ (okX2_laysLanes_b83 C hB hd hr hk9 ih _ _ _ _ _ _ _ _ _ _ h)
              exact (And.intro rfl (And.intro rfl (And.intro rfl (And.intro rfl trivial))))
            · replace h := h.2 c9
              refine y_aload_n C 0 rfl rfl dX2_laysLanes_72 ?_
              refine y_get (ci := 2) (k := 12) C in_X2 rfl (by decide) q1181 (fun _ h => h) mM_0 rfl dX2_laysLanes_73 ?_
              refine y_iload_n C 3 rfl rfl dX2_laysLanes_76 ?_
              obtain ⟨i9, h⟩ := h
              refine y_iald C (mM_7 hd) i9 dX2_laysLanes_77 ?_
              refine y_iconst C 1 dX2_laysLanes_78 lit1 ?_
              refine y_iadd C dX2_laysLanes_79 ?_
              refine y_goto C 84 dX2_laysLanes_80 (by decide) ?_
              refine y_to C _ ?_ (okX2_laysLanes_b84 C hB hd hr hk9 ih _ _ _ _ _ _ _ _ _ _ h)
              exact (And.intro rfl (And.intro rfl (And.intro rfl trivial)))
def wpX2_laysLanes_b9 (post : (Nat → Int32) → (Nat → Int32) → (Nat → Int32) → (Nat → Int32) → (Nat → Int32) → (Nat → Int32) → Prop) : Nat → (Nat → Int32) → (Nat → Int32) → (Nat → Int32) → (Nat → Int32) → (Nat → Int32) → (Nat → Int32) → (Nat → Int32) → Int32 → Prop
  | 0, _, _, _, _, _, _, _, _ => False
  | nn + 1, c_pg, c_un, c_sf, c_st, c_ll, c_ln, c_ip, v1 => ((v1 = (-999) → post c_un c_sf c_st c_ll c_ln c_ip) ∧ (¬ v1 = (-999) → vp_in v1 16 ∧ ∀ x7 : Int32, x7 = (c_ll (Int32.toNatClampNeg v1)) → ∃ nf9 : Nat, wpX2_laysLanes_b25 post (fun c_pg c_un c_sf c_st c_ll c_ln c_ip v1 => wpX2_laysLanes_b9 post nn c_pg c_un c_sf c_st c_ll c_ln c_ip v1) nf9 c_pg c_un c_sf c_st c_ll c_ln c_ip v1 x7 0))
theorem okX2_laysLanes_b9 (C : yC p { frames := 8, cells := 0, slots := 0, locals := 218 } s m args meth c cX2_laysLanes 4 RX2 D s0 a0 A) (hB : yB D s0 a0) (hd : yAd ad) (hr : meth.sig.returnType = none) {post : (Nat → Int32) → (Nat → Int32) → (Nat → Int32) → (Nat → Int32) → (Nat → Int32) → (Nat → Int32) → Prop}  : ∀ (nn : Nat) (c_pg : Nat → Int32) (c_un : Nat → Int32) (c_sf : Nat → Int32) (c_st : Nat → Int32) (c_ll : Nat → Int32) (c_ln : Nat → Int32) (c_ip : Nat → Int32) (v1 : Int32), wpX2_laysLanes_b9 post nn c_pg c_un c_sf c_st c_ll c_ln c_ip v1 → Y p l e { frames := 8, cells := 0, slots := 0, locals := 218 } s m args below meth c (MQ below (yQv D s0 A (fun M1 => ∃ (w_un : Nat → Int32) (w_sf : Nat → Int32) (w_st : Nat → Int32) (w_ll : Nat → Int32) (w_ln : Nat → Int32) (w_ip : Nat → Int32), M1 = mM ad c_pg c_bm c_tx c_ty c_ft c_fa c_sp c_nu w_un w_sf w_st w_ll w_ln w_ip c_gr c_hs ∧ post w_un w_sf w_st w_ll w_ln w_ip)) args s 0 0 A) D s0 A 4 (mM ad c_pg c_bm c_tx c_ty c_ft c_fa c_sp c_nu c_un c_sf c_st c_ll c_ln c_ip c_gr c_hs) 0 0 [some (yr (some (ad 0))), some (yi v1), none, none] 9 [] := by
  intro nn
  induction nn with
  | zero => intro c_pg c_un c_sf c_st c_ll c_ln c_ip v1 h; exact absurd h (by rw [wpX2_laysLanes_b9]; exact id)
  | succ nn ih =>
    intro c_pg c_un c_sf c_st c_ll c_ln c_ip v1 h
    rw [wpX2_laysLanes_b9] at h
    refine y_iload_n C 1 rfl rfl dX2_laysLanes_9 ?_
    refine y_sipush C (-999) dX2_laysLanes_10 y_sm999 ?_
    refine y_icmp_eq C 128 dX2_laysLanes_13 (by decide) (fun c9 => ?_) (fun c9 => ?_)
    · replace h := h.1 c9
      exact y_vret C hr rfl rfl ⟨_, _, _, _, _, _, rfl, h⟩ dX2_laysLanes_128
    · replace h := h.2 c9
      refine y_aload_n C 0 rfl rfl dX2_laysLanes_16 ?_
      refine y_get (ci := 2) (k := 11) C in_X2 rfl (by decide) q1180 (fun _ h => h) mM_0 rfl dX2_laysLanes_17 ?_
      refine y_iload_n C 1 rfl rfl dX2_laysLanes_20 ?_
      obtain ⟨i9, h⟩ := h
      refine y_iald C (mM_6 hd) i9 dX2_laysLanes_21 ?_
      replace h := h _ rfl
      refine y_istore_n C 2 rfl (by decide) dX2_laysLanes_22 ?_
      refine y_iconst C 0 dX2_laysLanes_23 lit0 ?_
      refine y_istore_n C 3 rfl (by decide) dX2_laysLanes_24 ?_
      obtain ⟨nf9, h⟩ := h
      refine y_to C _ ?_ (okX2_laysLanes_b25 C hB hd hr ih nf9 _ _ _ _ _ _ _ _ _ _ h)
      exact (And.intro rfl (And.intro rfl (And.intro rfl (And.intro rfl trivial))))
end sX2_laysLanes
def wpX2_laysLanes (c_pg : Nat → Int32) (c_un : Nat → Int32) (c_sf : Nat → Int32) (c_st : Nat → Int32) (c_ll : Nat → Int32) (c_ln : Nat → Int32) (c_ip : Nat → Int32)  (post : (Nat → Int32) → (Nat → Int32) → (Nat → Int32) → (Nat → Int32) → (Nat → Int32) → (Nat → Int32) → Prop) : Prop := wpX2_laysUnits c_pg c_un c_sf c_st c_ll c_ip (fun w_un1 w_sf2 w_st3 w_ll4 w_ip5 => wpX2_nextUnit c_pg w_un1 w_sf2 w_st3 w_ip5 (fun r6 => ∃ nf9 : Nat, wpX2_laysLanes_b9 post nf9 c_pg w_un1 w_sf2 w_st3 w_ll4 c_ln w_ip5 r6))
theorem metX2_laysLanes {l : Launch} {D : va_G} {s0 : State} {a0 : Array Value} {ad : Nat → Nat} (hd : yAd ad) (hB : yB D s0 a0) {c_pg : Nat → Int32} {c_bm : Int32} {c_tx : Nat → Int32} {c_ty : Int32} {c_ft : Int32} {c_fa : Int32} {c_sp : Int32} {c_nu : Int32} {c_un : Nat → Int32} {c_sf : Nat → Int32} {c_st : Nat → Int32} {c_ll : Nat → Int32} {c_ln : Nat → Int32} {c_ip : Nat → Int32} {c_gr : Nat → Int32} {c_hs : Int64}  {post : (Nat → Int32) → (Nat → Int32) → (Nat → Int32) → (Nat → Int32) → (Nat → Int32) → (Nat → Int32) → Prop} (h : wpX2_laysLanes c_pg c_un c_sf c_st c_ll c_ln c_ip  post) : yMv l yX2_laysLanes (ws_ yX2_laysLanes cX2_laysLanes 4 none) 8 218 0 0 D s0 [yr (some (ad 0))] (mM ad c_pg c_bm c_tx c_ty c_ft c_fa c_sp c_nu c_un c_sf c_st c_ll c_ln c_ip c_gr c_hs) (fun M1 => ∃ (w_un : Nat → Int32) (w_sf : Nat → Int32) (w_st : Nat → Int32) (w_ll : Nat → Int32) (w_ln : Nat → Int32) (w_ip : Nat → Int32), M1 = mM ad c_pg c_bm c_tx c_ty c_ft c_fa c_sp c_nu w_un w_sf w_st w_ll w_ln w_ip c_gr c_hs ∧ post w_un w_sf w_st w_ll w_ln w_ip) := by
  refine y_metv hB (by decide) rfl (Nat.le_of_ble_eq_true rfl) ?_
  intro p e s m below meth c A hr hnm C
  rw [wpX2_laysLanes] at h
  refine y_aload_n C 0 rfl rfl dX2_laysLanes_0 ?_
  refine y_callVv0 C (metX2_laysUnits hd hB h) (cwV 0 C.hts (lw_V q1419 q1421 qs56 q91 q1422) rfl rfl rfl kdX2_laysUnits ⟨Nat.le_of_ble_eq_true rfl, Nat.le_of_ble_eq_true rfl⟩) mM_0 rfl rfl rfl (Nat.le_of_ble_eq_true rfl) dX2_laysLanes_1 (fun M1 hp => ?_)
  clear h
  obtain ⟨w_un1, w_sf2, w_st3, w_ll4, w_ip5, rfl, h⟩ := hp
  refine y_aload_n C 0 rfl rfl dX2_laysLanes_4 ?_
  refine y_callVi0 C (metX2_nextUnit hd hB h) (cwV 0 C.hts (lw_V q1427 q1429 qs58 q91 q1430) rfl rfl rfl kdX2_nextUnit ⟨Nat.le_of_ble_eq_true rfl, Nat.le_of_ble_eq_true rfl⟩) mM_0 rfl rfl rfl (Nat.le_of_ble_eq_true rfl) dX2_laysLanes_5 (fun r6 M1 hp => ?_)
  clear h
  obtain ⟨rfl, h⟩ := hp
  refine y_istore_n C 1 rfl (by decide) dX2_laysLanes_8 ?_
  obtain ⟨nf9, h⟩ := h
  refine y_to C _ ?_ (okX2_laysLanes_b9 C hB hd hr  nf9 _ _ _ _ _ _ _ _ h)
  exact (And.intro rfl (And.intro rfl trivial))
theorem kdX2_laysLanes : yX2_laysLanes.cls = RX2 ∧ yX2_laysLanes.cls ≠ "java/lang/invoke/MethodHandle" ∧ yX2_laysLanes.cls ≠ "java/lang/invoke/VarHandle" ∧ (parseMethodDescriptor yX2_laysLanes.desc).map (fun d => d.parameters.length) = some 0 := by decide +kernel
def wpX2_laneOf (c_un : Nat → Int32) (c_ln : Nat → Int32) (a1 : Int32) (post : Int32 → Prop) : Prop := vp_in a1 16 ∧ vp_in (c_un (Int32.toNatClampNeg a1)) 16 ∧ post (c_ln (Int32.toNatClampNeg (c_un (Int32.toNatClampNeg a1))))
theorem metX2_laneOf {l : Launch} {D : va_G} {s0 : State} {a0 : Array Value} {ad : Nat → Nat} (hd : yAd ad) (hB : yB D s0 a0) {c_pg : Nat → Int32} {c_bm : Int32} {c_tx : Nat → Int32} {c_ty : Int32} {c_ft : Int32} {c_fa : Int32} {c_sp : Int32} {c_nu : Int32} {c_un : Nat → Int32} {c_sf : Nat → Int32} {c_st : Nat → Int32} {c_ll : Nat → Int32} {c_ln : Nat → Int32} {c_ip : Nat → Int32} {c_gr : Nat → Int32} {c_hs : Int64} {a1 : Int32} {post : Int32 → Prop} (h : wpX2_laneOf c_un c_ln a1 post) : yMi l yX2_laneOf (ws_ yX2_laneOf cX2_laneOf 2 (some .int)) 1 64 0 0 D s0 [yr (some (ad 0)), yi a1] (mM ad c_pg c_bm c_tx c_ty c_ft c_fa c_sp c_nu c_un c_sf c_st c_ll c_ln c_ip c_gr c_hs) (fun r M1 => M1 = mM ad c_pg c_bm c_tx c_ty c_ft c_fa c_sp c_nu c_un c_sf c_st c_ll c_ln c_ip c_gr c_hs ∧ post r) := by
  refine y_meti hB (by decide) rfl (Nat.le_of_ble_eq_true rfl) ?_
  intro p e s m below meth c A hr hnm C
  rw [wpX2_laneOf] at h
  refine y_aload_n C 0 rfl rfl dX2_laneOf_0 ?_
  refine y_get (ci := 2) (k := 12) C in_X2 rfl (by decide) q1181 (fun _ h => h) mM_0 rfl dX2_laneOf_1 ?_
  refine y_aload_n C 0 rfl rfl dX2_laneOf_4 ?_
  refine y_get (ci := 2) (k := 8) C in_X2 rfl (by decide) q1177 (fun _ h => h) mM_0 rfl dX2_laneOf_5 ?_
  refine y_iload_n C 1 rfl rfl dX2_laneOf_8 ?_
  obtain ⟨i9, h⟩ := h
  refine y_iald C (mM_3 hd) i9 dX2_laneOf_9 ?_
  obtain ⟨i9, h⟩ := h
  refine y_iald C (mM_7 hd) i9 dX2_laneOf_10 ?_
  exact y_ireti C hr rfl rfl ⟨rfl, h⟩ dX2_laneOf_11
theorem kdX2_laneOf : yX2_laneOf.cls = RX2 ∧ yX2_laneOf.cls ≠ "java/lang/invoke/MethodHandle" ∧ yX2_laneOf.cls ≠ "java/lang/invoke/VarHandle" ∧ (parseMethodDescriptor yX2_laneOf.desc).map (fun d => d.parameters.length) = some 1 := by decide +kernel
section sX2_witness
variable {p : Program} {l : Launch} {e : Env} {s : State} {m : MethodId} {args : Array Value} {below : List Frame} {meth : Method} {c : Code} {D : va_G} {s0 : State} {a0 : Array Value} {A : Nat → Prop} {ad : Nat → Nat} {c_pg : Nat → Int32} {c_bm : Int32} {c_tx : Nat → Int32} {c_ty : Int32} {c_ft : Int32} {c_fa : Int32} {c_sp : Int32} {c_nu : Int32} {c_un : Nat → Int32} {c_sf : Nat → Int32} {c_st : Nat → Int32} {c_ll : Nat → Int32} {c_ln : Nat → Int32} {c_ip : Nat → Int32} {c_gr : Nat → Int32} {c_hs : Int64}
def wpX2_witness_b67 (post : Int32 → Prop) (k6 : (Nat → Int32) → (Nat → Int32) → (Nat → Int32) → Int32 → Int32 → Int32 → Prop) (c_pg : Nat → Int32) (c_un : Nat → Int32) (c_ln : Nat → Int32) (v1 : Int32) (v3 : Int32) (u0 : Int32) : Prop := ∀ x2 : Int32, x2 = v3 + 1 → k6 c_pg c_un c_ln v1 u0 x2
theorem okX2_witness_b67 (C : yC p { frames := 2, cells := 0, slots := 0, locals := 86 } s m args meth c cX2_witness 5 RX2 D s0 a0 A) (hB : yB D s0 a0) (hd : yAd ad) (hr : meth.sig.returnType = (some .int)) {post : Int32 → Prop} {k6 : (Nat → Int32) → (Nat → Int32) → (Nat → Int32) → Int32 → Int32 → Int32 → Prop} (hk6 : ∀ (c_pg : Nat → Int32) (c_un : Nat → Int32) (c_ln : Nat → Int32) (v1 : Int32) (v2 : Int32) (v3 : Int32), k6 c_pg c_un c_ln v1 v2 v3 → Y p l e { frames := 2, cells := 0, slots := 0, locals := 86 } s m args below meth c (MQ below (yQi D s0 A (fun r M1 => M1 = mM ad c_pg c_bm c_tx c_ty c_ft c_fa c_sp c_nu c_un c_sf c_st c_ll c_ln c_ip c_gr c_hs ∧ post r)) args s 0 0 A) D s0 A 5 (mM ad c_pg c_bm c_tx c_ty c_ft c_fa c_sp c_nu c_un c_sf c_st c_ll c_ln c_ip c_gr c_hs) 0 0 [some (yr (some (ad 0))), some (yi v1), some (yi v2), some (yi v3), none] 6 []) : ∀ (c_pg : Nat → Int32) (c_un : Nat → Int32) (c_ln : Nat → Int32) (v1 : Int32) (v3 : Int32) (u0 : Int32), wpX2_witness_b67 post k6 c_pg c_un c_ln v1 v3 u0 → Y p l e { frames := 2, cells := 0, slots := 0, locals := 86 } s m args below meth c (MQ below (yQi D s0 A (fun r M1 => M1 = mM ad c_pg c_bm c_tx c_ty c_ft c_fa c_sp c_nu c_un c_sf c_st c_ll c_ln c_ip c_gr c_hs ∧ post r)) args s 0 0 A) D s0 A 5 (mM ad c_pg c_bm c_tx c_ty c_ft c_fa c_sp c_nu c_un c_sf c_st c_ll c_ln c_ip c_gr c_hs) 0 0 [some (yr (some (ad 0))), some (yi v1), none, some (yi v3), none] 67 [yi u0] := by
  intro c_pg c_un c_ln v1 v3 u0 h
  rw [wpX2_witness_b67] at h
  refine y_istore_n C 2 rfl (by decide) dX2_witness_67 ?_
  replace h := h _ rfl
  refine y_iinc C 3 _ rfl (y_inc1 _) (by decide) dX2_witness_68 ?_
  refine y_goto C 6 dX2_witness_71 (by decide) ?_
  refine y_to C _ ?_ (hk6 _ _ _ _ _ _ h)
  exact (And.intro rfl (And.intro rfl (And.intro rfl (And.intro rfl trivial))))
def wpX2_witness_b66 (post : Int32 → Prop) (k6 : (Nat → Int32) → (Nat → Int32) → (Nat → Int32) → Int32 → Int32 → Int32 → Prop) (c_pg : Nat → Int32) (c_un : Nat → Int32) (c_ln : Nat → Int32) (v1 : Int32) (v2 : Int32) (v3 : Int32) : Prop := wpX2_witness_b67 post k6 c_pg c_un c_ln v1 v3 v2
theorem okX2_witness_b66 (C : yC p { frames := 2, cells := 0, slots := 0, locals := 86 } s m args meth c cX2_witness 5 RX2 D s0 a0 A) (hB : yB D s0 a0) (hd : yAd ad) (hr : meth.sig.returnType = (some .int)) {post : Int32 → Prop} {k6 : (Nat → Int32) → (Nat → Int32) → (Nat → Int32) → Int32 → Int32 → Int32 → Prop} (hk6 : ∀ (c_pg : Nat → Int32) (c_un : Nat → Int32) (c_ln : Nat → Int32) (v1 : Int32) (v2 : Int32) (v3 : Int32), k6 c_pg c_un c_ln v1 v2 v3 → Y p l e { frames := 2, cells := 0, slots := 0, locals := 86 } s m args below meth c (MQ below (yQi D s0 A (fun r M1 => M1 = mM ad c_pg c_bm c_tx c_ty c_ft c_fa c_sp c_nu c_un c_sf c_st c_ll c_ln c_ip c_gr c_hs ∧ post r)) args s 0 0 A) D s0 A 5 (mM ad c_pg c_bm c_tx c_ty c_ft c_fa c_sp c_nu c_un c_sf c_st c_ll c_ln c_ip c_gr c_hs) 0 0 [some (yr (some (ad 0))), some (yi v1), some (yi v2), some (yi v3), none] 6 []) : ∀ (c_pg : Nat → Int32) (c_un : Nat → Int32) (c_ln : Nat → Int32) (v1 : Int32) (v2 : Int32) (v3 : Int32), wpX2_witness_b66 post k6 c_pg c_un c_ln v1 v2 v3 → Y p l e { frames := 2, cells := 0, slots := 0, locals := 86 } s m args below meth c (MQ below (yQi D s0 A (fun r M1 => M1 = mM ad c_pg c_bm c_tx c_ty c_ft c_fa c_sp c_nu c_un c_sf c_st c_ll c_ln c_ip c_gr c_hs ∧ post r)) args s 0 0 A) D s0 A 5 (mM ad c_pg c_bm c_tx c_ty c_ft c_fa c_sp c_nu c_un c_sf c_st c_ll c_ln c_ip c_gr c_hs) 0 0 [some (yr (some (ad 0))), some (yi v1), some (yi v2), some (yi v3), none] 66 [] := by
  intro c_pg c_un c_ln v1 v2 v3 h
  rw [wpX2_witness_b66] at h
  refine y_iload_n C 2 rfl rfl dX2_witness_66 ?_
  refine y_to C _ ?_ (okX2_witness_b67 C hB hd hr hk6 _ _ _ _ _ _ h)
  exact (And.intro rfl (And.intro rfl (And.intro rfl trivial)))
def wpX2_witness_b42 (post : Int32 → Prop) (k6 : (Nat → Int32) → (Nat → Int32) → (Nat → Int32) → Int32 → Int32 → Int32 → Prop) (c_pg : Nat → Int32) (c_un : Nat → Int32) (c_ln : Nat → Int32) (v1 : Int32) (v2 : Int32) (v3 : Int32) (u0 : Int32) : Prop := ((u0 = 0 → wpX2_witness_b66 post k6 c_pg c_un c_ln v1 v2 v3) ∧ (¬ u0 = 0 → wpX2_laneOf c_un c_ln v3 (fun r3 => ((r3 ≤ v2 → wpX2_witness_b66 post k6 c_pg c_un c_ln v1 v2 v3) ∧ (¬ r3 ≤ v2 → wpX2_laneOf c_un c_ln v3 (fun r4 => wpX2_witness_b67 post k6 c_pg c_un c_ln v1 v3 r4))))))
theorem okX2_witness_b42 (C : yC p { frames := 2, cells := 0, slots := 0, locals := 86 } s m args meth c cX2_witness 5 RX2 D s0 a0 A) (hB : yB D s0 a0) (hd : yAd ad) (hr : meth.sig.returnType = (some .int)) {post : Int32 → Prop} {k6 : (Nat → Int32) → (Nat → Int32) → (Nat → Int32) → Int32 → Int32 → Int32 → Prop} (hk6 : ∀ (c_pg : Nat → Int32) (c_un : Nat → Int32) (c_ln : Nat → Int32) (v1 : Int32) (v2 : Int32) (v3 : Int32), k6 c_pg c_un c_ln v1 v2 v3 → Y p l e { frames := 2, cells := 0, slots := 0, locals := 86 } s m args below meth c (MQ below (yQi D s0 A (fun r M1 => M1 = mM ad c_pg c_bm c_tx c_ty c_ft c_fa c_sp c_nu c_un c_sf c_st c_ll c_ln c_ip c_gr c_hs ∧ post r)) args s 0 0 A) D s0 A 5 (mM ad c_pg c_bm c_tx c_ty c_ft c_fa c_sp c_nu c_un c_sf c_st c_ll c_ln c_ip c_gr c_hs) 0 0 [some (yr (some (ad 0))), some (yi v1), some (yi v2), some (yi v3), none] 6 []) : ∀ (c_pg : Nat → Int32) (c_un : Nat → Int32) (c_ln : Nat → Int32) (v1 : Int32) (v2 : Int32) (v3 : Int32) (u0 : Int32), wpX2_witness_b42 post k6 c_pg c_un c_ln v1 v2 v3 u0 → Y p l e { frames := 2, cells := 0, slots := 0, locals := 86 } s m args below meth c (MQ below (yQi D s0 A (fun r M1 => M1 = mM ad c_pg c_bm c_tx c_ty c_ft c_fa c_sp c_nu c_un c_sf c_st c_ll c_ln c_ip c_gr c_hs ∧ post r)) args s 0 0 A) D s0 A 5 (mM ad c_pg c_bm c_tx c_ty c_ft c_fa c_sp c_nu c_un c_sf c_st c_ll c_ln c_ip c_gr c_hs) 0 0 [some (yr (some (ad 0))), some (yi v1), some (yi v2), some (yi v3), none] 42 [yi u0] := by
  intro c_pg c_un c_ln v1 v2 v3 u0 h
  rw [wpX2_witness_b42] at h
  refine y_istore C 4 (by decide) dX2_witness_42 ?_
  refine y_iload C 4 rfl dX2_witness_44 ?_
  refine y_if_eq C 66 dX2_witness_46 (by decide) (fun c9 => ?_) (fun c9 => ?_)
  · replace h := h.1 c9
    refine y_to C _ ?_ (okX2_witness_b66 C hB hd hr hk6 _ _ _ _ _ _ h)
    exact (And.intro rfl (And.intro rfl (And.intro rfl (And.intro rfl trivial))))
  · replace h := h.2 c9
    refine y_aload_n C 0 rfl rfl dX2_witness_49 ?_
    refine y_iload_n C 3 rfl rfl dX2_witness_50 ?_
    refine y_callVi0 C (metX2_laneOf hd hB h) (cwV 1 C.hts (lw_V q1467 q1469 qs68 q91 q1470) rfl rfl rfl kdX2_laneOf ⟨Nat.le_of_ble_eq_true rfl, Nat.le_of_ble_eq_true rfl⟩) mM_0 rfl rfl rfl (Nat.le_of_ble_eq_true rfl) dX2_witness_51 (fun r3 M1 hp => ?_)
    clear h
    obtain ⟨rfl, h⟩ := hp
    refine y_iload_n C 2 rfl rfl dX2_witness_54 ?_
    refine y_icmp_le C 66 dX2_witness_55 (by decide) (fun c9 => ?_) (fun c9 => ?_)
    · replace h := h.1 c9
      refine y_to C _ ?_ (okX2_witness_b66 C hB hd hr hk6 _ _ _ _ _ _ h)
      exact (And.intro rfl (And.intro rfl (And.intro rfl (And.intro rfl trivial))))
    · replace h := h.2 c9
      refine y_aload_n C 0 rfl rfl dX2_witness_58 ?_
      refine y_iload_n C 3 rfl rfl dX2_witness_59 ?_
      refine y_callVi0 C (metX2_laneOf hd hB h) (cwV 1 C.hts (lw_V q1467 q1469 qs68 q91 q1470) rfl rfl rfl kdX2_laneOf ⟨Nat.le_of_ble_eq_true rfl, Nat.le_of_ble_eq_true rfl⟩) mM_0 rfl rfl rfl (Nat.le_of_ble_eq_true rfl) dX2_witness_60 (fun r4 M1 hp => ?_)
      clear h
      obtain ⟨rfl, h⟩ := hp
      refine y_goto C 67 dX2_witness_63 (by decide) ?_
      refine y_to C _ ?_ (okX2_witness_b67 C hB hd hr hk6 _ _ _ _ _ _ h)
      exact (And.intro rfl (And.intro rfl (And.intro rfl trivial)))
def wpX2_witness_b37 (post : Int32 → Prop) (k6 : (Nat → Int32) → (Nat → Int32) → (Nat → Int32) → Int32 → Int32 → Int32 → Prop) (c_pg : Nat → Int32) (c_un : Nat → Int32) (c_ln : Nat → Int32) (v1 : Int32) (v2 : Int32) (v3 : Int32) : Prop := wpX2_witness_b42 post k6 c_pg c_un c_ln v1 v2 v3 1
theorem okX2_witness_b37 (C : yC p { frames := 2, cells := 0, slots := 0, locals := 86 } s m args meth c cX2_witness 5 RX2 D s0 a0 A) (hB : yB D s0 a0) (hd : yAd ad) (hr : meth.sig.returnType = (some .int)) {post : Int32 → Prop} {k6 : (Nat → Int32) → (Nat → Int32) → (Nat → Int32) → Int32 → Int32 → Int32 → Prop} (hk6 : ∀ (c_pg : Nat → Int32) (c_un : Nat → Int32) (c_ln : Nat → Int32) (v1 : Int32) (v2 : Int32) (v3 : Int32), k6 c_pg c_un c_ln v1 v2 v3 → Y p l e { frames := 2, cells := 0, slots := 0, locals := 86 } s m args below meth c (MQ below (yQi D s0 A (fun r M1 => M1 = mM ad c_pg c_bm c_tx c_ty c_ft c_fa c_sp c_nu c_un c_sf c_st c_ll c_ln c_ip c_gr c_hs ∧ post r)) args s 0 0 A) D s0 A 5 (mM ad c_pg c_bm c_tx c_ty c_ft c_fa c_sp c_nu c_un c_sf c_st c_ll c_ln c_ip c_gr c_hs) 0 0 [some (yr (some (ad 0))), some (yi v1), some (yi v2), some (yi v3), none] 6 []) : ∀ (c_pg : Nat → Int32) (c_un : Nat → Int32) (c_ln : Nat → Int32) (v1 : Int32) (v2 : Int32) (v3 : Int32), wpX2_witness_b37 post k6 c_pg c_un c_ln v1 v2 v3 → Y p l e { frames := 2, cells := 0, slots := 0, locals := 86 } s m args below meth c (MQ below (yQi D s0 A (fun r M1 => M1 = mM ad c_pg c_bm c_tx c_ty c_ft c_fa c_sp c_nu c_un c_sf c_st c_ll c_ln c_ip c_gr c_hs ∧ post r)) args s 0 0 A) D s0 A 5 (mM ad c_pg c_bm c_tx c_ty c_ft c_fa c_sp c_nu c_un c_sf c_st c_ll c_ln c_ip c_gr c_hs) 0 0 [some (yr (some (ad 0))), some (yi v1), some (yi v2), some (yi v3), none] 37 [] := by
  intro c_pg c_un c_ln v1 v2 v3 h
  rw [wpX2_witness_b37] at h
  refine y_iconst C 1 dX2_witness_37 lit1 ?_
  refine y_goto C 42 dX2_witness_38 (by decide) ?_
  refine y_to C _ ?_ (okX2_witness_b42 C hB hd hr hk6 _ _ _ _ _ _ _ h)
  exact (And.intro rfl (And.intro rfl (And.intro rfl (And.intro rfl trivial))))
def wpX2_witness_b6 (post : Int32 → Prop) : Nat → (Nat → Int32) → (Nat → Int32) → (Nat → Int32) → Int32 → Int32 → Int32 → Prop
  | 0, _, _, _, _, _, _ => False
  | nn + 1, c_pg, c_un, c_ln, v1, v2, v3 => vp_in 13 1120 ∧ (((c_pg (Int32.toNatClampNeg 13)) ≤ v3 → post v2) ∧ (¬ (c_pg (Int32.toNatClampNeg 13)) ≤ v3 → wpX2_of c_pg v3 0 (fun r1 => ((r1 = v1 → wpX2_witness_b37 post (fun c_pg c_un c_ln v1 v2 v3 => wpX2_witness_b6 post nn c_pg c_un c_ln v1 v2 v3) c_pg c_un c_ln v1 v2 v3) ∧ (¬ r1 = v1 → wpX2_of c_pg v3 1 (fun r5 => ((¬ r5 = v1 → wpX2_witness_b42 post (fun c_pg c_un c_ln v1 v2 v3 => wpX2_witness_b6 post nn c_pg c_un c_ln v1 v2 v3) c_pg c_un c_ln v1 v2 v3 0) ∧ (r5 = v1 → wpX2_witness_b37 post (fun c_pg c_un c_ln v1 v2 v3 => wpX2_witness_b6 post nn c_pg c_un c_ln v1 v2 v3) c_pg c_un c_ln v1 v2 v3))))))))
theorem okX2_witness_b6 (C : yC p { frames := 2, cells := 0, slots := 0, locals := 86 } s m args meth c cX2_witness 5 RX2 D s0 a0 A) (hB : yB D s0 a0) (hd : yAd ad) (hr : meth.sig.returnType = (some .int)) {post : Int32 → Prop}  : ∀ (nn : Nat) (c_pg : Nat → Int32) (c_un : Nat → Int32) (c_ln : Nat → Int32) (v1 : Int32) (v2 : Int32) (v3 : Int32), wpX2_witness_b6 post nn c_pg c_un c_ln v1 v2 v3 → Y p l e { frames := 2, cells := 0, slots := 0, locals := 86 } s m args below meth c (MQ below (yQi D s0 A (fun r M1 => M1 = mM ad c_pg c_bm c_tx c_ty c_ft c_fa c_sp c_nu c_un c_sf c_st c_ll c_ln c_ip c_gr c_hs ∧ post r)) args s 0 0 A) D s0 A 5 (mM ad c_pg c_bm c_tx c_ty c_ft c_fa c_sp c_nu c_un c_sf c_st c_ll c_ln c_ip c_gr c_hs) 0 0 [some (yr (some (ad 0))), some (yi v1), some (yi v2), some (yi v3), none] 6 [] := by
  intro nn
  induction nn with
  | zero => intro c_pg c_un c_ln v1 v2 v3 h; exact absurd h (by rw [wpX2_witness_b6]; exact id)
  | succ nn ih =>
    intro c_pg c_un c_ln v1 v2 v3 h
    rw [wpX2_witness_b6] at h
    refine y_iload_n C 3 rfl rfl dX2_witness_6 ?_
    refine y_aload_n C 0 rfl rfl dX2_witness_7 ?_
    refine y_get (ci := 2) (k := 0) C in_X2 rfl (by decide) q1169 (fun _ h => h) mM_0 rfl dX2_witness_8 ?_
    refine y_bipush C 13 dX2_witness_11 y_b13 ?_
    obtain ⟨i9, h⟩ := h
    refine y_iald C (mM_1 hd) i9 dX2_witness_13 ?_
    refine y_icmp_ge C 74 dX2_witness_14 (by decide) (fun c9 => ?_) (fun c9 => ?_)
    · replace h := h.1 c9
      refine y_iload_n C 2 rfl rfl dX2_witness_74 ?_
      exact y_ireti C hr rfl rfl ⟨rfl, h⟩ dX2_witness_75
    · replace h := h.2 c9
      refine y_aload_n C 0 rfl rfl dX2_witness_17 ?_
      refine y_iload_n C 3 rfl rfl dX2_witness_18 ?_
      refine y_iconst C 0 dX2_witness_19 lit0 ?_
      refine y_callVi0 C (metX2_of hd hB h) (cwV 2 C.hts (lw_V q1250 q1252 qs28 q91 q1253) rfl rfl rfl kdX2_of ⟨Nat.le_of_ble_eq_true rfl, Nat.le_of_ble_eq_true rfl⟩) mM_0 rfl rfl rfl (Nat.le_of_ble_eq_true rfl) dX2_witness_20 (fun r1 M1 hp => ?_)
      clear h
      obtain ⟨rfl, h⟩ := hp
      refine y_iload_n C 1 rfl rfl dX2_witness_23 ?_
      refine y_icmp_eq C 37 dX2_witness_24 (by decide) (fun c9 => ?_) (fun c9 => ?_)
      · replace h := h.1 c9
        refine y_to C _ ?_ (okX2_witness_b37 C hB hd hr ih _ _ _ _ _ _ h)
        exact (And.intro rfl (And.intro rfl (And.intro rfl (And.intro rfl trivial))))
      · replace h := h.2 c9
        refine y_aload_n C 0 rfl rfl dX2_witness_27 ?_
        refine y_iload_n C 3 rfl rfl dX2_witness_28 ?_
        refine y_iconst C 1 dX2_witness_29 lit1 ?_
        refine y_callVi0 C (metX2_of hd hB h) (cwV 2 C.hts (lw_V q1250 q1252 qs28 q91 q1253) rfl rfl rfl kdX2_of ⟨Nat.le_of_ble_eq_true rfl, Nat.le_of_ble_eq_true rfl⟩) mM_0 rfl rfl rfl (Nat.le_of_ble_eq_true rfl) dX2_witness_30 (fun r5 M1 hp => ?_)
        clear h
        obtain ⟨rfl, h⟩ := hp
        refine y_iload_n C 1 rfl rfl dX2_witness_33 ?_
        refine y_icmp_ne C 41 dX2_witness_34 (by decide) (fun c9 => ?_) (fun c9 => ?_)
        · replace h := h.1 c9
          refine y_iconst C 0 dX2_witness_41 lit0 ?_
          refine y_to C _ ?_ (okX2_witness_b42 C hB hd hr ih _ _ _ _ _ _ _ h)
          exact (And.intro rfl (And.intro rfl (And.intro rfl (And.intro rfl trivial))))
        · replace h := h.2 c9
          refine y_to C _ ?_ (okX2_witness_b37 C hB hd hr ih _ _ _ _ _ _ h)
          exact (And.intro rfl (And.intro rfl (And.intro rfl (And.intro rfl trivial))))
end sX2_witness
def wpX2_witness (c_pg : Nat → Int32) (c_un : Nat → Int32) (c_ln : Nat → Int32) (a1 : Int32) (post : Int32 → Prop) : Prop := ∃ nf9 : Nat, wpX2_witness_b6 post nf9 c_pg c_un c_ln a1 (-999) 0
theorem metX2_witness {l : Launch} {D : va_G} {s0 : State} {a0 : Array Value} {ad : Nat → Nat} (hd : yAd ad) (hB : yB D s0 a0) {c_pg : Nat → Int32} {c_bm : Int32} {c_tx : Nat → Int32} {c_ty : Int32} {c_ft : Int32} {c_fa : Int32} {c_sp : Int32} {c_nu : Int32} {c_un : Nat → Int32} {c_sf : Nat → Int32} {c_st : Nat → Int32} {c_ll : Nat → Int32} {c_ln : Nat → Int32} {c_ip : Nat → Int32} {c_gr : Nat → Int32} {c_hs : Int64} {a1 : Int32} {post : Int32 → Prop} (h : wpX2_witness c_pg c_un c_ln a1 post) : yMi l yX2_witness (ws_ yX2_witness cX2_witness 5 (some .int)) 2 86 0 0 D s0 [yr (some (ad 0)), yi a1] (mM ad c_pg c_bm c_tx c_ty c_ft c_fa c_sp c_nu c_un c_sf c_st c_ll c_ln c_ip c_gr c_hs) (fun r M1 => M1 = mM ad c_pg c_bm c_tx c_ty c_ft c_fa c_sp c_nu c_un c_sf c_st c_ll c_ln c_ip c_gr c_hs ∧ post r) := by
  refine y_meti hB (by decide) rfl (Nat.le_of_ble_eq_true rfl) ?_
  intro p e s m below meth c A hr hnm C
  rw [wpX2_witness] at h
  refine y_sipush C (-999) dX2_witness_0 y_sm999 ?_
  refine y_istore_n C 2 rfl (by decide) dX2_witness_3 ?_
  refine y_iconst C 0 dX2_witness_4 lit0 ?_
  refine y_istore_n C 3 rfl (by decide) dX2_witness_5 ?_
  obtain ⟨nf9, h⟩ := h
  refine y_to C _ ?_ (okX2_witness_b6 C hB hd hr  nf9 _ _ _ _ _ _ h)
  exact (And.intro rfl (And.intro rfl (And.intro rfl (And.intro rfl trivial))))
theorem kdX2_witness : yX2_witness.cls = RX2 ∧ yX2_witness.cls ≠ "java/lang/invoke/MethodHandle" ∧ yX2_witness.cls ≠ "java/lang/invoke/VarHandle" ∧ (parseMethodDescriptor yX2_witness.desc).map (fun d => d.parameters.length) = some 1 := by decide +kernel
def wpX2_crosses (c_pg : Nat → Int32) (c_un : Nat → Int32) (c_ln : Nat → Int32) (a1 : Int32) (a2 : Int32) (post : Int32 → Prop) : Prop := wpX2_laneOf c_un c_ln a2 (fun r1 => wpX2_witness c_pg c_un c_ln a1 (fun r2 => ((r2 ≤ r1 → post 0) ∧ (¬ r2 ≤ r1 → wpX2_position c_pg a1 (fun r3 => wpX2_from c_pg a2 (fun r4 => ((r3 ≤ r4 → post 0) ∧ (¬ r3 ≤ r4 → wpX2_position c_pg a1 (fun r5 => wpX2_to c_pg a2 (fun r6 => ((r6 ≤ r5 → post 0) ∧ (¬ r6 ≤ r5 → post 1))))))))))))
theorem metX2_crosses {l : Launch} {D : va_G} {s0 : State} {a0 : Array Value} {ad : Nat → Nat} (hd : yAd ad) (hB : yB D s0 a0) {c_pg : Nat → Int32} {c_bm : Int32} {c_tx : Nat → Int32} {c_ty : Int32} {c_ft : Int32} {c_fa : Int32} {c_sp : Int32} {c_nu : Int32} {c_un : Nat → Int32} {c_sf : Nat → Int32} {c_st : Nat → Int32} {c_ll : Nat → Int32} {c_ln : Nat → Int32} {c_ip : Nat → Int32} {c_gr : Nat → Int32} {c_hs : Int64} {a1 : Int32} {a2 : Int32} {post : Int32 → Prop} (h : wpX2_crosses c_pg c_un c_ln a1 a2 post) : yMi l yX2_crosses (ws_ yX2_crosses cX2_crosses 3 (some .boolean)) 3 110 0 0 D s0 [yr (some (ad 0)), yi a1, yi a2] (mM ad c_pg c_bm c_tx c_ty c_ft c_fa c_sp c_nu c_un c_sf c_st c_ll c_ln c_ip c_gr c_hs) (fun r M1 => M1 = mM ad c_pg c_bm c_tx c_ty c_ft c_fa c_sp c_nu c_un c_sf c_st c_ll c_ln c_ip c_gr c_hs ∧ post r) := by
  refine y_meti hB (by decide) rfl (Nat.le_of_ble_eq_true rfl) ?_
  intro p e s m below meth c A hr hnm C
  rw [wpX2_crosses] at h
  refine y_aload_n C 0 rfl rfl dX2_crosses_0 ?_
  refine y_iload_n C 2 rfl rfl dX2_crosses_1 ?_
  refine y_callVi0 C (metX2_laneOf hd hB h) (cwV 1 C.hts (lw_V q1467 q1469 qs68 q91 q1470) rfl rfl rfl kdX2_laneOf ⟨Nat.le_of_ble_eq_true rfl, Nat.le_of_ble_eq_true rfl⟩) mM_0 rfl rfl rfl (Nat.le_of_ble_eq_true rfl) dX2_crosses_2 (fun r1 M1 hp => ?_)
  clear h
  obtain ⟨rfl, h⟩ := hp
  refine y_aload_n C 0 rfl rfl dX2_crosses_5 ?_
  refine y_iload_n C 1 rfl rfl dX2_crosses_6 ?_
  refine y_callVi0 C (metX2_witness hd hB h) (cwV 1 C.hts (lw_V q1463 q1465 qs67 q91 q1466) rfl rfl rfl kdX2_witness ⟨Nat.le_of_ble_eq_true rfl, Nat.le_of_ble_eq_true rfl⟩) mM_0 rfl rfl rfl (Nat.le_of_ble_eq_true rfl) dX2_crosses_7 (fun r2 M1 hp => ?_)
  clear h
  obtain ⟨rfl, h⟩ := hp
  refine y_icmp_ge C 43 dX2_crosses_10 (by decide) (fun c9 => ?_) (fun c9 => ?_)
  · replace h := h.1 c9
    refine y_iconst C 0 dX2_crosses_43 lit0 ?_
    exact y_iretz C hr rfl rfl (by decide) ⟨rfl, h⟩ dX2_crosses_44
  · replace h := h.2 c9
    refine y_aload_n C 0 rfl rfl dX2_crosses_13 ?_
    refine y_iload_n C 1 rfl rfl dX2_crosses_14 ?_
    refine y_callVi0 C (metX2_position hd hB h) (cwV 1 C.hts (lw_V q1238 q1240 qs25 q91 q1241) rfl rfl rfl kdX2_position ⟨Nat.le_of_ble_eq_true rfl, Nat.le_of_ble_eq_true rfl⟩) mM_0 rfl rfl rfl (Nat.le_of_ble_eq_true rfl) dX2_crosses_15 (fun r3 M1 hp => ?_)
    clear h
    obtain ⟨rfl, h⟩ := hp
    refine y_aload_n C 0 rfl rfl dX2_crosses_18 ?_
    refine y_iload_n C 2 rfl rfl dX2_crosses_19 ?_
    refine y_callVi0 C (metX2_from hd hB h) (cwV 1 C.hts (lw_V q1391 q1393 qs49 q91 q1394) rfl rfl rfl kdX2_from ⟨Nat.le_of_ble_eq_true rfl, Nat.le_of_ble_eq_true rfl⟩) mM_0 rfl rfl rfl (Nat.le_of_ble_eq_true rfl) dX2_crosses_20 (fun r4 M1 hp => ?_)
    clear h
    obtain ⟨rfl, h⟩ := hp
    refine y_icmp_le C 43 dX2_crosses_23 (by decide) (fun c9 => ?_) (fun c9 => ?_)
    · replace h := h.1 c9
      refine y_iconst C 0 dX2_crosses_43 lit0 ?_
      exact y_iretz C hr rfl rfl (by decide) ⟨rfl, h⟩ dX2_crosses_44
    · replace h := h.2 c9
      refine y_aload_n C 0 rfl rfl dX2_crosses_26 ?_
      refine y_iload_n C 1 rfl rfl dX2_crosses_27 ?_
      refine y_callVi0 C (metX2_position hd hB h) (cwV 1 C.hts (lw_V q1238 q1240 qs25 q91 q1241) rfl rfl rfl kdX2_position ⟨Nat.le_of_ble_eq_true rfl, Nat.le_of_ble_eq_true rfl⟩) mM_0 rfl rfl rfl (Nat.le_of_ble_eq_true rfl) dX2_crosses_28 (fun r5 M1 hp => ?_)
      clear h
      obtain ⟨rfl, h⟩ := hp
      refine y_aload_n C 0 rfl rfl dX2_crosses_31 ?_
      refine y_iload_n C 2 rfl rfl dX2_crosses_32 ?_
      refine y_callVi0 C (metX2_to hd hB h) (cwV 1 C.hts (lw_V q1387 q1389 qs48 q91 q1390) rfl rfl rfl kdX2_to ⟨Nat.le_of_ble_eq_true rfl, Nat.le_of_ble_eq_true rfl⟩) mM_0 rfl rfl rfl (Nat.le_of_ble_eq_true rfl) dX2_crosses_33 (fun r6 M1 hp => ?_)
      clear h
      obtain ⟨rfl, h⟩ := hp
      refine y_icmp_ge C 43 dX2_crosses_36 (by decide) (fun c9 => ?_) (fun c9 => ?_)
      · replace h := h.1 c9
        refine y_iconst C 0 dX2_crosses_43 lit0 ?_
        exact y_iretz C hr rfl rfl (by decide) ⟨rfl, h⟩ dX2_crosses_44
      · replace h := h.2 c9
        refine y_iconst C 1 dX2_crosses_39 lit1 ?_
        refine y_goto C 44 dX2_crosses_40 (by decide) ?_
        exact y_iretz C hr rfl rfl (by decide) ⟨rfl, h⟩ dX2_crosses_44
theorem kdX2_crosses : yX2_crosses.cls = RX2 ∧ yX2_crosses.cls ≠ "java/lang/invoke/MethodHandle" ∧ yX2_crosses.cls ≠ "java/lang/invoke/VarHandle" ∧ (parseMethodDescriptor yX2_crosses.desc).map (fun d => d.parameters.length) = some 2 := by decide +kernel
section sX2_crossings
variable {p : Program} {l : Launch} {e : Env} {s : State} {m : MethodId} {args : Array Value} {below : List Frame} {meth : Method} {c : Code} {D : va_G} {s0 : State} {a0 : Array Value} {A : Nat → Prop} {ad : Nat → Nat} {c_pg : Nat → Int32} {c_bm : Int32} {c_tx : Nat → Int32} {c_ty : Int32} {c_ft : Int32} {c_fa : Int32} {c_sp : Int32} {c_nu : Int32} {c_un : Nat → Int32} {c_sf : Nat → Int32} {c_st : Nat → Int32} {c_ll : Nat → Int32} {c_ln : Nat → Int32} {c_ip : Nat → Int32} {c_gr : Nat → Int32} {c_hs : Int64}
def wpX2_crossings_b86 (post : Int32 → Prop) (k5 : (Nat → Int32) → (Nat → Int32) → (Nat → Int32) → Int32 → Int32 → Int32 → Int32 → Prop) (k19 : (Nat → Int32) → (Nat → Int32) → (Nat → Int32) → Int32 → Int32 → Int32 → Int32 → Int32 → Prop) (c_pg : Nat → Int32) (c_un : Nat → Int32) (c_ln : Nat → Int32) (v1 : Int32) (v2 : Int32) (v4 : Int32) (v5 : Int32) (u0 : Int32) (u1 : Int32) : Prop := ∀ x2 : Int32, x2 = (u0 + u1) → ∀ x3 : Int32, x3 = v5 + 1 → k19 c_pg c_un c_ln v1 v2 x2 v4 x3
theorem okX2_crossings_b86 (C : yC p { frames := 4, cells := 0, slots := 0, locals := 132 } s m args meth c cX2_crossings 7 RX2 D s0 a0 A) (hB : yB D s0 a0) (hd : yAd ad) (hr : meth.sig.returnType = (some .int)) {post : Int32 → Prop} {k5 : (Nat → Int32) → (Nat → Int32) → (Nat → Int32) → Int32 → Int32 → Int32 → Int32 → Prop} {k19 : (Nat → Int32) → (Nat → Int32) → (Nat → Int32) → Int32 → Int32 → Int32 → Int32 → Int32 → Prop} (hk5 : ∀ (c_pg : Nat → Int32) (c_un : Nat → Int32) (c_ln : Nat → Int32) (v1 : Int32) (v2 : Int32) (v3 : Int32) (v4 : Int32), k5 c_pg c_un c_ln v1 v2 v3 v4 → Y p l e { frames := 4, cells := 0, slots := 0, locals := 132 } s m args below meth c (MQ below (yQi D s0 A (fun r M1 => M1 = mM ad c_pg c_bm c_tx c_ty c_ft c_fa c_sp c_nu c_un c_sf c_st c_ll c_ln c_ip c_gr c_hs ∧ post r)) args s 0 0 A) D s0 A 7 (mM ad c_pg c_bm c_tx c_ty c_ft c_fa c_sp c_nu c_un c_sf c_st c_ll c_ln c_ip c_gr c_hs) 0 0 [some (yr (some (ad 0))), some (yi v1), some (yi v2), some (yi v3), some (yi v4), none, none] 5 []) (hk19 : ∀ (c_pg : Nat → Int32) (c_un : Nat → Int32) (c_ln : Nat → Int32) (v1 : Int32) (v2 : Int32) (v3 : Int32) (v4 : Int32) (v5 : Int32), k19 c_pg c_un c_ln v1 v2 v3 v4 v5 → Y p l e { frames := 4, cells := 0, slots := 0, locals := 132 } s m args below meth c (MQ below (yQi D s0 A (fun r M1 => M1 = mM ad c_pg c_bm c_tx c_ty c_ft c_fa c_sp c_nu c_un c_sf c_st c_ll c_ln c_ip c_gr c_hs ∧ post r)) args s 0 0 A) D s0 A 7 (mM ad c_pg c_bm c_tx c_ty c_ft c_fa c_sp c_nu c_un c_sf c_st c_ll c_ln c_ip c_gr c_hs) 0 0 [some (yr (some (ad 0))), some (yi v1), some (yi v2), some (yi v3), some (yi v4), some (yi v5), none] 19 []) : ∀ (c_pg : Nat → Int32) (c_un : Nat → Int32) (c_ln : Nat → Int32) (v1 : Int32) (v2 : Int32) (v4 : Int32) (v5 : Int32) (u0 : Int32) (u1 : Int32), wpX2_crossings_b86 post k5 k19 c_pg c_un c_ln v1 v2 v4 v5 u0 u1 → Y p l e { frames := 4, cells := 0, slots := 0, locals := 132 } s m args below meth c (MQ below (yQi D s0 A (fun r M1 => M1 = mM ad c_pg c_bm c_tx c_ty c_ft c_fa c_sp c_nu c_un c_sf c_st c_ll c_ln c_ip c_gr c_hs ∧ post r)) args s 0 0 A) D s0 A 7 (mM ad c_pg c_bm c_tx c_ty c_ft c_fa c_sp c_nu c_un c_sf c_st c_ll c_ln c_ip c_gr c_hs) 0 0 [some (yr (some (ad 0))), some (yi v1), some (yi v2), none, some (yi v4), some (yi v5), none] 86 [yi u1, yi u0] := by
  intro c_pg c_un c_ln v1 v2 v4 v5 u0 u1 h
  rw [wpX2_crossings_b86] at h
  refine y_iadd C dX2_crossings_86 ?_
  replace h := h _ rfl
  refine y_istore_n C 3 rfl (by decide) dX2_crossings_87 ?_
  replace h := h _ rfl
  refine y_iinc C 5 _ rfl (y_inc1 _) (by decide) dX2_crossings_88 ?_
  refine y_goto C 19 dX2_crossings_91 (by decide) ?_
  refine y_to C _ ?_ (hk19 _ _ _ _ _ _ _ _ h)
  exact (And.intro rfl (And.intro rfl (And.intro rfl (And.intro rfl (And.intro rfl (And.intro rfl trivial))))))
def wpX2_crossings_b85 (post : Int32 → Prop) (k5 : (Nat → Int32) → (Nat → Int32) → (Nat → Int32) → Int32 → Int32 → Int32 → Int32 → Prop) (k19 : (Nat → Int32) → (Nat → Int32) → (Nat → Int32) → Int32 → Int32 → Int32 → Int32 → Int32 → Prop) (c_pg : Nat → Int32) (c_un : Nat → Int32) (c_ln : Nat → Int32) (v1 : Int32) (v2 : Int32) (v4 : Int32) (v5 : Int32) (u0 : Int32) : Prop := wpX2_crossings_b86 post k5 k19 c_pg c_un c_ln v1 v2 v4 v5 u0 0
theorem okX2_crossings_b85 (C : yC p { frames := 4, cells := 0, slots := 0, locals := 132 } s m args meth c cX2_crossings 7 RX2 D s0 a0 A) (hB : yB D s0 a0) (hd : yAd ad) (hr : meth.sig.returnType = (some .int)) {post : Int32 → Prop} {k5 : (Nat → Int32) → (Nat → Int32) → (Nat → Int32) → Int32 → Int32 → Int32 → Int32 → Prop} {k19 : (Nat → Int32) → (Nat → Int32) → (Nat → Int32) → Int32 → Int32 → Int32 → Int32 → Int32 → Prop} (hk5 : ∀ (c_pg : Nat → Int32) (c_un : Nat → Int32) (c_ln : Nat → Int32) (v1 : Int32) (v2 : Int32) (v3 : Int32) (v4 : Int32), k5 c_pg c_un c_ln v1 v2 v3 v4 → Y p l e { frames := 4, cells := 0, slots := 0, locals := 132 } s m args below meth c (MQ below (yQi D s0 A (fun r M1 => M1 = mM ad c_pg c_bm c_tx c_ty c_ft c_fa c_sp c_nu c_un c_sf c_st c_ll c_ln c_ip c_gr c_hs ∧ post r)) args s 0 0 A) D s0 A 7 (mM ad c_pg c_bm c_tx c_ty c_ft c_fa c_sp c_nu c_un c_sf c_st c_ll c_ln c_ip c_gr c_hs) 0 0 [some (yr (some (ad 0))), some (yi v1), some (yi v2), some (yi v3), some (yi v4), none, none] 5 []) (hk19 : ∀ (c_pg : Nat → Int32) (c_un : Nat → Int32) (c_ln : Nat → Int32) (v1 : Int32) (v2 : Int32) (v3 : Int32) (v4 : Int32) (v5 : Int32), k19 c_pg c_un c_ln v1 v2 v3 v4 v5 → Y p l e { frames := 4, cells := 0, slots := 0, locals := 132 } s m args below meth c (MQ below (yQi D s0 A (fun r M1 => M1 = mM ad c_pg c_bm c_tx c_ty c_ft c_fa c_sp c_nu c_un c_sf c_st c_ll c_ln c_ip c_gr c_hs ∧ post r)) args s 0 0 A) D s0 A 7 (mM ad c_pg c_bm c_tx c_ty c_ft c_fa c_sp c_nu c_un c_sf c_st c_ll c_ln c_ip c_gr c_hs) 0 0 [some (yr (some (ad 0))), some (yi v1), some (yi v2), some (yi v3), some (yi v4), some (yi v5), none] 19 []) : ∀ (c_pg : Nat → Int32) (c_un : Nat → Int32) (c_ln : Nat → Int32) (v1 : Int32) (v2 : Int32) (v4 : Int32) (v5 : Int32) (u0 : Int32), wpX2_crossings_b85 post k5 k19 c_pg c_un c_ln v1 v2 v4 v5 u0 → Y p l e { frames := 4, cells := 0, slots := 0, locals := 132 } s m args below meth c (MQ below (yQi D s0 A (fun r M1 => M1 = mM ad c_pg c_bm c_tx c_ty c_ft c_fa c_sp c_nu c_un c_sf c_st c_ll c_ln c_ip c_gr c_hs ∧ post r)) args s 0 0 A) D s0 A 7 (mM ad c_pg c_bm c_tx c_ty c_ft c_fa c_sp c_nu c_un c_sf c_st c_ll c_ln c_ip c_gr c_hs) 0 0 [some (yr (some (ad 0))), some (yi v1), some (yi v2), none, some (yi v4), some (yi v5), none] 85 [yi u0] := by
  intro c_pg c_un c_ln v1 v2 v4 v5 u0 h
  rw [wpX2_crossings_b85] at h
  refine y_iconst C 0 dX2_crossings_85 lit0 ?_
  refine y_to C _ ?_ (okX2_crossings_b86 C hB hd hr hk5 hk19 _ _ _ _ _ _ _ _ _ h)
  exact (And.intro rfl (And.intro rfl (And.intro rfl (And.intro rfl (And.intro rfl trivial)))))
def wpX2_crossings_b62 (post : Int32 → Prop) (k5 : (Nat → Int32) → (Nat → Int32) → (Nat → Int32) → Int32 → Int32 → Int32 → Int32 → Prop) (k19 : (Nat → Int32) → (Nat → Int32) → (Nat → Int32) → Int32 → Int32 → Int32 → Int32 → Int32 → Prop) (c_pg : Nat → Int32) (c_un : Nat → Int32) (c_ln : Nat → Int32) (v1 : Int32) (v2 : Int32) (v3 : Int32) (v4 : Int32) (v5 : Int32) (u0 : Int32) : Prop := ((u0 = 0 → wpX2_crossings_b85 post k5 k19 c_pg c_un c_ln v1 v2 v4 v5 v3) ∧ (¬ u0 = 0 → wpX2_crosses c_pg c_un c_ln v4 v5 (fun r4 => ((r4 = 0 → wpX2_crossings_b85 post k5 k19 c_pg c_un c_ln v1 v2 v4 v5 v3) ∧ (¬ r4 = 0 → wpX2_crossings_b86 post k5 k19 c_pg c_un c_ln v1 v2 v4 v5 v3 1)))))
theorem okX2_crossings_b62 (C : yC p { frames := 4, cells := 0, slots := 0, locals := 132 } s m args meth c cX2_crossings 7 RX2 D s0 a0 A) (hB : yB D s0 a0) (hd : yAd ad) (hr : meth.sig.returnType = (some .int)) {post : Int32 → Prop} {k5 : (Nat → Int32) → (Nat → Int32) → (Nat → Int32) → Int32 → Int32 → Int32 → Int32 → Prop} {k19 : (Nat → Int32) → (Nat → Int32) → (Nat → Int32) → Int32 → Int32 → Int32 → Int32 → Int32 → Prop} (hk5 : ∀ (c_pg : Nat → Int32) (c_un : Nat → Int32) (c_ln : Nat → Int32) (v1 : Int32) (v2 : Int32) (v3 : Int32) (v4 : Int32), k5 c_pg c_un c_ln v1 v2 v3 v4 → Y p l e { frames := 4, cells := 0, slots := 0, locals := 132 } s m args below meth c (MQ below (yQi D s0 A (fun r M1 => M1 = mM ad c_pg c_bm c_tx c_ty c_ft c_fa c_sp c_nu c_un c_sf c_st c_ll c_ln c_ip c_gr c_hs ∧ post r)) args s 0 0 A) D s0 A 7 (mM ad c_pg c_bm c_tx c_ty c_ft c_fa c_sp c_nu c_un c_sf c_st c_ll c_ln c_ip c_gr c_hs) 0 0 [some (yr (some (ad 0))), some (yi v1), some (yi v2), some (yi v3), some (yi v4), none, none] 5 []) (hk19 : ∀ (c_pg : Nat → Int32) (c_un : Nat → Int32) (c_ln : Nat → Int32) (v1 : Int32) (v2 : Int32) (v3 : Int32) (v4 : Int32) (v5 : Int32), k19 c_pg c_un c_ln v1 v2 v3 v4 v5 → Y p l e { frames := 4, cells := 0, slots := 0, locals := 132 } s m args below meth c (MQ below (yQi D s0 A (fun r M1 => M1 = mM ad c_pg c_bm c_tx c_ty c_ft c_fa c_sp c_nu c_un c_sf c_st c_ll c_ln c_ip c_gr c_hs ∧ post r)) args s 0 0 A) D s0 A 7 (mM ad c_pg c_bm c_tx c_ty c_ft c_fa c_sp c_nu c_un c_sf c_st c_ll c_ln c_ip c_gr c_hs) 0 0 [some (yr (some (ad 0))), some (yi v1), some (yi v2), some (yi v3), some (yi v4), some (yi v5), none] 19 []) : ∀ (c_pg : Nat → Int32) (c_un : Nat → Int32) (c_ln : Nat → Int32) (v1 : Int32) (v2 : Int32) (v3 : Int32) (v4 : Int32) (v5 : Int32) (u0 : Int32), wpX2_crossings_b62 post k5 k19 c_pg c_un c_ln v1 v2 v3 v4 v5 u0 → Y p l e { frames := 4, cells := 0, slots := 0, locals := 132 } s m args below meth c (MQ below (yQi D s0 A (fun r M1 => M1 = mM ad c_pg c_bm c_tx c_ty c_ft c_fa c_sp c_nu c_un c_sf c_st c_ll c_ln c_ip c_gr c_hs ∧ post r)) args s 0 0 A) D s0 A 7 (mM ad c_pg c_bm c_tx c_ty c_ft c_fa c_sp c_nu c_un c_sf c_st c_ll c_ln c_ip c_gr c_hs) 0 0 [some (yr (some (ad 0))), some (yi v1), some (yi v2), some (yi v3), some (yi v4), some (yi v5), none] 62 [yi u0] := by
  intro c_pg c_un c_ln v1 v2 v3 v4 v5 u0 h
  rw [wpX2_crossings_b62] at h
  refine y_istore C 6 (by decide) dX2_crossings_62 ?_
  refine y_iload_n C 3 rfl rfl dX2_crossings_64 ?_
  refine y_iload C 6 rfl dX2_crossings_65 ?_
  refine y_if_eq C 85 dX2_crossings_67 (by decide) (fun c9 => ?_) (fun c9 => ?_)
  · replace h := h.1 c9
    refine y_to C _ ?_ (okX2_crossings_b85 C hB hd hr hk5 hk19 _ _ _ _ _ _ _ _ h)
    exact (And.intro rfl (And.intro rfl (And.intro rfl (And.intro rfl (And.intro rfl trivial)))))
  · replace h := h.2 c9
    refine y_aload_n C 0 rfl rfl dX2_crossings_70 ?_
    refine y_iload C 4 rfl dX2_crossings_71 ?_
    refine y_iload C 5 rfl dX2_crossings_73 ?_
    refine y_callVi0 C (metX2_crosses hd hB h) (cwV 2 C.hts (lw_V q1475 q1477 qs70 q91 q1478) rfl rfl rfl kdX2_crosses ⟨Nat.le_of_ble_eq_true rfl, Nat.le_of_ble_eq_true rfl⟩) mM_0 rfl rfl rfl (Nat.le_of_ble_eq_true rfl) dX2_crossings_75 (fun r4 M1 hp => ?_)
    clear h
    obtain ⟨rfl, h⟩ := hp
    refine y_if_eq C 85 dX2_crossings_78 (by decide) (fun c9 => ?_) (fun c9 => ?_)
    · replace h := h.1 c9
      refine y_to C _ ?_ (okX2_crossings_b85 C hB hd hr hk5 hk19 _ _ _ _ _ _ _ _ h)
      exact (And.intro rfl (And.intro rfl (And.intro rfl (And.intro rfl (And.intro rfl trivial)))))
    · replace h := h.2 c9
      refine y_iconst C 1 dX2_crossings_81 lit1 ?_
      refine y_goto C 86 dX2_crossings_82 (by decide) ?_
      refine y_to C _ ?_ (okX2_crossings_b86 C hB hd hr hk5 hk19 _ _ _ _ _ _ _ _ _ h)
      exact (And.intro rfl (And.intro rfl (And.intro rfl (And.intro rfl (And.intro rfl trivial)))))
def wpX2_crossings_b57 (post : Int32 → Prop) (k5 : (Nat → Int32) → (Nat → Int32) → (Nat → Int32) → Int32 → Int32 → Int32 → Int32 → Prop) (k19 : (Nat → Int32) → (Nat → Int32) → (Nat → Int32) → Int32 → Int32 → Int32 → Int32 → Int32 → Prop) (c_pg : Nat → Int32) (c_un : Nat → Int32) (c_ln : Nat → Int32) (v1 : Int32) (v2 : Int32) (v3 : Int32) (v4 : Int32) (v5 : Int32) : Prop := wpX2_crossings_b62 post k5 k19 c_pg c_un c_ln v1 v2 v3 v4 v5 1
theorem okX2_crossings_b57 (C : yC p { frames := 4, cells := 0, slots := 0, locals := 132 } s m args meth c cX2_crossings 7 RX2 D s0 a0 A) (hB : yB D s0 a0) (hd : yAd ad) (hr : meth.sig.returnType = (some .int)) {post : Int32 → Prop} {k5 : (Nat → Int32) → (Nat → Int32) → (Nat → Int32) → Int32 → Int32 → Int32 → Int32 → Prop} {k19 : (Nat → Int32) → (Nat → Int32) → (Nat → Int32) → Int32 → Int32 → Int32 → Int32 → Int32 → Prop} (hk5 : ∀ (c_pg : Nat → Int32) (c_un : Nat → Int32) (c_ln : Nat → Int32) (v1 : Int32) (v2 : Int32) (v3 : Int32) (v4 : Int32), k5 c_pg c_un c_ln v1 v2 v3 v4 → Y p l e { frames := 4, cells := 0, slots := 0, locals := 132 } s m args below meth c (MQ below (yQi D s0 A (fun r M1 => M1 = mM ad c_pg c_bm c_tx c_ty c_ft c_fa c_sp c_nu c_un c_sf c_st c_ll c_ln c_ip c_gr c_hs ∧ post r)) args s 0 0 A) D s0 A 7 (mM ad c_pg c_bm c_tx c_ty c_ft c_fa c_sp c_nu c_un c_sf c_st c_ll c_ln c_ip c_gr c_hs) 0 0 [some (yr (some (ad 0))), some (yi v1), some (yi v2), some (yi v3), some (yi v4), none, none] 5 []) (hk19 : ∀ (c_pg : Nat → Int32) (c_un : Nat → Int32) (c_ln : Nat → Int32) (v1 : Int32) (v2 : Int32) (v3 : Int32) (v4 : Int32) (v5 : Int32), k19 c_pg c_un c_ln v1 v2 v3 v4 v5 → Y p l e { frames := 4, cells := 0, slots := 0, locals := 132 } s m args below meth c (MQ below (yQi D s0 A (fun r M1 => M1 = mM ad c_pg c_bm c_tx c_ty c_ft c_fa c_sp c_nu c_un c_sf c_st c_ll c_ln c_ip c_gr c_hs ∧ post r)) args s 0 0 A) D s0 A 7 (mM ad c_pg c_bm c_tx c_ty c_ft c_fa c_sp c_nu c_un c_sf c_st c_ll c_ln c_ip c_gr c_hs) 0 0 [some (yr (some (ad 0))), some (yi v1), some (yi v2), some (yi v3), some (yi v4), some (yi v5), none] 19 []) : ∀ (c_pg : Nat → Int32) (c_un : Nat → Int32) (c_ln : Nat → Int32) (v1 : Int32) (v2 : Int32) (v3 : Int32) (v4 : Int32) (v5 : Int32), wpX2_crossings_b57 post k5 k19 c_pg c_un c_ln v1 v2 v3 v4 v5 → Y p l e { frames := 4, cells := 0, slots := 0, locals := 132 } s m args below meth c (MQ below (yQi D s0 A (fun r M1 => M1 = mM ad c_pg c_bm c_tx c_ty c_ft c_fa c_sp c_nu c_un c_sf c_st c_ll c_ln c_ip c_gr c_hs ∧ post r)) args s 0 0 A) D s0 A 7 (mM ad c_pg c_bm c_tx c_ty c_ft c_fa c_sp c_nu c_un c_sf c_st c_ll c_ln c_ip c_gr c_hs) 0 0 [some (yr (some (ad 0))), some (yi v1), some (yi v2), some (yi v3), some (yi v4), some (yi v5), none] 57 [] := by
  intro c_pg c_un c_ln v1 v2 v3 v4 v5 h
  rw [wpX2_crossings_b57] at h
  refine y_iconst C 1 dX2_crossings_57 lit1 ?_
  refine y_goto C 62 dX2_crossings_58 (by decide) ?_
  refine y_to C _ ?_ (okX2_crossings_b62 C hB hd hr hk5 hk19 _ _ _ _ _ _ _ _ _ h)
  exact (And.intro rfl (And.intro rfl (And.intro rfl (And.intro rfl (And.intro rfl (And.intro rfl trivial))))))
def wpX2_crossings_b61 (post : Int32 → Prop) (k5 : (Nat → Int32) → (Nat → Int32) → (Nat → Int32) → Int32 → Int32 → Int32 → Int32 → Prop) (k19 : (Nat → Int32) → (Nat → Int32) → (Nat → Int32) → Int32 → Int32 → Int32 → Int32 → Int32 → Prop) (c_pg : Nat → Int32) (c_un : Nat → Int32) (c_ln : Nat → Int32) (v1 : Int32) (v2 : Int32) (v3 : Int32) (v4 : Int32) (v5 : Int32) : Prop := wpX2_crossings_b62 post k5 k19 c_pg c_un c_ln v1 v2 v3 v4 v5 0
theorem okX2_crossings_b61 (C : yC p { frames := 4, cells := 0, slots := 0, locals := 132 } s m args meth c cX2_crossings 7 RX2 D s0 a0 A) (hB : yB D s0 a0) (hd : yAd ad) (hr : meth.sig.returnType = (some .int)) {post : Int32 → Prop} {k5 : (Nat → Int32) → (Nat → Int32) → (Nat → Int32) → Int32 → Int32 → Int32 → Int32 → Prop} {k19 : (Nat → Int32) → (Nat → Int32) → (Nat → Int32) → Int32 → Int32 → Int32 → Int32 → Int32 → Prop} (hk5 : ∀ (c_pg : Nat → Int32) (c_un : Nat → Int32) (c_ln : Nat → Int32) (v1 : Int32) (v2 : Int32) (v3 : Int32) (v4 : Int32), k5 c_pg c_un c_ln v1 v2 v3 v4 → Y p l e { frames := 4, cells := 0, slots := 0, locals := 132 } s m args below meth c (MQ below (yQi D s0 A (fun r M1 => M1 = mM ad c_pg c_bm c_tx c_ty c_ft c_fa c_sp c_nu c_un c_sf c_st c_ll c_ln c_ip c_gr c_hs ∧ post r)) args s 0 0 A) D s0 A 7 (mM ad c_pg c_bm c_tx c_ty c_ft c_fa c_sp c_nu c_un c_sf c_st c_ll c_ln c_ip c_gr c_hs) 0 0 [some (yr (some (ad 0))), some (yi v1), some (yi v2), some (yi v3), some (yi v4), none, none] 5 []) (hk19 : ∀ (c_pg : Nat → Int32) (c_un : Nat → Int32) (c_ln : Nat → Int32) (v1 : Int32) (v2 : Int32) (v3 : Int32) (v4 : Int32) (v5 : Int32), k19 c_pg c_un c_ln v1 v2 v3 v4 v5 → Y p l e { frames := 4, cells := 0, slots := 0, locals := 132 } s m args below meth c (MQ below (yQi D s0 A (fun r M1 => M1 = mM ad c_pg c_bm c_tx c_ty c_ft c_fa c_sp c_nu c_un c_sf c_st c_ll c_ln c_ip c_gr c_hs ∧ post r)) args s 0 0 A) D s0 A 7 (mM ad c_pg c_bm c_tx c_ty c_ft c_fa c_sp c_nu c_un c_sf c_st c_ll c_ln c_ip c_gr c_hs) 0 0 [some (yr (some (ad 0))), some (yi v1), some (yi v2), some (yi v3), some (yi v4), some (yi v5), none] 19 []) : ∀ (c_pg : Nat → Int32) (c_un : Nat → Int32) (c_ln : Nat → Int32) (v1 : Int32) (v2 : Int32) (v3 : Int32) (v4 : Int32) (v5 : Int32), wpX2_crossings_b61 post k5 k19 c_pg c_un c_ln v1 v2 v3 v4 v5 → Y p l e { frames := 4, cells := 0, slots := 0, locals := 132 } s m args below meth c (MQ below (yQi D s0 A (fun r M1 => M1 = mM ad c_pg c_bm c_tx c_ty c_ft c_fa c_sp c_nu c_un c_sf c_st c_ll c_ln c_ip c_gr c_hs ∧ post r)) args s 0 0 A) D s0 A 7 (mM ad c_pg c_bm c_tx c_ty c_ft c_fa c_sp c_nu c_un c_sf c_st c_ll c_ln c_ip c_gr c_hs) 0 0 [some (yr (some (ad 0))), some (yi v1), some (yi v2), some (yi v3), some (yi v4), some (yi v5), none] 61 [] := by
  intro c_pg c_un c_ln v1 v2 v3 v4 v5 h
  rw [wpX2_crossings_b61] at h
  refine y_iconst C 0 dX2_crossings_61 lit0 ?_
  refine y_to C _ ?_ (okX2_crossings_b62 C hB hd hr hk5 hk19 _ _ _ _ _ _ _ _ _ h)
  exact (And.intro rfl (And.intro rfl (And.intro rfl (And.intro rfl (And.intro rfl (And.intro rfl trivial))))))
def wpX2_crossings_b44 (post : Int32 → Prop) (k5 : (Nat → Int32) → (Nat → Int32) → (Nat → Int32) → Int32 → Int32 → Int32 → Int32 → Prop) (k19 : (Nat → Int32) → (Nat → Int32) → (Nat → Int32) → Int32 → Int32 → Int32 → Int32 → Int32 → Prop) (c_pg : Nat → Int32) (c_un : Nat → Int32) (c_ln : Nat → Int32) (v1 : Int32) (v2 : Int32) (v3 : Int32) (v4 : Int32) (v5 : Int32) : Prop := ((v2 = (-999) → wpX2_crossings_b57 post k5 k19 c_pg c_un c_ln v1 v2 v3 v4 v5) ∧ (¬ v2 = (-999) → ((¬ v2 = v5 → wpX2_crossings_b61 post k5 k19 c_pg c_un c_ln v1 v2 v3 v4 v5) ∧ (v2 = v5 → wpX2_crossings_b57 post k5 k19 c_pg c_un c_ln v1 v2 v3 v4 v5))))
theorem okX2_crossings_b44 (C : yC p { frames := 4, cells := 0, slots := 0, locals := 132 } s m args meth c cX2_crossings 7 RX2 D s0 a0 A) (hB : yB D s0 a0) (hd : yAd ad) (hr : meth.sig.returnType = (some .int)) {post : Int32 → Prop} {k5 : (Nat → Int32) → (Nat → Int32) → (Nat → Int32) → Int32 → Int32 → Int32 → Int32 → Prop} {k19 : (Nat → Int32) → (Nat → Int32) → (Nat → Int32) → Int32 → Int32 → Int32 → Int32 → Int32 → Prop} (hk5 : ∀ (c_pg : Nat → Int32) (c_un : Nat → Int32) (c_ln : Nat → Int32) (v1 : Int32) (v2 : Int32) (v3 : Int32) (v4 : Int32), k5 c_pg c_un c_ln v1 v2 v3 v4 → Y p l e { frames := 4, cells := 0, slots := 0, locals := 132 } s m args below meth c (MQ below (yQi D s0 A (fun r M1 => M1 = mM ad c_pg c_bm c_tx c_ty c_ft c_fa c_sp c_nu c_un c_sf c_st c_ll c_ln c_ip c_gr c_hs ∧ post r)) args s 0 0 A) D s0 A 7 (mM ad c_pg c_bm c_tx c_ty c_ft c_fa c_sp c_nu c_un c_sf c_st c_ll c_ln c_ip c_gr c_hs) 0 0 [some (yr (some (ad 0))), some (yi v1), some (yi v2), some (yi v3), some (yi v4), none, none] 5 []) (hk19 : ∀ (c_pg : Nat → Int32) (c_un : Nat → Int32) (c_ln : Nat → Int32) (v1 : Int32) (v2 : Int32) (v3 : Int32) (v4 : Int32) (v5 : Int32), k19 c_pg c_un c_ln v1 v2 v3 v4 v5 → Y p l e { frames := 4, cells := 0, slots := 0, locals := 132 } s m args below meth c (MQ below (yQi D s0 A (fun r M1 => M1 = mM ad c_pg c_bm c_tx c_ty c_ft c_fa c_sp c_nu c_un c_sf c_st c_ll c_ln c_ip c_gr c_hs ∧ post r)) args s 0 0 A) D s0 A 7 (mM ad c_pg c_bm c_tx c_ty c_ft c_fa c_sp c_nu c_un c_sf c_st c_ll c_ln c_ip c_gr c_hs) 0 0 [some (yr (some (ad 0))), some (yi v1), some (yi v2), some (yi v3), some (yi v4), some (yi v5), none] 19 []) : ∀ (c_pg : Nat → Int32) (c_un : Nat → Int32) (c_ln : Nat → Int32) (v1 : Int32) (v2 : Int32) (v3 : Int32) (v4 : Int32) (v5 : Int32), wpX2_crossings_b44 post k5 k19 c_pg c_un c_ln v1 v2 v3 v4 v5 → Y p l e { frames := 4, cells := 0, slots := 0, locals := 132 } s m args below meth c (MQ below (yQi D s0 A (fun r M1 => M1 = mM ad c_pg c_bm c_tx c_ty c_ft c_fa c_sp c_nu c_un c_sf c_st c_ll c_ln c_ip c_gr c_hs ∧ post r)) args s 0 0 A) D s0 A 7 (mM ad c_pg c_bm c_tx c_ty c_ft c_fa c_sp c_nu c_un c_sf c_st c_ll c_ln c_ip c_gr c_hs) 0 0 [some (yr (some (ad 0))), some (yi v1), some (yi v2), some (yi v3), some (yi v4), some (yi v5), none] 44 [] := by
  intro c_pg c_un c_ln v1 v2 v3 v4 v5 h
  rw [wpX2_crossings_b44] at h
  refine y_iload_n C 2 rfl rfl dX2_crossings_44 ?_
  refine y_sipush C (-999) dX2_crossings_45 y_sm999 ?_
  refine y_icmp_eq C 57 dX2_crossings_48 (by decide) (fun c9 => ?_) (fun c9 => ?_)
  · replace h := h.1 c9
    refine y_to C _ ?_ (okX2_crossings_b57 C hB hd hr hk5 hk19 _ _ _ _ _ _ _ _ h)
    exact (And.intro rfl (And.intro rfl (And.intro rfl (And.intro rfl (And.intro rfl (And.intro rfl trivial))))))
  · replace h := h.2 c9
    refine y_iload_n C 2 rfl rfl dX2_crossings_51 ?_
    refine y_iload C 5 rfl dX2_crossings_52 ?_
    refine y_icmp_ne C 61 dX2_crossings_54 (by decide) (fun c9 => ?_) (fun c9 => ?_)
    · replace h := h.1 c9
      refine y_to C _ ?_ (okX2_crossings_b61 C hB hd hr hk5 hk19 _ _ _ _ _ _ _ _ h)
      exact (And.intro rfl (And.intro rfl (And.intro rfl (And.intro rfl (And.intro rfl (And.intro rfl trivial))))))
    · replace h := h.2 c9
      refine y_to C _ ?_ (okX2_crossings_b57 C hB hd hr hk5 hk19 _ _ _ _ _ _ _ _ h)
      exact (And.intro rfl (And.intro rfl (And.intro rfl (And.intro rfl (And.intro rfl (And.intro rfl trivial))))))
def wpX2_crossings_b19 (post : Int32 → Prop) (k5 : (Nat → Int32) → (Nat → Int32) → (Nat → Int32) → Int32 → Int32 → Int32 → Int32 → Prop) : Nat → (Nat → Int32) → (Nat → Int32) → (Nat → Int32) → Int32 → Int32 → Int32 → Int32 → Int32 → Prop
  | 0, _, _, _, _, _, _, _, _ => False
  | nn + 1, c_pg, c_un, c_ln, v1, v2, v3, v4, v5 => vp_in 13 1120 ∧ (((c_pg (Int32.toNatClampNeg 13)) ≤ v5 → ∀ x1 : Int32, x1 = v4 + 1 → k5 c_pg c_un c_ln v1 v2 v3 x1) ∧ (¬ (c_pg (Int32.toNatClampNeg 13)) ≤ v5 → ((v1 = (-999) → wpX2_crossings_b44 post k5 (fun c_pg c_un c_ln v1 v2 v3 v4 v5 => wpX2_crossings_b19 post k5 nn c_pg c_un c_ln v1 v2 v3 v4 v5) c_pg c_un c_ln v1 v2 v3 v4 v5) ∧ (¬ v1 = (-999) → ((¬ v1 = v4 → wpX2_crossings_b61 post k5 (fun c_pg c_un c_ln v1 v2 v3 v4 v5 => wpX2_crossings_b19 post k5 nn c_pg c_un c_ln v1 v2 v3 v4 v5) c_pg c_un c_ln v1 v2 v3 v4 v5) ∧ (v1 = v4 → wpX2_crossings_b44 post k5 (fun c_pg c_un c_ln v1 v2 v3 v4 v5 => wpX2_crossings_b19 post k5 nn c_pg c_un c_ln v1 v2 v3 v4 v5) c_pg c_un c_ln v1 v2 v3 v4 v5))))))
theorem okX2_crossings_b19 (C : yC p { frames := 4, cells := 0, slots := 0, locals := 132 } s m args meth c cX2_crossings 7 RX2 D s0 a0 A) (hB : yB D s0 a0) (hd : yAd ad) (hr : meth.sig.returnType = (some .int)) {post : Int32 → Prop} {k5 : (Nat → Int32) → (Nat → Int32) → (Nat → Int32) → Int32 → Int32 → Int32 → Int32 → Prop} (hk5 : ∀ (c_pg : Nat → Int32) (c_un : Nat → Int32) (c_ln : Nat → Int32) (v1 : Int32) (v2 : Int32) (v3 : Int32) (v4 : Int32), k5 c_pg c_un c_ln v1 v2 v3 v4 → Y p l e { frames := 4, cells := 0, slots := 0, locals := 132 } s m args below meth c (MQ below (yQi D s0 A (fun r M1 => M1 = mM ad c_pg c_bm c_tx c_ty c_ft c_fa c_sp c_nu c_un c_sf c_st c_ll c_ln c_ip c_gr c_hs ∧ post r)) args s 0 0 A) D s0 A 7 (mM ad c_pg c_bm c_tx c_ty c_ft c_fa c_sp c_nu c_un c_sf c_st c_ll c_ln c_ip c_gr c_hs) 0 0 [some (yr (some (ad 0))), some (yi v1), some (yi v2), some (yi v3), some (yi v4), none, none] 5 []) : ∀ (nn : Nat) (c_pg : Nat → Int32) (c_un : Nat → Int32) (c_ln : Nat → Int32) (v1 : Int32) (v2 : Int32) (v3 : Int32) (v4 : Int32) (v5 : Int32), wpX2_crossings_b19 post k5 nn c_pg c_un c_ln v1 v2 v3 v4 v5 → Y p l e { frames := 4, cells := 0, slots := 0, locals := 132 } s m args below meth c (MQ below (yQi D s0 A (fun r M1 => M1 = mM ad c_pg c_bm c_tx c_ty c_ft c_fa c_sp c_nu c_un c_sf c_st c_ll c_ln c_ip c_gr c_hs ∧ post r)) args s 0 0 A) D s0 A 7 (mM ad c_pg c_bm c_tx c_ty c_ft c_fa c_sp c_nu c_un c_sf c_st c_ll c_ln c_ip c_gr c_hs) 0 0 [some (yr (some (ad 0))), some (yi v1), some (yi v2), some (yi v3), some (yi v4), some (yi v5), none] 19 [] := by
  intro nn
  induction nn with
  | zero => intro c_pg c_un c_ln v1 v2 v3 v4 v5 h; exact absurd h (by rw [wpX2_crossings_b19]; exact id)
  | succ nn ih =>
    intro c_pg c_un c_ln v1 v2 v3 v4 v5 h
    rw [wpX2_crossings_b19] at h
    refine y_iload C 5 rfl dX2_crossings_19 ?_
    refine y_aload_n C 0 rfl rfl dX2_crossings_21 ?_
    refine y_get (ci := 2) (k := 0) C in_X2 rfl (by decide) q1169 (fun _ h => h) mM_0 rfl dX2_crossings_22 ?_
    refine y_bipush C 13 dX2_crossings_25 y_b13 ?_
    obtain ⟨i9, h⟩ := h
    refine y_iald C (mM_1 hd) i9 dX2_crossings_27 ?_
    refine y_icmp_ge C 94 dX2_crossings_28 (by decide) (fun c9 => ?_) (fun c9 => ?_)
    · replace h := h.1 c9
      replace h := h _ rfl
      refine y_iinc C 4 _ rfl (y_inc1 _) (by decide) dX2_crossings_94 ?_
      refine y_goto C 5 dX2_crossings_97 (by decide) ?_
      refine y_to C _ ?_ (hk5 _ _ _ _ _ _ _ h)
      exact (And.intro rfl (And.intro rfl (And.intro rfl (And.intro rfl (And.intro rfl trivial)))))
    · replace h := h.2 c9
      refine y_iload_n C 1 rfl rfl dX2_crossings_31 ?_
      refine y_sipush C (-999) dX2_crossings_32 y_sm999 ?_
      refine y_icmp_eq C 44 dX2_crossings_35 (by decide) (fun c9 => ?_) (fun c9 => ?_)
      · replace h := h.1 c9
        refine y_to C _ ?_ (okX2_crossings_b44 C hB hd hr hk5 ih _ _ _ _ _ _ _ _ h)
        exact (And.intro rfl (And.intro rfl (And.intro rfl (And.intro rfl (And.intro rfl (And.intro rfl trivial))))))
      · replace h := h.2 c9
        refine y_iload_n C 1 rfl rfl dX2_crossings_38 ?_
        refine y_iload C 4 rfl dX2_crossings_39 ?_
        refine y_icmp_ne C 61 dX2_crossings_41 (by decide) (fun c9 => ?_) (fun c9 => ?_)
        · replace h := h.1 c9
          refine y_to C _ ?_ (okX2_crossings_b61 C hB hd hr hk5 ih _ _ _ _ _ _ _ _ h)
          exact (And.intro rfl (And.intro rfl (And.intro rfl (And.intro rfl (And.intro rfl (And.intro rfl trivial))))))
        · replace h := h.2 c9
          refine y_to C _ ?_ (okX2_crossings_b44 C hB hd hr hk5 ih _ _ _ _ _ _ _ _ h)
          exact (And.intro rfl (And.intro rfl (And.intro rfl (And.intro rfl (And.intro rfl (And.intro rfl trivial))))))
def wpX2_crossings_b5 (post : Int32 → Prop) : Nat → (Nat → Int32) → (Nat → Int32) → (Nat → Int32) → Int32 → Int32 → Int32 → Int32 → Prop
  | 0, _, _, _, _, _, _, _ => False
  | nn + 1, c_pg, c_un, c_ln, v1, v2, v3, v4 => vp_in 0 1120 ∧ (((c_pg (Int32.toNatClampNeg 0)) ≤ v4 → post v3) ∧ (¬ (c_pg (Int32.toNatClampNeg 0)) ≤ v4 → ∃ nf9 : Nat, wpX2_crossings_b19 post (fun c_pg c_un c_ln v1 v2 v3 v4 => wpX2_crossings_b5 post nn c_pg c_un c_ln v1 v2 v3 v4) nf9 c_pg c_un c_ln v1 v2 v3 v4 0))
theorem okX2_crossings_b5 (C : yC p { frames := 4, cells := 0, slots := 0, locals := 132 } s m args meth c cX2_crossings 7 RX2 D s0 a0 A) (hB : yB D s0 a0) (hd : yAd ad) (hr : meth.sig.returnType = (some .int)) {post : Int32 → Prop}  : ∀ (nn : Nat) (c_pg : Nat → Int32) (c_un : Nat → Int32) (c_ln : Nat → Int32) (v1 : Int32) (v2 : Int32) (v3 : Int32) (v4 : Int32), wpX2_crossings_b5 post nn c_pg c_un c_ln v1 v2 v3 v4 → Y p l e { frames := 4, cells := 0, slots := 0, locals := 132 } s m args below meth c (MQ below (yQi D s0 A (fun r M1 => M1 = mM ad c_pg c_bm c_tx c_ty c_ft c_fa c_sp c_nu c_un c_sf c_st c_ll c_ln c_ip c_gr c_hs ∧ post r)) args s 0 0 A) D s0 A 7 (mM ad c_pg c_bm c_tx c_ty c_ft c_fa c_sp c_nu c_un c_sf c_st c_ll c_ln c_ip c_gr c_hs) 0 0 [some (yr (some (ad 0))), some (yi v1), some (yi v2), some (yi v3), some (yi v4), none, none] 5 [] := by
  intro nn
  induction nn with
  | zero => intro c_pg c_un c_ln v1 v2 v3 v4 h; exact absurd h (by rw [wpX2_crossings_b5]; exact id)
  | succ nn ih =>
    intro c_pg c_un c_ln v1 v2 v3 v4 h
    rw [wpX2_crossings_b5] at h
    refine y_iload C 4 rfl dX2_crossings_5 ?_
    refine y_aload_n C 0 rfl rfl dX2_crossings_7 ?_
    refine y_get (ci := 2) (k := 0) C in_X2 rfl (by decide) q1169 (fun _ h => h) mM_0 rfl dX2_crossings_8 ?_
    refine y_iconst C 0 dX2_crossings_11 lit0 ?_
    obtain ⟨i9, h⟩ := h
    refine y_iald C (mM_1 hd) i9 dX2_crossings_12 ?_
    refine y_icmp_ge C 100 dX2_crossings_13 (by decide) (fun c9 => ?_) (fun c9 => ?_)
    · replace h := h.1 c9
      refine y_iload_n C 3 rfl rfl dX2_crossings_100 ?_
      exact y_ireti C hr rfl rfl ⟨rfl, h⟩ dX2_crossings_101
    · replace h := h.2 c9
      refine y_iconst C 0 dX2_crossings_16 lit0 ?_
      refine y_istore C 5 (by decide) dX2_crossings_17 ?_
      obtain ⟨nf9, h⟩ := h
      refine y_to C _ ?_ (okX2_crossings_b19 C hB hd hr ih nf9 _ _ _ _ _ _ _ _ h)
      exact (And.intro rfl (And.intro rfl (And.intro rfl (And.intro rfl (And.intro rfl (And.intro rfl trivial))))))
end sX2_crossings
def wpX2_crossings (c_pg : Nat → Int32) (c_un : Nat → Int32) (c_ln : Nat → Int32) (a1 : Int32) (a2 : Int32) (post : Int32 → Prop) : Prop := ∃ nf9 : Nat, wpX2_crossings_b5 post nf9 c_pg c_un c_ln a1 a2 0 0
theorem metX2_crossings {l : Launch} {D : va_G} {s0 : State} {a0 : Array Value} {ad : Nat → Nat} (hd : yAd ad) (hB : yB D s0 a0) {c_pg : Nat → Int32} {c_bm : Int32} {c_tx : Nat → Int32} {c_ty : Int32} {c_ft : Int32} {c_fa : Int32} {c_sp : Int32} {c_nu : Int32} {c_un : Nat → Int32} {c_sf : Nat → Int32} {c_st : Nat → Int32} {c_ll : Nat → Int32} {c_ln : Nat → Int32} {c_ip : Nat → Int32} {c_gr : Nat → Int32} {c_hs : Int64} {a1 : Int32} {a2 : Int32} {post : Int32 → Prop} (h : wpX2_crossings c_pg c_un c_ln a1 a2 post) : yMi l yX2_crossings (ws_ yX2_crossings cX2_crossings 7 (some .int)) 4 132 0 0 D s0 [yr (some (ad 0)), yi a1, yi a2] (mM ad c_pg c_bm c_tx c_ty c_ft c_fa c_sp c_nu c_un c_sf c_st c_ll c_ln c_ip c_gr c_hs) (fun r M1 => M1 = mM ad c_pg c_bm c_tx c_ty c_ft c_fa c_sp c_nu c_un c_sf c_st c_ll c_ln c_ip c_gr c_hs ∧ post r) := by
  refine y_meti hB (by decide) rfl (Nat.le_of_ble_eq_true rfl) ?_
  intro p e s m below meth c A hr hnm C
  rw [wpX2_crossings] at h
  refine y_iconst C 0 dX2_crossings_0 lit0 ?_
  refine y_istore_n C 3 rfl (by decide) dX2_crossings_1 ?_
  refine y_iconst C 0 dX2_crossings_2 lit0 ?_
  refine y_istore C 4 (by decide) dX2_crossings_3 ?_
  obtain ⟨nf9, h⟩ := h
  refine y_to C _ ?_ (okX2_crossings_b5 C hB hd hr  nf9 _ _ _ _ _ _ _ h)
  exact (And.intro rfl (And.intro rfl (And.intro rfl (And.intro rfl (And.intro rfl trivial)))))
theorem kdX2_crossings : yX2_crossings.cls = RX2 ∧ yX2_crossings.cls ≠ "java/lang/invoke/MethodHandle" ∧ yX2_crossings.cls ≠ "java/lang/invoke/VarHandle" ∧ (parseMethodDescriptor yX2_crossings.desc).map (fun d => d.parameters.length) = some 2 := by decide +kernel
def wpX2_point (c_pg : Nat → Int32) (c_un : Nat → Int32) (c_sf : Nat → Int32) (c_st : Nat → Int32) (c_ll : Nat → Int32) (c_ln : Nat → Int32) (c_ip : Nat → Int32) (c_gr : Nat → Int32) (a1 : Int32) (a2 : Int32) (post : Int32 → (Nat → Int32) → (Nat → Int32) → (Nat → Int32) → (Nat → Int32) → (Nat → Int32) → (Nat → Int32) → (Nat → Int32) → Prop) : Prop := wpX2_isPoint c_pg a1 (fun r1 => ((r1 = 0 → post (-1) c_un c_sf c_st c_ll c_ln c_ip c_gr) ∧ (¬ r1 = 0 → wpX2_in a2 0 4 (fun r2 => ((¬ r2 = 0 → ((2 ≤ a2 → ((¬ a2 = 4 → wpX2_laysLanes c_pg c_un c_sf c_st c_ll c_ln c_ip (fun w_un3 w_sf4 w_st5 w_ll6 w_ln7 w_ip8 => ((¬ a2 = 2 → wpX2_crossings c_pg w_un3 w_ln7 a1 (-999) (fun r9 => post r9 w_un3 w_sf4 w_st5 w_ll6 w_ln7 w_ip8 c_gr)) ∧ (a2 = 2 → wpX2_witness c_pg w_un3 w_ln7 a1 (fun r10 => post r10 w_un3 w_sf4 w_st5 w_ll6 w_ln7 w_ip8 c_gr))))) ∧ (a2 = 4 → wpX2_laysDistances c_pg c_gr 0 (-999) (fun w_gr11 => wpX2_group w_gr11 a1 (fun r12 => post r12 c_un c_sf c_st c_ll c_ln c_ip w_gr11))))) ∧ (¬ 2 ≤ a2 → ((¬ a2 = 0 → wpX2_ends c_pg a1 (fun r13 => post r13 c_un c_sf c_st c_ll c_ln c_ip c_gr)) ∧ (a2 = 0 → wpX2_position c_pg a1 (fun r14 => post r14 c_un c_sf c_st c_ll c_ln c_ip c_gr)))))) ∧ (r2 = 0 → post (-1) c_un c_sf c_st c_ll c_ln c_ip c_gr))))))
theorem metX2_point {l : Launch} {D : va_G} {s0 : State} {a0 : Array Value} {ad : Nat → Nat} (hd : yAd ad) (hB : yB D s0 a0) {c_pg : Nat → Int32} {c_bm : Int32} {c_tx : Nat → Int32} {c_ty : Int32} {c_ft : Int32} {c_fa : Int32} {c_sp : Int32} {c_nu : Int32} {c_un : Nat → Int32} {c_sf : Nat → Int32} {c_st : Nat → Int32} {c_ll : Nat → Int32} {c_ln : Nat → Int32} {c_ip : Nat → Int32} {c_gr : Nat → Int32} {c_hs : Int64} {a1 : Int32} {a2 : Int32} {post : Int32 → (Nat → Int32) → (Nat → Int32) → (Nat → Int32) → (Nat → Int32) → (Nat → Int32) → (Nat → Int32) → (Nat → Int32) → Prop} (h : wpX2_point c_pg c_un c_sf c_st c_ll c_ln c_ip c_gr a1 a2 post) : yMi l yX2_point (ws_ yX2_point cX2_point 3 (some .int)) 9 241 0 0 D s0 [yr (some (ad 0)), yi a1, yi a2] (mM ad c_pg c_bm c_tx c_ty c_ft c_fa c_sp c_nu c_un c_sf c_st c_ll c_ln c_ip c_gr c_hs) (fun r M1 => ∃ (w_un : Nat → Int32) (w_sf : Nat → Int32) (w_st : Nat → Int32) (w_ll : Nat → Int32) (w_ln : Nat → Int32) (w_ip : Nat → Int32) (w_gr : Nat → Int32), M1 = mM ad c_pg c_bm c_tx c_ty c_ft c_fa c_sp c_nu w_un w_sf w_st w_ll w_ln w_ip w_gr c_hs ∧ post r w_un w_sf w_st w_ll w_ln w_ip w_gr) := by
  refine y_meti hB (by decide) rfl (Nat.le_of_ble_eq_true rfl) ?_
  intro p e s m below meth c A hr hnm C
  rw [wpX2_point] at h
  refine y_aload_n C 0 rfl rfl dX2_point_0 ?_
  refine y_iload_n C 1 rfl rfl dX2_point_1 ?_
  refine y_callVi0 C (metX2_isPoint hd hB h) (cwV 1 C.hts (lw_V q1262 q1264 qs30 q91 q1265) rfl rfl rfl kdX2_isPoint ⟨Nat.le_of_ble_eq_true rfl, Nat.le_of_ble_eq_true rfl⟩) mM_0 rfl rfl rfl (Nat.le_of_ble_eq_true rfl) dX2_point_2 (fun r1 M1 hp => ?_)
  clear h
  obtain ⟨rfl, h⟩ := hp
  refine y_if_eq C 17 dX2_point_5 (by decide) (fun c9 => ?_) (fun c9 => ?_)
  · replace h := h.1 c9
    refine y_iconst C (-1) dX2_point_17 litm1 ?_
    exact y_ireti C hr rfl rfl ⟨_, _, _, _, _, _, _, rfl, h⟩ dX2_point_18
  · replace h := h.2 c9
    refine y_iload_n C 2 rfl rfl dX2_point_8 ?_
    refine y_iconst C 0 dX2_point_9 lit0 ?_
    refine y_iconst C 4 dX2_point_10 lit4 ?_
    refine y_callSi0 C (metX2_in hB h) (va_cwS 3 C.hts (lw_S q1231 q1232 q91 q1233) rfl rfl rfl kdX2_in.2 ⟨Nat.le_of_ble_eq_true rfl, Nat.le_of_ble_eq_true rfl⟩) rfl rfl (Nat.le_of_ble_eq_true rfl) dX2_point_11 (fun r2 M1 hp => ?_)
    clear h
    obtain ⟨rfl, h⟩ := hp
    refine y_if_ne C 19 dX2_point_14 (by decide) (fun c9 => ?_) (fun c9 => ?_)
    · replace h := h.1 c9
      refine y_iload_n C 2 rfl rfl dX2_point_19 ?_
      refine y_iconst C 2 dX2_point_20 lit2 ?_
      refine y_icmp_ge C 42 dX2_point_21 (by decide) (fun c9 => ?_) (fun c9 => ?_)
      · replace h := h.1 c9
        refine y_iload_n C 2 rfl rfl dX2_point_42 ?_
        refine y_iconst C 4 dX2_point_43 lit4 ?_
        refine y_icmp_ne C 61 dX2_point_44 (by decide) (fun c9 => ?_) (fun c9 => ?_)
        · replace h := h.1 c9
          refine y_aload_n C 0 rfl rfl dX2_point_61 ?_
          refine y_callVv0 C (metX2_laysLanes hd hB h) (cwV 0 C.hts (lw_V q1415 q1417 qs55 q91 q1418) rfl rfl rfl kdX2_laysLanes ⟨Nat.le_of_ble_eq_true rfl, Nat.le_of_ble_eq_true rfl⟩) mM_0 rfl rfl rfl (Nat.le_of_ble_eq_true rfl) dX2_point_62 (fun M1 hp => ?_)
          clear h
          obtain ⟨w_un3, w_sf4, w_st5, w_ll6, w_ln7, w_ip8, rfl, h⟩ := hp
          refine y_iload_n C 2 rfl rfl dX2_point_65 ?_
          refine y_iconst C 2 dX2_point_66 lit2 ?_
          refine y_icmp_ne C 78 dX2_point_67 (by decide) (fun c9 => ?_) (fun c9 => ?_)
          · replace h := h.1 c9
            refine y_aload_n C 0 rfl rfl dX2_point_78 ?_
            refine y_iload_n C 1 rfl rfl dX2_point_79 ?_
            refine y_sipush C (-999) dX2_point_80 y_sm999 ?_
            refine y_callVi0 C (metX2_crossings hd hB h) (cwV 2 C.hts (lw_V q1471 q1473 qs69 q91 q1474) rfl rfl rfl kdX2_crossings ⟨Nat.le_of_ble_eq_true rfl, Nat.le_of_ble_eq_true rfl⟩) mM_0 rfl rfl rfl (Nat.le_of_ble_eq_true rfl) dX2_point_83 (fun r9 M1 hp => ?_)
            clear h
            obtain ⟨rfl, h⟩ := hp
            exact y_ireti C hr rfl rfl ⟨_, _, _, _, _, _, _, rfl, h⟩ dX2_point_86
          · replace h := h.2 c9
            refine y_aload_n C 0 rfl rfl dX2_point_70 ?_
            refine y_iload_n C 1 rfl rfl dX2_point_71 ?_
            refine y_callVi0 C (metX2_witness hd hB h) (cwV 1 C.hts (lw_V q1463 q1465 qs67 q91 q1466) rfl rfl rfl kdX2_witness ⟨Nat.le_of_ble_eq_true rfl, Nat.le_of_ble_eq_true rfl⟩) mM_0 rfl rfl rfl (Nat.le_of_ble_eq_true rfl) dX2_point_72 (fun r10 M1 hp => ?_)
            clear h
            obtain ⟨rfl, h⟩ := hp
            refine y_goto C 86 dX2_point_75 (by decide) ?_
            exact y_ireti C hr rfl rfl ⟨_, _, _, _, _, _, _, rfl, h⟩ dX2_point_86
        · replace h := h.2 c9
          refine y_aload_n C 0 rfl rfl dX2_point_47 ?_
          refine y_iconst C 0 dX2_point_48 lit0 ?_
          refine y_sipush C (-999) dX2_point_49 y_sm999 ?_
          refine y_callVv0 C (metX2_laysDistances hd hB h) (cwV 2 C.hts (lw_V q1378 q1380 qs46 q91 q1381) rfl rfl rfl kdX2_laysDistances ⟨Nat.le_of_ble_eq_true rfl, Nat.le_of_ble_eq_true rfl⟩) mM_0 rfl rfl rfl (Nat.le_of_ble_eq_true rfl) dX2_point_52 (fun M1 hp => ?_)
          clear h
          obtain ⟨w_gr11, rfl, h⟩ := hp
          refine y_aload_n C 0 rfl rfl dX2_point_55 ?_
          refine y_iload_n C 1 rfl rfl dX2_point_56 ?_
          refine y_callVi0 C (metX2_group hd hB h) (cwV 1 C.hts (lw_V q1399 q1401 qs51 q91 q1402) rfl rfl rfl kdX2_group ⟨Nat.le_of_ble_eq_true rfl, Nat.le_of_ble_eq_true rfl⟩) mM_0 rfl rfl rfl (Nat.le_of_ble_eq_true rfl) dX2_point_57 (fun r12 M1 hp => ?_)
          clear h
          obtain ⟨rfl, h⟩ := hp
          exact y_ireti C hr rfl rfl ⟨_, _, _, _, _, _, _, rfl, h⟩ dX2_point_60
      · replace h := h.2 c9
        refine y_iload_n C 2 rfl rfl dX2_point_24 ?_
        refine y_if_ne C 36 dX2_point_25 (by decide) (fun c9 => ?_) (fun c9 => ?_)
        · replace h := h.1 c9
          refine y_aload_n C 0 rfl rfl dX2_point_36 ?_
          refine y_iload_n C 1 rfl rfl dX2_point_37 ?_
          refine y_callVi0 C (metX2_ends hd hB h) (cwV 1 C.hts (lw_V q1274 q1276 qs32 q91 q1277) rfl rfl rfl kdX2_ends ⟨Nat.le_of_ble_eq_true rfl, Nat.le_of_ble_eq_true rfl⟩) mM_0 rfl rfl rfl (Nat.le_of_ble_eq_true rfl) dX2_point_38 (fun r13 M1 hp => ?_)
          clear h
          obtain ⟨rfl, h⟩ := hp
          exact y_ireti C hr rfl rfl ⟨_, _, _, _, _, _, _, rfl, h⟩ dX2_point_41
        · replace h := h.2 c9
          refine y_aload_n C 0 rfl rfl dX2_point_28 ?_
          refine y_iload_n C 1 rfl rfl dX2_point_29 ?_
          refine y_callVi0 C (metX2_position hd hB h) (cwV 1 C.hts (lw_V q1238 q1240 qs25 q91 q1241) rfl rfl rfl kdX2_position ⟨Nat.le_of_ble_eq_true rfl, Nat.le_of_ble_eq_true rfl⟩) mM_0 rfl rfl rfl (Nat.le_of_ble_eq_true rfl) dX2_point_30 (fun r14 M1 hp => ?_)
          clear h
          obtain ⟨rfl, h⟩ := hp
          refine y_goto C 41 dX2_point_33 (by decide) ?_
          exact y_ireti C hr rfl rfl ⟨_, _, _, _, _, _, _, rfl, h⟩ dX2_point_41
    · replace h := h.2 c9
      refine y_iconst C (-1) dX2_point_17 litm1 ?_
      exact y_ireti C hr rfl rfl ⟨_, _, _, _, _, _, _, rfl, h⟩ dX2_point_18
theorem kdX2_point : yX2_point.cls = RX2 ∧ yX2_point.cls ≠ "java/lang/invoke/MethodHandle" ∧ yX2_point.cls ≠ "java/lang/invoke/VarHandle" ∧ (parseMethodDescriptor yX2_point.desc).map (fun d => d.parameters.length) = some 2 := by decide +kernel
def wpX2_isSuperfluous (c_pg : Nat → Int32) (c_gr : Nat → Int32) (a1 : Int32) (a2 : Int32) (post : Int32 → (Nat → Int32) → Prop) : Prop := wpX2_laysDistances c_pg c_gr (a2 ||| (1 <<< (a1 &&& 31))) (-999) (fun w_gr1 => wpX2_of c_pg a1 0 (fun r2 => wpX2_of c_pg a1 1 (fun r3 => wpX2_areBound w_gr1 r2 r3 (fun r4 => ((r4 = 0 → post 0 w_gr1) ∧ (¬ r4 = 0 → vp_in ((12 * r2) + r3) 144 ∧ wpX2_value c_pg a1 (fun r5 => wpX2_of c_pg a1 3 (fun r6 => (((r5 + r6) < (w_gr1 (Int32.toNatClampNeg ((12 * r2) + r3))) → post 0 w_gr1) ∧ (¬ (r5 + r6) < (w_gr1 (Int32.toNatClampNeg ((12 * r2) + r3))) → vp_in ((12 * r3) + r2) 144 ∧ wpX2_value c_pg a1 (fun r7 => wpX2_of c_pg a1 2 (fun r8 => (((-(w_gr1 (Int32.toNatClampNeg ((12 * r3) + r2)))) < (r7 - r8) → post 0 w_gr1) ∧ (¬ (-(w_gr1 (Int32.toNatClampNeg ((12 * r3) + r2)))) < (r7 - r8) → post 1 w_gr1))))))))))))))
theorem metX2_isSuperfluous {l : Launch} {D : va_G} {s0 : State} {a0 : Array Value} {ad : Nat → Nat} (hd : yAd ad) (hB : yB D s0 a0) {c_pg : Nat → Int32} {c_bm : Int32} {c_tx : Nat → Int32} {c_ty : Int32} {c_ft : Int32} {c_fa : Int32} {c_sp : Int32} {c_nu : Int32} {c_un : Nat → Int32} {c_sf : Nat → Int32} {c_st : Nat → Int32} {c_ll : Nat → Int32} {c_ln : Nat → Int32} {c_ip : Nat → Int32} {c_gr : Nat → Int32} {c_hs : Int64} {a1 : Int32} {a2 : Int32} {post : Int32 → (Nat → Int32) → Prop} (h : wpX2_isSuperfluous c_pg c_gr a1 a2 post) : yMi l yX2_isSuperfluous (ws_ yX2_isSuperfluous cX2_isSuperfluous 5 (some .boolean)) 5 154 0 0 D s0 [yr (some (ad 0)), yi a1, yi a2] (mM ad c_pg c_bm c_tx c_ty c_ft c_fa c_sp c_nu c_un c_sf c_st c_ll c_ln c_ip c_gr c_hs) (fun r M1 => ∃ (w_gr : Nat → Int32), M1 = mM ad c_pg c_bm c_tx c_ty c_ft c_fa c_sp c_nu c_un c_sf c_st c_ll c_ln c_ip w_gr c_hs ∧ post r w_gr) := by
  refine y_meti hB (by decide) rfl (Nat.le_of_ble_eq_true rfl) ?_
  intro p e s m below meth c A hr hnm C
  rw [wpX2_isSuperfluous] at h
  refine y_aload_n C 0 rfl rfl dX2_isSuperfluous_0 ?_
  refine y_iload_n C 2 rfl rfl dX2_isSuperfluous_1 ?_
  refine y_iconst C 1 dX2_isSuperfluous_2 lit1 ?_
  refine y_iload_n C 1 rfl rfl dX2_isSuperfluous_3 ?_
  refine y_ishl C dX2_isSuperfluous_4 ?_
  refine y_ior C dX2_isSuperfluous_5 ?_
  refine y_sipush C (-999) dX2_isSuperfluous_6 y_sm999 ?_
  refine y_callVv0 C (metX2_laysDistances hd hB h) (cwV 2 C.hts (lw_V q1378 q1380 qs46 q91 q1381) rfl rfl rfl kdX2_laysDistances ⟨Nat.le_of_ble_eq_true rfl, Nat.le_of_ble_eq_true rfl⟩) mM_0 rfl rfl rfl (Nat.le_of_ble_eq_true rfl) dX2_isSuperfluous_9 (fun M1 hp => ?_)
  clear h
  obtain ⟨w_gr1, rfl, h⟩ := hp
  refine y_aload_n C 0 rfl rfl dX2_isSuperfluous_12 ?_
  refine y_iload_n C 1 rfl rfl dX2_isSuperfluous_13 ?_
  refine y_iconst C 0 dX2_isSuperfluous_14 lit0 ?_
  refine y_callVi0 C (metX2_of hd hB h) (cwV 2 C.hts (lw_V q1250 q1252 qs28 q91 q1253) rfl rfl rfl kdX2_of ⟨Nat.le_of_ble_eq_true rfl, Nat.le_of_ble_eq_true rfl⟩) mM_0 rfl rfl rfl (Nat.le_of_ble_eq_true rfl) dX2_isSuperfluous_15 (fun r2 M1 hp => ?_)
  clear h
  obtain ⟨rfl, h⟩ := hp
  refine y_istore_n C 3 rfl (by decide) dX2_isSuperfluous_18 ?_
  refine y_aload_n C 0 rfl rfl dX2_isSuperfluous_19 ?_
  refine y_iload_n C 1 rfl rfl dX2_isSuperfluous_20 ?_
  refine y_iconst C 1 dX2_isSuperfluous_21 lit1 ?_
  refine y_callVi0 C (metX2_of hd hB h) (cwV 2 C.hts (lw_V q1250 q1252 qs28 q91 q1253) rfl rfl rfl kdX2_of ⟨Nat.le_of_ble_eq_true rfl, Nat.le_of_ble_eq_true rfl⟩) mM_0 rfl rfl rfl (Nat.le_of_ble_eq_true rfl) dX2_isSuperfluous_22 (fun r3 M1 hp => ?_)
  clear h
  obtain ⟨rfl, h⟩ := hp
  refine y_istore C 4 (by decide) dX2_isSuperfluous_25 ?_
  refine y_aload_n C 0 rfl rfl dX2_isSuperfluous_27 ?_
  refine y_iload_n C 3 rfl rfl dX2_isSuperfluous_28 ?_
  refine y_iload C 4 rfl dX2_isSuperfluous_29 ?_
  refine y_callVi0 C (metX2_areBound hd hB h) (cwV 2 C.hts (lw_V q1403 q1405 qs52 q91 q1406) rfl rfl rfl kdX2_areBound ⟨Nat.le_of_ble_eq_true rfl, Nat.le_of_ble_eq_true rfl⟩) mM_0 rfl rfl rfl (Nat.le_of_ble_eq_true rfl) dX2_isSuperfluous_31 (fun r4 M1 hp => ?_)
  clear h
  obtain ⟨rfl, h⟩ := hp
  refine y_if_eq C 96 dX2_isSuperfluous_34 (by decide) (fun c9 => ?_) (fun c9 => ?_)
  · replace h := h.1 c9
    refine y_iconst C 0 dX2_isSuperfluous_96 lit0 ?_
    exact y_iretz C hr rfl rfl (by decide) ⟨_, rfl, h⟩ dX2_isSuperfluous_97
  · replace h := h.2 c9
    refine y_aload_n C 0 rfl rfl dX2_isSuperfluous_37 ?_
    refine y_get (ci := 2) (k := 14) C in_X2 rfl (by decide) q1183 (fun _ h => h) mM_0 rfl dX2_isSuperfluous_38 ?_
    refine y_bipush C 12 dX2_isSuperfluous_41 y_b12 ?_
    refine y_iload_n C 3 rfl rfl dX2_isSuperfluous_43 ?_
    refine y_imul C dX2_isSuperfluous_44 ?_
    refine y_iload C 4 rfl dX2_isSuperfluous_45 ?_
    refine y_iadd C dX2_isSuperfluous_47 ?_
    obtain ⟨i9, h⟩ := h
    refine y_iald C (mM_9 hd) i9 dX2_isSuperfluous_48 ?_
    refine y_aload_n C 0 rfl rfl dX2_isSuperfluous_49 ?_
    refine y_iload_n C 1 rfl rfl dX2_isSuperfluous_50 ?_
    refine y_callVi0 C (metX2_value hd hB h) (cwV 1 C.hts (lw_V q1383 q1385 qs47 q91 q1386) rfl rfl rfl kdX2_value ⟨Nat.le_of_ble_eq_true rfl, Nat.le_of_ble_eq_true rfl⟩) mM_0 rfl rfl rfl (Nat.le_of_ble_eq_true rfl) dX2_isSuperfluous_51 (fun r5 M1 hp => ?_)
    clear h
    obtain ⟨rfl, h⟩ := hp
    refine y_aload_n C 0 rfl rfl dX2_isSuperfluous_54 ?_
    refine y_iload_n C 1 rfl rfl dX2_isSuperfluous_55 ?_
    refine y_iconst C 3 dX2_isSuperfluous_56 lit3 ?_
    refine y_callVi0 C (metX2_of hd hB h) (cwV 2 C.hts (lw_V q1250 q1252 qs28 q91 q1253) rfl rfl rfl kdX2_of ⟨Nat.le_of_ble_eq_true rfl, Nat.le_of_ble_eq_true rfl⟩) mM_0 rfl rfl rfl (Nat.le_of_ble_eq_true rfl) dX2_isSuperfluous_57 (fun r6 M1 hp => ?_)
    clear h
    obtain ⟨rfl, h⟩ := hp
    refine y_iadd C dX2_isSuperfluous_60 ?_
    refine y_icmp_gt C 96 dX2_isSuperfluous_61 (by decide) (fun c9 => ?_) (fun c9 => ?_)
    · replace h := h.1 c9
      refine y_iconst C 0 dX2_isSuperfluous_96 lit0 ?_
      exact y_iretz C hr rfl rfl (by decide) ⟨_, rfl, h⟩ dX2_isSuperfluous_97
    · replace h := h.2 c9
      refine y_aload_n C 0 rfl rfl dX2_isSuperfluous_64 ?_
      refine y_get (ci := 2) (k := 14) C in_X2 rfl (by decide) q1183 (fun _ h => h) mM_0 rfl dX2_isSuperfluous_65 ?_
      refine y_bipush C 12 dX2_isSuperfluous_68 y_b12 ?_
      refine y_iload C 4 rfl dX2_isSuperfluous_70 ?_
      refine y_imul C dX2_isSuperfluous_72 ?_
      refine y_iload_n C 3 rfl rfl dX2_isSuperfluous_73 ?_
      refine y_iadd C dX2_isSuperfluous_74 ?_
      obtain ⟨i9, h⟩ := h
      refine y_iald C (mM_9 hd) i9 dX2_isSuperfluous_75 ?_
      refine y_ineg C dX2_isSuperfluous_76 ?_
      refine y_aload_n C 0 rfl rfl dX2_isSuperfluous_77 ?_
      refine y_iload_n C 1 rfl rfl dX2_isSuperfluous_78 ?_
      refine y_callVi0 C (metX2_value hd hB h) (cwV 1 C.hts (lw_V q1383 q1385 qs47 q91 q1386) rfl rfl rfl kdX2_value ⟨Nat.le_of_ble_eq_true rfl, Nat.le_of_ble_eq_true rfl⟩) mM_0 rfl rfl rfl (Nat.le_of_ble_eq_true rfl) dX2_isSuperfluous_79 (fun r7 M1 hp => ?_)
      clear h
      obtain ⟨rfl, h⟩ := hp
      refine y_aload_n C 0 rfl rfl dX2_isSuperfluous_82 ?_
      refine y_iload_n C 1 rfl rfl dX2_isSuperfluous_83 ?_
      refine y_iconst C 2 dX2_isSuperfluous_84 lit2 ?_
      refine y_callVi0 C (metX2_of hd hB h) (cwV 2 C.hts (lw_V q1250 q1252 qs28 q91 q1253) rfl rfl rfl kdX2_of ⟨Nat.le_of_ble_eq_true rfl, Nat.le_of_ble_eq_true rfl⟩) mM_0 rfl rfl rfl (Nat.le_of_ble_eq_true rfl) dX2_isSuperfluous_85 (fun r8 M1 hp => ?_)
      clear h
      obtain ⟨rfl, h⟩ := hp
      refine y_isub C dX2_isSuperfluous_88 ?_
      refine y_icmp_lt C 96 dX2_isSuperfluous_89 (by decide) (fun c9 => ?_) (fun c9 => ?_)
      · replace h := h.1 c9
        refine y_iconst C 0 dX2_isSuperfluous_96 lit0 ?_
        exact y_iretz C hr rfl rfl (by decide) ⟨_, rfl, h⟩ dX2_isSuperfluous_97
      · replace h := h.2 c9
        refine y_iconst C 1 dX2_isSuperfluous_92 lit1 ?_
        refine y_goto C 97 dX2_isSuperfluous_93 (by decide) ?_
        exact y_iretz C hr rfl rfl (by decide) ⟨_, rfl, h⟩ dX2_isSuperfluous_97
theorem kdX2_isSuperfluous : yX2_isSuperfluous.cls = RX2 ∧ yX2_isSuperfluous.cls ≠ "java/lang/invoke/MethodHandle" ∧ yX2_isSuperfluous.cls ≠ "java/lang/invoke/VarHandle" ∧ (parseMethodDescriptor yX2_isSuperfluous.desc).map (fun d => d.parameters.length) = some 2 := by decide +kernel
def wpX2_placeOf  (a1 : Int32) (post : Int32 → Prop) : Prop := ((a1 = 3 → post 2) ∧ (a1 = 4 → post 3) ∧ (a1 = 5 → post 4) ∧ (¬ a1 = 3 ∧ ¬ a1 = 4 ∧ ¬ a1 = 5 → post 5))
theorem metX2_placeOf {l : Launch} {D : va_G} {s0 : State} {a0 : Array Value} (hB : yB D s0 a0) {M : yM} {a1 : Int32} {post : Int32 → Prop} (h : wpX2_placeOf  a1 post) : yMi l yX2_placeOf (ws_ yX2_placeOf cX2_placeOf 1 (some .int)) 1 64 0 0 D s0 [yi a1] M (fun r M1 => M1 = M ∧ post r) := by
  refine y_meti hB (by decide) rfl (Nat.le_of_ble_eq_true rfl) ?_
  intro p e s m below meth c A hr hnm C
  rw [wpX2_placeOf] at h
  refine y_iload_n C 0 rfl rfl dX2_placeOf_0 ?_
  by_cases q9_0 : a1 = 3
  · replace h := h.1 q9_0
    refine y_tabIn C 28 dX2_placeOf_1 (by rw [q9_0]; decide) (by rw [q9_0]; decide) (by rw [q9_0]; rfl) (by decide) ?_
    refine y_iconst C 2 dX2_placeOf_28 lit2 ?_
    exact y_ireti C hr rfl rfl ⟨rfl, h⟩ dX2_placeOf_29
  replace h := h.2
  by_cases q9_1 : a1 = 4
  · replace h := h.1 q9_1
    refine y_tabIn C 30 dX2_placeOf_1 (by rw [q9_1]; decide) (by rw [q9_1]; decide) (by rw [q9_1]; rfl) (by decide) ?_
    refine y_iconst C 3 dX2_placeOf_30 lit3 ?_
    exact y_ireti C hr rfl rfl ⟨rfl, h⟩ dX2_placeOf_31
  replace h := h.2
  by_cases q9_2 : a1 = 5
  · replace h := h.1 q9_2
    refine y_tabIn C 32 dX2_placeOf_1 (by rw [q9_2]; decide) (by rw [q9_2]; decide) (by rw [q9_2]; rfl) (by decide) ?_
    refine y_iconst C 4 dX2_placeOf_32 lit4 ?_
    exact y_ireti C hr rfl rfl ⟨rfl, h⟩ dX2_placeOf_33
  replace h := h.2
  replace h := h ⟨q9_0, q9_1, q9_2⟩
  refine y_tabOut C 34 dX2_placeOf_1 (y_rng 3 (by decide) (by decide) (by decide) (fun k9 hk9 => by
      rcases (show k9 = 0 ∨ k9 = 1 ∨ k9 = 2 by omega) with rfl | rfl | rfl
      · exact q9_0
      · exact q9_1
      · exact q9_2)) (by decide) ?_
  refine y_iconst C 5 dX2_placeOf_34 lit5 ?_
  exact y_ireti C hr rfl rfl ⟨rfl, h⟩ dX2_placeOf_35
theorem kdX2_placeOf : yX2_placeOf.cls = RX2 ∧ yX2_placeOf.cls ≠ "java/lang/invoke/MethodHandle" ∧ yX2_placeOf.cls ≠ "java/lang/invoke/VarHandle" ∧ (parseMethodDescriptor yX2_placeOf.desc).map (fun d => d.parameters.length) = some 1 := by decide +kernel
section sX2_dimension
variable {p : Program} {l : Launch} {e : Env} {s : State} {m : MethodId} {args : Array Value} {below : List Frame} {meth : Method} {c : Code} {D : va_G} {s0 : State} {a0 : Array Value} {A : Nat → Prop} {ad : Nat → Nat} {c_pg : Nat → Int32} {c_bm : Int32} {c_tx : Nat → Int32} {c_ty : Int32} {c_ft : Int32} {c_fa : Int32} {c_sp : Int32} {c_nu : Int32} {c_un : Nat → Int32} {c_sf : Nat → Int32} {c_st : Nat → Int32} {c_ll : Nat → Int32} {c_ln : Nat → Int32} {c_ip : Nat → Int32} {c_gr : Nat → Int32} {c_hs : Int64}
def wpX2_dimension_b92 (post : Int32 → (Nat → Int32) → (Nat → Int32) → (Nat → Int32) → (Nat → Int32) → (Nat → Int32) → (Nat → Int32) → (Nat → Int32) → Prop) (c_pg : Nat → Int32) (c_un : Nat → Int32) (c_sf : Nat → Int32) (c_st : Nat → Int32) (c_ll : Nat → Int32) (c_ln : Nat → Int32) (c_ip : Nat → Int32) (c_gr : Nat → Int32) (v1 : Int32) (v2 : Int32) : Prop := wpX2_of c_pg v1 v2 (fun r9 => post r9 c_un c_sf c_st c_ll c_ln c_ip c_gr)
theorem okX2_dimension_b92 (C : yC p { frames := 9, cells := 0, slots := 0, locals := 241 } s m args meth c cX2_dimension 3 RX2 D s0 a0 A) (hB : yB D s0 a0) (hd : yAd ad) (hr : meth.sig.returnType = (some .int)) {post : Int32 → (Nat → Int32) → (Nat → Int32) → (Nat → Int32) → (Nat → Int32) → (Nat → Int32) → (Nat → Int32) → (Nat → Int32) → Prop}  : ∀ (c_pg : Nat → Int32) (c_un : Nat → Int32) (c_sf : Nat → Int32) (c_st : Nat → Int32) (c_ll : Nat → Int32) (c_ln : Nat → Int32) (c_ip : Nat → Int32) (c_gr : Nat → Int32) (v1 : Int32) (v2 : Int32), wpX2_dimension_b92 post c_pg c_un c_sf c_st c_ll c_ln c_ip c_gr v1 v2 → Y p l e { frames := 9, cells := 0, slots := 0, locals := 241 } s m args below meth c (MQ below (yQi D s0 A (fun r M1 => ∃ (w_un : Nat → Int32) (w_sf : Nat → Int32) (w_st : Nat → Int32) (w_ll : Nat → Int32) (w_ln : Nat → Int32) (w_ip : Nat → Int32) (w_gr : Nat → Int32), M1 = mM ad c_pg c_bm c_tx c_ty c_ft c_fa c_sp c_nu w_un w_sf w_st w_ll w_ln w_ip w_gr c_hs ∧ post r w_un w_sf w_st w_ll w_ln w_ip w_gr)) args s 0 0 A) D s0 A 3 (mM ad c_pg c_bm c_tx c_ty c_ft c_fa c_sp c_nu c_un c_sf c_st c_ll c_ln c_ip c_gr c_hs) 0 0 [some (yr (some (ad 0))), some (yi v1), some (yi v2)] 92 [] := by
  intro c_pg c_un c_sf c_st c_ll c_ln c_ip c_gr v1 v2 h
  rw [wpX2_dimension_b92] at h
  refine y_aload_n C 0 rfl rfl dX2_dimension_92 ?_
  refine y_iload_n C 1 rfl rfl dX2_dimension_93 ?_
  refine y_iload_n C 2 rfl rfl dX2_dimension_94 ?_
  refine y_callVi0 C (metX2_of hd hB h) (cwV 2 C.hts (lw_V q1250 q1252 qs28 q91 q1253) rfl rfl rfl kdX2_of ⟨Nat.le_of_ble_eq_true rfl, Nat.le_of_ble_eq_true rfl⟩) mM_0 rfl rfl rfl (Nat.le_of_ble_eq_true rfl) dX2_dimension_95 (fun r9 M1 hp => ?_)
  clear h
  obtain ⟨rfl, h⟩ := hp
  exact y_ireti C hr rfl rfl ⟨_, _, _, _, _, _, _, rfl, h⟩ dX2_dimension_98
def wpX2_dimension_b153 (post : Int32 → (Nat → Int32) → (Nat → Int32) → (Nat → Int32) → (Nat → Int32) → (Nat → Int32) → (Nat → Int32) → (Nat → Int32) → Prop) (c_pg : Nat → Int32) (c_un : Nat → Int32) (c_sf : Nat → Int32) (c_st : Nat → Int32) (c_ll : Nat → Int32) (c_ln : Nat → Int32) (c_ip : Nat → Int32) (c_gr : Nat → Int32) (v1 : Int32) (v2 : Int32) : Prop := wpX2_placeOf v2 (fun r11 => wpX2_of c_pg v1 r11 (fun r12 => post r12 c_un c_sf c_st c_ll c_ln c_ip c_gr))
theorem okX2_dimension_b153 (C : yC p { frames := 9, cells := 0, slots := 0, locals := 241 } s m args meth c cX2_dimension 3 RX2 D s0 a0 A) (hB : yB D s0 a0) (hd : yAd ad) (hr : meth.sig.returnType = (some .int)) {post : Int32 → (Nat → Int32) → (Nat → Int32) → (Nat → Int32) → (Nat → Int32) → (Nat → Int32) → (Nat → Int32) → (Nat → Int32) → Prop}  : ∀ (c_pg : Nat → Int32) (c_un : Nat → Int32) (c_sf : Nat → Int32) (c_st : Nat → Int32) (c_ll : Nat → Int32) (c_ln : Nat → Int32) (c_ip : Nat → Int32) (c_gr : Nat → Int32) (v1 : Int32) (v2 : Int32), wpX2_dimension_b153 post c_pg c_un c_sf c_st c_ll c_ln c_ip c_gr v1 v2 → Y p l e { frames := 9, cells := 0, slots := 0, locals := 241 } s m args below meth c (MQ below (yQi D s0 A (fun r M1 => ∃ (w_un : Nat → Int32) (w_sf : Nat → Int32) (w_st : Nat → Int32) (w_ll : Nat → Int32) (w_ln : Nat → Int32) (w_ip : Nat → Int32) (w_gr : Nat → Int32), M1 = mM ad c_pg c_bm c_tx c_ty c_ft c_fa c_sp c_nu w_un w_sf w_st w_ll w_ln w_ip w_gr c_hs ∧ post r w_un w_sf w_st w_ll w_ln w_ip w_gr)) args s 0 0 A) D s0 A 3 (mM ad c_pg c_bm c_tx c_ty c_ft c_fa c_sp c_nu c_un c_sf c_st c_ll c_ln c_ip c_gr c_hs) 0 0 [some (yr (some (ad 0))), some (yi v1), some (yi v2)] 153 [] := by
  intro c_pg c_un c_sf c_st c_ll c_ln c_ip c_gr v1 v2 h
  rw [wpX2_dimension_b153] at h
  refine y_aload_n C 0 rfl rfl dX2_dimension_153 ?_
  refine y_iload_n C 1 rfl rfl dX2_dimension_154 ?_
  refine y_iload_n C 2 rfl rfl dX2_dimension_155 ?_
  refine y_callSi0 C (metX2_placeOf hB h) (va_cwS 1 C.hts (lw_S q1487 q1488 q91 q1489) rfl rfl rfl kdX2_placeOf.2 ⟨Nat.le_of_ble_eq_true rfl, Nat.le_of_ble_eq_true rfl⟩) rfl rfl (Nat.le_of_ble_eq_true rfl) dX2_dimension_156 (fun r11 M1 hp => ?_)
  clear h
  obtain ⟨rfl, h⟩ := hp
  refine y_callVi0 C (metX2_of hd hB h) (cwV 2 C.hts (lw_V q1250 q1252 qs28 q91 q1253) rfl rfl rfl kdX2_of ⟨Nat.le_of_ble_eq_true rfl, Nat.le_of_ble_eq_true rfl⟩) mM_0 rfl rfl rfl (Nat.le_of_ble_eq_true rfl) dX2_dimension_159 (fun r12 M1 hp => ?_)
  clear h
  obtain ⟨rfl, h⟩ := hp
  exact y_ireti C hr rfl rfl ⟨_, _, _, _, _, _, _, rfl, h⟩ dX2_dimension_162
end sX2_dimension
def wpX2_dimension (c_pg : Nat → Int32) (c_un : Nat → Int32) (c_sf : Nat → Int32) (c_st : Nat → Int32) (c_ll : Nat → Int32) (c_ln : Nat → Int32) (c_ip : Nat → Int32) (c_gr : Nat → Int32) (a1 : Int32) (a2 : Int32) (post : Int32 → (Nat → Int32) → (Nat → Int32) → (Nat → Int32) → (Nat → Int32) → (Nat → Int32) → (Nat → Int32) → (Nat → Int32) → Prop) : Prop := wpX2_isDimension c_pg a1 (fun r1 => ((r1 = 0 → post (-1) c_un c_sf c_st c_ll c_ln c_ip c_gr) ∧ (¬ r1 = 0 → wpX2_in a2 0 12 (fun r2 => ((¬ r2 = 0 → wpX2_laysLanes c_pg c_un c_sf c_st c_ll c_ln c_ip (fun w_un3 w_sf4 w_st5 w_ll6 w_ln7 w_ip8 => ((a2 = 0 → wpX2_dimension_b92 post c_pg w_un3 w_sf4 w_st5 w_ll6 w_ln7 w_ip8 c_gr a1 a2) ∧ (a2 = 1 → wpX2_dimension_b92 post c_pg w_un3 w_sf4 w_st5 w_ll6 w_ln7 w_ip8 c_gr a1 a2) ∧ (a2 = 2 → wpX2_value c_pg a1 (fun r10 => post r10 w_un3 w_sf4 w_st5 w_ll6 w_ln7 w_ip8 c_gr)) ∧ (a2 = 3 → wpX2_dimension_b153 post c_pg w_un3 w_sf4 w_st5 w_ll6 w_ln7 w_ip8 c_gr a1 a2) ∧ (a2 = 4 → wpX2_dimension_b153 post c_pg w_un3 w_sf4 w_st5 w_ll6 w_ln7 w_ip8 c_gr a1 a2) ∧ (a2 = 5 → wpX2_dimension_b153 post c_pg w_un3 w_sf4 w_st5 w_ll6 w_ln7 w_ip8 c_gr a1 a2) ∧ (a2 = 6 → wpX2_dimension_b153 post c_pg w_un3 w_sf4 w_st5 w_ll6 w_ln7 w_ip8 c_gr a1 a2) ∧ (a2 = 7 → wpX2_form c_pg a1 (fun r13 => post r13 w_un3 w_sf4 w_st5 w_ll6 w_ln7 w_ip8 c_gr)) ∧ (a2 = 8 → wpX2_begins c_pg a1 (fun r14 => post r14 w_un3 w_sf4 w_st5 w_ll6 w_ln7 w_ip8 c_gr)) ∧ (a2 = 9 → wpX2_reaches c_pg a1 (fun r15 => post r15 w_un3 w_sf4 w_st5 w_ll6 w_ln7 w_ip8 c_gr)) ∧ (a2 = 10 → wpX2_laneOf w_un3 w_ln7 a1 (fun r16 => post r16 w_un3 w_sf4 w_st5 w_ll6 w_ln7 w_ip8 c_gr)) ∧ (a2 = 11 → wpX2_isSuperfluous c_pg c_gr a1 0 (fun r18 w_gr17 => ((r18 = 0 → post 0 w_un3 w_sf4 w_st5 w_ll6 w_ln7 w_ip8 w_gr17) ∧ (¬ r18 = 0 → post 1 w_un3 w_sf4 w_st5 w_ll6 w_ln7 w_ip8 w_gr17)))) ∧ (a2 = 12 → wpX2_crossings c_pg w_un3 w_ln7 (-999) a1 (fun r19 => post r19 w_un3 w_sf4 w_st5 w_ll6 w_ln7 w_ip8 c_gr)) ∧ (¬ a2 = 0 ∧ ¬ a2 = 1 ∧ ¬ a2 = 2 ∧ ¬ a2 = 3 ∧ ¬ a2 = 4 ∧ ¬ a2 = 5 ∧ ¬ a2 = 6 ∧ ¬ a2 = 7 ∧ ¬ a2 = 8 ∧ ¬ a2 = 9 ∧ ¬ a2 = 10 ∧ ¬ a2 = 11 ∧ ¬ a2 = 12 → wpX2_dimension_b153 post c_pg w_un3 w_sf4 w_st5 w_ll6 w_ln7 w_ip8 c_gr a1 a2)))) ∧ (r2 = 0 → post (-1) c_un c_sf c_st c_ll c_ln c_ip c_gr))))))
theorem metX2_dimension {l : Launch} {D : va_G} {s0 : State} {a0 : Array Value} {ad : Nat → Nat} (hd : yAd ad) (hB : yB D s0 a0) {c_pg : Nat → Int32} {c_bm : Int32} {c_tx : Nat → Int32} {c_ty : Int32} {c_ft : Int32} {c_fa : Int32} {c_sp : Int32} {c_nu : Int32} {c_un : Nat → Int32} {c_sf : Nat → Int32} {c_st : Nat → Int32} {c_ll : Nat → Int32} {c_ln : Nat → Int32} {c_ip : Nat → Int32} {c_gr : Nat → Int32} {c_hs : Int64} {a1 : Int32} {a2 : Int32} {post : Int32 → (Nat → Int32) → (Nat → Int32) → (Nat → Int32) → (Nat → Int32) → (Nat → Int32) → (Nat → Int32) → (Nat → Int32) → Prop} (h : wpX2_dimension c_pg c_un c_sf c_st c_ll c_ln c_ip c_gr a1 a2 post) : yMi l yX2_dimension (ws_ yX2_dimension cX2_dimension 3 (some .int)) 9 241 0 0 D s0 [yr (some (ad 0)), yi a1, yi a2] (mM ad c_pg c_bm c_tx c_ty c_ft c_fa c_sp c_nu c_un c_sf c_st c_ll c_ln c_ip c_gr c_hs) (fun r M1 => ∃ (w_un : Nat → Int32) (w_sf : Nat → Int32) (w_st : Nat → Int32) (w_ll : Nat → Int32) (w_ln : Nat → Int32) (w_ip : Nat → Int32) (w_gr : Nat → Int32), M1 = mM ad c_pg c_bm c_tx c_ty c_ft c_fa c_sp c_nu w_un w_sf w_st w_ll w_ln w_ip w_gr c_hs ∧ post r w_un w_sf w_st w_ll w_ln w_ip w_gr) := by
  refine y_meti hB (by decide) rfl (Nat.le_of_ble_eq_true rfl) ?_
  intro p e s m below meth c A hr hnm C
  rw [wpX2_dimension] at h
  refine y_aload_n C 0 rfl rfl dX2_dimension_0 ?_
  refine y_iload_n C 1 rfl rfl dX2_dimension_1 ?_
  refine y_callVi0 C (metX2_isDimension hd hB h) (cwV 1 C.hts (lw_V q1290 q1292 qs34 q91 q1293) rfl rfl rfl kdX2_isDimension ⟨Nat.le_of_ble_eq_true rfl, Nat.le_of_ble_eq_true rfl⟩) mM_0 rfl rfl rfl (Nat.le_of_ble_eq_true rfl) dX2_dimension_2 (fun r1 M1 hp => ?_)
  clear h
  obtain ⟨rfl, h⟩ := hp
  refine y_if_eq C 18 dX2_dimension_5 (by decide) (fun c9 => ?_) (fun c9 => ?_)
  · replace h := h.1 c9
    refine y_iconst C (-1) dX2_dimension_18 litm1 ?_
    exact y_ireti C hr rfl rfl ⟨_, _, _, _, _, _, _, rfl, h⟩ dX2_dimension_19
  · replace h := h.2 c9
    refine y_iload_n C 2 rfl rfl dX2_dimension_8 ?_
    refine y_iconst C 0 dX2_dimension_9 lit0 ?_
    refine y_bipush C 12 dX2_dimension_10 y_b12 ?_
    refine y_callSi0 C (metX2_in hB h) (va_cwS 3 C.hts (lw_S q1231 q1232 q91 q1233) rfl rfl rfl kdX2_in.2 ⟨Nat.le_of_ble_eq_true rfl, Nat.le_of_ble_eq_true rfl⟩) rfl rfl (Nat.le_of_ble_eq_true rfl) dX2_dimension_12 (fun r2 M1 hp => ?_)
    clear h
    obtain ⟨rfl, h⟩ := hp
    refine y_if_ne C 20 dX2_dimension_15 (by decide) (fun c9 => ?_) (fun c9 => ?_)
    · replace h := h.1 c9
      refine y_aload_n C 0 rfl rfl dX2_dimension_20 ?_
      refine y_callVv0 C (metX2_laysLanes hd hB h) (cwV 0 C.hts (lw_V q1415 q1417 qs55 q91 q1418) rfl rfl rfl kdX2_laysLanes ⟨Nat.le_of_ble_eq_true rfl, Nat.le_of_ble_eq_true rfl⟩) mM_0 rfl rfl rfl (Nat.le_of_ble_eq_true rfl) dX2_dimension_21 (fun M1 hp => ?_)
      clear h
      obtain ⟨w_un3, w_sf4, w_st5, w_ll6, w_ln7, w_ip8, rfl, h⟩ := hp
      refine y_iload_n C 2 rfl rfl dX2_dimension_24 ?_
      by_cases q9_0 : a2 = 0
      · replace h := h.1 q9_0
        refine y_tabIn C 92 dX2_dimension_25 (by rw [q9_0]; decide) (by rw [q9_0]; decide) (by rw [q9_0]; rfl) (by decide) ?_
        refine y_to C _ ?_ (okX2_dimension_b92 C hB hd hr  _ _ _ _ _ _ _ _ _ _ h)
        exact (And.intro rfl (And.intro rfl (And.intro rfl trivial)))
      replace h := h.2
      by_cases q9_1 : a2 = 1
      · replace h := h.1 q9_1
        refine y_tabIn C 92 dX2_dimension_25 (by rw [q9_1]; decide) (by rw [q9_1]; decide) (by rw [q9_1]; rfl) (by decide) ?_
        refine y_to C _ ?_ (okX2_dimension_b92 C hB hd hr  _ _ _ _ _ _ _ _ _ _ h)
        exact (And.intro rfl (And.intro rfl (And.intro rfl trivial)))
      replace h := h.2
      by_cases q9_2 : a2 = 2
      · replace h := h.1 q9_2
        refine y_tabIn C 99 dX2_dimension_25 (by rw [q9_2]; decide) (by rw [q9_2]; decide) (by rw [q9_2]; rfl) (by decide) ?_
        refine y_aload_n C 0 rfl rfl dX2_dimension_99 ?_
        refine y_iload_n C 1 rfl rfl dX2_dimension_100 ?_
        refine y_callVi0 C (metX2_value hd hB h) (cwV 1 C.hts (lw_V q1383 q1385 qs47 q91 q1386) rfl rfl rfl kdX2_value ⟨Nat.le_of_ble_eq_true rfl, Nat.le_of_ble_eq_true rfl⟩) mM_0 rfl rfl rfl (Nat.le_of_ble_eq_true rfl) dX2_dimension_101 (fun r10 M1 hp => ?_)
        clear h
        obtain ⟨rfl, h⟩ := hp
        exact y_ireti C hr rfl rfl ⟨_, _, _, _, _, _, _, rfl, h⟩ dX2_dimension_104
      replace h := h.2
      by_cases q9_3 : a2 = 3
      · replace h := h.1 q9_3
        refine y_tabIn C 153 dX2_dimension_25 (by rw [q9_3]; decide) (by rw [q9_3]; decide) (by rw [q9_3]; rfl) (by decide) ?_
        refine y_to C _ ?_ (okX2_dimension_b153 C hB hd hr  _ _ _ _ _ _ _ _ _ _ h)
        exact (And.intro rfl (And.intro rfl (And.intro rfl trivial)))
      replace h := h.2
      by_cases q9_4 : a2 = 4
      · replace h := h.1 q9_4
        refine y_tabIn C 153 dX2_dimension_25 (by rw [q9_4]; decide) (by rw [q9_4]; decide) (by rw [q9_4]; rfl) (by decide) ?_
        refine y_to C _ ?_ (okX2_dimension_b153 C hB hd hr  _ _ _ _ _ _ _ _ _ _ h)
        exact (And.intro rfl (And.intro rfl (And.intro rfl trivial)))
      replace h := h.2
      by_cases q9_5 : a2 = 5
      · replace h := h.1 q9_5
        refine y_tabIn C 153 dX2_dimension_25 (by rw [q9_5]; decide) (by rw [q9_5]; decide) (by rw [q9_5]; rfl) (by decide) ?_
        refine y_to C _ ?_ (okX2_dimension_b153 C hB hd hr  _ _ _ _ _ _ _ _ _ _ h)
        exact (And.intro rfl (And.intro rfl (And.intro rfl trivial)))
      replace h := h.2
      by_cases q9_6 : a2 = 6
      · replace h := h.1 q9_6
        refine y_tabIn C 153 dX2_dimension_25 (by rw [q9_6]; decide) (by rw [q9_6]; decide) (by rw [q9_6]; rfl) (by decide) ?_
        refine y_to C _ ?_ (okX2_dimension_b153 C hB hd hr  _ _ _ _ _ _ _ _ _ _ h)
        exact (And.intro rfl (And.intro rfl (And.intro rfl trivial)))
      replace h := h.2
      by_cases q9_7 : a2 = 7
      · replace h := h.1 q9_7
        refine y_tabIn C 105 dX2_dimension_25 (by rw [q9_7]; decide) (by rw [q9_7]; decide) (by rw [q9_7]; rfl) (by decide) ?_
        refine y_aload_n C 0 rfl rfl dX2_dimension_105 ?_
        refine y_iload_n C 1 rfl rfl dX2_dimension_106 ?_
        refine y_callVi0 C (metX2_form hd hB h) (cwV 1 C.hts (lw_V q1451 q1453 qs64 q91 q1454) rfl rfl rfl kdX2_form ⟨Nat.le_of_ble_eq_true rfl, Nat.le_of_ble_eq_true rfl⟩) mM_0 rfl rfl rfl (Nat.le_of_ble_eq_true rfl) dX2_dimension_107 (fun r13 M1 hp => ?_)
        clear h
        obtain ⟨rfl, h⟩ := hp
        exact y_ireti C hr rfl rfl ⟨_, _, _, _, _, _, _, rfl, h⟩ dX2_dimension_110
      replace h := h.2
      by_cases q9_8 : a2 = 8
      · replace h := h.1 q9_8
        refine y_tabIn C 111 dX2_dimension_25 (by rw [q9_8]; decide) (by rw [q9_8]; decide) (by rw [q9_8]; rfl) (by decide) ?_
        refine y_aload_n C 0 rfl rfl dX2_dimension_111 ?_
        refine y_iload_n C 1 rfl rfl dX2_dimension_112 ?_
        refine y_callVi0 C (metX2_begins hd hB h) (cwV 1 C.hts (lw_V q1447 q1449 qs63 q91 q1450) rfl rfl rfl kdX2_begins ⟨Nat.le_of_ble_eq_true rfl, Nat.le_of_ble_eq_true rfl⟩) mM_0 rfl rfl rfl (Nat.le_of_ble_eq_true rfl) dX2_dimension_113 (fun r14 M1 hp => ?_)
        clear h
        obtain ⟨rfl, h⟩ := hp
        exact y_ireti C hr rfl rfl ⟨_, _, _, _, _, _, _, rfl, h⟩ dX2_dimension_116
      replace h := h.2
      by_cases q9_9 : a2 = 9
      · replace h := h.1 q9_9
        refine y_tabIn C 117 dX2_dimension_25 (by rw [q9_9]; decide) (by rw [q9_9]; decide) (by rw [q9_9]; rfl) (by decide) ?_
        refine y_aload_n C 0 rfl rfl dX2_dimension_117 ?_
        refine y_iload_n C 1 rfl rfl dX2_dimension_118 ?_
        refine y_callVi0 C (metX2_reaches hd hB h) (cwV 1 C.hts (lw_V q1459 q1461 qs66 q91 q1462) rfl rfl rfl kdX2_reaches ⟨Nat.le_of_ble_eq_true rfl, Nat.le_of_ble_eq_true rfl⟩) mM_0 rfl rfl rfl (Nat.le_of_ble_eq_true rfl) dX2_dimension_119 (fun r15 M1 hp => ?_)
        clear h
        obtain ⟨rfl, h⟩ := hp
        exact y_ireti C hr rfl rfl ⟨_, _, _, _, _, _, _, rfl, h⟩ dX2_dimension_122
      replace h := h.2
      by_cases q9_10 : a2 = 10
      · replace h := h.1 q9_10
        refine y_tabIn C 123 dX2_dimension_25 (by rw [q9_10]; decide) (by rw [q9_10]; decide) (by rw [q9_10]; rfl) (by decide) ?_
        refine y_aload_n C 0 rfl rfl dX2_dimension_123 ?_
        refine y_iload_n C 1 rfl rfl dX2_dimension_124 ?_
        refine y_callVi0 C (metX2_laneOf hd hB h) (cwV 1 C.hts (lw_V q1467 q1469 qs68 q91 q1470) rfl rfl rfl kdX2_laneOf ⟨Nat.le_of_ble_eq_true rfl, Nat.le_of_ble_eq_true rfl⟩) mM_0 rfl rfl rfl (Nat.le_of_ble_eq_true rfl) dX2_dimension_125 (fun r16 M1 hp => ?_)
        clear h
        obtain ⟨rfl, h⟩ := hp
        exact y_ireti C hr rfl rfl ⟨_, _, _, _, _, _, _, rfl, h⟩ dX2_dimension_128
      replace h := h.2
      by_cases q9_11 : a2 = 11
      · replace h := h.1 q9_11
        refine y_tabIn C 129 dX2_dimension_25 (by rw [q9_11]; decide) (by rw [q9_11]; decide) (by rw [q9_11]; rfl) (by decide) ?_
        refine y_aload_n C 0 rfl rfl dX2_dimension_129 ?_
        refine y_iload_n C 1 rfl rfl dX2_dimension_130 ?_
        refine y_iconst C 0 dX2_dimension_131 lit0 ?_
        refine y_callVi0 C (metX2_isSuperfluous hd hB h) (cwV 2 C.hts (lw_V q1483 q1485 qs71 q91 q1486) rfl rfl rfl kdX2_isSuperfluous ⟨Nat.le_of_ble_eq_true rfl, Nat.le_of_ble_eq_true rfl⟩) mM_0 rfl rfl rfl (Nat.le_of_ble_eq_true rfl) dX2_dimension_132 (fun r18 M1 hp => ?_)
        clear h
        obtain ⟨w_gr17, rfl, h⟩ := hp
        refine y_if_eq C 142 dX2_dimension_135 (by decide) (fun c9 => ?_) (fun c9 => ?_)
        · replace h := h.1 c9
          refine y_iconst C 0 dX2_dimension_142 lit0 ?_
          exact y_ireti C hr rfl rfl ⟨_, _, _, _, _, _, _, rfl, h⟩ dX2_dimension_143
        · replace h := h.2 c9
          refine y_iconst C 1 dX2_dimension_138 lit1 ?_
          refine y_goto C 143 dX2_dimension_139 (by decide) ?_
          exact y_ireti C hr rfl rfl ⟨_, _, _, _, _, _, _, rfl, h⟩ dX2_dimension_143
      replace h := h.2
      by_cases q9_12 : a2 = 12
      · replace h := h.1 q9_12
        refine y_tabIn C 144 dX2_dimension_25 (by rw [q9_12]; decide) (by rw [q9_12]; decide) (by rw [q9_12]; rfl) (by decide) ?_
        refine y_aload_n C 0 rfl rfl dX2_dimension_144 ?_
        refine y_sipush C (-999) dX2_dimension_145 y_sm999 ?_
        refine y_iload_n C 1 rfl rfl dX2_dimension_148 ?_
        refine y_callVi0 C (metX2_crossings hd hB h) (cwV 2 C.hts (lw_V q1471 q1473 qs69 q91 q1474) rfl rfl rfl kdX2_crossings ⟨Nat.le_of_ble_eq_true rfl, Nat.le_of_ble_eq_true rfl⟩) mM_0 rfl rfl rfl (Nat.le_of_ble_eq_true rfl) dX2_dimension_149 (fun r19 M1 hp => ?_)
        clear h
        obtain ⟨rfl, h⟩ := hp
        exact y_ireti C hr rfl rfl ⟨_, _, _, _, _, _, _, rfl, h⟩ dX2_dimension_152
      replace h := h.2
      replace h := h ⟨q9_0, q9_1, q9_2, q9_3, q9_4, q9_5, q9_6, q9_7, q9_8, q9_9, q9_10, q9_11, q9_12⟩
      refine y_tabOut C 153 dX2_dimension_25 (y_rng 13 (by decide) (by decide) (by decide) (fun k9 hk9 => by
          rcases (show k9 = 0 ∨ k9 = 1 ∨ k9 = 2 ∨ k9 = 3 ∨ k9 = 4 ∨ k9 = 5 ∨ k9 = 6 ∨ k9 = 7 ∨ k9 = 8 ∨ k9 = 9 ∨ k9 = 10 ∨ k9 = 11 ∨ k9 = 12 by omega) with rfl | rfl | rfl | rfl | rfl | rfl | rfl | rfl | rfl | rfl | rfl | rfl | rfl
          · exact q9_0
          · exact q9_1
          · exact q9_2
          · exact q9_3
          · exact q9_4
          · exact q9_5
          · exact q9_6
          · exact q9_7
          · exact q9_8
          · exact q9_9
          · exact q9_10
          · exact q9_11
          · exact q9_12)) (by decide) ?_
      refine y_to C _ ?_ (okX2_dimension_b153 C hB hd hr  _ _ _ _ _ _ _ _ _ _ h)
      exact (And.intro rfl (And.intro rfl (And.intro rfl trivial)))
    · replace h := h.2 c9
      refine y_iconst C (-1) dX2_dimension_18 litm1 ?_
      exact y_ireti C hr rfl rfl ⟨_, _, _, _, _, _, _, rfl, h⟩ dX2_dimension_19
theorem kdX2_dimension : yX2_dimension.cls = RX2 ∧ yX2_dimension.cls ≠ "java/lang/invoke/MethodHandle" ∧ yX2_dimension.cls ≠ "java/lang/invoke/VarHandle" ∧ (parseMethodDescriptor yX2_dimension.desc).map (fun d => d.parameters.length) = some 2 := by decide +kernel
section sX2_at
variable {p : Program} {l : Launch} {e : Env} {s : State} {m : MethodId} {args : Array Value} {below : List Frame} {meth : Method} {c : Code} {D : va_G} {s0 : State} {a0 : Array Value} {A : Nat → Prop} {ad : Nat → Nat} {c_pg : Nat → Int32} {c_bm : Int32} {c_tx : Nat → Int32} {c_ty : Int32} {c_ft : Int32} {c_fa : Int32} {c_sp : Int32} {c_nu : Int32} {c_un : Nat → Int32} {c_sf : Nat → Int32} {c_st : Nat → Int32} {c_ll : Nat → Int32} {c_ln : Nat → Int32} {c_ip : Nat → Int32} {c_gr : Nat → Int32} {c_hs : Int64}
def wpX2_at_b63 (post : Int32 → (Nat → Int32) → (Nat → Int32) → (Nat → Int32) → (Nat → Int32) → (Nat → Int32) → (Nat → Int32) → Prop) (k24 : (Nat → Int32) → (Nat → Int32) → (Nat → Int32) → (Nat → Int32) → (Nat → Int32) → (Nat → Int32) → (Nat → Int32) → Int32 → Int32 → Int32 → Prop) (c_pg : Nat → Int32) (c_un : Nat → Int32) (c_sf : Nat → Int32) (c_st : Nat → Int32) (c_ll : Nat → Int32) (c_ln : Nat → Int32) (c_ip : Nat → Int32) (v1 : Int32) (v2 : Int32) (v3 : Int32) : Prop := ∀ x9 : Int32, x9 = v3 + 1 → k24 c_pg c_un c_sf c_st c_ll c_ln c_ip v1 v2 x9
theorem okX2_at_b63 (C : yC p { frames := 9, cells := 0, slots := 0, locals := 241 } s m args meth c cX2_at 4 RX2 D s0 a0 A) (hB : yB D s0 a0) (hd : yAd ad) (hr : meth.sig.returnType = (some .int)) {post : Int32 → (Nat → Int32) → (Nat → Int32) → (Nat → Int32) → (Nat → Int32) → (Nat → Int32) → (Nat → Int32) → Prop} {k24 : (Nat → Int32) → (Nat → Int32) → (Nat → Int32) → (Nat → Int32) → (Nat → Int32) → (Nat → Int32) → (Nat → Int32) → Int32 → Int32 → Int32 → Prop} (hk24 : ∀ (c_pg : Nat → Int32) (c_un : Nat → Int32) (c_sf : Nat → Int32) (c_st : Nat → Int32) (c_ll : Nat → Int32) (c_ln : Nat → Int32) (c_ip : Nat → Int32) (v1 : Int32) (v2 : Int32) (v3 : Int32), k24 c_pg c_un c_sf c_st c_ll c_ln c_ip v1 v2 v3 → Y p l e { frames := 9, cells := 0, slots := 0, locals := 241 } s m args below meth c (MQ below (yQi D s0 A (fun r M1 => ∃ (w_un : Nat → Int32) (w_sf : Nat → Int32) (w_st : Nat → Int32) (w_ll : Nat → Int32) (w_ln : Nat → Int32) (w_ip : Nat → Int32), M1 = mM ad c_pg c_bm c_tx c_ty c_ft c_fa c_sp c_nu w_un w_sf w_st w_ll w_ln w_ip c_gr c_hs ∧ post r w_un w_sf w_st w_ll w_ln w_ip)) args s 0 0 A) D s0 A 4 (mM ad c_pg c_bm c_tx c_ty c_ft c_fa c_sp c_nu c_un c_sf c_st c_ll c_ln c_ip c_gr c_hs) 0 0 [some (yr (some (ad 0))), some (yi v1), some (yi v2), some (yi v3)] 24 []) : ∀ (c_pg : Nat → Int32) (c_un : Nat → Int32) (c_sf : Nat → Int32) (c_st : Nat → Int32) (c_ll : Nat → Int32) (c_ln : Nat → Int32) (c_ip : Nat → Int32) (v1 : Int32) (v2 : Int32) (v3 : Int32), wpX2_at_b63 post k24 c_pg c_un c_sf c_st c_ll c_ln c_ip v1 v2 v3 → Y p l e { frames := 9, cells := 0, slots := 0, locals := 241 } s m args below meth c (MQ below (yQi D s0 A (fun r M1 => ∃ (w_un : Nat → Int32) (w_sf : Nat → Int32) (w_st : Nat → Int32) (w_ll : Nat → Int32) (w_ln : Nat → Int32) (w_ip : Nat → Int32), M1 = mM ad c_pg c_bm c_tx c_ty c_ft c_fa c_sp c_nu w_un w_sf w_st w_ll w_ln w_ip c_gr c_hs ∧ post r w_un w_sf w_st w_ll w_ln w_ip)) args s 0 0 A) D s0 A 4 (mM ad c_pg c_bm c_tx c_ty c_ft c_fa c_sp c_nu c_un c_sf c_st c_ll c_ln c_ip c_gr c_hs) 0 0 [some (yr (some (ad 0))), some (yi v1), some (yi v2), some (yi v3)] 63 [] := by
  intro c_pg c_un c_sf c_st c_ll c_ln c_ip v1 v2 v3 h
  rw [wpX2_at_b63] at h
  replace h := h _ rfl
  refine y_iinc C 3 _ rfl (y_inc1 _) (by decide) dX2_at_63 ?_
  refine y_goto C 24 dX2_at_66 (by decide) ?_
  refine y_to C _ ?_ (hk24 _ _ _ _ _ _ _ _ _ _ h)
  exact (And.intro rfl (And.intro rfl (And.intro rfl (And.intro rfl trivial))))
def wpX2_at_b24 (post : Int32 → (Nat → Int32) → (Nat → Int32) → (Nat → Int32) → (Nat → Int32) → (Nat → Int32) → (Nat → Int32) → Prop) : Nat → (Nat → Int32) → (Nat → Int32) → (Nat → Int32) → (Nat → Int32) → (Nat → Int32) → (Nat → Int32) → (Nat → Int32) → Int32 → Int32 → Int32 → Prop
  | 0, _, _, _, _, _, _, _, _, _, _ => False
  | nn + 1, c_pg, c_un, c_sf, c_st, c_ll, c_ln, c_ip, v1, v2, v3 => vp_in 13 1120 ∧ (((c_pg (Int32.toNatClampNeg 13)) ≤ v3 → post (-999) c_un c_sf c_st c_ll c_ln c_ip) ∧ (¬ (c_pg (Int32.toNatClampNeg 13)) ≤ v3 → wpX2_laneOf c_un c_ln v3 (fun r8 => ((¬ r8 = v1 → wpX2_at_b63 post (fun c_pg c_un c_sf c_st c_ll c_ln c_ip v1 v2 v3 => wpX2_at_b24 post nn c_pg c_un c_sf c_st c_ll c_ln c_ip v1 v2 v3) c_pg c_un c_sf c_st c_ll c_ln c_ip v1 v2 v3) ∧ (r8 = v1 → wpX2_begins c_pg v3 (fun r10 => wpX2_reaches c_pg v3 (fun r11 => wpX2_in v2 r10 r11 (fun r12 => ((r12 = 0 → wpX2_at_b63 post (fun c_pg c_un c_sf c_st c_ll c_ln c_ip v1 v2 v3 => wpX2_at_b24 post nn c_pg c_un c_sf c_st c_ll c_ln c_ip v1 v2 v3) c_pg c_un c_sf c_st c_ll c_ln c_ip v1 v2 v3) ∧ (¬ r12 = 0 → post v3 c_un c_sf c_st c_ll c_ln c_ip))))))))))
theorem okX2_at_b24 (C : yC p { frames := 9, cells := 0, slots := 0, locals := 241 } s m args meth c cX2_at 4 RX2 D s0 a0 A) (hB : yB D s0 a0) (hd : yAd ad) (hr : meth.sig.returnType = (some .int)) {post : Int32 → (Nat → Int32) → (Nat → Int32) → (Nat → Int32) → (Nat → Int32) → (Nat → Int32) → (Nat → Int32) → Prop}  : ∀ (nn : Nat) (c_pg : Nat → Int32) (c_un : Nat → Int32) (c_sf : Nat → Int32) (c_st : Nat → Int32) (c_ll : Nat → Int32) (c_ln : Nat → Int32) (c_ip : Nat → Int32) (v1 : Int32) (v2 : Int32) (v3 : Int32), wpX2_at_b24 post nn c_pg c_un c_sf c_st c_ll c_ln c_ip v1 v2 v3 → Y p l e { frames := 9, cells := 0, slots := 0, locals := 241 } s m args below meth c (MQ below (yQi D s0 A (fun r M1 => ∃ (w_un : Nat → Int32) (w_sf : Nat → Int32) (w_st : Nat → Int32) (w_ll : Nat → Int32) (w_ln : Nat → Int32) (w_ip : Nat → Int32), M1 = mM ad c_pg c_bm c_tx c_ty c_ft c_fa c_sp c_nu w_un w_sf w_st w_ll w_ln w_ip c_gr c_hs ∧ post r w_un w_sf w_st w_ll w_ln w_ip)) args s 0 0 A) D s0 A 4 (mM ad c_pg c_bm c_tx c_ty c_ft c_fa c_sp c_nu c_un c_sf c_st c_ll c_ln c_ip c_gr c_hs) 0 0 [some (yr (some (ad 0))), some (yi v1), some (yi v2), some (yi v3)] 24 [] := by
  intro nn
  induction nn with
  | zero => intro c_pg c_un c_sf c_st c_ll c_ln c_ip v1 v2 v3 h; exact absurd h (by rw [wpX2_at_b24]; exact id)
  | succ nn ih =>
    intro c_pg c_un c_sf c_st c_ll c_ln c_ip v1 v2 v3 h
    rw [wpX2_at_b24] at h
    refine y_iload_n C 3 rfl rfl dX2_at_24 ?_
    refine y_aload_n C 0 rfl rfl dX2_at_25 ?_
    refine y_get (ci := 2) (k := 0) C in_X2 rfl (by decide) q1169 (fun _ h => h) mM_0 rfl dX2_at_26 ?_
    refine y_bipush C 13 dX2_at_29 y_b13 ?_
    obtain ⟨i9, h⟩ := h
    refine y_iald C (mM_1 hd) i9 dX2_at_31 ?_
    refine y_icmp_ge C 69 dX2_at_32 (by decide) (fun c9 => ?_) (fun c9 => ?_)
    · replace h := h.1 c9
      refine y_sipush C (-999) dX2_at_69 y_sm999 ?_
      exact y_ireti C hr rfl rfl ⟨_, _, _, _, _, _, rfl, h⟩ dX2_at_72
    · replace h := h.2 c9
      refine y_aload_n C 0 rfl rfl dX2_at_35 ?_
      refine y_iload_n C 3 rfl rfl dX2_at_36 ?_
      refine y_callVi0 C (metX2_laneOf hd hB h) (cwV 1 C.hts (lw_V q1467 q1469 qs68 q91 q1470) rfl rfl rfl kdX2_laneOf ⟨Nat.le_of_ble_eq_true rfl, Nat.le_of_ble_eq_true rfl⟩) mM_0 rfl rfl rfl (Nat.le_of_ble_eq_true rfl) dX2_at_37 (fun r8 M1 hp => ?_)
      clear h
      obtain ⟨rfl, h⟩ := hp
      refine y_iload_n C 1 rfl rfl dX2_at_40 ?_
      refine y_icmp_ne C 63 dX2_at_41 (by decide) (fun c9 => ?_) (fun c9 => ?_)
      · replace h := h.1 c9
        refine y_to C _ ?_ (okX2_at_b63 C hB hd hr ih _ _ _ _ _ _ _ _ _ _ h)
        exact (And.intro rfl (And.intro rfl (And.intro rfl (And.intro rfl trivial))))
      · replace h := h.2 c9
        refine y_iload_n C 2 rfl rfl dX2_at_44 ?_
        refine y_aload_n C 0 rfl rfl dX2_at_45 ?_
        refine y_iload_n C 3 rfl rfl dX2_at_46 ?_
        refine y_callVi0 C (metX2_begins hd hB h) (cwV 1 C.hts (lw_V q1447 q1449 qs63 q91 q1450) rfl rfl rfl kdX2_begins ⟨Nat.le_of_ble_eq_true rfl, Nat.le_of_ble_eq_true rfl⟩) mM_0 rfl rfl rfl (Nat.le_of_ble_eq_true rfl) dX2_at_47 (fun r10 M1 hp => ?_)
        clear h
        obtain ⟨rfl, h⟩ := hp
        refine y_aload_n C 0 rfl rfl dX2_at_50 ?_
        refine y_iload_n C 3 rfl rfl dX2_at_51 ?_
        refine y_callVi0 C (metX2_reaches hd hB h) (cwV 1 C.hts (lw_V q1459 q1461 qs66 q91 q1462) rfl rfl rfl kdX2_reaches ⟨Nat.le_of_ble_eq_true rfl, Nat.le_of_ble_eq_true rfl⟩) mM_0 rfl rfl rfl (Nat.le_of_ble_eq_true rfl) dX2_at_52 (fun r11 M1 hp => ?_)
        clear h
        obtain ⟨rfl, h⟩ := hp
        refine y_callSi0 C (metX2_in hB h) (va_cwS 3 C.hts (lw_S q1231 q1232 q91 q1233) rfl rfl rfl kdX2_in.2 ⟨Nat.le_of_ble_eq_true rfl, Nat.le_of_ble_eq_true rfl⟩) rfl rfl (Nat.le_of_ble_eq_true rfl) dX2_at_55 (fun r12 M1 hp => ?_)
        clear h
        obtain ⟨rfl, h⟩ := hp
        refine y_if_eq C 63 dX2_at_58 (by decide) (fun c9 => ?_) (fun c9 => ?_)
        · replace h := h.1 c9
          refine y_to C _ ?_ (okX2_at_b63 C hB hd hr ih _ _ _ _ _ _ _ _ _ _ h)
          exact (And.intro rfl (And.intro rfl (And.intro rfl (And.intro rfl trivial))))
        · replace h := h.2 c9
          refine y_iload_n C 3 rfl rfl dX2_at_61 ?_
          exact y_ireti C hr rfl rfl ⟨_, _, _, _, _, _, rfl, h⟩ dX2_at_62
end sX2_at
def wpX2_at (c_pg : Nat → Int32) (c_un : Nat → Int32) (c_sf : Nat → Int32) (c_st : Nat → Int32) (c_ll : Nat → Int32) (c_ln : Nat → Int32) (c_ip : Nat → Int32) (a1 : Int32) (a2 : Int32) (post : Int32 → (Nat → Int32) → (Nat → Int32) → (Nat → Int32) → (Nat → Int32) → (Nat → Int32) → (Nat → Int32) → Prop) : Prop := ((a1 < 0 → post (-1) c_un c_sf c_st c_ll c_ln c_ip) ∧ (¬ a1 < 0 → wpX2_in a2 (-9) 400 (fun r1 => ((¬ r1 = 0 → wpX2_laysLanes c_pg c_un c_sf c_st c_ll c_ln c_ip (fun w_un2 w_sf3 w_st4 w_ll5 w_ln6 w_ip7 => ∃ nf9 : Nat, wpX2_at_b24 post nf9 c_pg w_un2 w_sf3 w_st4 w_ll5 w_ln6 w_ip7 a1 a2 0)) ∧ (r1 = 0 → post (-1) c_un c_sf c_st c_ll c_ln c_ip)))))
theorem metX2_at {l : Launch} {D : va_G} {s0 : State} {a0 : Array Value} {ad : Nat → Nat} (hd : yAd ad) (hB : yB D s0 a0) {c_pg : Nat → Int32} {c_bm : Int32} {c_tx : Nat → Int32} {c_ty : Int32} {c_ft : Int32} {c_fa : Int32} {c_sp : Int32} {c_nu : Int32} {c_un : Nat → Int32} {c_sf : Nat → Int32} {c_st : Nat → Int32} {c_ll : Nat → Int32} {c_ln : Nat → Int32} {c_ip : Nat → Int32} {c_gr : Nat → Int32} {c_hs : Int64} {a1 : Int32} {a2 : Int32} {post : Int32 → (Nat → Int32) → (Nat → Int32) → (Nat → Int32) → (Nat → Int32) → (Nat → Int32) → (Nat → Int32) → Prop} (h : wpX2_at c_pg c_un c_sf c_st c_ll c_ln c_ip a1 a2 post) : yMi l yX2_at (ws_ yX2_at cX2_at 4 (some .int)) 9 241 0 0 D s0 [yr (some (ad 0)), yi a1, yi a2] (mM ad c_pg c_bm c_tx c_ty c_ft c_fa c_sp c_nu c_un c_sf c_st c_ll c_ln c_ip c_gr c_hs) (fun r M1 => ∃ (w_un : Nat → Int32) (w_sf : Nat → Int32) (w_st : Nat → Int32) (w_ll : Nat → Int32) (w_ln : Nat → Int32) (w_ip : Nat → Int32), M1 = mM ad c_pg c_bm c_tx c_ty c_ft c_fa c_sp c_nu w_un w_sf w_st w_ll w_ln w_ip c_gr c_hs ∧ post r w_un w_sf w_st w_ll w_ln w_ip) := by
  refine y_meti hB (by decide) rfl (Nat.le_of_ble_eq_true rfl) ?_
  intro p e s m below meth c A hr hnm C
  rw [wpX2_at] at h
  refine y_iload_n C 1 rfl rfl dX2_at_0 ?_
  refine y_if_lt C 16 dX2_at_1 (by decide) (fun c9 => ?_) (fun c9 => ?_)
  · replace h := h.1 c9
    refine y_iconst C (-1) dX2_at_16 litm1 ?_
    exact y_ireti C hr rfl rfl ⟨_, _, _, _, _, _, rfl, h⟩ dX2_at_17
  · replace h := h.2 c9
    refine y_iload_n C 2 rfl rfl dX2_at_4 ?_
    refine y_bipush C (-9) dX2_at_5 y_bm9 ?_
    refine y_sipush C 400 dX2_at_7 y_s400 ?_
    refine y_callSi0 C (metX2_in hB h) (va_cwS 3 C.hts (lw_S q1231 q1232 q91 q1233) rfl rfl rfl kdX2_in.2 ⟨Nat.le_of_ble_eq_true rfl, Nat.le_of_ble_eq_true rfl⟩) rfl rfl (Nat.le_of_ble_eq_true rfl) dX2_at_10 (fun r1 M1 hp => ?_)
    clear h
    obtain ⟨rfl, h⟩ := hp
    refine y_if_ne C 18 dX2_at_13 (by decide) (fun c9 => ?_) (fun c9 => ?_)
    · replace h := h.1 c9
      refine y_aload_n C 0 rfl rfl dX2_at_18 ?_
      refine y_callVv0 C (metX2_laysLanes hd hB h) (cwV 0 C.hts (lw_V q1415 q1417 qs55 q91 q1418) rfl rfl rfl kdX2_laysLanes ⟨Nat.le_of_ble_eq_true rfl, Nat.le_of_ble_eq_true rfl⟩) mM_0 rfl rfl rfl (Nat.le_of_ble_eq_true rfl) dX2_at_19 (fun M1 hp => ?_)
      clear h
      obtain ⟨w_un2, w_sf3, w_st4, w_ll5, w_ln6, w_ip7, rfl, h⟩ := hp
      refine y_iconst C 0 dX2_at_22 lit0 ?_
      refine y_istore_n C 3 rfl (by decide) dX2_at_23 ?_
      obtain ⟨nf9, h⟩ := h
      refine y_to C _ ?_ (okX2_at_b24 C hB hd hr  nf9 _ _ _ _ _ _ _ _ _ _ h)
      exact (And.intro rfl (And.intro rfl (And.intro rfl (And.intro rfl trivial))))
    · replace h := h.2 c9
      refine y_iconst C (-1) dX2_at_16 litm1 ?_
      exact y_ireti C hr rfl rfl ⟨_, _, _, _, _, _, rfl, h⟩ dX2_at_17
theorem kdX2_at : yX2_at.cls = RX2 ∧ yX2_at.cls ≠ "java/lang/invoke/MethodHandle" ∧ yX2_at.cls ≠ "java/lang/invoke/VarHandle" ∧ (parseMethodDescriptor yX2_at.desc).map (fun d => d.parameters.length) = some 2 := by decide +kernel
def wpX2_arePoints (c_pg : Nat → Int32) (a1 : Int32) (a2 : Int32) (post : Int32 → Prop) : Prop := wpX2_isPoint c_pg a1 (fun r1 => ((r1 = 0 → post 0) ∧ (¬ r1 = 0 → wpX2_isPoint c_pg a2 (fun r2 => ((r2 = 0 → post 0) ∧ (¬ r2 = 0 → ((a1 = a2 → post 0) ∧ (¬ a1 = a2 → post 1))))))))
theorem metX2_arePoints {l : Launch} {D : va_G} {s0 : State} {a0 : Array Value} {ad : Nat → Nat} (hd : yAd ad) (hB : yB D s0 a0) {c_pg : Nat → Int32} {c_bm : Int32} {c_tx : Nat → Int32} {c_ty : Int32} {c_ft : Int32} {c_fa : Int32} {c_sp : Int32} {c_nu : Int32} {c_un : Nat → Int32} {c_sf : Nat → Int32} {c_st : Nat → Int32} {c_ll : Nat → Int32} {c_ln : Nat → Int32} {c_ip : Nat → Int32} {c_gr : Nat → Int32} {c_hs : Int64} {a1 : Int32} {a2 : Int32} {post : Int32 → Prop} (h : wpX2_arePoints c_pg a1 a2 post) : yMi l yX2_arePoints (ws_ yX2_arePoints cX2_arePoints 3 (some .boolean)) 3 107 0 0 D s0 [yr (some (ad 0)), yi a1, yi a2] (mM ad c_pg c_bm c_tx c_ty c_ft c_fa c_sp c_nu c_un c_sf c_st c_ll c_ln c_ip c_gr c_hs) (fun r M1 => M1 = mM ad c_pg c_bm c_tx c_ty c_ft c_fa c_sp c_nu c_un c_sf c_st c_ll c_ln c_ip c_gr c_hs ∧ post r) := by
  refine y_meti hB (by decide) rfl (Nat.le_of_ble_eq_true rfl) ?_
  intro p e s m below meth c A hr hnm C
  rw [wpX2_arePoints] at h
  refine y_aload_n C 0 rfl rfl dX2_arePoints_0 ?_
  refine y_iload_n C 1 rfl rfl dX2_arePoints_1 ?_
  refine y_callVi0 C (metX2_isPoint hd hB h) (cwV 1 C.hts (lw_V q1262 q1264 qs30 q91 q1265) rfl rfl rfl kdX2_isPoint ⟨Nat.le_of_ble_eq_true rfl, Nat.le_of_ble_eq_true rfl⟩) mM_0 rfl rfl rfl (Nat.le_of_ble_eq_true rfl) dX2_arePoints_2 (fun r1 M1 hp => ?_)
  clear h
  obtain ⟨rfl, h⟩ := hp
  refine y_if_eq C 25 dX2_arePoints_5 (by decide) (fun c9 => ?_) (fun c9 => ?_)
  · replace h := h.1 c9
    refine y_iconst C 0 dX2_arePoints_25 lit0 ?_
    exact y_iretz C hr rfl rfl (by decide) ⟨rfl, h⟩ dX2_arePoints_26
  · replace h := h.2 c9
    refine y_aload_n C 0 rfl rfl dX2_arePoints_8 ?_
    refine y_iload_n C 2 rfl rfl dX2_arePoints_9 ?_
    refine y_callVi0 C (metX2_isPoint hd hB h) (cwV 1 C.hts (lw_V q1262 q1264 qs30 q91 q1265) rfl rfl rfl kdX2_isPoint ⟨Nat.le_of_ble_eq_true rfl, Nat.le_of_ble_eq_true rfl⟩) mM_0 rfl rfl rfl (Nat.le_of_ble_eq_true rfl) dX2_arePoints_10 (fun r2 M1 hp => ?_)
    clear h
    obtain ⟨rfl, h⟩ := hp
    refine y_if_eq C 25 dX2_arePoints_13 (by decide) (fun c9 => ?_) (fun c9 => ?_)
    · replace h := h.1 c9
      refine y_iconst C 0 dX2_arePoints_25 lit0 ?_
      exact y_iretz C hr rfl rfl (by decide) ⟨rfl, h⟩ dX2_arePoints_26
    · replace h := h.2 c9
      refine y_iload_n C 1 rfl rfl dX2_arePoints_16 ?_
      refine y_iload_n C 2 rfl rfl dX2_arePoints_17 ?_
      refine y_icmp_eq C 25 dX2_arePoints_18 (by decide) (fun c9 => ?_) (fun c9 => ?_)
      · replace h := h.1 c9
        refine y_iconst C 0 dX2_arePoints_25 lit0 ?_
        exact y_iretz C hr rfl rfl (by decide) ⟨rfl, h⟩ dX2_arePoints_26
      · replace h := h.2 c9
        refine y_iconst C 1 dX2_arePoints_21 lit1 ?_
        refine y_goto C 26 dX2_arePoints_22 (by decide) ?_
        exact y_iretz C hr rfl rfl (by decide) ⟨rfl, h⟩ dX2_arePoints_26
theorem kdX2_arePoints : yX2_arePoints.cls = RX2 ∧ yX2_arePoints.cls ≠ "java/lang/invoke/MethodHandle" ∧ yX2_arePoints.cls ≠ "java/lang/invoke/VarHandle" ∧ (parseMethodDescriptor yX2_arePoints.desc).map (fun d => d.parameters.length) = some 2 := by decide +kernel
def wpX2_distance (c_pg : Nat → Int32) (c_gr : Nat → Int32) (a1 : Int32) (a2 : Int32) (a3 : Int32) (post : Int32 → (Nat → Int32) → Prop) : Prop := wpX2_arePoints c_pg a1 a2 (fun r1 => ((¬ r1 = 0 → wpX2_laysDistances c_pg c_gr 0 (-999) (fun w_gr2 => wpX2_areBound w_gr2 a1 a2 (fun r3 => ((¬ r3 = 0 → ((a3 = 0 → vp_in ((12 * a2) + a1) 144 ∧ post (-(w_gr2 (Int32.toNatClampNeg ((12 * a2) + a1)))) w_gr2) ∧ (¬ a3 = 0 → vp_in ((12 * a1) + a2) 144 ∧ post (w_gr2 (Int32.toNatClampNeg ((12 * a1) + a2))) w_gr2))) ∧ (r3 = 0 → post (-999) w_gr2))))) ∧ (r1 = 0 → post (-1) c_gr)))
theorem metX2_distance {l : Launch} {D : va_G} {s0 : State} {a0 : Array Value} {ad : Nat → Nat} (hd : yAd ad) (hB : yB D s0 a0) {c_pg : Nat → Int32} {c_bm : Int32} {c_tx : Nat → Int32} {c_ty : Int32} {c_ft : Int32} {c_fa : Int32} {c_sp : Int32} {c_nu : Int32} {c_un : Nat → Int32} {c_sf : Nat → Int32} {c_st : Nat → Int32} {c_ll : Nat → Int32} {c_ln : Nat → Int32} {c_ip : Nat → Int32} {c_gr : Nat → Int32} {c_hs : Int64} {a1 : Int32} {a2 : Int32} {a3 : Int32} {post : Int32 → (Nat → Int32) → Prop} (h : wpX2_distance c_pg c_gr a1 a2 a3 post) : yMi l yX2_distance (ws_ yX2_distance cX2_distance 4 (some .int)) 5 154 0 0 D s0 [yr (some (ad 0)), yi a1, yi a2, yi a3] (mM ad c_pg c_bm c_tx c_ty c_ft c_fa c_sp c_nu c_un c_sf c_st c_ll c_ln c_ip c_gr c_hs) (fun r M1 => ∃ (w_gr : Nat → Int32), M1 = mM ad c_pg c_bm c_tx c_ty c_ft c_fa c_sp c_nu c_un c_sf c_st c_ll c_ln c_ip w_gr c_hs ∧ post r w_gr) := by
  refine y_meti hB (by decide) rfl (Nat.le_of_ble_eq_true rfl) ?_
  intro p e s m below meth c A hr hnm C
  rw [wpX2_distance] at h
  refine y_aload_n C 0 rfl rfl dX2_distance_0 ?_
  refine y_iload_n C 1 rfl rfl dX2_distance_1 ?_
  refine y_iload_n C 2 rfl rfl dX2_distance_2 ?_
  refine y_callVi0 C (metX2_arePoints hd hB h) (cwV 2 C.hts (lw_V q1498 q1500 qs72 q91 q1501) rfl rfl rfl kdX2_arePoints ⟨Nat.le_of_ble_eq_true rfl, Nat.le_of_ble_eq_true rfl⟩) mM_0 rfl rfl rfl (Nat.le_of_ble_eq_true rfl) dX2_distance_3 (fun r1 M1 hp => ?_)
  clear h
  obtain ⟨rfl, h⟩ := hp
  refine y_if_ne C 11 dX2_distance_6 (by decide) (fun c9 => ?_) (fun c9 => ?_)
  · replace h := h.1 c9
    refine y_aload_n C 0 rfl rfl dX2_distance_11 ?_
    refine y_iconst C 0 dX2_distance_12 lit0 ?_
    refine y_sipush C (-999) dX2_distance_13 y_sm999 ?_
    refine y_callVv0 C (metX2_laysDistances hd hB h) (cwV 2 C.hts (lw_V q1378 q1380 qs46 q91 q1381) rfl rfl rfl kdX2_laysDistances ⟨Nat.le_of_ble_eq_true rfl, Nat.le_of_ble_eq_true rfl⟩) mM_0 rfl rfl rfl (Nat.le_of_ble_eq_true rfl) dX2_distance_16 (fun M1 hp => ?_)
    clear h
    obtain ⟨w_gr2, rfl, h⟩ := hp
    refine y_aload_n C 0 rfl rfl dX2_distance_19 ?_
    refine y_iload_n C 1 rfl rfl dX2_distance_20 ?_
    refine y_iload_n C 2 rfl rfl dX2_distance_21 ?_
    refine y_callVi0 C (metX2_areBound hd hB h) (cwV 2 C.hts (lw_V q1403 q1405 qs52 q91 q1406) rfl rfl rfl kdX2_areBound ⟨Nat.le_of_ble_eq_true rfl, Nat.le_of_ble_eq_true rfl⟩) mM_0 rfl rfl rfl (Nat.le_of_ble_eq_true rfl) dX2_distance_22 (fun r3 M1 hp => ?_)
    clear h
    obtain ⟨rfl, h⟩ := hp
    refine y_if_ne C 32 dX2_distance_25 (by decide) (fun c9 => ?_) (fun c9 => ?_)
    · replace h := h.1 c9
      refine y_iload_n C 3 rfl rfl dX2_distance_32 ?_
      refine y_if_eq C 50 dX2_distance_33 (by decide) (fun c9 => ?_) (fun c9 => ?_)
      · replace h := h.1 c9
        refine y_aload_n C 0 rfl rfl dX2_distance_50 ?_
        refine y_get (ci := 2) (k := 14) C in_X2 rfl (by decide) q1183 (fun _ h => h) mM_0 rfl dX2_distance_51 ?_
        refine y_bipush C 12 dX2_distance_54 y_b12 ?_
        refine y_iload_n C 2 rfl rfl dX2_distance_56 ?_
        refine y_imul C dX2_distance_57 ?_
        refine y_iload_n C 1 rfl rfl dX2_distance_58 ?_
        refine y_iadd C dX2_distance_59 ?_
        obtain ⟨i9, h⟩ := h
        refine y_iald C (mM_9 hd) i9 dX2_distance_60 ?_
        refine y_ineg C dX2_distance_61 ?_
        exact y_ireti C hr rfl rfl ⟨_, rfl, h⟩ dX2_distance_62
      · replace h := h.2 c9
        refine y_aload_n C 0 rfl rfl dX2_distance_36 ?_
        refine y_get (ci := 2) (k := 14) C in_X2 rfl (by decide) q1183 (fun _ h => h) mM_0 rfl dX2_distance_37 ?_
        refine y_bipush C 12 dX2_distance_40 y_b12 ?_
        refine y_iload_n C 1 rfl rfl dX2_distance_42 ?_
        refine y_imul C dX2_distance_43 ?_
        refine y_iload_n C 2 rfl rfl dX2_distance_44 ?_
        refine y_iadd C dX2_distance_45 ?_
        obtain ⟨i9, h⟩ := h
        refine y_iald C (mM_9 hd) i9 dX2_distance_46 ?_
        refine y_goto C 62 dX2_distance_47 (by decide) ?_
        exact y_ireti C hr rfl rfl ⟨_, rfl, h⟩ dX2_distance_62
    · replace h := h.2 c9
      refine y_sipush C (-999) dX2_distance_28 y_sm999 ?_
      exact y_ireti C hr rfl rfl ⟨_, rfl, h⟩ dX2_distance_31
  · replace h := h.2 c9
    refine y_iconst C (-1) dX2_distance_9 litm1 ?_
    exact y_ireti C hr rfl rfl ⟨_, rfl, h⟩ dX2_distance_10
theorem kdX2_distance : yX2_distance.cls = RX2 ∧ yX2_distance.cls ≠ "java/lang/invoke/MethodHandle" ∧ yX2_distance.cls ≠ "java/lang/invoke/VarHandle" ∧ (parseMethodDescriptor yX2_distance.desc).map (fun d => d.parameters.length) = some 3 := by decide +kernel
def wpX2_range (c_gr : Nat → Int32) (a1 : Int32) (a2 : Int32) (post : Int32 → Prop) : Prop := vp_in ((12 * a1) + a2) 144 ∧ vp_in ((12 * a2) + a1) 144 ∧ post ((c_gr (Int32.toNatClampNeg ((12 * a1) + a2))) + (c_gr (Int32.toNatClampNeg ((12 * a2) + a1))))
theorem metX2_range {l : Launch} {D : va_G} {s0 : State} {a0 : Array Value} {ad : Nat → Nat} (hd : yAd ad) (hB : yB D s0 a0) {c_pg : Nat → Int32} {c_bm : Int32} {c_tx : Nat → Int32} {c_ty : Int32} {c_ft : Int32} {c_fa : Int32} {c_sp : Int32} {c_nu : Int32} {c_un : Nat → Int32} {c_sf : Nat → Int32} {c_st : Nat → Int32} {c_ll : Nat → Int32} {c_ln : Nat → Int32} {c_ip : Nat → Int32} {c_gr : Nat → Int32} {c_hs : Int64} {a1 : Int32} {a2 : Int32} {post : Int32 → Prop} (h : wpX2_range c_gr a1 a2 post) : yMi l yX2_range (ws_ yX2_range cX2_range 3 (some .int)) 1 64 0 0 D s0 [yr (some (ad 0)), yi a1, yi a2] (mM ad c_pg c_bm c_tx c_ty c_ft c_fa c_sp c_nu c_un c_sf c_st c_ll c_ln c_ip c_gr c_hs) (fun r M1 => M1 = mM ad c_pg c_bm c_tx c_ty c_ft c_fa c_sp c_nu c_un c_sf c_st c_ll c_ln c_ip c_gr c_hs ∧ post r) := by
  refine y_meti hB (by decide) rfl (Nat.le_of_ble_eq_true rfl) ?_
  intro p e s m below meth c A hr hnm C
  rw [wpX2_range] at h
  refine y_aload_n C 0 rfl rfl dX2_range_0 ?_
  refine y_get (ci := 2) (k := 14) C in_X2 rfl (by decide) q1183 (fun _ h => h) mM_0 rfl dX2_range_1 ?_
  refine y_bipush C 12 dX2_range_4 y_b12 ?_
  refine y_iload_n C 1 rfl rfl dX2_range_6 ?_
  refine y_imul C dX2_range_7 ?_
  refine y_iload_n C 2 rfl rfl dX2_range_8 ?_
  refine y_iadd C dX2_range_9 ?_
  obtain ⟨i9, h⟩ := h
  refine y_iald C (mM_9 hd) i9 dX2_range_10 ?_
  refine y_aload_n C 0 rfl rfl dX2_range_11 ?_
  refine y_get (ci := 2) (k := 14) C in_X2 rfl (by decide) q1183 (fun _ h => h) mM_0 rfl dX2_range_12 ?_
  refine y_bipush C 12 dX2_range_15 y_b12 ?_
  refine y_iload_n C 2 rfl rfl dX2_range_17 ?_
  refine y_imul C dX2_range_18 ?_
  refine y_iload_n C 1 rfl rfl dX2_range_19 ?_
  refine y_iadd C dX2_range_20 ?_
  obtain ⟨i9, h⟩ := h
  refine y_iald C (mM_9 hd) i9 dX2_range_21 ?_
  refine y_iadd C dX2_range_22 ?_
  exact y_ireti C hr rfl rfl ⟨rfl, h⟩ dX2_range_23
theorem kdX2_range : yX2_range.cls = RX2 ∧ yX2_range.cls ≠ "java/lang/invoke/MethodHandle" ∧ yX2_range.cls ≠ "java/lang/invoke/VarHandle" ∧ (parseMethodDescriptor yX2_range.desc).map (fun d => d.parameters.length) = some 2 := by decide +kernel

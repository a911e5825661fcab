set_option maxRecDepth 100000
section sX2_copies
variable {p : Program} {l : Launch} {e : Env} {s : State} {m : MethodId} {args : Array Value} {below : List Frame} {meth : Method} {c : Code} {D : va_G} {s0 : State} {a0 : Array Value} {A : Nat → Prop} {ad : Nat → Nat} {c_pg : Nat → Int32} {c_bm : Int32} {c_tx : Nat → Int32} {c_ty : Int32} {c_ft : Int32} {c_fa : Int32} {c_sp : Int32} {c_nu : Int32} {c_un : Nat → Int32} {c_sf : Nat → Int32} {c_st : Nat → Int32} {c_ll : Nat → Int32} {c_ln : Nat → Int32} {c_ip : Nat → Int32} {c_gr : Nat → Int32} {c_hs : Int64}
def wpX2_copies_b2 (post : (Nat → Int32) → Prop) : Nat → (Nat → Int32) → Int32 → Int32 → Int32 → Prop
  | 0, _, _, _, _ => False
  | nn + 1, c_pg, v1, v2, v3 => ((112 ≤ v3 → post c_pg) ∧ (¬ 112 ≤ v3 → vp_in ((112 * v1) + v3) 1120 ∧ vp_in ((112 * v2) + v3) 1120 ∧ ∀ f1 : Nat → Int32, f1 = upd c_pg (Int32.toNatClampNeg ((112 * v2) + v3)) (c_pg (Int32.toNatClampNeg ((112 * v1) + v3))) → ∀ x2 : Int32, x2 = v3 + 1 → wpX2_copies_b2 post nn f1 v1 v2 x2))
theorem okX2_copies_b2 (C : yC p { frames := 1, cells := 0, slots := 0, locals := 64 } s m args meth c cX2_copies 4 RX2 D s0 a0 A) (hB : yB D s0 a0) (hd : yAd ad) (hr : meth.sig.returnType = none) {post : (Nat → Int32) → Prop}  : ∀ (nn : Nat) (c_pg : Nat → Int32) (v1 : Int32) (v2 : Int32) (v3 : Int32), wpX2_copies_b2 post nn c_pg v1 v2 v3 → Y p l e { frames := 1, cells := 0, slots := 0, locals := 64 } s m args below meth c (MQ below (yQv D s0 A (fun M1 => ∃ (w_pg : Nat → Int32), M1 = mM ad w_pg c_bm c_tx c_ty c_ft c_fa c_sp c_nu c_un c_sf c_st c_ll c_ln c_ip c_gr c_hs ∧ post w_pg)) args s 0 0 A) D s0 A 4 (mM ad c_pg c_bm c_tx c_ty c_ft c_fa c_sp c_nu c_un c_sf c_st c_ll c_ln c_ip c_gr c_hs) 0 0 [some (yr (some (ad 0))), some (yi v1), some (yi v2), some (yi v3)] 2 [] := by
  intro nn
  induction nn with
  | zero => intro c_pg v1 v2 v3 h; exact absurd h (by rw [wpX2_copies_b2]; exact id)
  | succ nn ih =>
    intro c_pg v1 v2 v3 h
    rw [wpX2_copies_b2] at h
    refine y_iload_n C 3 rfl rfl dX2_copies_2 ?_
    refine y_bipush C 112 dX2_copies_3 y_b112 ?_
    refine y_icmp_ge C 36 dX2_copies_5 (by decide) (fun c9 => ?_) (fun c9 => ?_)
    · replace h := h.1 c9
      exact y_vret C hr rfl rfl ⟨_, rfl, h⟩ dX2_copies_36
    · replace h := h.2 c9
      refine y_aload_n C 0 rfl rfl dX2_copies_8 ?_
      refine y_get (ci := 2) (k := 0) C in_X2 rfl (by decide) q1169 (fun _ h => h) mM_0 rfl dX2_copies_9 ?_
      refine y_bipush C 112 dX2_copies_12 y_b112 ?_
      refine y_iload_n C 2 rfl rfl dX2_copies_14 ?_
      refine y_imul C dX2_copies_15 ?_
      refine y_iload_n C 3 rfl rfl dX2_copies_16 ?_
      refine y_iadd C dX2_copies_17 ?_
      refine y_aload_n C 0 rfl rfl dX2_copies_18 ?_
      refine y_get (ci := 2) (k := 0) C in_X2 rfl (by decide) q1169 (fun _ h => h) mM_0 rfl dX2_copies_19 ?_
      refine y_bipush C 112 dX2_copies_22 y_b112 ?_
      refine y_iload_n C 1 rfl rfl dX2_copies_24 ?_
      refine y_imul C dX2_copies_25 ?_
      refine y_iload_n C 3 rfl rfl dX2_copies_26 ?_
      refine y_iadd C dX2_copies_27 ?_
      obtain ⟨i9, h⟩ := h
      refine y_iald C (mM_1 hd) i9 dX2_copies_28 ?_
      obtain ⟨i9, h⟩ := h
      replace h := h _ rfl
      refine y_iast C (mM_1 hd) i9 (mU_pg hd _) dX2_copies_29 ?_
      replace h := h _ rfl
      refine y_iinc C 3 _ rfl (y_inc1 _) (by decide) dX2_copies_30 ?_
      refine y_goto C 2 dX2_copies_33 (by decide) ?_
      refine y_to C _ ?_ (ih _ _ _ _ h)
      exact (And.intro rfl (And.intro rfl (And.intro rfl (And.intro rfl trivial))))
end sX2_copies
def wpX2_copies (c_pg : Nat → Int32) (a1 : Int32) (a2 : Int32) (post : (Nat → Int32) → Prop) : Prop := ∃ nf9 : Nat, wpX2_copies_b2 post nf9 c_pg a1 a2 0
theorem metX2_copies {l : Launch} {D : va_G} {s0 : State} {a0 : Array Value} {ad : Nat → Nat} (hd : yAd ad) (hB : yB D s0 a0) {c_pg : Nat → Int32} {c_bm : Int32} {c_tx : Nat → Int32} {c_ty : Int32} {c_ft : Int32} {c_fa : Int32} {c_sp : Int32} {c_nu : Int32} {c_un : Nat → Int32} {c_sf : Nat → Int32} {c_st : Nat → Int32} {c_ll : Nat → Int32} {c_ln : Nat → Int32} {c_ip : Nat → Int32} {c_gr : Nat → Int32} {c_hs : Int64} {a1 : Int32} {a2 : Int32} {post : (Nat → Int32) → Prop} (h : wpX2_copies c_pg a1 a2 post) : yMv l yX2_copies (ws_ yX2_copies cX2_copies 4 none) 1 64 0 0 D s0 [yr (some (ad 0)), yi a1, yi a2] (mM ad c_pg c_bm c_tx c_ty c_ft c_fa c_sp c_nu c_un c_sf c_st c_ll c_ln c_ip c_gr c_hs) (fun M1 => ∃ (w_pg : Nat → Int32), M1 = mM ad w_pg c_bm c_tx c_ty c_ft c_fa c_sp c_nu c_un c_sf c_st c_ll c_ln c_ip c_gr c_hs ∧ post w_pg) := by
  refine y_metv hB (by decide) rfl (Nat.le_of_ble_eq_true rfl) ?_
  intro p e s m below meth c A hr hnm C
  rw [wpX2_copies] at h
  refine y_iconst C 0 dX2_copies_0 lit0 ?_
  refine y_istore_n C 3 rfl (by decide) dX2_copies_1 ?_
  obtain ⟨nf9, h⟩ := h
  refine y_to C _ ?_ (okX2_copies_b2 C hB hd hr  nf9 _ _ _ _ h)
  exact (And.intro rfl (And.intro rfl (And.intro rfl (And.intro rfl trivial))))
theorem kdX2_copies : yX2_copies.cls = RX2 ∧ yX2_copies.cls ≠ "java/lang/invoke/MethodHandle" ∧ yX2_copies.cls ≠ "java/lang/invoke/VarHandle" ∧ (parseMethodDescriptor yX2_copies.desc).map (fun d => d.parameters.length) = some 2 := by decide +kernel
def wpX2_undo (c_pg : Nat → Int32) (c_bm : Int32)  (post : Int32 → (Nat → Int32) → Int32 → Prop) : Prop := ((¬ c_bm = 0 → wpX2_copies c_pg c_bm 0 (fun w_pg1 => ∀ x2 : Int32, x2 = (c_bm - 1) → post x2 w_pg1 x2)) ∧ (c_bm = 0 → post (-2) c_pg c_bm))
theorem metX2_undo {l : Launch} {D : va_G} {s0 : State} {a0 : Array Value} {ad : Nat → Nat} (hd : yAd ad) (hB : yB D s0 a0) {c_pg : Nat → Int32} {c_bm : Int32} {c_tx : Nat → Int32} {c_ty : Int32} {c_ft : Int32} {c_fa : Int32} {c_sp : Int32} {c_nu : Int32} {c_un : Nat → Int32} {c_sf : Nat → Int32} {c_st : Nat → Int32} {c_ll : Nat → Int32} {c_ln : Nat → Int32} {c_ip : Nat → Int32} {c_gr : Nat → Int32} {c_hs : Int64}  {post : Int32 → (Nat → Int32) → Int32 → Prop} (h : wpX2_undo c_pg c_bm  post) : yMi l yX2_undo (ws_ yX2_undo cX2_undo 1 (some .int)) 2 87 0 0 D s0 [yr (some (ad 0))] (mM ad c_pg c_bm c_tx c_ty c_ft c_fa c_sp c_nu c_un c_sf c_st c_ll c_ln c_ip c_gr c_hs) (fun r M1 => ∃ (w_pg : Nat → Int32) (w_bm : Int32), M1 = mM ad w_pg w_bm c_tx c_ty c_ft c_fa c_sp c_nu c_un c_sf c_st c_ll c_ln c_ip c_gr c_hs ∧ post r w_pg w_bm) := by
  refine y_meti hB (by decide) rfl (Nat.le_of_ble_eq_true rfl) ?_
  intro p e s m below meth c A hr hnm C
  rw [wpX2_undo] at h
  refine y_aload_n C 0 rfl rfl dX2_undo_0 ?_
  refine y_get (ci := 2) (k := 1) C in_X2 rfl (by decide) q1170 (fun _ h => h) mM_0 rfl dX2_undo_1 ?_
  refine y_if_ne C 10 dX2_undo_4 (by decide) (fun c9 => ?_) (fun c9 => ?_)
  · replace h := h.1 c9
    refine y_aload_n C 0 rfl rfl dX2_undo_10 ?_
    refine y_aload_n C 0 rfl rfl dX2_undo_11 ?_
    refine y_get (ci := 2) (k := 1) C in_X2 rfl (by decide) q1170 (fun _ h => h) mM_0 rfl dX2_undo_12 ?_
    refine y_iconst C 0 dX2_undo_15 lit0 ?_
    refine y_callVv0 C (metX2_copies hd hB h) (cwV 2 C.hts (lw_V q1223 q1225 qs23 q91 q1226) rfl rfl rfl kdX2_copies ⟨Nat.le_of_ble_eq_true rfl, Nat.le_of_ble_eq_true rfl⟩) mM_0 rfl rfl rfl (Nat.le_of_ble_eq_true rfl) dX2_undo_16 (fun M1 hp => ?_)
    clear h
    obtain ⟨w_pg1, rfl, h⟩ := hp
    refine y_aload_n C 0 rfl rfl dX2_undo_19 ?_
    refine y_dup C rfl dX2_undo_20 ?_
    refine y_get (ci := 2) (k := 1) C in_X2 rfl (by decide) q1170 (fun _ h => h) mM_0 rfl dX2_undo_21 ?_
    refine y_iconst C 1 dX2_undo_24 lit1 ?_
    refine y_isub C dX2_undo_25 ?_
    replace h := h _ rfl
    refine y_put (ci := 2) (k := 1) C in_X2 tyX2_ok nmX2 rfl (by decide) q1170 (fun _ h => h) rfl mM_0 (y_lt rfl) rfl rfl (mU_bm _) dX2_undo_26 ?_
    refine y_aload_n C 0 rfl rfl dX2_undo_29 ?_
    refine y_get (ci := 2) (k := 1) C in_X2 rfl (by decide) q1170 (fun _ h => h) mM_0 rfl dX2_undo_30 ?_
    exact y_ireti C hr rfl rfl ⟨_, _, rfl, h⟩ dX2_undo_33
  · replace h := h.2 c9
    refine y_bipush C (-2) dX2_undo_7 y_bm2 ?_
    exact y_ireti C hr rfl rfl ⟨_, _, rfl, h⟩ dX2_undo_9
theorem kdX2_undo : yX2_undo.cls = RX2 ∧ yX2_undo.cls ≠ "java/lang/invoke/MethodHandle" ∧ yX2_undo.cls ≠ "java/lang/invoke/VarHandle" ∧ (parseMethodDescriptor yX2_undo.desc).map (fun d => d.parameters.length) = some 0 := by decide +kernel
def wpX2_in  (a1 : Int32) (a2 : Int32) (a3 : Int32) (post : Int32 → Prop) : Prop := ((a1 < a2 → post 0) ∧ (¬ a1 < a2 → ((a3 < a1 → post 0) ∧ (¬ a3 < a1 → post 1))))
theorem metX2_in {l : Launch} {D : va_G} {s0 : State} {a0 : Array Value} (hB : yB D s0 a0) {M : yM} {a1 : Int32} {a2 : Int32} {a3 : Int32} {post : Int32 → Prop} (h : wpX2_in  a1 a2 a3 post) : yMi l yX2_in (ws_ yX2_in cX2_in 3 (some .boolean)) 1 64 0 0 D s0 [yi a1, yi a2, yi a3] M (fun r M1 => M1 = M ∧ post r) := by
  refine y_meti hB (by decide) rfl (Nat.le_of_ble_eq_true rfl) ?_
  intro p e s m below meth c A hr hnm C
  rw [wpX2_in] at h
  refine y_iload_n C 0 rfl rfl dX2_in_0 ?_
  refine y_iload_n C 1 rfl rfl dX2_in_1 ?_
  refine y_icmp_lt C 14 dX2_in_2 (by decide) (fun c9 => ?_) (fun c9 => ?_)
  · replace h := h.1 c9
    refine y_iconst C 0 dX2_in_14 lit0 ?_
    exact y_iretz C hr rfl rfl (by decide) ⟨rfl, h⟩ dX2_in_15
  · replace h := h.2 c9
    refine y_iload_n C 0 rfl rfl dX2_in_5 ?_
    refine y_iload_n C 2 rfl rfl dX2_in_6 ?_
    refine y_icmp_gt C 14 dX2_in_7 (by decide) (fun c9 => ?_) (fun c9 => ?_)
    · replace h := h.1 c9
      refine y_iconst C 0 dX2_in_14 lit0 ?_
      exact y_iretz C hr rfl rfl (by decide) ⟨rfl, h⟩ dX2_in_15
    · replace h := h.2 c9
      refine y_iconst C 1 dX2_in_10 lit1 ?_
      refine y_goto C 15 dX2_in_11 (by decide) ?_
      exact y_iretz C hr rfl rfl (by decide) ⟨rfl, h⟩ dX2_in_15
theorem kdX2_in : yX2_in.cls = RX2 ∧ yX2_in.cls ≠ "java/lang/invoke/MethodHandle" ∧ yX2_in.cls ≠ "java/lang/invoke/VarHandle" ∧ (parseMethodDescriptor yX2_in.desc).map (fun d => d.parameters.length) = some 3 := by decide +kernel
def wpX2_position (c_pg : Nat → Int32) (a1 : Int32) (post : Int32 → Prop) : Prop := vp_in (1 + a1) 1120 ∧ post (c_pg (Int32.toNatClampNeg (1 + a1)))
theorem metX2_position {l : Launch} {D : va_G} {s0 : State} {a0 : Array Value} {ad : Nat → Nat} (hd : yAd ad) (hB : yB D s0 a0) {c_pg : Nat → Int32} {c_bm : Int32} {c_tx : Nat → Int32} {c_ty : Int32} {c_ft : Int32} {c_fa : Int32} {c_sp : Int32} {c_nu : Int32} {c_un : Nat → Int32} {c_sf : Nat → Int32} {c_st : Nat → Int32} {c_ll : Nat → Int32} {c_ln : Nat → Int32} {c_ip : Nat → Int32} {c_gr : Nat → Int32} {c_hs : Int64} {a1 : Int32} {post : Int32 → Prop} (h : wpX2_position c_pg a1 post) : yMi l yX2_position (ws_ yX2_position cX2_position 2 (some .int)) 1 64 0 0 D s0 [yr (some (ad 0)), yi a1] (mM ad c_pg c_bm c_tx c_ty c_ft c_fa c_sp c_nu c_un c_sf c_st c_ll c_ln c_ip c_gr c_hs) (fun r M1 => M1 = mM ad c_pg c_bm c_tx c_ty c_ft c_fa c_sp c_nu c_un c_sf c_st c_ll c_ln c_ip c_gr c_hs ∧ post r) := by
  refine y_meti hB (by decide) rfl (Nat.le_of_ble_eq_true rfl) ?_
  intro p e s m below meth c A hr hnm C
  rw [wpX2_position] at h
  refine y_aload_n C 0 rfl rfl dX2_position_0 ?_
  refine y_get (ci := 2) (k := 0) C in_X2 rfl (by decide) q1169 (fun _ h => h) mM_0 rfl dX2_position_1 ?_
  refine y_iconst C 1 dX2_position_4 lit1 ?_
  refine y_iload_n C 1 rfl rfl dX2_position_5 ?_
  refine y_iadd C dX2_position_6 ?_
  obtain ⟨i9, h⟩ := h
  refine y_iald C (mM_1 hd) i9 dX2_position_7 ?_
  exact y_ireti C hr rfl rfl ⟨rfl, h⟩ dX2_position_8
theorem kdX2_position : yX2_position.cls = RX2 ∧ yX2_position.cls ≠ "java/lang/invoke/MethodHandle" ∧ yX2_position.cls ≠ "java/lang/invoke/VarHandle" ∧ (parseMethodDescriptor yX2_position.desc).map (fun d => d.parameters.length) = some 1 := by decide +kernel
section sX2_pointWith
variable {p : Program} {l : Launch} {e : Env} {s : State} {m : MethodId} {args : Array Value} {below : List Frame} {meth : Method} {c : Code} {D : va_G} {s0 : State} {a0 : Array Value} {A : Nat → Prop} {ad : Nat → Nat} {c_pg : Nat → Int32} {c_bm : Int32} {c_tx : Nat → Int32} {c_ty : Int32} {c_ft : Int32} {c_fa : Int32} {c_sp : Int32} {c_nu : Int32} {c_un : Nat → Int32} {c_sf : Nat → Int32} {c_st : Nat → Int32} {c_ll : Nat → Int32} {c_ln : Nat → Int32} {c_ip : Nat → Int32} {c_gr : Nat → Int32} {c_hs : Int64}
def wpX2_pointWith_b2 (post : Int32 → Prop) : Nat → (Nat → Int32) → Int32 → Int32 → Prop
  | 0, _, _, _ => False
  | nn + 1, c_pg, v1, v2 => vp_in 0 1120 ∧ (((c_pg (Int32.toNatClampNeg 0)) ≤ v2 → post (-999)) ∧ (¬ (c_pg (Int32.toNatClampNeg 0)) ≤ v2 → wpX2_position c_pg v2 (fun r1 => ((¬ r1 = v1 → ∀ x2 : Int32, x2 = v2 + 1 → wpX2_pointWith_b2 post nn c_pg v1 x2) ∧ (r1 = v1 → post v2)))))
theorem okX2_pointWith_b2 (C : yC p { frames := 2, cells := 0, slots := 0, locals := 85 } s m args meth c cX2_pointWith 3 RX2 D s0 a0 A) (hB : yB D s0 a0) (hd : yAd ad) (hr : meth.sig.returnType = (some .int)) {post : Int32 → Prop}  : ∀ (nn : Nat) (c_pg : Nat → Int32) (v1 : Int32) (v2 : Int32), wpX2_pointWith_b2 post nn c_pg v1 v2 → Y p l e { frames := 2, cells := 0, slots := 0, locals := 85 } s m args below meth c (MQ below (yQi D s0 A (fun r M1 => M1 = mM ad c_pg c_bm c_tx c_ty c_ft c_fa c_sp c_nu c_un c_sf c_st c_ll c_ln c_ip c_gr c_hs ∧ post r)) args s 0 0 A) D s0 A 3 (mM ad c_pg c_bm c_tx c_ty c_ft c_fa c_sp c_nu c_un c_sf c_st c_ll c_ln c_ip c_gr c_hs) 0 0 [some (yr (some (ad 0))), some (yi v1), some (yi v2)] 2 [] := by
  intro nn
  induction nn with
  | zero => intro c_pg v1 v2 h; exact absurd h (by rw [wpX2_pointWith_b2]; exact id)
  | succ nn ih =>
    intro c_pg v1 v2 h
    rw [wpX2_pointWith_b2] at h
    refine y_iload_n C 2 rfl rfl dX2_pointWith_2 ?_
    refine y_aload_n C 0 rfl rfl dX2_pointWith_3 ?_
    refine y_get (ci := 2) (k := 0) C in_X2 rfl (by decide) q1169 (fun _ h => h) mM_0 rfl dX2_pointWith_4 ?_
    refine y_iconst C 0 dX2_pointWith_7 lit0 ?_
    obtain ⟨i9, h⟩ := h
    refine y_iald C (mM_1 hd) i9 dX2_pointWith_8 ?_
    refine y_icmp_ge C 29 dX2_pointWith_9 (by decide) (fun c9 => ?_) (fun c9 => ?_)
    · replace h := h.1 c9
      refine y_sipush C (-999) dX2_pointWith_29 y_sm999 ?_
      exact y_ireti C hr rfl rfl ⟨rfl, h⟩ dX2_pointWith_32
    · replace h := h.2 c9
      refine y_aload_n C 0 rfl rfl dX2_pointWith_12 ?_
      refine y_iload_n C 2 rfl rfl dX2_pointWith_13 ?_
      refine y_callVi0 C (metX2_position hd hB h) (cwV 1 C.hts (lw_V q1238 q1240 qs25 q91 q1241) rfl rfl rfl kdX2_position ⟨Nat.le_of_ble_eq_true rfl, Nat.le_of_ble_eq_true rfl⟩) mM_0 rfl rfl rfl (Nat.le_of_ble_eq_true rfl) dX2_pointWith_14 (fun r1 M1 hp => ?_)
      clear h
      obtain ⟨rfl, h⟩ := hp
      refine y_iload_n C 1 rfl rfl dX2_pointWith_17 ?_
      refine y_icmp_ne C 23 dX2_pointWith_18 (by decide) (fun c9 => ?_) (fun c9 => ?_)
      · replace h := h.1 c9
        replace h := h _ rfl
        refine y_iinc C 2 _ rfl (y_inc1 _) (by decide) dX2_pointWith_23 ?_
        refine y_goto C 2 dX2_pointWith_26 (by decide) ?_
        refine y_to C _ ?_ (ih _ _ _ h)
        exact (And.intro rfl (And.intro rfl (And.intro rfl trivial)))
      · replace h := h.2 c9
        refine y_iload_n C 2 rfl rfl dX2_pointWith_21 ?_
        exact y_ireti C hr rfl rfl ⟨rfl, h⟩ dX2_pointWith_22
end sX2_pointWith
def wpX2_pointWith (c_pg : Nat → Int32) (a1 : Int32) (post : Int32 → Prop) : Prop := ∃ nf9 : Nat, wpX2_pointWith_b2 post nf9 c_pg a1 0
theorem metX2_pointWith {l : Launch} {D : va_G} {s0 : State} {a0 : Array Value} {ad : Nat → Nat} (hd : yAd ad) (hB : yB D s0 a0) {c_pg : Nat → Int32} {c_bm : Int32} {c_tx : Nat → Int32} {c_ty : Int32} {c_ft : Int32} {c_fa : Int32} {c_sp : Int32} {c_nu : Int32} {c_un : Nat → Int32} {c_sf : Nat → Int32} {c_st : Nat → Int32} {c_ll : Nat → Int32} {c_ln : Nat → Int32} {c_ip : Nat → Int32} {c_gr : Nat → Int32} {c_hs : Int64} {a1 : Int32} {post : Int32 → Prop} (h : wpX2_pointWith c_pg a1 post) : yMi l yX2_pointWith (ws_ yX2_pointWith cX2_pointWith 3 (some .int)) 2 85 0 0 D s0 [yr (some (ad 0)), yi a1] (mM ad c_pg c_bm c_tx c_ty c_ft c_fa c_sp c_nu c_un c_sf c_st c_ll c_ln c_ip c_gr c_hs) (fun r M1 => M1 = mM ad c_pg c_bm c_tx c_ty c_ft c_fa c_sp c_nu c_un c_sf c_st c_ll c_ln c_ip c_gr c_hs ∧ post r) := by
  refine y_meti hB (by decide) rfl (Nat.le_of_ble_eq_true rfl) ?_
  intro p e s m below meth c A hr hnm C
  rw [wpX2_pointWith] at h
  refine y_iconst C 0 dX2_pointWith_0 lit0 ?_
  refine y_istore_n C 2 rfl (by decide) dX2_pointWith_1 ?_
  obtain ⟨nf9, h⟩ := h
  refine y_to C _ ?_ (okX2_pointWith_b2 C hB hd hr  nf9 _ _ _ h)
  exact (And.intro rfl (And.intro rfl (And.intro rfl trivial)))
theorem kdX2_pointWith : yX2_pointWith.cls = RX2 ∧ yX2_pointWith.cls ≠ "java/lang/invoke/MethodHandle" ∧ yX2_pointWith.cls ≠ "java/lang/invoke/VarHandle" ∧ (parseMethodDescriptor yX2_pointWith.desc).map (fun d => d.parameters.length) = some 1 := by decide +kernel
section sX2_records
variable {p : Program} {l : Launch} {e : Env} {s : State} {m : MethodId} {args : Array Value} {below : List Frame} {meth : Method} {c : Code} {D : va_G} {s0 : State} {a0 : Array Value} {A : Nat → Prop} {ad : Nat → Nat} {c_pg : Nat → Int32} {c_bm : Int32} {c_tx : Nat → Int32} {c_ty : Int32} {c_ft : Int32} {c_fa : Int32} {c_sp : Int32} {c_nu : Int32} {c_un : Nat → Int32} {c_sf : Nat → Int32} {c_st : Nat → Int32} {c_ll : Nat → Int32} {c_ln : Nat → Int32} {c_ip : Nat → Int32} {c_gr : Nat → Int32} {c_hs : Int64}
def wpX2_records_b41 (post : (Nat → Int32) → Int32 → Prop) (c_pg : Nat → Int32) (c_bm : Int32) : Prop := ∀ x1 : Int32, x1 = (c_bm + 1) → wpX2_copies c_pg 0 x1 (fun w_pg2 => post w_pg2 x1)
theorem okX2_records_b41 (C : yC p { frames := 2, cells := 0, slots := 0, locals := 87 } s m args meth c cX2_records 2 RX2 D s0 a0 A) (hB : yB D s0 a0) (hd : yAd ad) (hr : meth.sig.returnType = none) {post : (Nat → Int32) → Int32 → Prop}  : ∀ (c_pg : Nat → Int32) (c_bm : Int32), wpX2_records_b41 post c_pg c_bm → Y p l e { frames := 2, cells := 0, slots := 0, locals := 87 } s m args below meth c (MQ below (yQv D s0 A (fun M1 => ∃ (w_pg : Nat → Int32) (w_bm : Int32), M1 = mM ad w_pg w_bm c_tx c_ty c_ft c_fa c_sp c_nu c_un c_sf c_st c_ll c_ln c_ip c_gr c_hs ∧ post w_pg w_bm)) args s 0 0 A) D s0 A 2 (mM ad c_pg c_bm c_tx c_ty c_ft c_fa c_sp c_nu c_un c_sf c_st c_ll c_ln c_ip c_gr c_hs) 0 0 [some (yr (some (ad 0))), none] 41 [] := by
  intro c_pg c_bm h
  rw [wpX2_records_b41] at h
  refine y_aload_n C 0 rfl rfl dX2_records_41 ?_
  refine y_dup C rfl dX2_records_42 ?_
  refine y_get (ci := 2) (k := 1) C in_X2 rfl (by decide) q1170 (fun _ h => h) mM_0 rfl dX2_records_43 ?_
  refine y_iconst C 1 dX2_records_46 lit1 ?_
  refine y_iadd C dX2_records_47 ?_
  replace h := h _ rfl
  refine y_put (ci := 2) (k := 1) C in_X2 tyX2_ok nmX2 rfl (by decide) q1170 (fun _ h => h) rfl mM_0 (y_lt rfl) rfl rfl (mU_bm _) dX2_records_48 ?_
  refine y_aload_n C 0 rfl rfl dX2_records_51 ?_
  refine y_iconst C 0 dX2_records_52 lit0 ?_
  refine y_aload_n C 0 rfl rfl dX2_records_53 ?_
  refine y_get (ci := 2) (k := 1) C in_X2 rfl (by decide) q1170 (fun _ h => h) mM_0 rfl dX2_records_54 ?_
  refine y_callVv0 C (metX2_copies hd hB h) (cwV 2 C.hts (lw_V q1223 q1225 qs23 q91 q1226) rfl rfl rfl kdX2_copies ⟨Nat.le_of_ble_eq_true rfl, Nat.le_of_ble_eq_true rfl⟩) mM_0 rfl rfl rfl (Nat.le_of_ble_eq_true rfl) dX2_records_57 (fun M1 hp => ?_)
  clear h
  obtain ⟨w_pg2, rfl, h⟩ := hp
  exact y_vret C hr rfl rfl ⟨_, _, rfl, h⟩ dX2_records_60
def wpX2_records_b11 (post : (Nat → Int32) → Int32 → Prop) : Nat → (Nat → Int32) → Int32 → Int32 → Prop
  | 0, _, _, _ => False
  | nn + 1, c_pg, c_bm, v1 => ((8 ≤ v1 → ∀ x3 : Int32, x3 = (c_bm - 1) → wpX2_records_b41 post c_pg x3) ∧ (¬ 8 ≤ v1 → wpX2_copies c_pg (v1 + 1) v1 (fun w_pg4 => ∀ x5 : Int32, x5 = v1 + 1 → wpX2_records_b11 post nn w_pg4 c_bm x5)))
theorem okX2_records_b11 (C : yC p { frames := 2, cells := 0, slots := 0, locals := 87 } s m args meth c cX2_records 2 RX2 D s0 a0 A) (hB : yB D s0 a0) (hd : yAd ad) (hr : meth.sig.returnType = none) {post : (Nat → Int32) → Int32 → Prop}  : ∀ (nn : Nat) (c_pg : Nat → Int32) (c_bm : Int32) (v1 : Int32), wpX2_records_b11 post nn c_pg c_bm v1 → Y p l e { frames := 2, cells := 0, slots := 0, locals := 87 } s m args below meth c (MQ below (yQv D s0 A (fun M1 => ∃ (w_pg : Nat → Int32) (w_bm : Int32), M1 = mM ad w_pg w_bm c_tx c_ty c_ft c_fa c_sp c_nu c_un c_sf c_st c_ll c_ln c_ip c_gr c_hs ∧ post w_pg w_bm)) args s 0 0 A) D s0 A 2 (mM ad c_pg c_bm c_tx c_ty c_ft c_fa c_sp c_nu c_un c_sf c_st c_ll c_ln c_ip c_gr c_hs) 0 0 [some (yr (some (ad 0))), some (yi v1)] 11 [] := by
  intro nn
  induction nn with
  | zero => intro c_pg c_bm v1 h; exact absurd h (by rw [wpX2_records_b11]; exact id)
  | succ nn ih =>
    intro c_pg c_bm v1 h
    rw [wpX2_records_b11] at h
    refine y_iload_n C 1 rfl rfl dX2_records_11 ?_
    refine y_bipush C 8 dX2_records_12 y_b8 ?_
    refine y_icmp_ge C 31 dX2_records_14 (by decide) (fun c9 => ?_) (fun c9 => ?_)
    · replace h := h.1 c9
      refine y_aload_n C 0 rfl rfl dX2_records_31 ?_
      refine y_dup C rfl dX2_records_32 ?_
      refine y_get (ci := 2) (k := 1) C in_X2 rfl (by decide) q1170 (fun _ h => h) mM_0 rfl dX2_records_33 ?_
      refine y_iconst C 1 dX2_records_36 lit1 ?_
      refine y_isub C dX2_records_37 ?_
      replace h := h _ rfl
      refine y_put (ci := 2) (k := 1) C in_X2 tyX2_ok nmX2 rfl (by decide) q1170 (fun _ h => h) rfl mM_0 (y_lt rfl) rfl rfl (mU_bm _) dX2_records_38 ?_
      refine y_to C _ ?_ (okX2_records_b41 C hB hd hr  _ _ h)
      exact (And.intro rfl trivial)
    · replace h := h.2 c9
      refine y_aload_n C 0 rfl rfl dX2_records_17 ?_
      refine y_iload_n C 1 rfl rfl dX2_records_18 ?_
      refine y_iconst C 1 dX2_records_19 lit1 ?_
      refine y_iadd C dX2_records_20 ?_
      refine y_iload_n C 1 rfl rfl dX2_records_21 ?_
      refine y_callVv0 C (metX2_copies hd hB h) (cwV 2 C.hts (lw_V q1223 q1225 qs23 q91 q1226) rfl rfl rfl kdX2_copies ⟨Nat.le_of_ble_eq_true rfl, Nat.le_of_ble_eq_true rfl⟩) mM_0 rfl rfl rfl (Nat.le_of_ble_eq_true rfl) dX2_records_22 (fun M1 hp => ?_)
      clear h
      obtain ⟨w_pg4, rfl, h⟩ := hp
      replace h := h _ rfl
      refine y_iinc C 1 _ rfl (y_inc1 _) (by decide) dX2_records_25 ?_
      refine y_goto C 11 dX2_records_28 (by decide) ?_
      refine y_to C _ ?_ (ih _ _ _ h)
      exact (And.intro rfl (And.intro rfl trivial))
end sX2_records
def wpX2_records (c_pg : Nat → Int32) (c_bm : Int32)  (post : (Nat → Int32) → Int32 → Prop) : Prop := ((¬ c_bm = 8 → wpX2_records_b41 post c_pg c_bm) ∧ (c_bm = 8 → ∃ nf9 : Nat, wpX2_records_b11 post nf9 c_pg c_bm 1))
theorem metX2_records {l : Launch} {D : va_G} {s0 : State} {a0 : Array Value} {ad : Nat → Nat} (hd : yAd ad) (hB : yB D s0 a0) {c_pg : Nat → Int32} {c_bm : Int32} {c_tx : Nat → Int32} {c_ty : Int32} {c_ft : Int32} {c_fa : Int32} {c_sp : Int32} {c_nu : Int32} {c_un : Nat → Int32} {c_sf : Nat → Int32} {c_st : Nat → Int32} {c_ll : Nat → Int32} {c_ln : Nat → Int32} {c_ip : Nat → Int32} {c_gr : Nat → Int32} {c_hs : Int64}  {post : (Nat → Int32) → Int32 → Prop} (h : wpX2_records c_pg c_bm  post) : yMv l yX2_records (ws_ yX2_records cX2_records 2 none) 2 87 0 0 D s0 [yr (some (ad 0))] (mM ad c_pg c_bm c_tx c_ty c_ft c_fa c_sp c_nu c_un c_sf c_st c_ll c_ln c_ip c_gr c_hs) (fun M1 => ∃ (w_pg : Nat → Int32) (w_bm : Int32), M1 = mM ad w_pg w_bm c_tx c_ty c_ft c_fa c_sp c_nu c_un c_sf c_st c_ll c_ln c_ip c_gr c_hs ∧ post w_pg w_bm) := by
  refine y_metv hB (by decide) rfl (Nat.le_of_ble_eq_true rfl) ?_
  intro p e s m below meth c A hr hnm C
  rw [wpX2_records] at h
  refine y_aload_n C 0 rfl rfl dX2_records_0 ?_
  refine y_get (ci := 2) (k := 1) C in_X2 rfl (by decide) q1170 (fun _ h => h) mM_0 rfl dX2_records_1 ?_
  refine y_bipush C 8 dX2_records_4 y_b8 ?_
  refine y_icmp_ne C 41 dX2_records_6 (by decide) (fun c9 => ?_) (fun c9 => ?_)
  · replace h := h.1 c9
    refine y_to C _ ?_ (okX2_records_b41 C hB hd hr  _ _ h)
    exact (And.intro rfl trivial)
  · replace h := h.2 c9
    refine y_iconst C 1 dX2_records_9 lit1 ?_
    refine y_istore_n C 1 rfl (by decide) dX2_records_10 ?_
    obtain ⟨nf9, h⟩ := h
    refine y_to C _ ?_ (okX2_records_b11 C hB hd hr  nf9 _ _ _ h)
    exact (And.intro rfl (And.intro rfl trivial))
theorem kdX2_records : yX2_records.cls = RX2 ∧ yX2_records.cls ≠ "java/lang/invoke/MethodHandle" ∧ yX2_records.cls ≠ "java/lang/invoke/VarHandle" ∧ (parseMethodDescriptor yX2_records.desc).map (fun d => d.parameters.length) = some 0 := by decide +kernel
def wpX2_of (c_pg : Nat → Int32) (a1 : Int32) (a2 : Int32) (post : Int32 → Prop) : Prop := vp_in ((14 + (6 * a1)) + a2) 1120 ∧ post (c_pg (Int32.toNatClampNeg ((14 + (6 * a1)) + a2)))
theorem metX2_of {l : Launch} {D : va_G} {s0 : State} {a0 : Array Value} {ad : Nat → Nat} (hd : yAd ad) (hB : yB D s0 a0) {c_pg : Nat → Int32} {c_bm : Int32} {c_tx : Nat → Int32} {c_ty : Int32} {c_ft : Int32} {c_fa : Int32} {c_sp : Int32} {c_nu : Int32} {c_un : Nat → Int32} {c_sf : Nat → Int32} {c_st : Nat → Int32} {c_ll : Nat → Int32} {c_ln : Nat → Int32} {c_ip : Nat → Int32} {c_gr : Nat → Int32} {c_hs : Int64} {a1 : Int32} {a2 : Int32} {post : Int32 → Prop} (h : wpX2_of c_pg a1 a2 post) : yMi l yX2_of (ws_ yX2_of cX2_of 3 (some .int)) 1 64 0 0 D s0 [yr (some (ad 0)), yi a1, yi a2] (mM ad c_pg c_bm c_tx c_ty c_ft c_fa c_sp c_nu c_un c_sf c_st c_ll c_ln c_ip c_gr c_hs) (fun r M1 => M1 = mM ad c_pg c_bm c_tx c_ty c_ft c_fa c_sp c_nu c_un c_sf c_st c_ll c_ln c_ip c_gr c_hs ∧ post r) := by
  refine y_meti hB (by decide) rfl (Nat.le_of_ble_eq_true rfl) ?_
  intro p e s m below meth c A hr hnm C
  rw [wpX2_of] at h
  refine y_aload_n C 0 rfl rfl dX2_of_0 ?_
  refine y_get (ci := 2) (k := 0) C in_X2 rfl (by decide) q1169 (fun _ h => h) mM_0 rfl dX2_of_1 ?_
  refine y_bipush C 14 dX2_of_4 y_b14 ?_
  refine y_bipush C 6 dX2_of_6 y_b6 ?_
  refine y_iload_n C 1 rfl rfl dX2_of_8 ?_
  refine y_imul C dX2_of_9 ?_
  refine y_iadd C dX2_of_10 ?_
  refine y_iload_n C 2 rfl rfl dX2_of_11 ?_
  refine y_iadd C dX2_of_12 ?_
  obtain ⟨i9, h⟩ := h
  refine y_iald C (mM_1 hd) i9 dX2_of_13 ?_
  exact y_ireti C hr rfl rfl ⟨rfl, h⟩ dX2_of_14
theorem kdX2_of : yX2_of.cls = RX2 ∧ yX2_of.cls ≠ "java/lang/invoke/MethodHandle" ∧ yX2_of.cls ≠ "java/lang/invoke/VarHandle" ∧ (parseMethodDescriptor yX2_of.desc).map (fun d => d.parameters.length) = some 2 := by decide +kernel
def wpX2_sets (c_pg : Nat → Int32) (a1 : Int32) (a2 : Int32) (a3 : Int32) (post : (Nat → Int32) → Prop) : Prop := vp_in ((14 + (6 * a1)) + a2) 1120 ∧ ∀ f1 : Nat → Int32, f1 = upd c_pg (Int32.toNatClampNeg ((14 + (6 * a1)) + a2)) a3 → post f1
theorem metX2_sets {l : Launch} {D : va_G} {s0 : State} {a0 : Array Value} {ad : Nat → Nat} (hd : yAd ad) (hB : yB D s0 a0) {c_pg : Nat → Int32} {c_bm : Int32} {c_tx : Nat → Int32} {c_ty : Int32} {c_ft : Int32} {c_fa : Int32} {c_sp : Int32} {c_nu : Int32} {c_un : Nat → Int32} {c_sf : Nat → Int32} {c_st : Nat → Int32} {c_ll : Nat → Int32} {c_ln : Nat → Int32} {c_ip : Nat → Int32} {c_gr : Nat → Int32} {c_hs : Int64} {a1 : Int32} {a2 : Int32} {a3 : Int32} {post : (Nat → Int32) → Prop} (h : wpX2_sets c_pg a1 a2 a3 post) : yMv l yX2_sets (ws_ yX2_sets cX2_sets 4 none) 1 64 0 0 D s0 [yr (some (ad 0)), yi a1, yi a2, yi a3] (mM ad c_pg c_bm c_tx c_ty c_ft c_fa c_sp c_nu c_un c_sf c_st c_ll c_ln c_ip c_gr c_hs) (fun M1 => ∃ (w_pg : Nat → Int32), M1 = mM ad w_pg c_bm c_tx c_ty c_ft c_fa c_sp c_nu c_un c_sf c_st c_ll c_ln c_ip c_gr c_hs ∧ post w_pg) := by
  refine y_metv hB (by decide) rfl (Nat.le_of_ble_eq_true rfl) ?_
  intro p e s m below meth c A hr hnm C
  rw [wpX2_sets] at h
  refine y_aload_n C 0 rfl rfl dX2_sets_0 ?_
  refine y_get (ci := 2) (k := 0) C in_X2 rfl (by decide) q1169 (fun _ h => h) mM_0 rfl dX2_sets_1 ?_
  refine y_bipush C 14 dX2_sets_4 y_b14 ?_
  refine y_bipush C 6 dX2_sets_6 y_b6 ?_
  refine y_iload_n C 1 rfl rfl dX2_sets_8 ?_
  refine y_imul C dX2_sets_9 ?_
  refine y_iadd C dX2_sets_10 ?_
  refine y_iload_n C 2 rfl rfl dX2_sets_11 ?_
  refine y_iadd C dX2_sets_12 ?_
  refine y_iload_n C 3 rfl rfl dX2_sets_13 ?_
  obtain ⟨i9, h⟩ := h
  replace h := h _ rfl
  refine y_iast C (mM_1 hd) i9 (mU_pg hd _) dX2_sets_14 ?_
  exact y_vret C hr rfl rfl ⟨_, rfl, h⟩ dX2_sets_15
theorem kdX2_sets : yX2_sets.cls = RX2 ∧ yX2_sets.cls ≠ "java/lang/invoke/MethodHandle" ∧ yX2_sets.cls ≠ "java/lang/invoke/VarHandle" ∧ (parseMethodDescriptor yX2_sets.desc).map (fun d => d.parameters.length) = some 3 := by decide +kernel
section sX2_comes
variable {p : Program} {l : Launch} {e : Env} {s : State} {m : MethodId} {args : Array Value} {below : List Frame} {meth : Method} {c : Code} {D : va_G} {s0 : State} {a0 : Array Value} {A : Nat → Prop} {ad : Nat → Nat} {c_pg : Nat → Int32} {c_bm : Int32} {c_tx : Nat → Int32} {c_ty : Int32} {c_ft : Int32} {c_fa : Int32} {c_sp : Int32} {c_nu : Int32} {c_un : Nat → Int32} {c_sf : Nat → Int32} {c_st : Nat → Int32} {c_ll : Nat → Int32} {c_ln : Nat → Int32} {c_ip : Nat → Int32} {c_gr : Nat → Int32} {c_hs : Int64}
def wpX2_comes_b114 (post : Int32 → (Nat → Int32) → Prop) (k67 : (Nat → Int32) → Int32 → Int32 → Prop) (c_pg : Nat → Int32) (v2 : Int32) (v3 : Int32) (u1 : Int32) (u2 : Int32) (u3 : Int32) : Prop := wpX2_sets c_pg u1 u2 u3 (fun w_pg5 => ∀ x6 : Int32, x6 = v3 + 1 → k67 w_pg5 v2 x6)
theorem okX2_comes_b114 (C : yC p { frames := 2, cells := 0, slots := 0, locals := 87 } s m args meth c cX2_comes 5 RX2 D s0 a0 A) (hB : yB D s0 a0) (hd : yAd ad) (hr : meth.sig.returnType = (some .int)) {post : Int32 → (Nat → Int32) → Prop} {k67 : (Nat → Int32) → Int32 → Int32 → Prop} (hk67 : ∀ (c_pg : Nat → Int32) (v2 : Int32) (v3 : Int32), k67 c_pg v2 v3 → Y p l e { frames := 2, cells := 0, slots := 0, locals := 87 } s m args below meth c (MQ below (yQi D s0 A (fun r M1 => ∃ (w_pg : Nat → Int32), M1 = mM ad w_pg c_bm c_tx c_ty c_ft c_fa c_sp c_nu c_un c_sf c_st c_ll c_ln c_ip c_gr c_hs ∧ post r w_pg)) args s 0 0 A) D s0 A 5 (mM ad c_pg c_bm c_tx c_ty c_ft c_fa c_sp c_nu c_un c_sf c_st c_ll c_ln c_ip c_gr c_hs) 0 0 [some (yr (some (ad 0))), none, some (yi v2), some (yi v3), none] 67 []) : ∀ (c_pg : Nat → Int32) (v2 : Int32) (v3 : Int32) (u1 : Int32) (u2 : Int32) (u3 : Int32), wpX2_comes_b114 post k67 c_pg v2 v3 u1 u2 u3 → Y p l e { frames := 2, cells := 0, slots := 0, locals := 87 } s m args below meth c (MQ below (yQi D s0 A (fun r M1 => ∃ (w_pg : Nat → Int32), M1 = mM ad w_pg c_bm c_tx c_ty c_ft c_fa c_sp c_nu c_un c_sf c_st c_ll c_ln c_ip c_gr c_hs ∧ post r w_pg)) args s 0 0 A) D s0 A 5 (mM ad c_pg c_bm c_tx c_ty c_ft c_fa c_sp c_nu c_un c_sf c_st c_ll c_ln c_ip c_gr c_hs) 0 0 [some (yr (some (ad 0))), none, some (yi v2), some (yi v3), none] 114 [yi u3, yi u2, yi u1, yr (some (ad 0))] := by
  intro c_pg v2 v3 u1 u2 u3 h
  rw [wpX2_comes_b114] at h
  refine y_callVv0 C (metX2_sets hd hB h) (cwV 3 C.hts (lw_V q1254 q1256 qs29 q91 q1257) rfl rfl rfl kdX2_sets ⟨Nat.le_of_ble_eq_true rfl, Nat.le_of_ble_eq_true rfl⟩) mM_0 rfl rfl rfl (Nat.le_of_ble_eq_true rfl) dX2_comes_114 (fun M1 hp => ?_)
  clear h
  obtain ⟨w_pg5, rfl, h⟩ := hp
  replace h := h _ rfl
  refine y_iinc C 3 _ rfl (y_inc1 _) (by decide) dX2_comes_117 ?_
  refine y_goto C 67 dX2_comes_120 (by decide) ?_
  refine y_to C _ ?_ (hk67 _ _ _ h)
  exact (And.intro rfl (And.intro rfl (And.intro rfl trivial)))
def wpX2_comes_b67 (post : Int32 → (Nat → Int32) → Prop) : Nat → (Nat → Int32) → Int32 → Int32 → Prop
  | 0, _, _, _ => False
  | nn + 1, c_pg, v2, v3 => vp_in 13 1120 ∧ (((2 * (c_pg (Int32.toNatClampNeg 13))) ≤ v3 → post v2 c_pg) ∧ (¬ (2 * (c_pg (Int32.toNatClampNeg 13))) ≤ v3 → wpX2_of c_pg (v3 / 2) (v3 - v3 / 2 * 2) (fun r4 => ((r4 < v2 → wpX2_comes_b114 post (fun c_pg v2 v3 => wpX2_comes_b67 post nn c_pg v2 v3) c_pg v2 v3 (v3 / 2) (v3 - v3 / 2 * 2) r4) ∧ (¬ r4 < v2 → wpX2_comes_b114 post (fun c_pg v2 v3 => wpX2_comes_b67 post nn c_pg v2 v3) c_pg v2 v3 (v3 / 2) (v3 - v3 / 2 * 2) (r4 + 1))))))
theorem okX2_comes_b67 (C : yC p { frames := 2, cells := 0, slots := 0, locals := 87 } s m args meth c cX2_comes 5 RX2 D s0 a0 A) (hB : yB D s0 a0) (hd : yAd ad) (hr : meth.sig.returnType = (some .int)) {post : Int32 → (Nat → Int32) → Prop}  : ∀ (nn : Nat) (c_pg : Nat → Int32) (v2 : Int32) (v3 : Int32), wpX2_comes_b67 post nn c_pg v2 v3 → Y p l e { frames := 2, cells := 0, slots := 0, locals := 87 } s m args below meth c (MQ below (yQi D s0 A (fun r M1 => ∃ (w_pg : Nat → Int32), M1 = mM ad w_pg c_bm c_tx c_ty c_ft c_fa c_sp c_nu c_un c_sf c_st c_ll c_ln c_ip c_gr c_hs ∧ post r w_pg)) args s 0 0 A) D s0 A 5 (mM ad c_pg c_bm c_tx c_ty c_ft c_fa c_sp c_nu c_un c_sf c_st c_ll c_ln c_ip c_gr c_hs) 0 0 [some (yr (some (ad 0))), none, some (yi v2), some (yi v3), none] 67 [] := by
  intro nn
  induction nn with
  | zero => intro c_pg v2 v3 h; exact absurd h (by rw [wpX2_comes_b67]; exact id)
  | succ nn ih =>
    intro c_pg v2 v3 h
    rw [wpX2_comes_b67] at h
    refine y_iload_n C 3 rfl rfl dX2_comes_67 ?_
    refine y_iconst C 2 dX2_comes_68 lit2 ?_
    refine y_aload_n C 0 rfl rfl dX2_comes_69 ?_
    refine y_get (ci := 2) (k := 0) C in_X2 rfl (by decide) q1169 (fun _ h => h) mM_0 rfl dX2_comes_70 ?_
    refine y_bipush C 13 dX2_comes_73 y_b13 ?_
    obtain ⟨i9, h⟩ := h
    refine y_iald C (mM_1 hd) i9 dX2_comes_75 ?_
    refine y_imul C dX2_comes_76 ?_
    refine y_icmp_ge C 123 dX2_comes_77 (by decide) (fun c9 => ?_) (fun c9 => ?_)
    · replace h := h.1 c9
      refine y_iload_n C 2 rfl rfl dX2_comes_123 ?_
      exact y_ireti C hr rfl rfl ⟨_, rfl, h⟩ dX2_comes_124
    · replace h := h.2 c9
      refine y_aload_n C 0 rfl rfl dX2_comes_80 ?_
      refine y_iload_n C 3 rfl rfl dX2_comes_81 ?_
      refine y_iconst C 2 dX2_comes_82 lit2 ?_
      refine y_idiv C (by decide) dX2_comes_83 ?_
      refine y_iload_n C 3 rfl rfl dX2_comes_84 ?_
      refine y_iconst C 2 dX2_comes_85 lit2 ?_
      refine y_irem C (by decide) dX2_comes_86 ?_
      refine y_callVi0 C (metX2_of hd hB h) (cwV 2 C.hts (lw_V q1250 q1252 qs28 q91 q1253) rfl rfl rfl kdX2_of ⟨Nat.le_of_ble_eq_true rfl, Nat.le_of_ble_eq_true rfl⟩) mM_0 rfl rfl rfl (Nat.le_of_ble_eq_true rfl) dX2_comes_87 (fun r4 M1 hp => ?_)
      clear h
      obtain ⟨rfl, h⟩ := hp
      refine y_istore C 4 (by decide) dX2_comes_90 ?_
      refine y_aload_n C 0 rfl rfl dX2_comes_92 ?_
      refine y_iload_n C 3 rfl rfl dX2_comes_93 ?_
      refine y_iconst C 2 dX2_comes_94 lit2 ?_
      refine y_idiv C (by decide) dX2_comes_95 ?_
      refine y_iload_n C 3 rfl rfl dX2_comes_96 ?_
      refine y_iconst C 2 dX2_comes_97 lit2 ?_
      refine y_irem C (by decide) dX2_comes_98 ?_
      refine y_iload C 4 rfl dX2_comes_99 ?_
      refine y_iload_n C 2 rfl rfl dX2_comes_101 ?_
      refine y_icmp_lt C 112 dX2_comes_102 (by decide) (fun c9 => ?_) (fun c9 => ?_)
      · replace h := h.1 c9
        refine y_iload C 4 rfl dX2_comes_112 ?_
        refine y_to C _ ?_ (okX2_comes_b114 C hB hd hr ih _ _ _ _ _ _ h)
        exact (And.intro rfl (And.intro rfl (And.intro rfl trivial)))
      · replace h := h.2 c9
        refine y_iload C 4 rfl dX2_comes_105 ?_
        refine y_iconst C 1 dX2_comes_107 lit1 ?_
        refine y_iadd C dX2_comes_108 ?_
        refine y_goto C 114 dX2_comes_109 (by decide) ?_
        refine y_to C _ ?_ (okX2_comes_b114 C hB hd hr ih _ _ _ _ _ _ h)
        exact (And.intro rfl (And.intro rfl (And.intro rfl trivial)))
def wpX2_comes_b46 (post : Int32 → (Nat → Int32) → Prop) (c_pg : Nat → Int32) (v1 : Int32) (v2 : Int32) : Prop := vp_in (1 + v2) 1120 ∧ ∀ f2 : Nat → Int32, f2 = upd c_pg (Int32.toNatClampNeg (1 + v2)) v1 → vp_in 0 1120 ∧ vp_in 0 1120 ∧ ∀ f3 : Nat → Int32, f3 = upd f2 (Int32.toNatClampNeg 0) ((f2 (Int32.toNatClampNeg 0)) + 1) → ∃ nf9 : Nat, wpX2_comes_b67 post nf9 f3 v2 0
theorem okX2_comes_b46 (C : yC p { frames := 2, cells := 0, slots := 0, locals := 87 } s m args meth c cX2_comes 5 RX2 D s0 a0 A) (hB : yB D s0 a0) (hd : yAd ad) (hr : meth.sig.returnType = (some .int)) {post : Int32 → (Nat → Int32) → Prop}  : ∀ (c_pg : Nat → Int32) (v1 : Int32) (v2 : Int32), wpX2_comes_b46 post c_pg v1 v2 → Y p l e { frames := 2, cells := 0, slots := 0, locals := 87 } s m args below meth c (MQ below (yQi D s0 A (fun r M1 => ∃ (w_pg : Nat → Int32), M1 = mM ad w_pg c_bm c_tx c_ty c_ft c_fa c_sp c_nu c_un c_sf c_st c_ll c_ln c_ip c_gr c_hs ∧ post r w_pg)) args s 0 0 A) D s0 A 5 (mM ad c_pg c_bm c_tx c_ty c_ft c_fa c_sp c_nu c_un c_sf c_st c_ll c_ln c_ip c_gr c_hs) 0 0 [some (yr (some (ad 0))), some (yi v1), some (yi v2), none, none] 46 [] := by
  intro c_pg v1 v2 h
  rw [wpX2_comes_b46] at h
  refine y_aload_n C 0 rfl rfl dX2_comes_46 ?_
  refine y_get (ci := 2) (k := 0) C in_X2 rfl (by decide) q1169 (fun _ h => h) mM_0 rfl dX2_comes_47 ?_
  refine y_iconst C 1 dX2_comes_50 lit1 ?_
  refine y_iload_n C 2 rfl rfl dX2_comes_51 ?_
  refine y_iadd C dX2_comes_52 ?_
  refine y_iload_n C 1 rfl rfl dX2_comes_53 ?_
  obtain ⟨i9, h⟩ := h
  replace h := h _ rfl
  refine y_iast C (mM_1 hd) i9 (mU_pg hd _) dX2_comes_54 ?_
  refine y_aload_n C 0 rfl rfl dX2_comes_55 ?_
  refine y_get (ci := 2) (k := 0) C in_X2 rfl (by decide) q1169 (fun _ h => h) mM_0 rfl dX2_comes_56 ?_
  refine y_iconst C 0 dX2_comes_59 lit0 ?_
  refine y_dup2 C rfl rfl dX2_comes_60 ?_
  obtain ⟨i9, h⟩ := h
  refine y_iald C (mM_1 hd) i9 dX2_comes_61 ?_
  refine y_iconst C 1 dX2_comes_62 lit1 ?_
  refine y_iadd C dX2_comes_63 ?_
  obtain ⟨i9, h⟩ := h
  replace h := h _ rfl
  refine y_iast C (mM_1 hd) i9 (mU_pg hd _) dX2_comes_64 ?_
  refine y_iconst C 0 dX2_comes_65 lit0 ?_
  refine y_istore_n C 3 rfl (by decide) dX2_comes_66 ?_
  obtain ⟨nf9, h⟩ := h
  refine y_to C _ ?_ (okX2_comes_b67 C hB hd hr  nf9 _ _ _ h)
  exact (And.intro rfl (And.intro rfl (And.intro rfl trivial)))
def wpX2_comes_b7 (post : Int32 → (Nat → Int32) → Prop) : Nat → (Nat → Int32) → Int32 → Int32 → Prop
  | 0, _, _, _ => False
  | nn + 1, c_pg, v1, v2 => ((v2 ≤ 0 → wpX2_comes_b46 post c_pg v1 v2) ∧ (¬ v2 ≤ 0 → wpX2_position c_pg (v2 - 1) (fun r7 => ((r7 ≤ v1 → wpX2_comes_b46 post c_pg v1 v2) ∧ (¬ r7 ≤ v1 → vp_in ((1 + v2) - 1) 1120 ∧ vp_in (1 + v2) 1120 ∧ ∀ f8 : Nat → Int32, f8 = upd c_pg (Int32.toNatClampNeg (1 + v2)) (c_pg (Int32.toNatClampNeg ((1 + v2) - 1))) → ∀ x9 : Int32, x9 = v2 + (-1) → wpX2_comes_b7 post nn f8 v1 x9)))))
theorem okX2_comes_b7 (C : yC p { frames := 2, cells := 0, slots := 0, locals := 87 } s m args meth c cX2_comes 5 RX2 D s0 a0 A) (hB : yB D s0 a0) (hd : yAd ad) (hr : meth.sig.returnType = (some .int)) {post : Int32 → (Nat → Int32) → Prop}  : ∀ (nn : Nat) (c_pg : Nat → Int32) (v1 : Int32) (v2 : Int32), wpX2_comes_b7 post nn c_pg v1 v2 → Y p l e { frames := 2, cells := 0, slots := 0, locals := 87 } s m args below meth c (MQ below (yQi D s0 A (fun r M1 => ∃ (w_pg : Nat → Int32), M1 = mM ad w_pg c_bm c_tx c_ty c_ft c_fa c_sp c_nu c_un c_sf c_st c_ll c_ln c_ip c_gr c_hs ∧ post r w_pg)) args s 0 0 A) D s0 A 5 (mM ad c_pg c_bm c_tx c_ty c_ft c_fa c_sp c_nu c_un c_sf c_st c_ll c_ln c_ip c_gr c_hs) 0 0 [some (yr (some (ad 0))), some (yi v1), some (yi v2), none, none] 7 [] := by
  intro nn
  induction nn with
  | zero => intro c_pg v1 v2 h; exact absurd h (by rw [wpX2_comes_b7]; exact id)
  | succ nn ih =>
    intro c_pg v1 v2 h
    rw [wpX2_comes_b7] at h
    refine y_iload_n C 2 rfl rfl dX2_comes_7 ?_
    refine y_if_le C 46 dX2_comes_8 (by decide) (fun c9 => ?_) (fun c9 => ?_)
    · replace h := h.1 c9
      refine y_to C _ ?_ (okX2_comes_b46 C hB hd hr  _ _ _ h)
      exact (And.intro rfl (And.intro rfl (And.intro rfl trivial)))
    · replace h := h.2 c9
      refine y_aload_n C 0 rfl rfl dX2_comes_11 ?_
      refine y_iload_n C 2 rfl rfl dX2_comes_12 ?_
      refine y_iconst C 1 dX2_comes_13 lit1 ?_
      refine y_isub C dX2_comes_14 ?_
      refine y_callVi0 C (metX2_position hd hB h) (cwV 1 C.hts (lw_V q1238 q1240 qs25 q91 q1241) rfl rfl rfl kdX2_position ⟨Nat.le_of_ble_eq_true rfl, Nat.le_of_ble_eq_true rfl⟩) mM_0 rfl rfl rfl (Nat.le_of_ble_eq_true rfl) dX2_comes_15 (fun r7 M1 hp => ?_)
      clear h
      obtain ⟨rfl, h⟩ := hp
      refine y_iload_n C 1 rfl rfl dX2_comes_18 ?_
      refine y_icmp_le C 46 dX2_comes_19 (by decide) (fun c9 => ?_) (fun c9 => ?_)
      · replace h := h.1 c9
        refine y_to C _ ?_ (okX2_comes_b46 C hB hd hr  _ _ _ h)
        exact (And.intro rfl (And.intro rfl (And.intro rfl trivial)))
      · replace h := h.2 c9
        refine y_aload_n C 0 rfl rfl dX2_comes_22 ?_
        refine y_get (ci := 2) (k := 0) C in_X2 rfl (by decide) q1169 (fun _ h => h) mM_0 rfl dX2_comes_23 ?_
        refine y_iconst C 1 dX2_comes_26 lit1 ?_
        refine y_iload_n C 2 rfl rfl dX2_comes_27 ?_
        refine y_iadd C dX2_comes_28 ?_
        refine y_aload_n C 0 rfl rfl dX2_comes_29 ?_
        refine y_get (ci := 2) (k := 0) C in_X2 rfl (by decide) q1169 (fun _ h => h) mM_0 rfl dX2_comes_30 ?_
        refine y_iconst C 1 dX2_comes_33 lit1 ?_
        refine y_iload_n C 2 rfl rfl dX2_comes_34 ?_
        refine y_iadd C dX2_comes_35 ?_
        refine y_iconst C 1 dX2_comes_36 lit1 ?_
        refine y_isub C dX2_comes_37 ?_
        obtain ⟨i9, h⟩ := h
        refine y_iald C (mM_1 hd) i9 dX2_comes_38 ?_
        obtain ⟨i9, h⟩ := h
        replace h := h _ rfl
        refine y_iast C (mM_1 hd) i9 (mU_pg hd _) dX2_comes_39 ?_
        replace h := h _ rfl
        refine y_iinc C 2 _ rfl (y_incm1 _) (by decide) dX2_comes_40 ?_
        refine y_goto C 7 dX2_comes_43 (by decide) ?_
        refine y_to C _ ?_ (ih _ _ _ h)
        exact (And.intro rfl (And.intro rfl (And.intro rfl trivial)))
end sX2_comes
def wpX2_comes (c_pg : Nat → Int32) (a1 : Int32) (post : Int32 → (Nat → Int32) → Prop) : Prop := vp_in 0 1120 ∧ ∀ x1 : Int32, x1 = (c_pg (Int32.toNatClampNeg 0)) → ∃ nf9 : Nat, wpX2_comes_b7 post nf9 c_pg a1 x1
theorem metX2_comes {l : Launch} {D : va_G} {s0 : State} {a0 : Array Value} {ad : Nat → Nat} (hd : yAd ad) (hB : yB D s0 a0) {c_pg : Nat → Int32} {c_bm : Int32} {c_tx : Nat → Int32} {c_ty : Int32} {c_ft : Int32} {c_fa : Int32} {c_sp : Int32} {c_nu : Int32} {c_un : Nat → Int32} {c_sf : Nat → Int32} {c_st : Nat → Int32} {c_ll : Nat → Int32} {c_ln : Nat → Int32} {c_ip : Nat → Int32} {c_gr : Nat → Int32} {c_hs : Int64} {a1 : Int32} {post : Int32 → (Nat → Int32) → Prop} (h : wpX2_comes c_pg a1 post) : yMi l yX2_comes (ws_ yX2_comes cX2_comes 5 (some .int)) 2 87 0 0 D s0 [yr (some (ad 0)), yi a1] (mM ad c_pg c_bm c_tx c_ty c_ft c_fa c_sp c_nu c_un c_sf c_st c_ll c_ln c_ip c_gr c_hs) (fun r M1 => ∃ (w_pg : Nat → Int32), M1 = mM ad w_pg c_bm c_tx c_ty c_ft c_fa c_sp c_nu c_un c_sf c_st c_ll c_ln c_ip c_gr c_hs ∧ post r w_pg) := by
  refine y_meti hB (by decide) rfl (Nat.le_of_ble_eq_true rfl) ?_
  intro p e s m below meth c A hr hnm C
  rw [wpX2_comes] at h
  refine y_aload_n C 0 rfl rfl dX2_comes_0 ?_
  refine y_get (ci := 2) (k := 0) C in_X2 rfl (by decide) q1169 (fun _ h => h) mM_0 rfl dX2_comes_1 ?_
  refine y_iconst C 0 dX2_comes_4 lit0 ?_
  obtain ⟨i9, h⟩ := h
  refine y_iald C (mM_1 hd) i9 dX2_comes_5 ?_
  replace h := h _ rfl
  refine y_istore_n C 2 rfl (by decide) dX2_comes_6 ?_
  obtain ⟨nf9, h⟩ := h
  refine y_to C _ ?_ (okX2_comes_b7 C hB hd hr  nf9 _ _ _ h)
  exact (And.intro rfl (And.intro rfl (And.intro rfl trivial)))
theorem kdX2_comes : yX2_comes.cls = RX2 ∧ yX2_comes.cls ≠ "java/lang/invoke/MethodHandle" ∧ yX2_comes.cls ≠ "java/lang/invoke/VarHandle" ∧ (parseMethodDescriptor yX2_comes.desc).map (fun d => d.parameters.length) = some 1 := by decide +kernel
def wpX2_addPoint (c_pg : Nat → Int32) (c_bm : Int32) (a1 : Int32) (post : Int32 → (Nat → Int32) → Int32 → Prop) : Prop := wpX2_in a1 0 300 (fun r1 => ((¬ r1 = 0 → wpX2_pointWith c_pg a1 (fun r2 => ((r2 = (-999) → vp_in 0 1120 ∧ ((¬ (c_pg (Int32.toNatClampNeg 0)) = 12 → wpX2_records c_pg c_bm (fun w_pg3 w_bm4 => wpX2_comes w_pg3 a1 (fun r6 w_pg5 => post r6 w_pg5 w_bm4))) ∧ ((c_pg (Int32.toNatClampNeg 0)) = 12 → post (-3) c_pg c_bm))) ∧ (¬ r2 = (-999) → post (-2) c_pg c_bm)))) ∧ (r1 = 0 → post (-1) c_pg c_bm)))
theorem metX2_addPoint {l : Launch} {D : va_G} {s0 : State} {a0 : Array Value} {ad : Nat → Nat} (hd : yAd ad) (hB : yB D s0 a0) {c_pg : Nat → Int32} {c_bm : Int32} {c_tx : Nat → Int32} {c_ty : Int32} {c_ft : Int32} {c_fa : Int32} {c_sp : Int32} {c_nu : Int32} {c_un : Nat → Int32} {c_sf : Nat → Int32} {c_st : Nat → Int32} {c_ll : Nat → Int32} {c_ln : Nat → Int32} {c_ip : Nat → Int32} {c_gr : Nat → Int32} {c_hs : Int64} {a1 : Int32} {post : Int32 → (Nat → Int32) → Int32 → Prop} (h : wpX2_addPoint c_pg c_bm a1 post) : yMi l yX2_addPoint (ws_ yX2_addPoint cX2_addPoint 2 (some .int)) 3 111 0 0 D s0 [yr (some (ad 0)), yi a1] (mM ad c_pg c_bm c_tx c_ty c_ft c_fa c_sp c_nu c_un c_sf c_st c_ll c_ln c_ip c_gr c_hs) (fun r M1 => ∃ (w_pg : Nat → Int32) (w_bm : Int32), M1 = mM ad w_pg w_bm c_tx c_ty c_ft c_fa c_sp c_nu c_un c_sf c_st c_ll c_ln c_ip c_gr c_hs ∧ post r w_pg w_bm) := by
  refine y_meti hB (by decide) rfl (Nat.le_of_ble_eq_true rfl) ?_
  intro p e s m below meth c A hr hnm C
  rw [wpX2_addPoint] at h
  refine y_iload_n C 1 rfl rfl dX2_addPoint_0 ?_
  refine y_iconst C 0 dX2_addPoint_1 lit0 ?_
  refine y_sipush C 300 dX2_addPoint_2 y_s300 ?_
  refine y_callSi0 C (metX2_in hB h) (va_cwS 3 C.hts (lw_S q1231 q1232 q91 q1233) rfl rfl rfl kdX2_in.2 ⟨Nat.le_of_ble_eq_true rfl, Nat.le_of_ble_eq_true rfl⟩) rfl rfl (Nat.le_of_ble_eq_true rfl) dX2_addPoint_5 (fun r1 M1 hp => ?_)
  clear h
  obtain ⟨rfl, h⟩ := hp
  refine y_if_ne C 13 dX2_addPoint_8 (by decide) (fun c9 => ?_) (fun c9 => ?_)
  · replace h := h.1 c9
    refine y_aload_n C 0 rfl rfl dX2_addPoint_13 ?_
    refine y_iload_n C 1 rfl rfl dX2_addPoint_14 ?_
    refine y_callVi0 C (metX2_pointWith hd hB h) (cwV 1 C.hts (lw_V q1234 q1236 qs24 q91 q1237) rfl rfl rfl kdX2_pointWith ⟨Nat.le_of_ble_eq_true rfl, Nat.le_of_ble_eq_true rfl⟩) mM_0 rfl rfl rfl (Nat.le_of_ble_eq_true rfl) dX2_addPoint_15 (fun r2 M1 hp => ?_)
    clear h
    obtain ⟨rfl, h⟩ := hp
    refine y_sipush C (-999) dX2_addPoint_18 y_sm999 ?_
    refine y_icmp_eq C 27 dX2_addPoint_21 (by decide) (fun c9 => ?_) (fun c9 => ?_)
    · replace h := h.1 c9
      refine y_aload_n C 0 rfl rfl dX2_addPoint_27 ?_
      refine y_get (ci := 2) (k := 0) C in_X2 rfl (by decide) q1169 (fun _ h => h) mM_0 rfl dX2_addPoint_28 ?_
      refine y_iconst C 0 dX2_addPoint_31 lit0 ?_
      obtain ⟨i9, h⟩ := h
      refine y_iald C (mM_1 hd) i9 dX2_addPoint_32 ?_
      refine y_bipush C 12 dX2_addPoint_33 y_b12 ?_
      refine y_icmp_ne C 41 dX2_addPoint_35 (by decide) (fun c9 => ?_) (fun c9 => ?_)
      · replace h := h.1 c9
        refine y_aload_n C 0 rfl rfl dX2_addPoint_41 ?_
        refine y_callVv0 C (metX2_records hd hB h) (cwV 0 C.hts (lw_V q1242 q1244 qs26 q91 q1245) rfl rfl rfl kdX2_records ⟨Nat.le_of_ble_eq_true rfl, Nat.le_of_ble_eq_true rfl⟩) mM_0 rfl rfl rfl (Nat.le_of_ble_eq_true rfl) dX2_addPoint_42 (fun M1 hp => ?_)
        clear h
        obtain ⟨w_pg3, w_bm4, rfl, h⟩ := hp
        refine y_aload_n C 0 rfl rfl dX2_addPoint_45 ?_
        refine y_iload_n C 1 rfl rfl dX2_addPoint_46 ?_
        refine y_callVi0 C (metX2_comes hd hB h) (cwV 1 C.hts (lw_V q1246 q1248 qs27 q91 q1249) rfl rfl rfl kdX2_comes ⟨Nat.le_of_ble_eq_true rfl, Nat.le_of_ble_eq_true rfl⟩) mM_0 rfl rfl rfl (Nat.le_of_ble_eq_true rfl) dX2_addPoint_47 (fun r6 M1 hp => ?_)
        clear h
        obtain ⟨w_pg5, rfl, h⟩ := hp
        exact y_ireti C hr rfl rfl ⟨_, _, rfl, h⟩ dX2_addPoint_50
      · replace h := h.2 c9
        refine y_bipush C (-3) dX2_addPoint_38 y_bm3 ?_
        exact y_ireti C hr rfl rfl ⟨_, _, rfl, h⟩ dX2_addPoint_40
    · replace h := h.2 c9
      refine y_bipush C (-2) dX2_addPoint_24 y_bm2 ?_
      exact y_ireti C hr rfl rfl ⟨_, _, rfl, h⟩ dX2_addPoint_26
  · replace h := h.2 c9
    refine y_iconst C (-1) dX2_addPoint_11 litm1 ?_
    exact y_ireti C hr rfl rfl ⟨_, _, rfl, h⟩ dX2_addPoint_12
theorem kdX2_addPoint : yX2_addPoint.cls = RX2 ∧ yX2_addPoint.cls ≠ "java/lang/invoke/MethodHandle" ∧ yX2_addPoint.cls ≠ "java/lang/invoke/VarHandle" ∧ (parseMethodDescriptor yX2_addPoint.desc).map (fun d => d.parameters.length) = some 1 := by decide +kernel
def wpX2_isPoint (c_pg : Nat → Int32) (a1 : Int32) (post : Int32 → Prop) : Prop := vp_in 0 1120 ∧ wpX2_in a1 0 ((c_pg (Int32.toNatClampNeg 0)) - 1) (fun r1 => ((r1 = 0 ∨ r1 = 1) ∧ post r1))
theorem metX2_isPoint {l : Launch} {D : va_G} {s0 : State} {a0 : Array Value} {ad : Nat → Nat} (hd : yAd ad) (hB : yB D s0 a0) {c_pg : Nat → Int32} {c_bm : Int32} {c_tx : Nat → Int32} {c_ty : Int32} {c_ft : Int32} {c_fa : Int32} {c_sp : Int32} {c_nu : Int32} {c_un : Nat → Int32} {c_sf : Nat → Int32} {c_st : Nat → Int32} {c_ll : Nat → Int32} {c_ln : Nat → Int32} {c_ip : Nat → Int32} {c_gr : Nat → Int32} {c_hs : Int64} {a1 : Int32} {post : Int32 → Prop} (h : wpX2_isPoint c_pg a1 post) : yMi l yX2_isPoint (ws_ yX2_isPoint cX2_isPoint 2 (some .boolean)) 2 86 0 0 D s0 [yr (some (ad 0)), yi a1] (mM ad c_pg c_bm c_tx c_ty c_ft c_fa c_sp c_nu c_un c_sf c_st c_ll c_ln c_ip c_gr c_hs) (fun r M1 => M1 = mM ad c_pg c_bm c_tx c_ty c_ft c_fa c_sp c_nu c_un c_sf c_st c_ll c_ln c_ip c_gr c_hs ∧ post r) := by
  refine y_meti hB (by decide) rfl (Nat.le_of_ble_eq_true rfl) ?_
  intro p e s m below meth c A hr hnm C
  rw [wpX2_isPoint] at h
  refine y_iload_n C 1 rfl rfl dX2_isPoint_0 ?_
  refine y_iconst C 0 dX2_isPoint_1 lit0 ?_
  refine y_aload_n C 0 rfl rfl dX2_isPoint_2 ?_
  refine y_get (ci := 2) (k := 0) C in_X2 rfl (by decide) q1169 (fun _ h => h) mM_0 rfl dX2_isPoint_3 ?_
  refine y_iconst C 0 dX2_isPoint_6 lit0 ?_
  obtain ⟨i9, h⟩ := h
  refine y_iald C (mM_1 hd) i9 dX2_isPoint_7 ?_
  refine y_iconst C 1 dX2_isPoint_8 lit1 ?_
  refine y_isub C dX2_isPoint_9 ?_
  refine y_callSi0 C (metX2_in hB h) (va_cwS 3 C.hts (lw_S q1231 q1232 q91 q1233) rfl rfl rfl kdX2_in.2 ⟨Nat.le_of_ble_eq_true rfl, Nat.le_of_ble_eq_true rfl⟩) rfl rfl (Nat.le_of_ble_eq_true rfl) dX2_isPoint_10 (fun r1 M1 hp => ?_)
  clear h
  obtain ⟨rfl, h⟩ := hp
  obtain ⟨z9, h⟩ := h
  exact y_iretz C hr rfl rfl z9 ⟨rfl, h⟩ dX2_isPoint_13
theorem kdX2_isPoint : yX2_isPoint.cls = RX2 ∧ yX2_isPoint.cls ≠ "java/lang/invoke/MethodHandle" ∧ yX2_isPoint.cls ≠ "java/lang/invoke/VarHandle" ∧ (parseMethodDescriptor yX2_isPoint.desc).map (fun d => d.parameters.length) = some 1 := by decide +kernel
section sX2_goes
variable {p : Program} {l : Launch} {e : Env} {s : State} {m : MethodId} {args : Array Value} {below : List Frame} {meth : Method} {c : Code} {D : va_G} {s0 : State} {a0 : Array Value} {A : Nat → Prop} {ad : Nat → Nat} {c_pg : Nat → Int32} {c_bm : Int32} {c_tx : Nat → Int32} {c_ty : Int32} {c_ft : Int32} {c_fa : Int32} {c_sp : Int32} {c_nu : Int32} {c_un : Nat → Int32} {c_sf : Nat → Int32} {c_st : Nat → Int32} {c_ll : Nat → Int32} {c_ln : Nat → Int32} {c_ip : Nat → Int32} {c_gr : Nat → Int32} {c_hs : Int64}
def wpX2_goes_b100 (post : (Nat → Int32) → Prop) (k48 : (Nat → Int32) → Int32 → Int32 → Prop) (c_pg : Nat → Int32) (v1 : Int32) (v2 : Int32) (u1 : Int32) (u2 : Int32) (u3 : Int32) : Prop := wpX2_sets c_pg u1 u2 u3 (fun w_pg3 => ∀ x4 : Int32, x4 = v2 + 1 → k48 w_pg3 v1 x4)
theorem okX2_goes_b100 (C : yC p { frames := 2, cells := 0, slots := 0, locals := 87 } s m args meth c cX2_goes 4 RX2 D s0 a0 A) (hB : yB D s0 a0) (hd : yAd ad) (hr : meth.sig.returnType = none) {post : (Nat → Int32) → Prop} {k48 : (Nat → Int32) → Int32 → Int32 → Prop} (hk48 : ∀ (c_pg : Nat → Int32) (v1 : Int32) (v2 : Int32), k48 c_pg v1 v2 → Y p l e { frames := 2, cells := 0, slots := 0, locals := 87 } s m args below meth c (MQ below (yQv D s0 A (fun M1 => ∃ (w_pg : Nat → Int32), M1 = mM ad w_pg c_bm c_tx c_ty c_ft c_fa c_sp c_nu c_un c_sf c_st c_ll c_ln c_ip c_gr c_hs ∧ post w_pg)) args s 0 0 A) D s0 A 4 (mM ad c_pg c_bm c_tx c_ty c_ft c_fa c_sp c_nu c_un c_sf c_st c_ll c_ln c_ip c_gr c_hs) 0 0 [some (yr (some (ad 0))), some (yi v1), some (yi v2), none] 48 []) : ∀ (c_pg : Nat → Int32) (v1 : Int32) (v2 : Int32) (u1 : Int32) (u2 : Int32) (u3 : Int32), wpX2_goes_b100 post k48 c_pg v1 v2 u1 u2 u3 → Y p l e { frames := 2, cells := 0, slots := 0, locals := 87 } s m args below meth c (MQ below (yQv D s0 A (fun M1 => ∃ (w_pg : Nat → Int32), M1 = mM ad w_pg c_bm c_tx c_ty c_ft c_fa c_sp c_nu c_un c_sf c_st c_ll c_ln c_ip c_gr c_hs ∧ post w_pg)) args s 0 0 A) D s0 A 4 (mM ad c_pg c_bm c_tx c_ty c_ft c_fa c_sp c_nu c_un c_sf c_st c_ll c_ln c_ip c_gr c_hs) 0 0 [some (yr (some (ad 0))), some (yi v1), some (yi v2), none] 100 [yi u3, yi u2, yi u1, yr (some (ad 0))] := by
  intro c_pg v1 v2 u1 u2 u3 h
  rw [wpX2_goes_b100] at h
  refine y_callVv0 C (metX2_sets hd hB h) (cwV 3 C.hts (lw_V q1254 q1256 qs29 q91 q1257) rfl rfl rfl kdX2_sets ⟨Nat.le_of_ble_eq_true rfl, Nat.le_of_ble_eq_true rfl⟩) mM_0 rfl rfl rfl (Nat.le_of_ble_eq_true rfl) dX2_goes_100 (fun M1 hp => ?_)
  clear h
  obtain ⟨w_pg3, rfl, h⟩ := hp
  replace h := h _ rfl
  refine y_iinc C 2 _ rfl (y_inc1 _) (by decide) dX2_goes_103 ?_
  refine y_goto C 48 dX2_goes_106 (by decide) ?_
  refine y_to C _ ?_ (hk48 _ _ _ h)
  exact (And.intro rfl (And.intro rfl (And.intro rfl trivial)))
def wpX2_goes_b48 (post : (Nat → Int32) → Prop) : Nat → (Nat → Int32) → Int32 → Int32 → Prop
  | 0, _, _, _ => False
  | nn + 1, c_pg, v1, v2 => vp_in 13 1120 ∧ (((2 * (c_pg (Int32.toNatClampNeg 13))) ≤ v2 → post c_pg) ∧ (¬ (2 * (c_pg (Int32.toNatClampNeg 13))) ≤ v2 → wpX2_of c_pg (v2 / 2) (v2 - v2 / 2 * 2) (fun r2 => ((¬ r2 = v1 → ((r2 ≤ v1 → wpX2_goes_b100 post (fun c_pg v1 v2 => wpX2_goes_b48 post nn c_pg v1 v2) c_pg v1 v2 (v2 / 2) (v2 - v2 / 2 * 2) r2) ∧ (¬ r2 ≤ v1 → wpX2_goes_b100 post (fun c_pg v1 v2 => wpX2_goes_b48 post nn c_pg v1 v2) c_pg v1 v2 (v2 / 2) (v2 - v2 / 2 * 2) (r2 - 1)))) ∧ (r2 = v1 → wpX2_goes_b100 post (fun c_pg v1 v2 => wpX2_goes_b48 post nn c_pg v1 v2) c_pg v1 v2 (v2 / 2) (v2 - v2 / 2 * 2) (-1))))))
theorem okX2_goes_b48 (C : yC p { frames := 2, cells := 0, slots := 0, locals := 87 } s m args meth c cX2_goes 4 RX2 D s0 a0 A) (hB : yB D s0 a0) (hd : yAd ad) (hr : meth.sig.returnType = none) {post : (Nat → Int32) → Prop}  : ∀ (nn : Nat) (c_pg : Nat → Int32) (v1 : Int32) (v2 : Int32), wpX2_goes_b48 post nn c_pg v1 v2 → Y p l e { frames := 2, cells := 0, slots := 0, locals := 87 } s m args below meth c (MQ below (yQv D s0 A (fun M1 => ∃ (w_pg : Nat → Int32), M1 = mM ad w_pg c_bm c_tx c_ty c_ft c_fa c_sp c_nu c_un c_sf c_st c_ll c_ln c_ip c_gr c_hs ∧ post w_pg)) args s 0 0 A) D s0 A 4 (mM ad c_pg c_bm c_tx c_ty c_ft c_fa c_sp c_nu c_un c_sf c_st c_ll c_ln c_ip c_gr c_hs) 0 0 [some (yr (some (ad 0))), some (yi v1), some (yi v2), none] 48 [] := by
  intro nn
  induction nn with
  | zero => intro c_pg v1 v2 h; exact absurd h (by rw [wpX2_goes_b48]; exact id)
  | succ nn ih =>
    intro c_pg v1 v2 h
    rw [wpX2_goes_b48] at h
    refine y_iload_n C 2 rfl rfl dX2_goes_48 ?_
    refine y_iconst C 2 dX2_goes_49 lit2 ?_
    refine y_aload_n C 0 rfl rfl dX2_goes_50 ?_
    refine y_get (ci := 2) (k := 0) C in_X2 rfl (by decide) q1169 (fun _ h => h) mM_0 rfl dX2_goes_51 ?_
    refine y_bipush C 13 dX2_goes_54 y_b13 ?_
    obtain ⟨i9, h⟩ := h
    refine y_iald C (mM_1 hd) i9 dX2_goes_56 ?_
    refine y_imul C dX2_goes_57 ?_
    refine y_icmp_ge C 109 dX2_goes_58 (by decide) (fun c9 => ?_) (fun c9 => ?_)
    · replace h := h.1 c9
      exact y_vret C hr rfl rfl ⟨_, rfl, h⟩ dX2_goes_109
    · replace h := h.2 c9
      refine y_aload_n C 0 rfl rfl dX2_goes_61 ?_
      refine y_iload_n C 2 rfl rfl dX2_goes_62 ?_
      refine y_iconst C 2 dX2_goes_63 lit2 ?_
      refine y_idiv C (by decide) dX2_goes_64 ?_
      refine y_iload_n C 2 rfl rfl dX2_goes_65 ?_
      refine y_iconst C 2 dX2_goes_66 lit2 ?_
      refine y_irem C (by decide) dX2_goes_67 ?_
      refine y_callVi0 C (metX2_of hd hB h) (cwV 2 C.hts (lw_V q1250 q1252 qs28 q91 q1253) rfl rfl rfl kdX2_of ⟨Nat.le_of_ble_eq_true rfl, Nat.le_of_ble_eq_true rfl⟩) mM_0 rfl rfl rfl (Nat.le_of_ble_eq_true rfl) dX2_goes_68 (fun r2 M1 hp => ?_)
      clear h
      obtain ⟨rfl, h⟩ := hp
      refine y_istore_n C 3 rfl (by decide) dX2_goes_71 ?_
      refine y_aload_n C 0 rfl rfl dX2_goes_72 ?_
      refine y_iload_n C 2 rfl rfl dX2_goes_73 ?_
      refine y_iconst C 2 dX2_goes_74 lit2 ?_
      refine y_idiv C (by decide) dX2_goes_75 ?_
      refine y_iload_n C 2 rfl rfl dX2_goes_76 ?_
      refine y_iconst C 2 dX2_goes_77 lit2 ?_
      refine y_irem C (by decide) dX2_goes_78 ?_
      refine y_iload_n C 3 rfl rfl dX2_goes_79 ?_
      refine y_iload_n C 1 rfl rfl dX2_goes_80 ?_
      refine y_icmp_ne C 88 dX2_goes_81 (by decide) (fun c9 => ?_) (fun c9 => ?_)
      · replace h := h.1 c9
        refine y_iload_n C 3 rfl rfl dX2_goes_88 ?_
        refine y_iload_n C 1 rfl rfl dX2_goes_89 ?_
        refine y_icmp_le C 99 dX2_goes_90 (by decide) (fun c9 => ?_) (fun c9 => ?_)
        · replace h := h.1 c9
          refine y_iload_n C 3 rfl rfl dX2_goes_99 ?_
          refine y_to C _ ?_ (okX2_goes_b100 C hB hd hr ih _ _ _ _ _ _ h)
          exact (And.intro rfl (And.intro rfl (And.intro rfl trivial)))
        · replace h := h.2 c9
          refine y_iload_n C 3 rfl rfl dX2_goes_93 ?_
          refine y_iconst C 1 dX2_goes_94 lit1 ?_
          refine y_isub C dX2_goes_95 ?_
          refine y_goto C 100 dX2_goes_96 (by decide) ?_
          refine y_to C _ ?_ (okX2_goes_b100 C hB hd hr ih _ _ _ _ _ _ h)
          exact (And.intro rfl (And.intro rfl (And.intro rfl trivial)))
      · replace h := h.2 c9
        refine y_iconst C (-1) dX2_goes_84 litm1 ?_
        refine y_goto C 100 dX2_goes_85 (by decide) ?_
        refine y_to C _ ?_ (okX2_goes_b100 C hB hd hr ih _ _ _ _ _ _ h)
        exact (And.intro rfl (And.intro rfl (And.intro rfl trivial)))
def wpX2_goes_b12 (post : (Nat → Int32) → Prop) : Nat → (Nat → Int32) → Int32 → Int32 → Prop
  | 0, _, _, _ => False
  | nn + 1, c_pg, v1, v2 => vp_in 0 1120 ∧ (((c_pg (Int32.toNatClampNeg 0)) ≤ v2 → ∃ nf9 : Nat, wpX2_goes_b48 post nf9 c_pg v1 0) ∧ (¬ (c_pg (Int32.toNatClampNeg 0)) ≤ v2 → vp_in ((1 + v2) + 1) 1120 ∧ vp_in (1 + v2) 1120 ∧ ∀ f5 : Nat → Int32, f5 = upd c_pg (Int32.toNatClampNeg (1 + v2)) (c_pg (Int32.toNatClampNeg ((1 + v2) + 1))) → ∀ x6 : Int32, x6 = v2 + 1 → wpX2_goes_b12 post nn f5 v1 x6))
theorem okX2_goes_b12 (C : yC p { frames := 2, cells := 0, slots := 0, locals := 87 } s m args meth c cX2_goes 4 RX2 D s0 a0 A) (hB : yB D s0 a0) (hd : yAd ad) (hr : meth.sig.returnType = none) {post : (Nat → Int32) → Prop}  : ∀ (nn : Nat) (c_pg : Nat → Int32) (v1 : Int32) (v2 : Int32), wpX2_goes_b12 post nn c_pg v1 v2 → Y p l e { frames := 2, cells := 0, slots := 0, locals := 87 } s m args below meth c (MQ below (yQv D s0 A (fun M1 => ∃ (w_pg : Nat → Int32), M1 = mM ad w_pg c_bm c_tx c_ty c_ft c_fa c_sp c_nu c_un c_sf c_st c_ll c_ln c_ip c_gr c_hs ∧ post w_pg)) args s 0 0 A) D s0 A 4 (mM ad c_pg c_bm c_tx c_ty c_ft c_fa c_sp c_nu c_un c_sf c_st c_ll c_ln c_ip c_gr c_hs) 0 0 [some (yr (some (ad 0))), some (yi v1), some (yi v2), none] 12 [] := by
  intro nn
  induction nn with
  | zero => intro c_pg v1 v2 h; exact absurd h (by rw [wpX2_goes_b12]; exact id)
  | succ nn ih =>
    intro c_pg v1 v2 h
    rw [wpX2_goes_b12] at h
    refine y_iload_n C 2 rfl rfl dX2_goes_12 ?_
    refine y_aload_n C 0 rfl rfl dX2_goes_13 ?_
    refine y_get (ci := 2) (k := 0) C in_X2 rfl (by decide) q1169 (fun _ h => h) mM_0 rfl dX2_goes_14 ?_
    refine y_iconst C 0 dX2_goes_17 lit0 ?_
    obtain ⟨i9, h⟩ := h
    refine y_iald C (mM_1 hd) i9 dX2_goes_18 ?_
    refine y_icmp_ge C 46 dX2_goes_19 (by decide) (fun c9 => ?_) (fun c9 => ?_)
    · replace h := h.1 c9
      refine y_iconst C 0 dX2_goes_46 lit0 ?_
      refine y_istore_n C 2 rfl (by decide) dX2_goes_47 ?_
      obtain ⟨nf9, h⟩ := h
      refine y_to C _ ?_ (okX2_goes_b48 C hB hd hr  nf9 _ _ _ h)
      exact (And.intro rfl (And.intro rfl (And.intro rfl trivial)))
    · replace h := h.2 c9
      refine y_aload_n C 0 rfl rfl dX2_goes_22 ?_
      refine y_get (ci := 2) (k := 0) C in_X2 rfl (by decide) q1169 (fun _ h => h) mM_0 rfl dX2_goes_23 ?_
      refine y_iconst C 1 dX2_goes_26 lit1 ?_
      refine y_iload_n C 2 rfl rfl dX2_goes_27 ?_
      refine y_iadd C dX2_goes_28 ?_
      refine y_aload_n C 0 rfl rfl dX2_goes_29 ?_
      refine y_get (ci := 2) (k := 0) C in_X2 rfl (by decide) q1169 (fun _ h => h) mM_0 rfl dX2_goes_30 ?_
      refine y_iconst C 1 dX2_goes_33 lit1 ?_
      refine y_iload_n C 2 rfl rfl dX2_goes_34 ?_
      refine y_iadd C dX2_goes_35 ?_
      refine y_iconst C 1 dX2_goes_36 lit1 ?_
      refine y_iadd C dX2_goes_37 ?_
      obtain ⟨i9, h⟩ := h
      refine y_iald C (mM_1 hd) i9 dX2_goes_38 ?_
      obtain ⟨i9, h⟩ := h
      replace h := h _ rfl
      refine y_iast C (mM_1 hd) i9 (mU_pg hd _) dX2_goes_39 ?_
      replace h := h _ rfl
      refine y_iinc C 2 _ rfl (y_inc1 _) (by decide) dX2_goes_40 ?_
      refine y_goto C 12 dX2_goes_43 (by decide) ?_
      refine y_to C _ ?_ (ih _ _ _ h)
      exact (And.intro rfl (And.intro rfl (And.intro rfl trivial)))
end sX2_goes
def wpX2_goes (c_pg : Nat → Int32) (a1 : Int32) (post : (Nat → Int32) → Prop) : Prop := vp_in 0 1120 ∧ vp_in 0 1120 ∧ ∀ f1 : Nat → Int32, f1 = upd c_pg (Int32.toNatClampNeg 0) ((c_pg (Int32.toNatClampNeg 0)) - 1) → ∃ nf9 : Nat, wpX2_goes_b12 post nf9 f1 a1 a1
theorem metX2_goes {l : Launch} {D : va_G} {s0 : State} {a0 : Array Value} {ad : Nat → Nat} (hd : yAd ad) (hB : yB D s0 a0) {c_pg : Nat → Int32} {c_bm : Int32} {c_tx : Nat → Int32} {c_ty : Int32} {c_ft : Int32} {c_fa : Int32} {c_sp : Int32} {c_nu : Int32} {c_un : Nat → Int32} {c_sf : Nat → Int32} {c_st : Nat → Int32} {c_ll : Nat → Int32} {c_ln : Nat → Int32} {c_ip : Nat → Int32} {c_gr : Nat → Int32} {c_hs : Int64} {a1 : Int32} {post : (Nat → Int32) → Prop} (h : wpX2_goes c_pg a1 post) : yMv l yX2_goes (ws_ yX2_goes cX2_goes 4 none) 2 87 0 0 D s0 [yr (some (ad 0)), yi a1] (mM ad c_pg c_bm c_tx c_ty c_ft c_fa c_sp c_nu c_un c_sf c_st c_ll c_ln c_ip c_gr c_hs) (fun M1 => ∃ (w_pg : Nat → Int32), M1 = mM ad w_pg c_bm c_tx c_ty c_ft c_fa c_sp c_nu c_un c_sf c_st c_ll c_ln c_ip c_gr c_hs ∧ post w_pg) := by
  refine y_metv hB (by decide) rfl (Nat.le_of_ble_eq_true rfl) ?_
  intro p e s m below meth c A hr hnm C
  rw [wpX2_goes] at h
  refine y_aload_n C 0 rfl rfl dX2_goes_0 ?_
  refine y_get (ci := 2) (k := 0) C in_X2 rfl (by decide) q1169 (fun _ h => h) mM_0 rfl dX2_goes_1 ?_
  refine y_iconst C 0 dX2_goes_4 lit0 ?_
  refine y_dup2 C rfl rfl dX2_goes_5 ?_
  obtain ⟨i9, h⟩ := h
  refine y_iald C (mM_1 hd) i9 dX2_goes_6 ?_
  refine y_iconst C 1 dX2_goes_7 lit1 ?_
  refine y_isub C dX2_goes_8 ?_
  obtain ⟨i9, h⟩ := h
  replace h := h _ rfl
  refine y_iast C (mM_1 hd) i9 (mU_pg hd _) dX2_goes_9 ?_
  refine y_iload_n C 1 rfl rfl dX2_goes_10 ?_
  refine y_istore_n C 2 rfl (by decide) dX2_goes_11 ?_
  obtain ⟨nf9, h⟩ := h
  refine y_to C _ ?_ (okX2_goes_b12 C hB hd hr  nf9 _ _ _ h)
  exact (And.intro rfl (And.intro rfl (And.intro rfl trivial)))
theorem kdX2_goes : yX2_goes.cls = RX2 ∧ yX2_goes.cls ≠ "java/lang/invoke/MethodHandle" ∧ yX2_goes.cls ≠ "java/lang/invoke/VarHandle" ∧ (parseMethodDescriptor yX2_goes.desc).map (fun d => d.parameters.length) = some 1 := by decide +kernel
section sX2_movePoint
variable {p : Program} {l : Launch} {e : Env} {s : State} {m : MethodId} {args : Array Value} {below : List Frame} {meth : Method} {c : Code} {D : va_G} {s0 : State} {a0 : Array Value} {A : Nat → Prop} {ad : Nat → Nat} {c_pg : Nat → Int32} {c_bm : Int32} {c_tx : Nat → Int32} {c_ty : Int32} {c_ft : Int32} {c_fa : Int32} {c_sp : Int32} {c_nu : Int32} {c_un : Nat → Int32} {c_sf : Nat → Int32} {c_st : Nat → Int32} {c_ll : Nat → Int32} {c_ln : Nat → Int32} {c_ip : Nat → Int32} {c_gr : Nat → Int32} {c_hs : Int64}
def wpX2_movePoint_b162 (post : Int32 → (Nat → Int32) → Int32 → Prop) (k61 : (Nat → Int32) → Int32 → Int32 → Int32 → Prop) (c_pg : Nat → Int32) (c_bm : Int32) (v4 : Int32) (v5 : Int32) (u1 : Int32) (u2 : Int32) (u3 : Int32) : Prop := wpX2_sets c_pg u1 u2 u3 (fun w_pg14 => ∀ x15 : Int32, x15 = v5 + 1 → k61 w_pg14 c_bm v4 x15)
theorem okX2_movePoint_b162 (C : yC p { frames := 3, cells := 0, slots := 0, locals := 111 } s m args meth c cX2_movePoint 8 RX2 D s0 a0 A) (hB : yB D s0 a0) (hd : yAd ad) (hr : meth.sig.returnType = (some .int)) {post : Int32 → (Nat → Int32) → Int32 → Prop} {k61 : (Nat → Int32) → Int32 → Int32 → Int32 → Prop} (hk61 : ∀ (c_pg : Nat → Int32) (c_bm : Int32) (v4 : Int32) (v5 : Int32), k61 c_pg c_bm v4 v5 → Y p l e { frames := 3, cells := 0, slots := 0, locals := 111 } s m args below meth c (MQ below (yQi D s0 A (fun r M1 => ∃ (w_pg : Nat → Int32) (w_bm : Int32), M1 = mM ad w_pg w_bm c_tx c_ty c_ft c_fa c_sp c_nu c_un c_sf c_st c_ll c_ln c_ip c_gr c_hs ∧ post r w_pg w_bm)) args s 0 0 A) D s0 A 8 (mM ad c_pg c_bm c_tx c_ty c_ft c_fa c_sp c_nu c_un c_sf c_st c_ll c_ln c_ip c_gr c_hs) 0 0 [some (yr (some (ad 0))), none, none, none, some (yi v4), some (yi v5), none, none] 61 []) : ∀ (c_pg : Nat → Int32) (c_bm : Int32) (v4 : Int32) (v5 : Int32) (u1 : Int32) (u2 : Int32) (u3 : Int32), wpX2_movePoint_b162 post k61 c_pg c_bm v4 v5 u1 u2 u3 → Y p l e { frames := 3, cells := 0, slots := 0, locals := 111 } s m args below meth c (MQ below (yQi D s0 A (fun r M1 => ∃ (w_pg : Nat → Int32) (w_bm : Int32), M1 = mM ad w_pg w_bm c_tx c_ty c_ft c_fa c_sp c_nu c_un c_sf c_st c_ll c_ln c_ip c_gr c_hs ∧ post r w_pg w_bm)) args s 0 0 A) D s0 A 8 (mM ad c_pg c_bm c_tx c_ty c_ft c_fa c_sp c_nu c_un c_sf c_st c_ll c_ln c_ip c_gr c_hs) 0 0 [some (yr (some (ad 0))), none, none, none, some (yi v4), some (yi v5), none, none] 162 [yi u3, yi u2, yi u1, yr (some (ad 0))] := by
  intro c_pg c_bm v4 v5 u1 u2 u3 h
  rw [wpX2_movePoint_b162] at h
  refine y_callVv0 C (metX2_sets hd hB h) (cwV 3 C.hts (lw_V q1254 q1256 qs29 q91 q1257) rfl rfl rfl kdX2_sets ⟨Nat.le_of_ble_eq_true rfl, Nat.le_of_ble_eq_true rfl⟩) mM_0 rfl rfl rfl (Nat.le_of_ble_eq_true rfl) dX2_movePoint_162 (fun M1 hp => ?_)
  clear h
  obtain ⟨w_pg14, rfl, h⟩ := hp
  replace h := h _ rfl
  refine y_iinc C 5 _ rfl (y_inc1 _) (by decide) dX2_movePoint_165 ?_
  refine y_goto C 61 dX2_movePoint_168 (by decide) ?_
  refine y_to C _ ?_ (hk61 _ _ _ _ h)
  exact (And.intro rfl (And.intro rfl (And.intro rfl trivial)))
def wpX2_movePoint_b141 (post : Int32 → (Nat → Int32) → Int32 → Prop) (k61 : (Nat → Int32) → Int32 → Int32 → Int32 → Prop) (c_pg : Nat → Int32) (c_bm : Int32) (v4 : Int32) (v5 : Int32) (v6 : Int32) (v7 : Int32) (u1 : Int32) (u2 : Int32) (u3 : Int32) : Prop := wpX2_sets c_pg u1 u2 u3 (fun w_pg13 => ((v7 ≤ v6 → wpX2_movePoint_b162 post k61 w_pg13 c_bm v4 v5 v5 1 v6) ∧ (¬ v7 ≤ v6 → wpX2_movePoint_b162 post k61 w_pg13 c_bm v4 v5 v5 1 v7)))
theorem okX2_movePoint_b141 (C : yC p { frames := 3, cells := 0, slots := 0, locals := 111 } s m args meth c cX2_movePoint 8 RX2 D s0 a0 A) (hB : yB D s0 a0) (hd : yAd ad) (hr : meth.sig.returnType = (some .int)) {post : Int32 → (Nat → Int32) → Int32 → Prop} {k61 : (Nat → Int32) → Int32 → Int32 → Int32 → Prop} (hk61 : ∀ (c_pg : Nat → Int32) (c_bm : Int32) (v4 : Int32) (v5 : Int32), k61 c_pg c_bm v4 v5 → Y p l e { frames := 3, cells := 0, slots := 0, locals := 111 } s m args below meth c (MQ below (yQi D s0 A (fun r M1 => ∃ (w_pg : Nat → Int32) (w_bm : Int32), M1 = mM ad w_pg w_bm c_tx c_ty c_ft c_fa c_sp c_nu c_un c_sf c_st c_ll c_ln c_ip c_gr c_hs ∧ post r w_pg w_bm)) args s 0 0 A) D s0 A 8 (mM ad c_pg c_bm c_tx c_ty c_ft c_fa c_sp c_nu c_un c_sf c_st c_ll c_ln c_ip c_gr c_hs) 0 0 [some (yr (some (ad 0))), none, none, none, some (yi v4), some (yi v5), none, none] 61 []) : ∀ (c_pg : Nat → Int32) (c_bm : Int32) (v4 : Int32) (v5 : Int32) (v6 : Int32) (v7 : Int32) (u1 : Int32) (u2 : Int32) (u3 : Int32), wpX2_movePoint_b141 post k61 c_pg c_bm v4 v5 v6 v7 u1 u2 u3 → Y p l e { frames := 3, cells := 0, slots := 0, locals := 111 } s m args below meth c (MQ below (yQi D s0 A (fun r M1 => ∃ (w_pg : Nat → Int32) (w_bm : Int32), M1 = mM ad w_pg w_bm c_tx c_ty c_ft c_fa c_sp c_nu c_un c_sf c_st c_ll c_ln c_ip c_gr c_hs ∧ post r w_pg w_bm)) args s 0 0 A) D s0 A 8 (mM ad c_pg c_bm c_tx c_ty c_ft c_fa c_sp c_nu c_un c_sf c_st c_ll c_ln c_ip c_gr c_hs) 0 0 [some (yr (some (ad 0))), none, none, none, some (yi v4), some (yi v5), some (yi v6), some (yi v7)] 141 [yi u3, yi u2, yi u1, yr (some (ad 0))] := by
  intro c_pg c_bm v4 v5 v6 v7 u1 u2 u3 h
  rw [wpX2_movePoint_b141] at h
  refine y_callVv0 C (metX2_sets hd hB h) (cwV 3 C.hts (lw_V q1254 q1256 qs29 q91 q1257) rfl rfl rfl kdX2_sets ⟨Nat.le_of_ble_eq_true rfl, Nat.le_of_ble_eq_true rfl⟩) mM_0 rfl rfl rfl (Nat.le_of_ble_eq_true rfl) dX2_movePoint_141 (fun M1 hp => ?_)
  clear h
  obtain ⟨w_pg13, rfl, h⟩ := hp
  refine y_aload_n C 0 rfl rfl dX2_movePoint_144 ?_
  refine y_iload C 5 rfl dX2_movePoint_145 ?_
  refine y_iconst C 1 dX2_movePoint_147 lit1 ?_
  refine y_iload C 6 rfl dX2_movePoint_148 ?_
  refine y_iload C 7 rfl dX2_movePoint_150 ?_
  refine y_icmp_ge C 160 dX2_movePoint_152 (by decide) (fun c9 => ?_) (fun c9 => ?_)
  · replace h := h.1 c9
    refine y_iload C 6 rfl dX2_movePoint_160 ?_
    refine y_to C _ ?_ (okX2_movePoint_b162 C hB hd hr hk61 _ _ _ _ _ _ _ h)
    exact (And.intro rfl (And.intro rfl (And.intro rfl trivial)))
  · replace h := h.2 c9
    refine y_iload C 7 rfl dX2_movePoint_155 ?_
    refine y_goto C 162 dX2_movePoint_157 (by decide) ?_
    refine y_to C _ ?_ (okX2_movePoint_b162 C hB hd hr hk61 _ _ _ _ _ _ _ h)
    exact (And.intro rfl (And.intro rfl (And.intro rfl trivial)))
def wpX2_movePoint_b121 (post : Int32 → (Nat → Int32) → Int32 → Prop) (k61 : (Nat → Int32) → Int32 → Int32 → Int32 → Prop) (c_pg : Nat → Int32) (c_bm : Int32) (v4 : Int32) (v5 : Int32) (v6 : Int32) (u0 : Int32) : Prop := ((u0 ≤ v6 → wpX2_movePoint_b141 post k61 c_pg c_bm v4 v5 v6 u0 v5 0 u0) ∧ (¬ u0 ≤ v6 → wpX2_movePoint_b141 post k61 c_pg c_bm v4 v5 v6 u0 v5 0 v6))
theorem okX2_movePoint_b121 (C : yC p { frames := 3, cells := 0, slots := 0, locals := 111 } s m args meth c cX2_movePoint 8 RX2 D s0 a0 A) (hB : yB D s0 a0) (hd : yAd ad) (hr : meth.sig.returnType = (some .int)) {post : Int32 → (Nat → Int32) → Int32 → Prop} {k61 : (Nat → Int32) → Int32 → Int32 → Int32 → Prop} (hk61 : ∀ (c_pg : Nat → Int32) (c_bm : Int32) (v4 : Int32) (v5 : Int32), k61 c_pg c_bm v4 v5 → Y p l e { frames := 3, cells := 0, slots := 0, locals := 111 } s m args below meth c (MQ below (yQi D s0 A (fun r M1 => ∃ (w_pg : Nat → Int32) (w_bm : Int32), M1 = mM ad w_pg w_bm c_tx c_ty c_ft c_fa c_sp c_nu c_un c_sf c_st c_ll c_ln c_ip c_gr c_hs ∧ post r w_pg w_bm)) args s 0 0 A) D s0 A 8 (mM ad c_pg c_bm c_tx c_ty c_ft c_fa c_sp c_nu c_un c_sf c_st c_ll c_ln c_ip c_gr c_hs) 0 0 [some (yr (some (ad 0))), none, none, none, some (yi v4), some (yi v5), none, none] 61 []) : ∀ (c_pg : Nat → Int32) (c_bm : Int32) (v4 : Int32) (v5 : Int32) (v6 : Int32) (u0 : Int32), wpX2_movePoint_b121 post k61 c_pg c_bm v4 v5 v6 u0 → Y p l e { frames := 3, cells := 0, slots := 0, locals := 111 } s m args below meth c (MQ below (yQi D s0 A (fun r M1 => ∃ (w_pg : Nat → Int32) (w_bm : Int32), M1 = mM ad w_pg w_bm c_tx c_ty c_ft c_fa c_sp c_nu c_un c_sf c_st c_ll c_ln c_ip c_gr c_hs ∧ post r w_pg w_bm)) args s 0 0 A) D s0 A 8 (mM ad c_pg c_bm c_tx c_ty c_ft c_fa c_sp c_nu c_un c_sf c_st c_ll c_ln c_ip c_gr c_hs) 0 0 [some (yr (some (ad 0))), none, none, none, some (yi v4), some (yi v5), some (yi v6), none] 121 [yi u0] := by
  intro c_pg c_bm v4 v5 v6 u0 h
  rw [wpX2_movePoint_b121] at h
  refine y_istore C 7 (by decide) dX2_movePoint_121 ?_
  refine y_aload_n C 0 rfl rfl dX2_movePoint_123 ?_
  refine y_iload C 5 rfl dX2_movePoint_124 ?_
  refine y_iconst C 0 dX2_movePoint_126 lit0 ?_
  refine y_iload C 6 rfl dX2_movePoint_127 ?_
  refine y_iload C 7 rfl dX2_movePoint_129 ?_
  refine y_icmp_ge C 139 dX2_movePoint_131 (by decide) (fun c9 => ?_) (fun c9 => ?_)
  · replace h := h.1 c9
    refine y_iload C 7 rfl dX2_movePoint_139 ?_
    refine y_to C _ ?_ (okX2_movePoint_b141 C hB hd hr hk61 _ _ _ _ _ _ _ _ _ h)
    exact (And.intro rfl (And.intro rfl (And.intro rfl (And.intro rfl (And.intro rfl trivial)))))
  · replace h := h.2 c9
    refine y_iload C 6 rfl dX2_movePoint_134 ?_
    refine y_goto C 141 dX2_movePoint_136 (by decide) ?_
    refine y_to C _ ?_ (okX2_movePoint_b141 C hB hd hr hk61 _ _ _ _ _ _ _ _ _ h)
    exact (And.intro rfl (And.intro rfl (And.intro rfl (And.intro rfl (And.intro rfl trivial)))))
def wpX2_movePoint_b96 (post : Int32 → (Nat → Int32) → Int32 → Prop) (k61 : (Nat → Int32) → Int32 → Int32 → Int32 → Prop) (c_pg : Nat → Int32) (c_bm : Int32) (v4 : Int32) (v5 : Int32) (u0 : Int32) : Prop := wpX2_of c_pg v5 1 (fun r11 => ((¬ r11 = (-1) → wpX2_of c_pg v5 1 (fun r12 => wpX2_movePoint_b121 post k61 c_pg c_bm v4 v5 u0 r12)) ∧ (r11 = (-1) → wpX2_movePoint_b121 post k61 c_pg c_bm v4 v5 u0 v4)))
theorem okX2_movePoint_b96 (C : yC p { frames := 3, cells := 0, slots := 0, locals := 111 } s m args meth c cX2_movePoint 8 RX2 D s0 a0 A) (hB : yB D s0 a0) (hd : yAd ad) (hr : meth.sig.returnType = (some .int)) {post : Int32 → (Nat → Int32) → Int32 → Prop} {k61 : (Nat → Int32) → Int32 → Int32 → Int32 → Prop} (hk61 : ∀ (c_pg : Nat → Int32) (c_bm : Int32) (v4 : Int32) (v5 : Int32), k61 c_pg c_bm v4 v5 → Y p l e { frames := 3, cells := 0, slots := 0, locals := 111 } s m args below meth c (MQ below (yQi D s0 A (fun r M1 => ∃ (w_pg : Nat → Int32) (w_bm : Int32), M1 = mM ad w_pg w_bm c_tx c_ty c_ft c_fa c_sp c_nu c_un c_sf c_st c_ll c_ln c_ip c_gr c_hs ∧ post r w_pg w_bm)) args s 0 0 A) D s0 A 8 (mM ad c_pg c_bm c_tx c_ty c_ft c_fa c_sp c_nu c_un c_sf c_st c_ll c_ln c_ip c_gr c_hs) 0 0 [some (yr (some (ad 0))), none, none, none, some (yi v4), some (yi v5), none, none] 61 []) : ∀ (c_pg : Nat → Int32) (c_bm : Int32) (v4 : Int32) (v5 : Int32) (u0 : Int32), wpX2_movePoint_b96 post k61 c_pg c_bm v4 v5 u0 → Y p l e { frames := 3, cells := 0, slots := 0, locals := 111 } s m args below meth c (MQ below (yQi D s0 A (fun r M1 => ∃ (w_pg : Nat → Int32) (w_bm : Int32), M1 = mM ad w_pg w_bm c_tx c_ty c_ft c_fa c_sp c_nu c_un c_sf c_st c_ll c_ln c_ip c_gr c_hs ∧ post r w_pg w_bm)) args s 0 0 A) D s0 A 8 (mM ad c_pg c_bm c_tx c_ty c_ft c_fa c_sp c_nu c_un c_sf c_st c_ll c_ln c_ip c_gr c_hs) 0 0 [some (yr (some (ad 0))), none, none, none, some (yi v4), some (yi v5), none, none] 96 [yi u0] := by
  intro c_pg c_bm v4 v5 u0 h
  rw [wpX2_movePoint_b96] at h
  refine y_istore C 6 (by decide) dX2_movePoint_96 ?_
  refine y_aload_n C 0 rfl rfl dX2_movePoint_98 ?_
  refine y_iload C 5 rfl dX2_movePoint_99 ?_
  refine y_iconst C 1 dX2_movePoint_101 lit1 ?_
  refine y_callVi0 C (metX2_of hd hB h) (cwV 2 C.hts (lw_V q1250 q1252 qs28 q91 q1253) rfl rfl rfl kdX2_of ⟨Nat.le_of_ble_eq_true rfl, Nat.le_of_ble_eq_true rfl⟩) mM_0 rfl rfl rfl (Nat.le_of_ble_eq_true rfl) dX2_movePoint_102 (fun r11 M1 hp => ?_)
  clear h
  obtain ⟨rfl, h⟩ := hp
  refine y_iconst C (-1) dX2_movePoint_105 litm1 ?_
  refine y_icmp_ne C 114 dX2_movePoint_106 (by decide) (fun c9 => ?_) (fun c9 => ?_)
  · replace h := h.1 c9
    refine y_aload_n C 0 rfl rfl dX2_movePoint_114 ?_
    refine y_iload C 5 rfl dX2_movePoint_115 ?_
    refine y_iconst C 1 dX2_movePoint_117 lit1 ?_
    refine y_callVi0 C (metX2_of hd hB h) (cwV 2 C.hts (lw_V q1250 q1252 qs28 q91 q1253) rfl rfl rfl kdX2_of ⟨Nat.le_of_ble_eq_true rfl, Nat.le_of_ble_eq_true rfl⟩) mM_0 rfl rfl rfl (Nat.le_of_ble_eq_true rfl) dX2_movePoint_118 (fun r12 M1 hp => ?_)
    clear h
    obtain ⟨rfl, h⟩ := hp
    refine y_to C _ ?_ (okX2_movePoint_b121 C hB hd hr hk61 _ _ _ _ _ _ h)
    exact (And.intro rfl (And.intro rfl (And.intro rfl (And.intro rfl trivial))))
  · replace h := h.2 c9
    refine y_iload C 4 rfl dX2_movePoint_109 ?_
    refine y_goto C 121 dX2_movePoint_111 (by decide) ?_
    refine y_to C _ ?_ (okX2_movePoint_b121 C hB hd hr hk61 _ _ _ _ _ _ h)
    exact (And.intro rfl (And.intro rfl (And.intro rfl (And.intro rfl trivial))))
def wpX2_movePoint_b61 (post : Int32 → (Nat → Int32) → Int32 → Prop) : Nat → (Nat → Int32) → Int32 → Int32 → Int32 → Prop
  | 0, _, _, _, _ => False
  | nn + 1, c_pg, c_bm, v4, v5 => vp_in 13 1120 ∧ (((c_pg (Int32.toNatClampNeg 13)) ≤ v5 → post v4 c_pg c_bm) ∧ (¬ (c_pg (Int32.toNatClampNeg 13)) ≤ v5 → wpX2_of c_pg v5 0 (fun r9 => ((¬ r9 = (-1) → wpX2_of c_pg v5 0 (fun r10 => wpX2_movePoint_b96 post (fun c_pg c_bm v4 v5 => wpX2_movePoint_b61 post nn c_pg c_bm v4 v5) c_pg c_bm v4 v5 r10)) ∧ (r9 = (-1) → wpX2_movePoint_b96 post (fun c_pg c_bm v4 v5 => wpX2_movePoint_b61 post nn c_pg c_bm v4 v5) c_pg c_bm v4 v5 v4)))))
theorem okX2_movePoint_b61 (C : yC p { frames := 3, cells := 0, slots := 0, locals := 111 } s m args meth c cX2_movePoint 8 RX2 D s0 a0 A) (hB : yB D s0 a0) (hd : yAd ad) (hr : meth.sig.returnType = (some .int)) {post : Int32 → (Nat → Int32) → Int32 → Prop}  : ∀ (nn : Nat) (c_pg : Nat → Int32) (c_bm : Int32) (v4 : Int32) (v5 : Int32), wpX2_movePoint_b61 post nn c_pg c_bm v4 v5 → Y p l e { frames := 3, cells := 0, slots := 0, locals := 111 } s m args below meth c (MQ below (yQi D s0 A (fun r M1 => ∃ (w_pg : Nat → Int32) (w_bm : Int32), M1 = mM ad w_pg w_bm c_tx c_ty c_ft c_fa c_sp c_nu c_un c_sf c_st c_ll c_ln c_ip c_gr c_hs ∧ post r w_pg w_bm)) args s 0 0 A) D s0 A 8 (mM ad c_pg c_bm c_tx c_ty c_ft c_fa c_sp c_nu c_un c_sf c_st c_ll c_ln c_ip c_gr c_hs) 0 0 [some (yr (some (ad 0))), none, none, none, some (yi v4), some (yi v5), none, none] 61 [] := by
  intro nn
  induction nn with
  | zero => intro c_pg c_bm v4 v5 h; exact absurd h (by rw [wpX2_movePoint_b61]; exact id)
  | succ nn ih =>
    intro c_pg c_bm v4 v5 h
    rw [wpX2_movePoint_b61] at h
    refine y_iload C 5 rfl dX2_movePoint_61 ?_
    refine y_aload_n C 0 rfl rfl dX2_movePoint_63 ?_
    refine y_get (ci := 2) (k := 0) C in_X2 rfl (by decide) q1169 (fun _ h => h) mM_0 rfl dX2_movePoint_64 ?_
    refine y_bipush C 13 dX2_movePoint_67 y_b13 ?_
    obtain ⟨i9, h⟩ := h
    refine y_iald C (mM_1 hd) i9 dX2_movePoint_69 ?_
    refine y_icmp_ge C 171 dX2_movePoint_70 (by decide) (fun c9 => ?_) (fun c9 => ?_)
    · replace h := h.1 c9
      refine y_iload C 4 rfl dX2_movePoint_171 ?_
      exact y_ireti C hr rfl rfl ⟨_, _, rfl, h⟩ dX2_movePoint_173
    · replace h := h.2 c9
      refine y_aload_n C 0 rfl rfl dX2_movePoint_73 ?_
      refine y_iload C 5 rfl dX2_movePoint_74 ?_
      refine y_iconst C 0 dX2_movePoint_76 lit0 ?_
      refine y_callVi0 C (metX2_of hd hB h) (cwV 2 C.hts (lw_V q1250 q1252 qs28 q91 q1253) rfl rfl rfl kdX2_of ⟨Nat.le_of_ble_eq_true rfl, Nat.le_of_ble_eq_true rfl⟩) mM_0 rfl rfl rfl (Nat.le_of_ble_eq_true rfl) dX2_movePoint_77 (fun r9 M1 hp => ?_)
      clear h
      obtain ⟨rfl, h⟩ := hp
      refine y_iconst C (-1) dX2_movePoint_80 litm1 ?_
      refine y_icmp_ne C 89 dX2_movePoint_81 (by decide) (fun c9 => ?_) (fun c9 => ?_)
      · replace h := h.1 c9
        refine y_aload_n C 0 rfl rfl dX2_movePoint_89 ?_
        refine y_iload C 5 rfl dX2_movePoint_90 ?_
        refine y_iconst C 0 dX2_movePoint_92 lit0 ?_
        refine y_callVi0 C (metX2_of hd hB h) (cwV 2 C.hts (lw_V q1250 q1252 qs28 q91 q1253) rfl rfl rfl kdX2_of ⟨Nat.le_of_ble_eq_true rfl, Nat.le_of_ble_eq_true rfl⟩) mM_0 rfl rfl rfl (Nat.le_of_ble_eq_true rfl) dX2_movePoint_93 (fun r10 M1 hp => ?_)
        clear h
        obtain ⟨rfl, h⟩ := hp
        refine y_to C _ ?_ (okX2_movePoint_b96 C hB hd hr ih _ _ _ _ _ h)
        exact (And.intro rfl (And.intro rfl (And.intro rfl trivial)))
      · replace h := h.2 c9
        refine y_iload C 4 rfl dX2_movePoint_84 ?_
        refine y_goto C 96 dX2_movePoint_86 (by decide) ?_
        refine y_to C _ ?_ (okX2_movePoint_b96 C hB hd hr ih _ _ _ _ _ h)
        exact (And.intro rfl (And.intro rfl (And.intro rfl trivial)))
def wpX2_movePoint_b42 (post : Int32 → (Nat → Int32) → Int32 → Prop) (c_pg : Nat → Int32) (c_bm : Int32) (v1 : Int32) (v2 : Int32) : Prop := wpX2_records c_pg c_bm (fun w_pg4 w_bm5 => wpX2_goes w_pg4 v1 (fun w_pg6 => wpX2_comes w_pg6 v2 (fun r8 w_pg7 => ∃ nf9 : Nat, wpX2_movePoint_b61 post nf9 w_pg7 w_bm5 r8 0)))
theorem okX2_movePoint_b42 (C : yC p { frames := 3, cells := 0, slots := 0, locals := 111 } s m args meth c cX2_movePoint 8 RX2 D s0 a0 A) (hB : yB D s0 a0) (hd : yAd ad) (hr : meth.sig.returnType = (some .int)) {post : Int32 → (Nat → Int32) → Int32 → Prop}  : ∀ (c_pg : Nat → Int32) (c_bm : Int32) (v1 : Int32) (v2 : Int32), wpX2_movePoint_b42 post c_pg c_bm v1 v2 → Y p l e { frames := 3, cells := 0, slots := 0, locals := 111 } s m args below meth c (MQ below (yQi D s0 A (fun r M1 => ∃ (w_pg : Nat → Int32) (w_bm : Int32), M1 = mM ad w_pg w_bm c_tx c_ty c_ft c_fa c_sp c_nu c_un c_sf c_st c_ll c_ln c_ip c_gr c_hs ∧ post r w_pg w_bm)) args s 0 0 A) D s0 A 8 (mM ad c_pg c_bm c_tx c_ty c_ft c_fa c_sp c_nu c_un c_sf c_st c_ll c_ln c_ip c_gr c_hs) 0 0 [some (yr (some (ad 0))), some (yi v1), some (yi v2), none, none, none, none, none] 42 [] := by
  intro c_pg c_bm v1 v2 h
  rw [wpX2_movePoint_b42] at h
  refine y_aload_n C 0 rfl rfl dX2_movePoint_42 ?_
  refine y_callVv0 C (metX2_records hd hB h) (cwV 0 C.hts (lw_V q1242 q1244 qs26 q91 q1245) rfl rfl rfl kdX2_records ⟨Nat.le_of_ble_eq_true rfl, Nat.le_of_ble_eq_true rfl⟩) mM_0 rfl rfl rfl (Nat.le_of_ble_eq_true rfl) dX2_movePoint_43 (fun M1 hp => ?_)
  clear h
  obtain ⟨w_pg4, w_bm5, rfl, h⟩ := hp
  refine y_aload_n C 0 rfl rfl dX2_movePoint_46 ?_
  refine y_iload_n C 1 rfl rfl dX2_movePoint_47 ?_
  refine y_callVv0 C (metX2_goes hd hB h) (cwV 1 C.hts (lw_V q1266 q1268 qs31 q91 q1269) rfl rfl rfl kdX2_goes ⟨Nat.le_of_ble_eq_true rfl, Nat.le_of_ble_eq_true rfl⟩) mM_0 rfl rfl rfl (Nat.le_of_ble_eq_true rfl) dX2_movePoint_48 (fun M1 hp => ?_)
  clear h
  obtain ⟨w_pg6, rfl, h⟩ := hp
  refine y_aload_n C 0 rfl rfl dX2_movePoint_51 ?_
  refine y_iload_n C 2 rfl rfl dX2_movePoint_52 ?_
  refine y_callVi0 C (metX2_comes hd hB h) (cwV 1 C.hts (lw_V q1246 q1248 qs27 q91 q1249) rfl rfl rfl kdX2_comes ⟨Nat.le_of_ble_eq_true rfl, Nat.le_of_ble_eq_true rfl⟩) mM_0 rfl rfl rfl (Nat.le_of_ble_eq_true rfl) dX2_movePoint_53 (fun r8 M1 hp => ?_)
  clear h
  obtain ⟨w_pg7, rfl, h⟩ := hp
  refine y_istore C 4 (by decide) dX2_movePoint_56 ?_
  refine y_iconst C 0 dX2_movePoint_58 lit0 ?_
  refine y_istore C 5 (by decide) dX2_movePoint_59 ?_
  obtain ⟨nf9, h⟩ := h
  refine y_to C _ ?_ (okX2_movePoint_b61 C hB hd hr  nf9 _ _ _ _ h)
  exact (And.intro rfl (And.intro rfl (And.intro rfl trivial)))
end sX2_movePoint
def wpX2_movePoint (c_pg : Nat → Int32) (c_bm : Int32) (a1 : Int32) (a2 : Int32) (post : Int32 → (Nat → Int32) → Int32 → Prop) : Prop := wpX2_isPoint c_pg a1 (fun r1 => ((r1 = 0 → post (-1) c_pg c_bm) ∧ (¬ r1 = 0 → wpX2_in a2 0 300 (fun r2 => ((¬ r2 = 0 → wpX2_pointWith c_pg a2 (fun r3 => ((r3 = (-999) → wpX2_movePoint_b42 post c_pg c_bm a1 a2) ∧ (¬ r3 = (-999) → ((r3 = a1 → wpX2_movePoint_b42 post c_pg c_bm a1 a2) ∧ (¬ r3 = a1 → post (-2) c_pg c_bm)))))) ∧ (r2 = 0 → post (-1) c_pg c_bm))))))
theorem metX2_movePoint {l : Launch} {D : va_G} {s0 : State} {a0 : Array Value} {ad : Nat → Nat} (hd : yAd ad) (hB : yB D s0 a0) {c_pg : Nat → Int32} {c_bm : Int32} {c_tx : Nat → Int32} {c_ty : Int32} {c_ft : Int32} {c_fa : Int32} {c_sp : Int32} {c_nu : Int32} {c_un : Nat → Int32} {c_sf : Nat → Int32} {c_st : Nat → Int32} {c_ll : Nat → Int32} {c_ln : Nat → Int32} {c_ip : Nat → Int32} {c_gr : Nat → Int32} {c_hs : Int64} {a1 : Int32} {a2 : Int32} {post : Int32 → (Nat → Int32) → Int32 → Prop} (h : wpX2_movePoint c_pg c_bm a1 a2 post) : yMi l yX2_movePoint (ws_ yX2_movePoint cX2_movePoint 8 (some .int)) 3 111 0 0 D s0 [yr (some (ad 0)), yi a1, yi a2] (mM ad c_pg c_bm c_tx c_ty c_ft c_fa c_sp c_nu c_un c_sf c_st c_ll c_ln c_ip c_gr c_hs) (fun r M1 => ∃ (w_pg : Nat → Int32) (w_bm : Int32), M1 = mM ad w_pg w_bm c_tx c_ty c_ft c_fa c_sp c_nu c_un c_sf c_st c_ll c_ln c_ip c_gr c_hs ∧ post r w_pg w_bm) := by
  refine y_meti hB (by decide) rfl (Nat.le_of_ble_eq_true rfl) ?_
  intro p e s m below meth c A hr hnm C
  rw [wpX2_movePoint] at h
  refine y_aload_n C 0 rfl rfl dX2_movePoint_0 ?_
  refine y_iload_n C 1 rfl rfl dX2_movePoint_1 ?_
  refine y_callVi0 C (metX2_isPoint hd hB h) (cwV 1 C.hts (lw_V q1262 q1264 qs30 q91 q1265) rfl rfl rfl kdX2_isPoint ⟨Nat.le_of_ble_eq_true rfl, Nat.le_of_ble_eq_true rfl⟩) mM_0 rfl rfl rfl (Nat.le_of_ble_eq_true rfl) dX2_movePoint_2 (fun r1 M1 hp => ?_)
  clear h
  obtain ⟨rfl, h⟩ := hp
  refine y_if_eq C 19 dX2_movePoint_5 (by decide) (fun c9 => ?_) (fun c9 => ?_)
  · replace h := h.1 c9
    refine y_iconst C (-1) dX2_movePoint_19 litm1 ?_
    exact y_ireti C hr rfl rfl ⟨_, _, rfl, h⟩ dX2_movePoint_20
  · replace h := h.2 c9
    refine y_iload_n C 2 rfl rfl dX2_movePoint_8 ?_
    refine y_iconst C 0 dX2_movePoint_9 lit0 ?_
    refine y_sipush C 300 dX2_movePoint_10 y_s300 ?_
    refine y_callSi0 C (metX2_in hB h) (va_cwS 3 C.hts (lw_S q1231 q1232 q91 q1233) rfl rfl rfl kdX2_in.2 ⟨Nat.le_of_ble_eq_true rfl, Nat.le_of_ble_eq_true rfl⟩) rfl rfl (Nat.le_of_ble_eq_true rfl) dX2_movePoint_13 (fun r2 M1 hp => ?_)
    clear h
    obtain ⟨rfl, h⟩ := hp
    refine y_if_ne C 21 dX2_movePoint_16 (by decide) (fun c9 => ?_) (fun c9 => ?_)
    · replace h := h.1 c9
      refine y_aload_n C 0 rfl rfl dX2_movePoint_21 ?_
      refine y_iload_n C 2 rfl rfl dX2_movePoint_22 ?_
      refine y_callVi0 C (metX2_pointWith hd hB h) (cwV 1 C.hts (lw_V q1234 q1236 qs24 q91 q1237) rfl rfl rfl kdX2_pointWith ⟨Nat.le_of_ble_eq_true rfl, Nat.le_of_ble_eq_true rfl⟩) mM_0 rfl rfl rfl (Nat.le_of_ble_eq_true rfl) dX2_movePoint_23 (fun r3 M1 hp => ?_)
      clear h
      obtain ⟨rfl, h⟩ := hp
      refine y_istore_n C 3 rfl (by decide) dX2_movePoint_26 ?_
      refine y_iload_n C 3 rfl rfl dX2_movePoint_27 ?_
      refine y_sipush C (-999) dX2_movePoint_28 y_sm999 ?_
      refine y_icmp_eq C 42 dX2_movePoint_31 (by decide) (fun c9 => ?_) (fun c9 => ?_)
      · replace h := h.1 c9
        refine y_to C _ ?_ (okX2_movePoint_b42 C hB hd hr  _ _ _ _ h)
        exact (And.intro rfl (And.intro rfl (And.intro rfl trivial)))
      · replace h := h.2 c9
        refine y_iload_n C 3 rfl rfl dX2_movePoint_34 ?_
        refine y_iload_n C 1 rfl rfl dX2_movePoint_35 ?_
        refine y_icmp_eq C 42 dX2_movePoint_36 (by decide) (fun c9 => ?_) (fun c9 => ?_)
        · replace h := h.1 c9
          refine y_to C _ ?_ (okX2_movePoint_b42 C hB hd hr  _ _ _ _ h)
          exact (And.intro rfl (And.intro rfl (And.intro rfl trivial)))
        · replace h := h.2 c9
          refine y_bipush C (-2) dX2_movePoint_39 y_bm2 ?_
          exact y_ireti C hr rfl rfl ⟨_, _, rfl, h⟩ dX2_movePoint_41
    · replace h := h.2 c9
      refine y_iconst C (-1) dX2_movePoint_19 litm1 ?_
      exact y_ireti C hr rfl rfl ⟨_, _, rfl, h⟩ dX2_movePoint_20
theorem kdX2_movePoint : yX2_movePoint.cls = RX2 ∧ yX2_movePoint.cls ≠ "java/lang/invoke/MethodHandle" ∧ yX2_movePoint.cls ≠ "java/lang/invoke/VarHandle" ∧ (parseMethodDescriptor yX2_movePoint.desc).map (fun d => d.parameters.length) = some 2 := by decide +kernel
section sX2_ends
variable {p : Program} {l : Launch} {e : Env} {s : State} {m : MethodId} {args : Array Value} {below : List Frame} {meth : Method} {c : Code} {D : va_G} {s0 : State} {a0 : Array Value} {A : Nat → Prop} {ad : Nat → Nat} {c_pg : Nat → Int32} {c_bm : Int32} {c_tx : Nat → Int32} {c_ty : Int32} {c_ft : Int32} {c_fa : Int32} {c_sp : Int32} {c_nu : Int32} {c_un : Nat → Int32} {c_sf : Nat → Int32} {c_st : Nat → Int32} {c_ll : Nat → Int32} {c_ln : Nat → Int32} {c_ip : Nat → Int32} {c_gr : Nat → Int32} {c_hs : Int64}
def wpX2_ends_b41 (post : Int32 → Prop) (k4 : (Nat → Int32) → Int32 → Int32 → Int32 → Prop) (c_pg : Nat → Int32) (v1 : Int32) (v3 : Int32) (u0 : Int32) (u1 : Int32) : Prop := ∀ x2 : Int32, x2 = (u0 + u1) → ∀ x3 : Int32, x3 = v3 + 1 → k4 c_pg v1 x2 x3
theorem okX2_ends_b41 (C : yC p { frames := 2, cells := 0, slots := 0, locals := 86 } s m args meth c cX2_ends 4 RX2 D s0 a0 A) (hB : yB D s0 a0) (hd : yAd ad) (hr : meth.sig.returnType = (some .int)) {post : Int32 → Prop} {k4 : (Nat → Int32) → Int32 → Int32 → Int32 → Prop} (hk4 : ∀ (c_pg : Nat → Int32) (v1 : Int32) (v2 : Int32) (v3 : Int32), k4 c_pg v1 v2 v3 → Y p l e { frames := 2, cells := 0, slots := 0, locals := 86 } s m args below meth c (MQ below (yQi D s0 A (fun r M1 => M1 = mM ad c_pg c_bm c_tx c_ty c_ft c_fa c_sp c_nu c_un c_sf c_st c_ll c_ln c_ip c_gr c_hs ∧ post r)) args s 0 0 A) D s0 A 4 (mM ad c_pg c_bm c_tx c_ty c_ft c_fa c_sp c_nu c_un c_sf c_st c_ll c_ln c_ip c_gr c_hs) 0 0 [some (yr (some (ad 0))), some (yi v1), some (yi v2), some (yi v3)] 4 []) : ∀ (c_pg : Nat → Int32) (v1 : Int32) (v3 : Int32) (u0 : Int32) (u1 : Int32), wpX2_ends_b41 post k4 c_pg v1 v3 u0 u1 → Y p l e { frames := 2, cells := 0, slots := 0, locals := 86 } s m args below meth c (MQ below (yQi D s0 A (fun r M1 => M1 = mM ad c_pg c_bm c_tx c_ty c_ft c_fa c_sp c_nu c_un c_sf c_st c_ll c_ln c_ip c_gr c_hs ∧ post r)) args s 0 0 A) D s0 A 4 (mM ad c_pg c_bm c_tx c_ty c_ft c_fa c_sp c_nu c_un c_sf c_st c_ll c_ln c_ip c_gr c_hs) 0 0 [some (yr (some (ad 0))), some (yi v1), none, some (yi v3)] 41 [yi u1, yi u0] := by
  intro c_pg v1 v3 u0 u1 h
  rw [wpX2_ends_b41] at h
  refine y_iadd C dX2_ends_41 ?_
  replace h := h _ rfl
  refine y_istore_n C 2 rfl (by decide) dX2_ends_42 ?_
  replace h := h _ rfl
  refine y_iinc C 3 _ rfl (y_inc1 _) (by decide) dX2_ends_43 ?_
  refine y_goto C 4 dX2_ends_46 (by decide) ?_
  refine y_to C _ ?_ (hk4 _ _ _ _ h)
  exact (And.intro rfl (And.intro rfl (And.intro rfl (And.intro rfl trivial))))
def wpX2_ends_b36 (post : Int32 → Prop) (k4 : (Nat → Int32) → Int32 → Int32 → Int32 → Prop) (c_pg : Nat → Int32) (v1 : Int32) (v3 : Int32) (u0 : Int32) : Prop := wpX2_ends_b41 post k4 c_pg v1 v3 u0 1
theorem okX2_ends_b36 (C : yC p { frames := 2, cells := 0, slots := 0, locals := 86 } s m args meth c cX2_ends 4 RX2 D s0 a0 A) (hB : yB D s0 a0) (hd : yAd ad) (hr : meth.sig.returnType = (some .int)) {post : Int32 → Prop} {k4 : (Nat → Int32) → Int32 → Int32 → Int32 → Prop} (hk4 : ∀ (c_pg : Nat → Int32) (v1 : Int32) (v2 : Int32) (v3 : Int32), k4 c_pg v1 v2 v3 → Y p l e { frames := 2, cells := 0, slots := 0, locals := 86 } s m args below meth c (MQ below (yQi D s0 A (fun r M1 => M1 = mM ad c_pg c_bm c_tx c_ty c_ft c_fa c_sp c_nu c_un c_sf c_st c_ll c_ln c_ip c_gr c_hs ∧ post r)) args s 0 0 A) D s0 A 4 (mM ad c_pg c_bm c_tx c_ty c_ft c_fa c_sp c_nu c_un c_sf c_st c_ll c_ln c_ip c_gr c_hs) 0 0 [some (yr (some (ad 0))), some (yi v1), some (yi v2), some (yi v3)] 4 []) : ∀ (c_pg : Nat → Int32) (v1 : Int32) (v3 : Int32) (u0 : Int32), wpX2_ends_b36 post k4 c_pg v1 v3 u0 → Y p l e { frames := 2, cells := 0, slots := 0, locals := 86 } s m args below meth c (MQ below (yQi D s0 A (fun r M1 => M1 = mM ad c_pg c_bm c_tx c_ty c_ft c_fa c_sp c_nu c_un c_sf c_st c_ll c_ln c_ip c_gr c_hs ∧ post r)) args s 0 0 A) D s0 A 4 (mM ad c_pg c_bm c_tx c_ty c_ft c_fa c_sp c_nu c_un c_sf c_st c_ll c_ln c_ip c_gr c_hs) 0 0 [some (yr (some (ad 0))), some (yi v1), none, some (yi v3)] 36 [yi u0] := by
  intro c_pg v1 v3 u0 h
  rw [wpX2_ends_b36] at h
  refine y_iconst C 1 dX2_ends_36 lit1 ?_
  refine y_goto C 41 dX2_ends_37 (by decide) ?_
  refine y_to C _ ?_ (okX2_ends_b41 C hB hd hr hk4 _ _ _ _ _ h)
  exact (And.intro rfl (And.intro rfl (And.intro rfl trivial)))
def wpX2_ends_b4 (post : Int32 → Prop) : Nat → (Nat → Int32) → Int32 → Int32 → Int32 → Prop
  | 0, _, _, _, _ => False
  | nn + 1, c_pg, v1, v2, v3 => vp_in 13 1120 ∧ (((c_pg (Int32.toNatClampNeg 13)) ≤ v3 → post v2) ∧ (¬ (c_pg (Int32.toNatClampNeg 13)) ≤ v3 → wpX2_of c_pg v3 0 (fun r1 => ((r1 = v1 → wpX2_ends_b36 post (fun c_pg v1 v2 v3 => wpX2_ends_b4 post nn c_pg v1 v2 v3) c_pg v1 v3 v2) ∧ (¬ r1 = v1 → wpX2_of c_pg v3 1 (fun r4 => ((¬ r4 = v1 → wpX2_ends_b41 post (fun c_pg v1 v2 v3 => wpX2_ends_b4 post nn c_pg v1 v2 v3) c_pg v1 v3 v2 0) ∧ (r4 = v1 → wpX2_ends_b36 post (fun c_pg v1 v2 v3 => wpX2_ends_b4 post nn c_pg v1 v2 v3) c_pg v1 v3 v2))))))))
theorem okX2_ends_b4 (C : yC p { frames := 2, cells := 0, slots := 0, locals := 86 } s m args meth c cX2_ends 4 RX2 D s0 a0 A) (hB : yB D s0 a0) (hd : yAd ad) (hr : meth.sig.returnType = (some .int)) {post : Int32 → Prop}  : ∀ (nn : Nat) (c_pg : Nat → Int32) (v1 : Int32) (v2 : Int32) (v3 : Int32), wpX2_ends_b4 post nn c_pg v1 v2 v3 → Y p l e { frames := 2, cells := 0, slots := 0, locals := 86 } s m args below meth c (MQ below (yQi D s0 A (fun r M1 => M1 = mM ad c_pg c_bm c_tx c_ty c_ft c_fa c_sp c_nu c_un c_sf c_st c_ll c_ln c_ip c_gr c_hs ∧ post r)) args s 0 0 A) D s0 A 4 (mM ad c_pg c_bm c_tx c_ty c_ft c_fa c_sp c_nu c_un c_sf c_st c_ll c_ln c_ip c_gr c_hs) 0 0 [some (yr (some (ad 0))), some (yi v1), some (yi v2), some (yi v3)] 4 [] := by
  intro nn
  induction nn with
  | zero => intro c_pg v1 v2 v3 h; exact absurd h (by rw [wpX2_ends_b4]; exact id)
  | succ nn ih =>
    intro c_pg v1 v2 v3 h
    rw [wpX2_ends_b4] at h
    refine y_iload_n C 3 rfl rfl dX2_ends_4 ?_
    refine y_aload_n C 0 rfl rfl dX2_ends_5 ?_
    refine y_get (ci := 2) (k := 0) C in_X2 rfl (by decide) q1169 (fun _ h => h) mM_0 rfl dX2_ends_6 ?_
    refine y_bipush C 13 dX2_ends_9 y_b13 ?_
    obtain ⟨i9, h⟩ := h
    refine y_iald C (mM_1 hd) i9 dX2_ends_11 ?_
    refine y_icmp_ge C 49 dX2_ends_12 (by decide) (fun c9 => ?_) (fun c9 => ?_)
    · replace h := h.1 c9
      refine y_iload_n C 2 rfl rfl dX2_ends_49 ?_
      exact y_ireti C hr rfl rfl ⟨rfl, h⟩ dX2_ends_50
    · replace h := h.2 c9
      refine y_iload_n C 2 rfl rfl dX2_ends_15 ?_
      refine y_aload_n C 0 rfl rfl dX2_ends_16 ?_
      refine y_iload_n C 3 rfl rfl dX2_ends_17 ?_
      refine y_iconst C 0 dX2_ends_18 lit0 ?_
      refine y_callVi0 C (metX2_of hd hB h) (cwV 2 C.hts (lw_V q1250 q1252 qs28 q91 q1253) rfl rfl rfl kdX2_of ⟨Nat.le_of_ble_eq_true rfl, Nat.le_of_ble_eq_true rfl⟩) mM_0 rfl rfl rfl (Nat.le_of_ble_eq_true rfl) dX2_ends_19 (fun r1 M1 hp => ?_)
      clear h
      obtain ⟨rfl, h⟩ := hp
      refine y_iload_n C 1 rfl rfl dX2_ends_22 ?_
      refine y_icmp_eq C 36 dX2_ends_23 (by decide) (fun c9 => ?_) (fun c9 => ?_)
      · replace h := h.1 c9
        refine y_to C _ ?_ (okX2_ends_b36 C hB hd hr ih _ _ _ _ h)
        exact (And.intro rfl (And.intro rfl (And.intro rfl trivial)))
      · replace h := h.2 c9
        refine y_aload_n C 0 rfl rfl dX2_ends_26 ?_
        refine y_iload_n C 3 rfl rfl dX2_ends_27 ?_
        refine y_iconst C 1 dX2_ends_28 lit1 ?_
        refine y_callVi0 C (metX2_of hd hB h) (cwV 2 C.hts (lw_V q1250 q1252 qs28 q91 q1253) rfl rfl rfl kdX2_of ⟨Nat.le_of_ble_eq_true rfl, Nat.le_of_ble_eq_true rfl⟩) mM_0 rfl rfl rfl (Nat.le_of_ble_eq_true rfl) dX2_ends_29 (fun r4 M1 hp => ?_)
        clear h
        obtain ⟨rfl, h⟩ := hp
        refine y_iload_n C 1 rfl rfl dX2_ends_32 ?_
        refine y_icmp_ne C 40 dX2_ends_33 (by decide) (fun c9 => ?_) (fun c9 => ?_)
        · replace h := h.1 c9
          refine y_iconst C 0 dX2_ends_40 lit0 ?_
          refine y_to C _ ?_ (okX2_ends_b41 C hB hd hr ih _ _ _ _ _ h)
          exact (And.intro rfl (And.intro rfl (And.intro rfl trivial)))
        · replace h := h.2 c9
          refine y_to C _ ?_ (okX2_ends_b36 C hB hd hr ih _ _ _ _ h)
          exact (And.intro rfl (And.intro rfl (And.intro rfl trivial)))
end sX2_ends
def wpX2_ends (c_pg : Nat → Int32) (a1 : Int32) (post : Int32 → Prop) : Prop := ∃ nf9 : Nat, wpX2_ends_b4 post nf9 c_pg a1 0 0
theorem metX2_ends {l : Launch} {D : va_G} {s0 : State} {a0 : Array Value} {ad : Nat → Nat} (hd : yAd ad) (hB : yB D s0 a0) {c_pg : Nat → Int32} {c_bm : Int32} {c_tx : Nat → Int32} {c_ty : Int32} {c_ft : Int32} {c_fa : Int32} {c_sp : Int32} {c_nu : Int32} {c_un : Nat → Int32} {c_sf : Nat → Int32} {c_st : Nat → Int32} {c_ll : Nat → Int32} {c_ln : Nat → Int32} {c_ip : Nat → Int32} {c_gr : Nat → Int32} {c_hs : Int64} {a1 : Int32} {post : Int32 → Prop} (h : wpX2_ends c_pg a1 post) : yMi l yX2_ends (ws_ yX2_ends cX2_ends 4 (some .int)) 2 86 0 0 D s0 [yr (some (ad 0)), yi a1] (mM ad c_pg c_bm c_tx c_ty c_ft c_fa c_sp c_nu c_un c_sf c_st c_ll c_ln c_ip c_gr c_hs) (fun r M1 => M1 = mM ad c_pg c_bm c_tx c_ty c_ft c_fa c_sp c_nu c_un c_sf c_st c_ll c_ln c_ip c_gr c_hs ∧ post r) := by
  refine y_meti hB (by decide) rfl (Nat.le_of_ble_eq_true rfl) ?_
  intro p e s m below meth c A hr hnm C
  rw [wpX2_ends] at h
  refine y_iconst C 0 dX2_ends_0 lit0 ?_
  refine y_istore_n C 2 rfl (by decide) dX2_ends_1 ?_
  refine y_iconst C 0 dX2_ends_2 lit0 ?_
  refine y_istore_n C 3 rfl (by decide) dX2_ends_3 ?_
  obtain ⟨nf9, h⟩ := h
  refine y_to C _ ?_ (okX2_ends_b4 C hB hd hr  nf9 _ _ _ _ h)
  exact (And.intro rfl (And.intro rfl (And.intro rfl (And.intro rfl trivial))))
theorem kdX2_ends : yX2_ends.cls = RX2 ∧ yX2_ends.cls ≠ "java/lang/invoke/MethodHandle" ∧ yX2_ends.cls ≠ "java/lang/invoke/VarHandle" ∧ (parseMethodDescriptor yX2_ends.desc).map (fun d => d.parameters.length) = some 1 := by decide +kernel
def wpX2_dropPoint (c_pg : Nat → Int32) (c_bm : Int32) (a1 : Int32) (post : Int32 → (Nat → Int32) → Int32 → Prop) : Prop := wpX2_isPoint c_pg a1 (fun r1 => ((¬ r1 = 0 → wpX2_ends c_pg a1 (fun r2 => ((r2 ≤ 0 → wpX2_records c_pg c_bm (fun w_pg3 w_bm4 => wpX2_goes w_pg3 a1 (fun w_pg5 => vp_in 0 1120 ∧ post (w_pg5 (Int32.toNatClampNeg 0)) w_pg5 w_bm4))) ∧ (¬ r2 ≤ 0 → post (-2) c_pg c_bm)))) ∧ (r1 = 0 → post (-1) c_pg c_bm)))
theorem metX2_dropPoint {l : Launch} {D : va_G} {s0 : State} {a0 : Array Value} {ad : Nat → Nat} (hd : yAd ad) (hB : yB D s0 a0) {c_pg : Nat → Int32} {c_bm : Int32} {c_tx : Nat → Int32} {c_ty : Int32} {c_ft : Int32} {c_fa : Int32} {c_sp : Int32} {c_nu : Int32} {c_un : Nat → Int32} {c_sf : Nat → Int32} {c_st : Nat → Int32} {c_ll : Nat → Int32} {c_ln : Nat → Int32} {c_ip : Nat → Int32} {c_gr : Nat → Int32} {c_hs : Int64} {a1 : Int32} {post : Int32 → (Nat → Int32) → Int32 → Prop} (h : wpX2_dropPoint c_pg c_bm a1 post) : yMi l yX2_dropPoint (ws_ yX2_dropPoint cX2_dropPoint 2 (some .int)) 3 110 0 0 D s0 [yr (some (ad 0)), yi a1] (mM ad c_pg c_bm c_tx c_ty c_ft c_fa c_sp c_nu c_un c_sf c_st c_ll c_ln c_ip c_gr c_hs) (fun r M1 => ∃ (w_pg : Nat → Int32) (w_bm : Int32), M1 = mM ad w_pg w_bm c_tx c_ty c_ft c_fa c_sp c_nu c_un c_sf c_st c_ll c_ln c_ip c_gr c_hs ∧ post r w_pg w_bm) := by
  refine y_meti hB (by decide) rfl (Nat.le_of_ble_eq_true rfl) ?_
  intro p e s m below meth c A hr hnm C
  rw [wpX2_dropPoint] at h
  refine y_aload_n C 0 rfl rfl dX2_dropPoint_0 ?_
  refine y_iload_n C 1 rfl rfl dX2_dropPoint_1 ?_
  refine y_callVi0 C (metX2_isPoint hd hB h) (cwV 1 C.hts (lw_V q1262 q1264 qs30 q91 q1265) rfl rfl rfl kdX2_isPoint ⟨Nat.le_of_ble_eq_true rfl, Nat.le_of_ble_eq_true rfl⟩) mM_0 rfl rfl rfl (Nat.le_of_ble_eq_true rfl) dX2_dropPoint_2 (fun r1 M1 hp => ?_)
  clear h
  obtain ⟨rfl, h⟩ := hp
  refine y_if_ne C 10 dX2_dropPoint_5 (by decide) (fun c9 => ?_) (fun c9 => ?_)
  · replace h := h.1 c9
    refine y_aload_n C 0 rfl rfl dX2_dropPoint_10 ?_
    refine y_iload_n C 1 rfl rfl dX2_dropPoint_11 ?_
    refine y_callVi0 C (metX2_ends hd hB h) (cwV 1 C.hts (lw_V q1274 q1276 qs32 q91 q1277) rfl rfl rfl kdX2_ends ⟨Nat.le_of_ble_eq_true rfl, Nat.le_of_ble_eq_true rfl⟩) mM_0 rfl rfl rfl (Nat.le_of_ble_eq_true rfl) dX2_dropPoint_12 (fun r2 M1 hp => ?_)
    clear h
    obtain ⟨rfl, h⟩ := hp
    refine y_if_le C 21 dX2_dropPoint_15 (by decide) (fun c9 => ?_) (fun c9 => ?_)
    · replace h := h.1 c9
      refine y_aload_n C 0 rfl rfl dX2_dropPoint_21 ?_
      refine y_callVv0 C (metX2_records hd hB h) (cwV 0 C.hts (lw_V q1242 q1244 qs26 q91 q1245) rfl rfl rfl kdX2_records ⟨Nat.le_of_ble_eq_true rfl, Nat.le_of_ble_eq_true rfl⟩) mM_0 rfl rfl rfl (Nat.le_of_ble_eq_true rfl) dX2_dropPoint_22 (fun M1 hp => ?_)
      clear h
      obtain ⟨w_pg3, w_bm4, rfl, h⟩ := hp
      refine y_aload_n C 0 rfl rfl dX2_dropPoint_25 ?_
      refine y_iload_n C 1 rfl rfl dX2_dropPoint_26 ?_
      refine y_callVv0 C (metX2_goes hd hB h) (cwV 1 C.hts (lw_V q1266 q1268 qs31 q91 q1269) rfl rfl rfl kdX2_goes ⟨Nat.le_of_ble_eq_true rfl, Nat.le_of_ble_eq_true rfl⟩) mM_0 rfl rfl rfl (Nat.le_of_ble_eq_true rfl) dX2_dropPoint_27 (fun M1 hp => ?_)
      clear h
      obtain ⟨w_pg5, rfl, h⟩ := hp
      refine y_aload_n C 0 rfl rfl dX2_dropPoint_30 ?_
      refine y_get (ci := 2) (k := 0) C in_X2 rfl (by decide) q1169 (fun _ h => h) mM_0 rfl dX2_dropPoint_31 ?_
      refine y_iconst C 0 dX2_dropPoint_34 lit0 ?_
      obtain ⟨i9, h⟩ := h
      refine y_iald C (mM_1 hd) i9 dX2_dropPoint_35 ?_
      exact y_ireti C hr rfl rfl ⟨_, _, rfl, h⟩ dX2_dropPoint_36
    · replace h := h.2 c9
      refine y_bipush C (-2) dX2_dropPoint_18 y_bm2 ?_
      exact y_ireti C hr rfl rfl ⟨_, _, rfl, h⟩ dX2_dropPoint_20
  · replace h := h.2 c9
    refine y_iconst C (-1) dX2_dropPoint_8 litm1 ?_
    exact y_ireti C hr rfl rfl ⟨_, _, rfl, h⟩ dX2_dropPoint_9
theorem kdX2_dropPoint : yX2_dropPoint.cls = RX2 ∧ yX2_dropPoint.cls ≠ "java/lang/invoke/MethodHandle" ∧ yX2_dropPoint.cls ≠ "java/lang/invoke/VarHandle" ∧ (parseMethodDescriptor yX2_dropPoint.desc).map (fun d => d.parameters.length) = some 1 := by decide +kernel
def wpX2_lays (c_pg : Nat → Int32) (a1 : Int32) (a2 : Int32) (a3 : Int32) (a4 : Int32) (a5 : Int32) (post : (Nat → Int32) → Prop) : Prop := vp_in 13 1120 ∧ ∀ x1 : Int32, x1 = (c_pg (Int32.toNatClampNeg 13)) → vp_in 13 1120 ∧ vp_in 13 1120 ∧ ∀ f2 : Nat → Int32, f2 = upd c_pg (Int32.toNatClampNeg 13) ((c_pg (Int32.toNatClampNeg 13)) + 1) → wpX2_sets f2 x1 0 a1 (fun w_pg3 => wpX2_sets w_pg3 x1 1 a2 (fun w_pg4 => wpX2_sets w_pg4 x1 2 a3 (fun w_pg5 => wpX2_sets w_pg5 x1 3 a4 (fun w_pg6 => wpX2_sets w_pg6 x1 4 a5 (fun w_pg7 => wpX2_sets w_pg7 x1 5 0 (fun w_pg8 => post w_pg8))))))
theorem metX2_lays {l : Launch} {D : va_G} {s0 : State} {a0 : Array Value} {ad : Nat → Nat} (hd : yAd ad) (hB : yB D s0 a0) {c_pg : Nat → Int32} {c_bm : Int32} {c_tx : Nat → Int32} {c_ty : Int32} {c_ft : Int32} {c_fa : Int32} {c_sp : Int32} {c_nu : Int32} {c_un : Nat → Int32} {c_sf : Nat → Int32} {c_st : Nat → Int32} {c_ll : Nat → Int32} {c_ln : Nat → Int32} {c_ip : Nat → Int32} {c_gr : Nat → Int32} {c_hs : Int64} {a1 : Int32} {a2 : Int32} {a3 : Int32} {a4 : Int32} {a5 : Int32} {post : (Nat → Int32) → Prop} (h : wpX2_lays c_pg a1 a2 a3 a4 a5 post) : yMv l yX2_lays (ws_ yX2_lays cX2_lays 7 none) 2 87 0 0 D s0 [yr (some (ad 0)), yi a1, yi a2, yi a3, yi a4, yi a5] (mM ad c_pg c_bm c_tx c_ty c_ft c_fa c_sp c_nu c_un c_sf c_st c_ll c_ln c_ip c_gr c_hs) (fun M1 => ∃ (w_pg : Nat → Int32), M1 = mM ad w_pg c_bm c_tx c_ty c_ft c_fa c_sp c_nu c_un c_sf c_st c_ll c_ln c_ip c_gr c_hs ∧ post w_pg) := by
  refine y_metv hB (by decide) rfl (Nat.le_of_ble_eq_true rfl) ?_
  intro p e s m below meth c A hr hnm C
  rw [wpX2_lays] at h
  refine y_aload_n C 0 rfl rfl dX2_lays_0 ?_
  refine y_get (ci := 2) (k := 0) C in_X2 rfl (by decide) q1169 (fun _ h => h) mM_0 rfl dX2_lays_1 ?_
  refine y_bipush C 13 dX2_lays_4 y_b13 ?_
  obtain ⟨i9, h⟩ := h
  refine y_iald C (mM_1 hd) i9 dX2_lays_6 ?_
  replace h := h _ rfl
  refine y_istore C 6 (by decide) dX2_lays_7 ?_
  refine y_aload_n C 0 rfl rfl dX2_lays_9 ?_
  refine y_get (ci := 2) (k := 0) C in_X2 rfl (by decide) q1169 (fun _ h => h) mM_0 rfl dX2_lays_10 ?_
  refine y_bipush C 13 dX2_lays_13 y_b13 ?_
  refine y_dup2 C rfl rfl dX2_lays_15 ?_
  obtain ⟨i9, h⟩ := h
  refine y_iald C (mM_1 hd) i9 dX2_lays_16 ?_
  refine y_iconst C 1 dX2_lays_17 lit1 ?_
  refine y_iadd C dX2_lays_18 ?_
  obtain ⟨i9, h⟩ := h
  replace h := h _ rfl
  refine y_iast C (mM_1 hd) i9 (mU_pg hd _) dX2_lays_19 ?_
  refine y_aload_n C 0 rfl rfl dX2_lays_20 ?_
  refine y_iload C 6 rfl dX2_lays_21 ?_
  refine y_iconst C 0 dX2_lays_23 lit0 ?_
  refine y_iload_n C 1 rfl rfl dX2_lays_24 ?_
  refine y_callVv0 C (metX2_sets hd hB h) (cwV 3 C.hts (lw_V q1254 q1256 qs29 q91 q1257) rfl rfl rfl kdX2_sets ⟨Nat.le_of_ble_eq_true rfl, Nat.le_of_ble_eq_true rfl⟩) mM_0 rfl rfl rfl (Nat.le_of_ble_eq_true rfl) dX2_lays_25 (fun M1 hp => ?_)
  clear h
  obtain ⟨w_pg3, rfl, h⟩ := hp
  refine y_aload_n C 0 rfl rfl dX2_lays_28 ?_
  refine y_iload C 6 rfl dX2_lays_29 ?_
  refine y_iconst C 1 dX2_lays_31 lit1 ?_
  refine y_iload_n C 2 rfl rfl dX2_lays_32 ?_
  refine y_callVv0 C (metX2_sets hd hB h) (cwV 3 C.hts (lw_V q1254 q1256 qs29 q91 q1257) rfl rfl rfl kdX2_sets ⟨Nat.le_of_ble_eq_true rfl, Nat.le_of_ble_eq_true rfl⟩) mM_0 rfl rfl rfl (Nat.le_of_ble_eq_true rfl) dX2_lays_33 (fun M1 hp => ?_)
  clear h
  obtain ⟨w_pg4, rfl, h⟩ := hp
  refine y_aload_n C 0 rfl rfl dX2_lays_36 ?_
  refine y_iload C 6 rfl dX2_lays_37 ?_
  refine y_iconst C 2 dX2_lays_39 lit2 ?_
  refine y_iload_n C 3 rfl rfl dX2_lays_40 ?_
  refine y_callVv0 C (metX2_sets hd hB h) (cwV 3 C.hts (lw_V q1254 q1256 qs29 q91 q1257) rfl rfl rfl kdX2_sets ⟨Nat.le_of_ble_eq_true rfl, Nat.le_of_ble_eq_true rfl⟩) mM_0 rfl rfl rfl (Nat.le_of_ble_eq_true rfl) dX2_lays_41 (fun M1 hp => ?_)
  clear h
  obtain ⟨w_pg5, rfl, h⟩ := hp
  refine y_aload_n C 0 rfl rfl dX2_lays_44 ?_
  refine y_iload C 6 rfl dX2_lays_45 ?_
  refine y_iconst C 3 dX2_lays_47 lit3 ?_
  refine y_iload C 4 rfl dX2_lays_48 ?_
  refine y_callVv0 C (metX2_sets hd hB h) (cwV 3 C.hts (lw_V q1254 q1256 qs29 q91 q1257) rfl rfl rfl kdX2_sets ⟨Nat.le_of_ble_eq_true rfl, Nat.le_of_ble_eq_true rfl⟩) mM_0 rfl rfl rfl (Nat.le_of_ble_eq_true rfl) dX2_lays_50 (fun M1 hp => ?_)
  clear h
  obtain ⟨w_pg6, rfl, h⟩ := hp
  refine y_aload_n C 0 rfl rfl dX2_lays_53 ?_
  refine y_iload C 6 rfl dX2_lays_54 ?_
  refine y_iconst C 4 dX2_lays_56 lit4 ?_
  refine y_iload C 5 rfl dX2_lays_57 ?_
  refine y_callVv0 C (metX2_sets hd hB h) (cwV 3 C.hts (lw_V q1254 q1256 qs29 q91 q1257) rfl rfl rfl kdX2_sets ⟨Nat.le_of_ble_eq_true rfl, Nat.le_of_ble_eq_true rfl⟩) mM_0 rfl rfl rfl (Nat.le_of_ble_eq_true rfl) dX2_lays_59 (fun M1 hp => ?_)
  clear h
  obtain ⟨w_pg7, rfl, h⟩ := hp
  refine y_aload_n C 0 rfl rfl dX2_lays_62 ?_
  refine y_iload C 6 rfl dX2_lays_63 ?_
  refine y_iconst C 5 dX2_lays_65 lit5 ?_
  refine y_iconst C 0 dX2_lays_66 lit0 ?_
  refine y_callVv0 C (metX2_sets hd hB h) (cwV 3 C.hts (lw_V q1254 q1256 qs29 q91 q1257) rfl rfl rfl kdX2_sets ⟨Nat.le_of_ble_eq_true rfl, Nat.le_of_ble_eq_true rfl⟩) mM_0 rfl rfl rfl (Nat.le_of_ble_eq_true rfl) dX2_lays_67 (fun M1 hp => ?_)
  clear h
  obtain ⟨w_pg8, rfl, h⟩ := hp
  exact y_vret C hr rfl rfl ⟨_, rfl, h⟩ dX2_lays_70
theorem kdX2_lays : yX2_lays.cls = RX2 ∧ yX2_lays.cls ≠ "java/lang/invoke/MethodHandle" ∧ yX2_lays.cls ≠ "java/lang/invoke/VarHandle" ∧ (parseMethodDescriptor yX2_lays.desc).map (fun d => d.parameters.length) = some 5 := by decide +kernel
section sX2_add
variable {p : Program} {l : Launch} {e : Env} {s : State} {m : MethodId} {args : Array Value} {below : List Frame} {meth : Method} {c : Code} {D : va_G} {s0 : State} {a0 : Array Value} {A : Nat → Prop} {ad : Nat → Nat} {c_pg : Nat → Int32} {c_bm : Int32} {c_tx : Nat → Int32} {c_ty : Int32} {c_ft : Int32} {c_fa : Int32} {c_sp : Int32} {c_nu : Int32} {c_un : Nat → Int32} {c_sf : Nat → Int32} {c_st : Nat → Int32} {c_ll : Nat → Int32} {c_ln : Nat → Int32} {c_ip : Nat → Int32} {c_gr : Nat → Int32} {c_hs : Int64}
def wpX2_add_b63 (post : Int32 → (Nat → Int32) → Int32 → Prop) (c_pg : Nat → Int32) (c_bm : Int32) (u1 : Int32) (u2 : Int32) : Prop := wpX2_lays c_pg u1 u2 0 0 0 (fun w_pg5 => vp_in 13 1120 ∧ post ((w_pg5 (Int32.toNatClampNeg 13)) - 1) w_pg5 c_bm)
theorem okX2_add_b63 (C : yC p { frames := 3, cells := 0, slots := 0, locals := 113 } s m args meth c cX2_add 3 RX2 D s0 a0 A) (hB : yB D s0 a0) (hd : yAd ad) (hr : meth.sig.returnType = (some .int)) {post : Int32 → (Nat → Int32) → Int32 → Prop}  : ∀ (c_pg : Nat → Int32) (c_bm : Int32) (u1 : Int32) (u2 : Int32), wpX2_add_b63 post c_pg c_bm u1 u2 → Y p l e { frames := 3, cells := 0, slots := 0, locals := 113 } s m args below meth c (MQ below (yQi D s0 A (fun r M1 => ∃ (w_pg : Nat → Int32) (w_bm : Int32), M1 = mM ad w_pg w_bm c_tx c_ty c_ft c_fa c_sp c_nu c_un c_sf c_st c_ll c_ln c_ip c_gr c_hs ∧ post r w_pg w_bm)) args s 0 0 A) D s0 A 3 (mM ad c_pg c_bm c_tx c_ty c_ft c_fa c_sp c_nu c_un c_sf c_st c_ll c_ln c_ip c_gr c_hs) 0 0 [some (yr (some (ad 0))), none, none] 63 [yi u2, yi u1, yr (some (ad 0))] := by
  intro c_pg c_bm u1 u2 h
  rw [wpX2_add_b63] at h
  refine y_iconst C 0 dX2_add_63 lit0 ?_
  refine y_iconst C 0 dX2_add_64 lit0 ?_
  refine y_iconst C 0 dX2_add_65 lit0 ?_
  refine y_callVv0 C (metX2_lays hd hB h) (cwV 5 C.hts (lw_V q1282 q1284 qs33 q91 q1285) rfl rfl rfl kdX2_lays ⟨Nat.le_of_ble_eq_true rfl, Nat.le_of_ble_eq_true rfl⟩) mM_0 rfl rfl rfl (Nat.le_of_ble_eq_true rfl) dX2_add_66 (fun M1 hp => ?_)
  clear h
  obtain ⟨w_pg5, rfl, h⟩ := hp
  refine y_aload_n C 0 rfl rfl dX2_add_69 ?_
  refine y_get (ci := 2) (k := 0) C in_X2 rfl (by decide) q1169 (fun _ h => h) mM_0 rfl dX2_add_70 ?_
  refine y_bipush C 13 dX2_add_73 y_b13 ?_
  obtain ⟨i9, h⟩ := h
  refine y_iald C (mM_1 hd) i9 dX2_add_75 ?_
  refine y_iconst C 1 dX2_add_76 lit1 ?_
  refine y_isub C dX2_add_77 ?_
  exact y_ireti C hr rfl rfl ⟨_, _, rfl, h⟩ dX2_add_78
def wpX2_add_b53 (post : Int32 → (Nat → Int32) → Int32 → Prop) (c_pg : Nat → Int32) (c_bm : Int32) (v1 : Int32) (v2 : Int32) (u1 : Int32) : Prop := ((v2 ≤ v1 → wpX2_add_b63 post c_pg c_bm u1 v1) ∧ (¬ v2 ≤ v1 → wpX2_add_b63 post c_pg c_bm u1 v2))
theorem okX2_add_b53 (C : yC p { frames := 3, cells := 0, slots := 0, locals := 113 } s m args meth c cX2_add 3 RX2 D s0 a0 A) (hB : yB D s0 a0) (hd : yAd ad) (hr : meth.sig.returnType = (some .int)) {post : Int32 → (Nat → Int32) → Int32 → Prop}  : ∀ (c_pg : Nat → Int32) (c_bm : Int32) (v1 : Int32) (v2 : Int32) (u1 : Int32), wpX2_add_b53 post c_pg c_bm v1 v2 u1 → Y p l e { frames := 3, cells := 0, slots := 0, locals := 113 } s m args below meth c (MQ below (yQi D s0 A (fun r M1 => ∃ (w_pg : Nat → Int32) (w_bm : Int32), M1 = mM ad w_pg w_bm c_tx c_ty c_ft c_fa c_sp c_nu c_un c_sf c_st c_ll c_ln c_ip c_gr c_hs ∧ post r w_pg w_bm)) args s 0 0 A) D s0 A 3 (mM ad c_pg c_bm c_tx c_ty c_ft c_fa c_sp c_nu c_un c_sf c_st c_ll c_ln c_ip c_gr c_hs) 0 0 [some (yr (some (ad 0))), some (yi v1), some (yi v2)] 53 [yi u1, yr (some (ad 0))] := by
  intro c_pg c_bm v1 v2 u1 h
  rw [wpX2_add_b53] at h
  refine y_iload_n C 1 rfl rfl dX2_add_53 ?_
  refine y_iload_n C 2 rfl rfl dX2_add_54 ?_
  refine y_icmp_ge C 62 dX2_add_55 (by decide) (fun c9 => ?_) (fun c9 => ?_)
  · replace h := h.1 c9
    refine y_iload_n C 1 rfl rfl dX2_add_62 ?_
    refine y_to C _ ?_ (okX2_add_b63 C hB hd hr  _ _ _ _ h)
    exact (And.intro rfl trivial)
  · replace h := h.2 c9
    refine y_iload_n C 2 rfl rfl dX2_add_58 ?_
    refine y_goto C 63 dX2_add_59 (by decide) ?_
    refine y_to C _ ?_ (okX2_add_b63 C hB hd hr  _ _ _ _ h)
    exact (And.intro rfl trivial)
end sX2_add
def wpX2_add (c_pg : Nat → Int32) (c_bm : Int32) (a1 : Int32) (a2 : Int32) (post : Int32 → (Nat → Int32) → Int32 → Prop) : Prop := wpX2_isPoint c_pg a1 (fun r1 => ((r1 = 0 → post (-1) c_pg c_bm) ∧ (¬ r1 = 0 → wpX2_isPoint c_pg a2 (fun r2 => ((r2 = 0 → post (-1) c_pg c_bm) ∧ (¬ r2 = 0 → ((¬ a1 = a2 → vp_in 13 1120 ∧ ((¬ (c_pg (Int32.toNatClampNeg 13)) = 16 → wpX2_records c_pg c_bm (fun w_pg3 w_bm4 => ((a2 ≤ a1 → wpX2_add_b53 post w_pg3 w_bm4 a1 a2 a2) ∧ (¬ a2 ≤ a1 → wpX2_add_b53 post w_pg3 w_bm4 a1 a2 a1)))) ∧ ((c_pg (Int32.toNatClampNeg 13)) = 16 → post (-3) c_pg c_bm))) ∧ (a1 = a2 → post (-1) c_pg c_bm))))))))
theorem metX2_add {l : Launch} {D : va_G} {s0 : State} {a0 : Array Value} {ad : Nat → Nat} (hd : yAd ad) (hB : yB D s0 a0) {c_pg : Nat → Int32} {c_bm : Int32} {c_tx : Nat → Int32} {c_ty : Int32} {c_ft : Int32} {c_fa : Int32} {c_sp : Int32} {c_nu : Int32} {c_un : Nat → Int32} {c_sf : Nat → Int32} {c_st : Nat → Int32} {c_ll : Nat → Int32} {c_ln : Nat → Int32} {c_ip : Nat → Int32} {c_gr : Nat → Int32} {c_hs : Int64} {a1 : Int32} {a2 : Int32} {post : Int32 → (Nat → Int32) → Int32 → Prop} (h : wpX2_add c_pg c_bm a1 a2 post) : yMi l yX2_add (ws_ yX2_add cX2_add 3 (some .int)) 3 113 0 0 D s0 [yr (some (ad 0)), yi a1, yi a2] (mM ad c_pg c_bm c_tx c_ty c_ft c_fa c_sp c_nu c_un c_sf c_st c_ll c_ln c_ip c_gr c_hs) (fun r M1 => ∃ (w_pg : Nat → Int32) (w_bm : Int32), M1 = mM ad w_pg w_bm c_tx c_ty c_ft c_fa c_sp c_nu c_un c_sf c_st c_ll c_ln c_ip c_gr c_hs ∧ post r w_pg w_bm) := by
  refine y_meti hB (by decide) rfl (Nat.le_of_ble_eq_true rfl) ?_
  intro p e s m below meth c A hr hnm C
  rw [wpX2_add] at h
  refine y_aload_n C 0 rfl rfl dX2_add_0 ?_
  refine y_iload_n C 1 rfl rfl dX2_add_1 ?_
  refine y_callVi0 C (metX2_isPoint hd hB h) (cwV 1 C.hts (lw_V q1262 q1264 qs30 q91 q1265) rfl rfl rfl kdX2_isPoint ⟨Nat.le_of_ble_eq_true rfl, Nat.le_of_ble_eq_true rfl⟩) mM_0 rfl rfl rfl (Nat.le_of_ble_eq_true rfl) dX2_add_2 (fun r1 M1 hp => ?_)
  clear h
  obtain ⟨rfl, h⟩ := hp
  refine y_if_eq C 21 dX2_add_5 (by decide) (fun c9 => ?_) (fun c9 => ?_)
  · replace h := h.1 c9
    refine y_iconst C (-1) dX2_add_21 litm1 ?_
    exact y_ireti C hr rfl rfl ⟨_, _, rfl, h⟩ dX2_add_22
  · replace h := h.2 c9
    refine y_aload_n C 0 rfl rfl dX2_add_8 ?_
    refine y_iload_n C 2 rfl rfl dX2_add_9 ?_
    refine y_callVi0 C (metX2_isPoint hd hB h) (cwV 1 C.hts (lw_V q1262 q1264 qs30 q91 q1265) rfl rfl rfl kdX2_isPoint ⟨Nat.le_of_ble_eq_true rfl, Nat.le_of_ble_eq_true rfl⟩) mM_0 rfl rfl rfl (Nat.le_of_ble_eq_true rfl) dX2_add_10 (fun r2 M1 hp => ?_)
    clear h
    obtain ⟨rfl, h⟩ := hp
    refine y_if_eq C 21 dX2_add_13 (by decide) (fun c9 => ?_) (fun c9 => ?_)
    · replace h := h.1 c9
      refine y_iconst C (-1) dX2_add_21 litm1 ?_
      exact y_ireti C hr rfl rfl ⟨_, _, rfl, h⟩ dX2_add_22
    · replace h := h.2 c9
      refine y_iload_n C 1 rfl rfl dX2_add_16 ?_
      refine y_iload_n C 2 rfl rfl dX2_add_17 ?_
      refine y_icmp_ne C 23 dX2_add_18 (by decide) (fun c9 => ?_) (fun c9 => ?_)
      · replace h := h.1 c9
        refine y_aload_n C 0 rfl rfl dX2_add_23 ?_
        refine y_get (ci := 2) (k := 0) C in_X2 rfl (by decide) q1169 (fun _ h => h) mM_0 rfl dX2_add_24 ?_
        refine y_bipush C 13 dX2_add_27 y_b13 ?_
        obtain ⟨i9, h⟩ := h
        refine y_iald C (mM_1 hd) i9 dX2_add_29 ?_
        refine y_bipush C 16 dX2_add_30 y_b16 ?_
        refine y_icmp_ne C 38 dX2_add_32 (by decide) (fun c9 => ?_) (fun c9 => ?_)
        · replace h := h.1 c9
          refine y_aload_n C 0 rfl rfl dX2_add_38 ?_
          refine y_callVv0 C (metX2_records hd hB h) (cwV 0 C.hts (lw_V q1242 q1244 qs26 q91 q1245) rfl rfl rfl kdX2_records ⟨Nat.le_of_ble_eq_true rfl, Nat.le_of_ble_eq_true rfl⟩) mM_0 rfl rfl rfl (Nat.le_of_ble_eq_true rfl) dX2_add_39 (fun M1 hp => ?_)
          clear h
          obtain ⟨w_pg3, w_bm4, rfl, h⟩ := hp
          refine y_aload_n C 0 rfl rfl dX2_add_42 ?_
          refine y_iload_n C 1 rfl rfl dX2_add_43 ?_
          refine y_iload_n C 2 rfl rfl dX2_add_44 ?_
          refine y_icmp_ge C 52 dX2_add_45 (by decide) (fun c9 => ?_) (fun c9 => ?_)
          · replace h := h.1 c9
            refine y_iload_n C 2 rfl rfl dX2_add_52 ?_
            refine y_to C _ ?_ (okX2_add_b53 C hB hd hr  _ _ _ _ _ h)
            exact (And.intro rfl (And.intro rfl (And.intro rfl trivial)))
          · replace h := h.2 c9
            refine y_iload_n C 1 rfl rfl dX2_add_48 ?_
            refine y_goto C 53 dX2_add_49 (by decide) ?_
            refine y_to C _ ?_ (okX2_add_b53 C hB hd hr  _ _ _ _ _ h)
            exact (And.intro rfl (And.intro rfl (And.intro rfl trivial)))
        · replace h := h.2 c9
          refine y_bipush C (-3) dX2_add_35 y_bm3 ?_
          exact y_ireti C hr rfl rfl ⟨_, _, rfl, h⟩ dX2_add_37
      · replace h := h.2 c9
        refine y_iconst C (-1) dX2_add_21 litm1 ?_
        exact y_ireti C hr rfl rfl ⟨_, _, rfl, h⟩ dX2_add_22
theorem kdX2_add : yX2_add.cls = RX2 ∧ yX2_add.cls ≠ "java/lang/invoke/MethodHandle" ∧ yX2_add.cls ≠ "java/lang/invoke/VarHandle" ∧ (parseMethodDescriptor yX2_add.desc).map (fun d => d.parameters.length) = some 2 := by decide +kernel
def wpX2_isDimension (c_pg : Nat → Int32) (a1 : Int32) (post : Int32 → Prop) : Prop := vp_in 13 1120 ∧ wpX2_in a1 0 ((c_pg (Int32.toNatClampNeg 13)) - 1) (fun r1 => ((r1 = 0 ∨ r1 = 1) ∧ post r1))
theorem metX2_isDimension {l : Launch} {D : va_G} {s0 : State} {a0 : Array Value} {ad : Nat → Nat} (hd : yAd ad) (hB : yB D s0 a0) {c_pg : Nat → Int32} {c_bm : Int32} {c_tx : Nat → Int32} {c_ty : Int32} {c_ft : Int32} {c_fa : Int32} {c_sp : Int32} {c_nu : Int32} {c_un : Nat → Int32} {c_sf : Nat → Int32} {c_st : Nat → Int32} {c_ll : Nat → Int32} {c_ln : Nat → Int32} {c_ip : Nat → Int32} {c_gr : Nat → Int32} {c_hs : Int64} {a1 : Int32} {post : Int32 → Prop} (h : wpX2_isDimension c_pg a1 post) : yMi l yX2_isDimension (ws_ yX2_isDimension cX2_isDimension 2 (some .boolean)) 2 86 0 0 D s0 [yr (some (ad 0)), yi a1] (mM ad c_pg c_bm c_tx c_ty c_ft c_fa c_sp c_nu c_un c_sf c_st c_ll c_ln c_ip c_gr c_hs) (fun r M1 => M1 = mM ad c_pg c_bm c_tx c_ty c_ft c_fa c_sp c_nu c_un c_sf c_st c_ll c_ln c_ip c_gr c_hs ∧ post r) := by
  refine y_meti hB (by decide) rfl (Nat.le_of_ble_eq_true rfl) ?_
  intro p e s m below meth c A hr hnm C
  rw [wpX2_isDimension] at h
  refine y_iload_n C 1 rfl rfl dX2_isDimension_0 ?_
  refine y_iconst C 0 dX2_isDimension_1 lit0 ?_
  refine y_aload_n C 0 rfl rfl dX2_isDimension_2 ?_
  refine y_get (ci := 2) (k := 0) C in_X2 rfl (by decide) q1169 (fun _ h => h) mM_0 rfl dX2_isDimension_3 ?_
  refine y_bipush C 13 dX2_isDimension_6 y_b13 ?_
  obtain ⟨i9, h⟩ := h
  refine y_iald C (mM_1 hd) i9 dX2_isDimension_8 ?_
  refine y_iconst C 1 dX2_isDimension_9 lit1 ?_
  refine y_isub C dX2_isDimension_10 ?_
  refine y_callSi0 C (metX2_in hB h) (va_cwS 3 C.hts (lw_S q1231 q1232 q91 q1233) rfl rfl rfl kdX2_in.2 ⟨Nat.le_of_ble_eq_true rfl, Nat.le_of_ble_eq_true rfl⟩) rfl rfl (Nat.le_of_ble_eq_true rfl) dX2_isDimension_11 (fun r1 M1 hp => ?_)
  clear h
  obtain ⟨rfl, h⟩ := hp
  obtain ⟨z9, h⟩ := h
  exact y_iretz C hr rfl rfl z9 ⟨rfl, h⟩ dX2_isDimension_14
theorem kdX2_isDimension : yX2_isDimension.cls = RX2 ∧ yX2_isDimension.cls ≠ "java/lang/invoke/MethodHandle" ∧ yX2_isDimension.cls ≠ "java/lang/invoke/VarHandle" ∧ (parseMethodDescriptor yX2_isDimension.desc).map (fun d => d.parameters.length) = some 1 := by decide +kernel
section sX2_drop
variable {p : Program} {l : Launch} {e : Env} {s : State} {m : MethodId} {args : Array Value} {below : List Frame} {meth : Method} {c : Code} {D : va_G} {s0 : State} {a0 : Array Value} {A : Nat → Prop} {ad : Nat → Nat} {c_pg : Nat → Int32} {c_bm : Int32} {c_tx : Nat → Int32} {c_ty : Int32} {c_ft : Int32} {c_fa : Int32} {c_sp : Int32} {c_nu : Int32} {c_un : Nat → Int32} {c_sf : Nat → Int32} {c_st : Nat → Int32} {c_ll : Nat → Int32} {c_ln : Nat → Int32} {c_ip : Nat → Int32} {c_gr : Nat → Int32} {c_hs : Int64}
def wpX2_drop_b33 (post : Int32 → (Nat → Int32) → Int32 → Prop) : Nat → (Nat → Int32) → Int32 → Int32 → Prop
  | 0, _, _, _ => False
  | nn + 1, c_pg, c_bm, v2 => vp_in 13 1120 ∧ (((14 + (6 * (c_pg (Int32.toNatClampNeg 13)))) ≤ v2 → vp_in 13 1120 ∧ post (c_pg (Int32.toNatClampNeg 13)) c_pg c_bm) ∧ (¬ (14 + (6 * (c_pg (Int32.toNatClampNeg 13)))) ≤ v2 → vp_in (v2 + 6) 1120 ∧ vp_in v2 1120 ∧ ∀ f6 : Nat → Int32, f6 = upd c_pg (Int32.toNatClampNeg v2) (c_pg (Int32.toNatClampNeg (v2 + 6))) → ∀ x7 : Int32, x7 = v2 + 1 → wpX2_drop_b33 post nn f6 c_bm x7))
theorem okX2_drop_b33 (C : yC p { frames := 3, cells := 0, slots := 0, locals := 108 } s m args meth c cX2_drop 3 RX2 D s0 a0 A) (hB : yB D s0 a0) (hd : yAd ad) (hr : meth.sig.returnType = (some .int)) {post : Int32 → (Nat → Int32) → Int32 → Prop}  : ∀ (nn : Nat) (c_pg : Nat → Int32) (c_bm : Int32) (v2 : Int32), wpX2_drop_b33 post nn c_pg c_bm v2 → Y p l e { frames := 3, cells := 0, slots := 0, locals := 108 } s m args below meth c (MQ below (yQi D s0 A (fun r M1 => ∃ (w_pg : Nat → Int32) (w_bm : Int32), M1 = mM ad w_pg w_bm c_tx c_ty c_ft c_fa c_sp c_nu c_un c_sf c_st c_ll c_ln c_ip c_gr c_hs ∧ post r w_pg w_bm)) args s 0 0 A) D s0 A 3 (mM ad c_pg c_bm c_tx c_ty c_ft c_fa c_sp c_nu c_un c_sf c_st c_ll c_ln c_ip c_gr c_hs) 0 0 [some (yr (some (ad 0))), none, some (yi v2)] 33 [] := by
  intro nn
  induction nn with
  | zero => intro c_pg c_bm v2 h; exact absurd h (by rw [wpX2_drop_b33]; exact id)
  | succ nn ih =>
    intro c_pg c_bm v2 h
    rw [wpX2_drop_b33] at h
    refine y_iload_n C 2 rfl rfl dX2_drop_33 ?_
    refine y_bipush C 14 dX2_drop_34 y_b14 ?_
    refine y_bipush C 6 dX2_drop_36 y_b6 ?_
    refine y_aload_n C 0 rfl rfl dX2_drop_38 ?_
    refine y_get (ci := 2) (k := 0) C in_X2 rfl (by decide) q1169 (fun _ h => h) mM_0 rfl dX2_drop_39 ?_
    refine y_bipush C 13 dX2_drop_42 y_b13 ?_
    obtain ⟨i9, h⟩ := h
    refine y_iald C (mM_1 hd) i9 dX2_drop_44 ?_
    refine y_imul C dX2_drop_45 ?_
    refine y_iadd C dX2_drop_46 ?_
    refine y_icmp_ge C 71 dX2_drop_47 (by decide) (fun c9 => ?_) (fun c9 => ?_)
    · replace h := h.1 c9
      refine y_aload_n C 0 rfl rfl dX2_drop_71 ?_
      refine y_get (ci := 2) (k := 0) C in_X2 rfl (by decide) q1169 (fun _ h => h) mM_0 rfl dX2_drop_72 ?_
      refine y_bipush C 13 dX2_drop_75 y_b13 ?_
      obtain ⟨i9, h⟩ := h
      refine y_iald C (mM_1 hd) i9 dX2_drop_77 ?_
      exact y_ireti C hr rfl rfl ⟨_, _, rfl, h⟩ dX2_drop_78
    · replace h := h.2 c9
      refine y_aload_n C 0 rfl rfl dX2_drop_50 ?_
      refine y_get (ci := 2) (k := 0) C in_X2 rfl (by decide) q1169 (fun _ h => h) mM_0 rfl dX2_drop_51 ?_
      refine y_iload_n C 2 rfl rfl dX2_drop_54 ?_
      refine y_aload_n C 0 rfl rfl dX2_drop_55 ?_
      refine y_get (ci := 2) (k := 0) C in_X2 rfl (by decide) q1169 (fun _ h => h) mM_0 rfl dX2_drop_56 ?_
      refine y_iload_n C 2 rfl rfl dX2_drop_59 ?_
      refine y_bipush C 6 dX2_drop_60 y_b6 ?_
      refine y_iadd C dX2_drop_62 ?_
      obtain ⟨i9, h⟩ := h
      refine y_iald C (mM_1 hd) i9 dX2_drop_63 ?_
      obtain ⟨i9, h⟩ := h
      replace h := h _ rfl
      refine y_iast C (mM_1 hd) i9 (mU_pg hd _) dX2_drop_64 ?_
      replace h := h _ rfl
      refine y_iinc C 2 _ rfl (y_inc1 _) (by decide) dX2_drop_65 ?_
      refine y_goto C 33 dX2_drop_68 (by decide) ?_
      refine y_to C _ ?_ (ih _ _ _ h)
      exact (And.intro rfl (And.intro rfl trivial))
end sX2_drop
def wpX2_drop (c_pg : Nat → Int32) (c_bm : Int32) (a1 : Int32) (post : Int32 → (Nat → Int32) → Int32 → Prop) : Prop := wpX2_isDimension c_pg a1 (fun r1 => ((¬ r1 = 0 → wpX2_records c_pg c_bm (fun w_pg2 w_bm3 => vp_in 13 1120 ∧ vp_in 13 1120 ∧ ∀ f4 : Nat → Int32, f4 = upd w_pg2 (Int32.toNatClampNeg 13) ((w_pg2 (Int32.toNatClampNeg 13)) - 1) → ∀ x5 : Int32, x5 = (14 + (6 * a1)) → ∃ nf9 : Nat, wpX2_drop_b33 post nf9 f4 w_bm3 x5)) ∧ (r1 = 0 → post (-1) c_pg c_bm)))
theorem metX2_drop {l : Launch} {D : va_G} {s0 : State} {a0 : Array Value} {ad : Nat → Nat} (hd : yAd ad) (hB : yB D s0 a0) {c_pg : Nat → Int32} {c_bm : Int32} {c_tx : Nat → Int32} {c_ty : Int32} {c_ft : Int32} {c_fa : Int32} {c_sp : Int32} {c_nu : Int32} {c_un : Nat → Int32} {c_sf : Nat → Int32} {c_st : Nat → Int32} {c_ll : Nat → Int32} {c_ln : Nat → Int32} {c_ip : Nat → Int32} {c_gr : Nat → Int32} {c_hs : Int64} {a1 : Int32} {post : Int32 → (Nat → Int32) → Int32 → Prop} (h : wpX2_drop c_pg c_bm a1 post) : yMi l yX2_drop (ws_ yX2_drop cX2_drop 3 (some .int)) 3 108 0 0 D s0 [yr (some (ad 0)), yi a1] (mM ad c_pg c_bm c_tx c_ty c_ft c_fa c_sp c_nu c_un c_sf c_st c_ll c_ln c_ip c_gr c_hs) (fun r M1 => ∃ (w_pg : Nat → Int32) (w_bm : Int32), M1 = mM ad w_pg w_bm c_tx c_ty c_ft c_fa c_sp c_nu c_un c_sf c_st c_ll c_ln c_ip c_gr c_hs ∧ post r w_pg w_bm) := by
  refine y_meti hB (by decide) rfl (Nat.le_of_ble_eq_true rfl) ?_
  intro p e s m below meth c A hr hnm C
  rw [wpX2_drop] at h
  refine y_aload_n C 0 rfl rfl dX2_drop_0 ?_
  refine y_iload_n C 1 rfl rfl dX2_drop_1 ?_
  refine y_callVi0 C (metX2_isDimension hd hB h) (cwV 1 C.hts (lw_V q1290 q1292 qs34 q91 q1293) rfl rfl rfl kdX2_isDimension ⟨Nat.le_of_ble_eq_true rfl, Nat.le_of_ble_eq_true rfl⟩) mM_0 rfl rfl rfl (Nat.le_of_ble_eq_true rfl) dX2_drop_2 (fun r1 M1 hp => ?_)
  clear h
  obtain ⟨rfl, h⟩ := hp
  refine y_if_ne C 10 dX2_drop_5 (by decide) (fun c9 => ?_) (fun c9 => ?_)
  · replace h := h.1 c9
    refine y_aload_n C 0 rfl rfl dX2_drop_10 ?_
    refine y_callVv0 C (metX2_records hd hB h) (cwV 0 C.hts (lw_V q1242 q1244 qs26 q91 q1245) rfl rfl rfl kdX2_records ⟨Nat.le_of_ble_eq_true rfl, Nat.le_of_ble_eq_true rfl⟩) mM_0 rfl rfl rfl (Nat.le_of_ble_eq_true rfl) dX2_drop_11 (fun M1 hp => ?_)
    clear h
    obtain ⟨w_pg2, w_bm3, rfl, h⟩ := hp
    refine y_aload_n C 0 rfl rfl dX2_drop_14 ?_
    refine y_get (ci := 2) (k := 0) C in_X2 rfl (by decide) q1169 (fun _ h => h) mM_0 rfl dX2_drop_15 ?_
    refine y_bipush C 13 dX2_drop_18 y_b13 ?_
    refine y_dup2 C rfl rfl dX2_drop_20 ?_
    obtain ⟨i9, h⟩ := h
    refine y_iald C (mM_1 hd) i9 dX2_drop_21 ?_
    refine y_iconst C 1 dX2_drop_22 lit1 ?_
    refine y_isub C dX2_drop_23 ?_
    obtain ⟨i9, h⟩ := h
    replace h := h _ rfl
    refine y_iast C (mM_1 hd) i9 (mU_pg hd _) dX2_drop_24 ?_
    refine y_bipush C 14 dX2_drop_25 y_b14 ?_
    refine y_bipush C 6 dX2_drop_27 y_b6 ?_
    refine y_iload_n C 1 rfl rfl dX2_drop_29 ?_
    refine y_imul C dX2_drop_30 ?_
    refine y_iadd C dX2_drop_31 ?_
    replace h := h _ rfl
    refine y_istore_n C 2 rfl (by decide) dX2_drop_32 ?_
    obtain ⟨nf9, h⟩ := h
    refine y_to C _ ?_ (okX2_drop_b33 C hB hd hr  nf9 _ _ _ h)
    exact (And.intro rfl (And.intro rfl trivial))
  · replace h := h.2 c9
    refine y_iconst C (-1) dX2_drop_8 litm1 ?_
    exact y_ireti C hr rfl rfl ⟨_, _, rfl, h⟩ dX2_drop_9
theorem kdX2_drop : yX2_drop.cls = RX2 ∧ yX2_drop.cls ≠ "java/lang/invoke/MethodHandle" ∧ yX2_drop.cls ≠ "java/lang/invoke/VarHandle" ∧ (parseMethodDescriptor yX2_drop.desc).map (fun d => d.parameters.length) = some 1 := by decide +kernel
def wpX2_setTolerance (c_pg : Nat → Int32) (c_bm : Int32) (a1 : Int32) (a2 : Int32) (a3 : Int32) (post : Int32 → (Nat → Int32) → Int32 → Prop) : Prop := wpX2_isDimension c_pg a1 (fun r1 => ((r1 = 0 → post (-1) c_pg c_bm) ∧ (¬ r1 = 0 → wpX2_in a2 0 20 (fun r2 => ((r2 = 0 → post (-1) c_pg c_bm) ∧ (¬ r2 = 0 → wpX2_in a3 0 20 (fun r3 => ((¬ r3 = 0 → wpX2_records c_pg c_bm (fun w_pg4 w_bm5 => wpX2_of w_pg4 a1 2 (fun r6 => wpX2_of w_pg4 a1 3 (fun r7 => ∀ x8 : Int32, x8 = ((100 * r6) + r7) → wpX2_sets w_pg4 a1 2 a2 (fun w_pg9 => wpX2_sets w_pg9 a1 3 a3 (fun w_pg10 => post x8 w_pg10 w_bm5)))))) ∧ (r3 = 0 → post (-1) c_pg c_bm)))))))))
theorem metX2_setTolerance {l : Launch} {D : va_G} {s0 : State} {a0 : Array Value} {ad : Nat → Nat} (hd : yAd ad) (hB : yB D s0 a0) {c_pg : Nat → Int32} {c_bm : Int32} {c_tx : Nat → Int32} {c_ty : Int32} {c_ft : Int32} {c_fa : Int32} {c_sp : Int32} {c_nu : Int32} {c_un : Nat → Int32} {c_sf : Nat → Int32} {c_st : Nat → Int32} {c_ll : Nat → Int32} {c_ln : Nat → Int32} {c_ip : Nat → Int32} {c_gr : Nat → Int32} {c_hs : Int64} {a1 : Int32} {a2 : Int32} {a3 : Int32} {post : Int32 → (Nat → Int32) → Int32 → Prop} (h : wpX2_setTolerance c_pg c_bm a1 a2 a3 post) : yMi l yX2_setTolerance (ws_ yX2_setTolerance cX2_setTolerance 5 (some .int)) 3 108 0 0 D s0 [yr (some (ad 0)), yi a1, yi a2, yi a3] (mM ad c_pg c_bm c_tx c_ty c_ft c_fa c_sp c_nu c_un c_sf c_st c_ll c_ln c_ip c_gr c_hs) (fun r M1 => ∃ (w_pg : Nat → Int32) (w_bm : Int32), M1 = mM ad w_pg w_bm c_tx c_ty c_ft c_fa c_sp c_nu c_un c_sf c_st c_ll c_ln c_ip c_gr c_hs ∧ post r w_pg w_bm) := by
  refine y_meti hB (by decide) rfl (Nat.le_of_ble_eq_true rfl) ?_
  intro p e s m below meth c A hr hnm C
  rw [wpX2_setTolerance] at h
  refine y_aload_n C 0 rfl rfl dX2_setTolerance_0 ?_
  refine y_iload_n C 1 rfl rfl dX2_setTolerance_1 ?_
  refine y_callVi0 C (metX2_isDimension hd hB h) (cwV 1 C.hts (lw_V q1290 q1292 qs34 q91 q1293) rfl rfl rfl kdX2_isDimension ⟨Nat.le_of_ble_eq_true rfl, Nat.le_of_ble_eq_true rfl⟩) mM_0 rfl rfl rfl (Nat.le_of_ble_eq_true rfl) dX2_setTolerance_2 (fun r1 M1 hp => ?_)
  clear h
  obtain ⟨rfl, h⟩ := hp
  refine y_if_eq C 28 dX2_setTolerance_5 (by decide) (fun c9 => ?_) (fun c9 => ?_)
  · replace h := h.1 c9
    refine y_iconst C (-1) dX2_setTolerance_28 litm1 ?_
    exact y_ireti C hr rfl rfl ⟨_, _, rfl, h⟩ dX2_setTolerance_29
  · replace h := h.2 c9
    refine y_iload_n C 2 rfl rfl dX2_setTolerance_8 ?_
    refine y_iconst C 0 dX2_setTolerance_9 lit0 ?_
    refine y_bipush C 20 dX2_setTolerance_10 y_b20 ?_
    refine y_callSi0 C (metX2_in hB h) (va_cwS 3 C.hts (lw_S q1231 q1232 q91 q1233) rfl rfl rfl kdX2_in.2 ⟨Nat.le_of_ble_eq_true rfl, Nat.le_of_ble_eq_true rfl⟩) rfl rfl (Nat.le_of_ble_eq_true rfl) dX2_setTolerance_12 (fun r2 M1 hp => ?_)
    clear h
    obtain ⟨rfl, h⟩ := hp
    refine y_if_eq C 28 dX2_setTolerance_15 (by decide) (fun c9 => ?_) (fun c9 => ?_)
    · replace h := h.1 c9
      refine y_iconst C (-1) dX2_setTolerance_28 litm1 ?_
      exact y_ireti C hr rfl rfl ⟨_, _, rfl, h⟩ dX2_setTolerance_29
    · replace h := h.2 c9
      refine y_iload_n C 3 rfl rfl dX2_setTolerance_18 ?_
      refine y_iconst C 0 dX2_setTolerance_19 lit0 ?_
      refine y_bipush C 20 dX2_setTolerance_20 y_b20 ?_
      refine y_callSi0 C (metX2_in hB h) (va_cwS 3 C.hts (lw_S q1231 q1232 q91 q1233) rfl rfl rfl kdX2_in.2 ⟨Nat.le_of_ble_eq_true rfl, Nat.le_of_ble_eq_true rfl⟩) rfl rfl (Nat.le_of_ble_eq_true rfl) dX2_setTolerance_22 (fun r3 M1 hp => ?_)
      clear h
      obtain ⟨rfl, h⟩ := hp
      refine y_if_ne C 30 dX2_setTolerance_25 (by decide) (fun c9 => ?_) (fun c9 => ?_)
      · replace h := h.1 c9
        refine y_aload_n C 0 rfl rfl dX2_setTolerance_30 ?_
        refine y_callVv0 C (metX2_records hd hB h) (cwV 0 C.hts (lw_V q1242 q1244 qs26 q91 q1245) rfl rfl rfl kdX2_records ⟨Nat.le_of_ble_eq_true rfl, Nat.le_of_ble_eq_true rfl⟩) mM_0 rfl rfl rfl (Nat.le_of_ble_eq_true rfl) dX2_setTolerance_31 (fun M1 hp => ?_)
        clear h
        obtain ⟨w_pg4, w_bm5, rfl, h⟩ := hp
        refine y_bipush C 100 dX2_setTolerance_34 y_b100 ?_
        refine y_aload_n C 0 rfl rfl dX2_setTolerance_36 ?_
        refine y_iload_n C 1 rfl rfl dX2_setTolerance_37 ?_
        refine y_iconst C 2 dX2_setTolerance_38 lit2 ?_
        refine y_callVi0 C (metX2_of hd hB h) (cwV 2 C.hts (lw_V q1250 q1252 qs28 q91 q1253) rfl rfl rfl kdX2_of ⟨Nat.le_of_ble_eq_true rfl, Nat.le_of_ble_eq_true rfl⟩) mM_0 rfl rfl rfl (Nat.le_of_ble_eq_true rfl) dX2_setTolerance_39 (fun r6 M1 hp => ?_)
        clear h
        obtain ⟨rfl, h⟩ := hp
        refine y_imul C dX2_setTolerance_42 ?_
        refine y_aload_n C 0 rfl rfl dX2_setTolerance_43 ?_
        refine y_iload_n C 1 rfl rfl dX2_setTolerance_44 ?_
        refine y_iconst C 3 dX2_setTolerance_45 lit3 ?_
        refine y_callVi0 C (metX2_of hd hB h) (cwV 2 C.hts (lw_V q1250 q1252 qs28 q91 q1253) rfl rfl rfl kdX2_of ⟨Nat.le_of_ble_eq_true rfl, Nat.le_of_ble_eq_true rfl⟩) mM_0 rfl rfl rfl (Nat.le_of_ble_eq_true rfl) dX2_setTolerance_46 (fun r7 M1 hp => ?_)
        clear h
        obtain ⟨rfl, h⟩ := hp
        refine y_iadd C dX2_setTolerance_49 ?_
        replace h := h _ rfl
        refine y_istore C 4 (by decide) dX2_setTolerance_50 ?_
        refine y_aload_n C 0 rfl rfl dX2_setTolerance_52 ?_
        refine y_iload_n C 1 rfl rfl dX2_setTolerance_53 ?_
        refine y_iconst C 2 dX2_setTolerance_54 lit2 ?_
        refine y_iload_n C 2 rfl rfl dX2_setTolerance_55 ?_
        refine y_callVv0 C (metX2_sets hd hB h) (cwV 3 C.hts (lw_V q1254 q1256 qs29 q91 q1257) rfl rfl rfl kdX2_sets ⟨Nat.le_of_ble_eq_true rfl, Nat.le_of_ble_eq_true rfl⟩) mM_0 rfl rfl rfl (Nat.le_of_ble_eq_true rfl) dX2_setTolerance_56 (fun M1 hp => ?_)
        clear h
        obtain ⟨w_pg9, rfl, h⟩ := hp
        refine y_aload_n C 0 rfl rfl dX2_setTolerance_59 ?_
        refine y_iload_n C 1 rfl rfl dX2_setTolerance_60 ?_
        refine y_iconst C 3 dX2_setTolerance_61 lit3 ?_
        refine y_iload_n C 3 rfl rfl dX2_setTolerance_62 ?_
        refine y_callVv0 C (metX2_sets hd hB h) (cwV 3 C.hts (lw_V q1254 q1256 qs29 q91 q1257) rfl rfl rfl kdX2_sets ⟨Nat.le_of_ble_eq_true rfl, Nat.le_of_ble_eq_true rfl⟩) mM_0 rfl rfl rfl (Nat.le_of_ble_eq_true rfl) dX2_setTolerance_63 (fun M1 hp => ?_)
        clear h
        obtain ⟨w_pg10, rfl, h⟩ := hp
        refine y_iload C 4 rfl dX2_setTolerance_66 ?_
        exact y_ireti C hr rfl rfl ⟨_, _, rfl, h⟩ dX2_setTolerance_68
      · replace h := h.2 c9
        refine y_iconst C (-1) dX2_setTolerance_28 litm1 ?_
        exact y_ireti C hr rfl rfl ⟨_, _, rfl, h⟩ dX2_setTolerance_29
theorem kdX2_setTolerance : yX2_setTolerance.cls = RX2 ∧ yX2_setTolerance.cls ≠ "java/lang/invoke/MethodHandle" ∧ yX2_setTolerance.cls ≠ "java/lang/invoke/VarHandle" ∧ (parseMethodDescriptor yX2_setTolerance.desc).map (fun d => d.parameters.length) = some 3 := by decide +kernel
def wpX2_becomes (c_pg : Nat → Int32) (c_bm : Int32) (a1 : Int32) (a2 : Int32) (a3 : Int32) (post : Int32 → (Nat → Int32) → Int32 → Prop) : Prop := wpX2_records c_pg c_bm (fun w_pg1 w_bm2 => wpX2_of w_pg1 a1 a2 (fun r3 => wpX2_sets w_pg1 a1 a2 a3 (fun w_pg4 => post r3 w_pg4 w_bm2)))
theorem metX2_becomes {l : Launch} {D : va_G} {s0 : State} {a0 : Array Value} {ad : Nat → Nat} (hd : yAd ad) (hB : yB D s0 a0) {c_pg : Nat → Int32} {c_bm : Int32} {c_tx : Nat → Int32} {c_ty : Int32} {c_ft : Int32} {c_fa : Int32} {c_sp : Int32} {c_nu : Int32} {c_un : Nat → Int32} {c_sf : Nat → Int32} {c_st : Nat → Int32} {c_ll : Nat → Int32} {c_ln : Nat → Int32} {c_ip : Nat → Int32} {c_gr : Nat → Int32} {c_hs : Int64} {a1 : Int32} {a2 : Int32} {a3 : Int32} {post : Int32 → (Nat → Int32) → Int32 → Prop} (h : wpX2_becomes c_pg c_bm a1 a2 a3 post) : yMi l yX2_becomes (ws_ yX2_becomes cX2_becomes 5 (some .int)) 3 108 0 0 D s0 [yr (some (ad 0)), yi a1, yi a2, yi a3] (mM ad c_pg c_bm c_tx c_ty c_ft c_fa c_sp c_nu c_un c_sf c_st c_ll c_ln c_ip c_gr c_hs) (fun r M1 => ∃ (w_pg : Nat → Int32) (w_bm : Int32), M1 = mM ad w_pg w_bm c_tx c_ty c_ft c_fa c_sp c_nu c_un c_sf c_st c_ll c_ln c_ip c_gr c_hs ∧ post r w_pg w_bm) := by
  refine y_meti hB (by decide) rfl (Nat.le_of_ble_eq_true rfl) ?_
  intro p e s m below meth c A hr hnm C
  rw [wpX2_becomes] at h
  refine y_aload_n C 0 rfl rfl dX2_becomes_0 ?_
  refine y_callVv0 C (metX2_records hd hB h) (cwV 0 C.hts (lw_V q1242 q1244 qs26 q91 q1245) rfl rfl rfl kdX2_records ⟨Nat.le_of_ble_eq_true rfl, Nat.le_of_ble_eq_true rfl⟩) mM_0 rfl rfl rfl (Nat.le_of_ble_eq_true rfl) dX2_becomes_1 (fun M1 hp => ?_)
  clear h
  obtain ⟨w_pg1, w_bm2, rfl, h⟩ := hp
  refine y_aload_n C 0 rfl rfl dX2_becomes_4 ?_
  refine y_iload_n C 1 rfl rfl dX2_becomes_5 ?_
  refine y_iload_n C 2 rfl rfl dX2_becomes_6 ?_
  refine y_callVi0 C (metX2_of hd hB h) (cwV 2 C.hts (lw_V q1250 q1252 qs28 q91 q1253) rfl rfl rfl kdX2_of ⟨Nat.le_of_ble_eq_true rfl, Nat.le_of_ble_eq_true rfl⟩) mM_0 rfl rfl rfl (Nat.le_of_ble_eq_true rfl) dX2_becomes_7 (fun r3 M1 hp => ?_)
  clear h
  obtain ⟨rfl, h⟩ := hp
  refine y_istore C 4 (by decide) dX2_becomes_10 ?_
  refine y_aload_n C 0 rfl rfl dX2_becomes_12 ?_
  refine y_iload_n C 1 rfl rfl dX2_becomes_13 ?_
  refine y_iload_n C 2 rfl rfl dX2_becomes_14 ?_
  refine y_iload_n C 3 rfl rfl dX2_becomes_15 ?_
  refine y_callVv0 C (metX2_sets hd hB h) (cwV 3 C.hts (lw_V q1254 q1256 qs29 q91 q1257) rfl rfl rfl kdX2_sets ⟨Nat.le_of_ble_eq_true rfl, Nat.le_of_ble_eq_true rfl⟩) mM_0 rfl rfl rfl (Nat.le_of_ble_eq_true rfl) dX2_becomes_16 (fun M1 hp => ?_)
  clear h
  obtain ⟨w_pg4, rfl, h⟩ := hp
  refine y_iload C 4 rfl dX2_becomes_19 ?_
  exact y_ireti C hr rfl rfl ⟨_, _, rfl, h⟩ dX2_becomes_21
theorem kdX2_becomes : yX2_becomes.cls = RX2 ∧ yX2_becomes.cls ≠ "java/lang/invoke/MethodHandle" ∧ yX2_becomes.cls ≠ "java/lang/invoke/VarHandle" ∧ (parseMethodDescriptor yX2_becomes.desc).map (fun d => d.parameters.length) = some 3 := by decide +kernel
def wpX2_setChain (c_pg : Nat → Int32) (c_bm : Int32) (a1 : Int32) (a2 : Int32) (post : Int32 → (Nat → Int32) → Int32 → Prop) : Prop := wpX2_isDimension c_pg a1 (fun r1 => ((r1 = 0 → post (-1) c_pg c_bm) ∧ (¬ r1 = 0 → wpX2_in a2 0 5 (fun r2 => ((r2 = 0 → post (-1) c_pg c_bm) ∧ (¬ r2 = 0 → wpX2_becomes c_pg c_bm a1 4 a2 (fun r5 w_pg3 w_bm4 => post r5 w_pg3 w_bm4)))))))
theorem metX2_setChain {l : Launch} {D : va_G} {s0 : State} {a0 : Array Value} {ad : Nat → Nat} (hd : yAd ad) (hB : yB D s0 a0) {c_pg : Nat → Int32} {c_bm : Int32} {c_tx : Nat → Int32} {c_ty : Int32} {c_ft : Int32} {c_fa : Int32} {c_sp : Int32} {c_nu : Int32} {c_un : Nat → Int32} {c_sf : Nat → Int32} {c_st : Nat → Int32} {c_ll : Nat → Int32} {c_ln : Nat → Int32} {c_ip : Nat → Int32} {c_gr : Nat → Int32} {c_hs : Int64} {a1 : Int32} {a2 : Int32} {post : Int32 → (Nat → Int32) → Int32 → Prop} (h : wpX2_setChain c_pg c_bm a1 a2 post) : yMi l yX2_setChain (ws_ yX2_setChain cX2_setChain 3 (some .int)) 4 132 0 0 D s0 [yr (some (ad 0)), yi a1, yi a2] (mM ad c_pg c_bm c_tx c_ty c_ft c_fa c_sp c_nu c_un c_sf c_st c_ll c_ln c_ip c_gr c_hs) (fun r M1 => ∃ (w_pg : Nat → Int32) (w_bm : Int32), M1 = mM ad w_pg w_bm c_tx c_ty c_ft c_fa c_sp c_nu c_un c_sf c_st c_ll c_ln c_ip c_gr c_hs ∧ post r w_pg w_bm) := by
  refine y_meti hB (by decide) rfl (Nat.le_of_ble_eq_true rfl) ?_
  intro p e s m below meth c A hr hnm C
  rw [wpX2_setChain] at h
  refine y_aload_n C 0 rfl rfl dX2_setChain_0 ?_
  refine y_iload_n C 1 rfl rfl dX2_setChain_1 ?_
  refine y_callVi0 C (metX2_isDimension hd hB h) (cwV 1 C.hts (lw_V q1290 q1292 qs34 q91 q1293) rfl rfl rfl kdX2_isDimension ⟨Nat.le_of_ble_eq_true rfl, Nat.le_of_ble_eq_true rfl⟩) mM_0 rfl rfl rfl (Nat.le_of_ble_eq_true rfl) dX2_setChain_2 (fun r1 M1 hp => ?_)
  clear h
  obtain ⟨rfl, h⟩ := hp
  refine y_if_eq C 27 dX2_setChain_5 (by decide) (fun c9 => ?_) (fun c9 => ?_)
  · replace h := h.1 c9
    refine y_iconst C (-1) dX2_setChain_27 litm1 ?_
    exact y_ireti C hr rfl rfl ⟨_, _, rfl, h⟩ dX2_setChain_28
  · replace h := h.2 c9
    refine y_iload_n C 2 rfl rfl dX2_setChain_8 ?_
    refine y_iconst C 0 dX2_setChain_9 lit0 ?_
    refine y_iconst C 5 dX2_setChain_10 lit5 ?_
    refine y_callSi0 C (metX2_in hB h) (va_cwS 3 C.hts (lw_S q1231 q1232 q91 q1233) rfl rfl rfl kdX2_in.2 ⟨Nat.le_of_ble_eq_true rfl, Nat.le_of_ble_eq_true rfl⟩) rfl rfl (Nat.le_of_ble_eq_true rfl) dX2_setChain_11 (fun r2 M1 hp => ?_)
    clear h
    obtain ⟨rfl, h⟩ := hp
    refine y_if_eq C 27 dX2_setChain_14 (by decide) (fun c9 => ?_) (fun c9 => ?_)
    · replace h := h.1 c9
      refine y_iconst C (-1) dX2_setChain_27 litm1 ?_
      exact y_ireti C hr rfl rfl ⟨_, _, rfl, h⟩ dX2_setChain_28
    · replace h := h.2 c9
      refine y_aload_n C 0 rfl rfl dX2_setChain_17 ?_
      refine y_iload_n C 1 rfl rfl dX2_setChain_18 ?_
      refine y_iconst C 4 dX2_setChain_19 lit4 ?_
      refine y_iload_n C 2 rfl rfl dX2_setChain_20 ?_
      refine y_callVi0 C (metX2_becomes hd hB h) (cwV 3 C.hts (lw_V q1302 q1304 qs35 q91 q1305) rfl rfl rfl kdX2_becomes ⟨Nat.le_of_ble_eq_true rfl, Nat.le_of_ble_eq_true rfl⟩) mM_0 rfl rfl rfl (Nat.le_of_ble_eq_true rfl) dX2_setChain_21 (fun r5 M1 hp => ?_)
      clear h
      obtain ⟨w_pg3, w_bm4, rfl, h⟩ := hp
      refine y_goto C 28 dX2_setChain_24 (by decide) ?_
      exact y_ireti C hr rfl rfl ⟨_, _, rfl, h⟩ dX2_setChain_28
theorem kdX2_setChain : yX2_setChain.cls = RX2 ∧ yX2_setChain.cls ≠ "java/lang/invoke/MethodHandle" ∧ yX2_setChain.cls ≠ "java/lang/invoke/VarHandle" ∧ (parseMethodDescriptor yX2_setChain.desc).map (fun d => d.parameters.length) = some 2 := by decide +kernel
def wpX2_setLeast (c_pg : Nat → Int32) (c_bm : Int32) (a1 : Int32) (a2 : Int32) (post : Int32 → (Nat → Int32) → Int32 → Prop) : Prop := wpX2_isDimension c_pg a1 (fun r1 => ((r1 = 0 → post (-1) c_pg c_bm) ∧ (¬ r1 = 0 → wpX2_in a2 0 9 (fun r2 => ((r2 = 0 → post (-1) c_pg c_bm) ∧ (¬ r2 = 0 → wpX2_becomes c_pg c_bm a1 5 a2 (fun r5 w_pg3 w_bm4 => post r5 w_pg3 w_bm4)))))))
theorem metX2_setLeast {l : Launch} {D : va_G} {s0 : State} {a0 : Array Value} {ad : Nat → Nat} (hd : yAd ad) (hB : yB D s0 a0) {c_pg : Nat → Int32} {c_bm : Int32} {c_tx : Nat → Int32} {c_ty : Int32} {c_ft : Int32} {c_fa : Int32} {c_sp : Int32} {c_nu : Int32} {c_un : Nat → Int32} {c_sf : Nat → Int32} {c_st : Nat → Int32} {c_ll : Nat → Int32} {c_ln : Nat → Int32} {c_ip : Nat → Int32} {c_gr : Nat → Int32} {c_hs : Int64} {a1 : Int32} {a2 : Int32} {post : Int32 → (Nat → Int32) → Int32 → Prop} (h : wpX2_setLeast c_pg c_bm a1 a2 post) : yMi l yX2_setLeast (ws_ yX2_setLeast cX2_setLeast 3 (some .int)) 4 132 0 0 D s0 [yr (some (ad 0)), yi a1, yi a2] (mM ad c_pg c_bm c_tx c_ty c_ft c_fa c_sp c_nu c_un c_sf c_st c_ll c_ln c_ip c_gr c_hs) (fun r M1 => ∃ (w_pg : Nat → Int32) (w_bm : Int32), M1 = mM ad w_pg w_bm c_tx c_ty c_ft c_fa c_sp c_nu c_un c_sf c_st c_ll c_ln c_ip c_gr c_hs ∧ post r w_pg w_bm) := by
  refine y_meti hB (by decide) rfl (Nat.le_of_ble_eq_true rfl) ?_
  intro p e s m below meth c A hr hnm C
  rw [wpX2_setLeast] at h
  refine y_aload_n C 0 rfl rfl dX2_setLeast_0 ?_
  refine y_iload_n C 1 rfl rfl dX2_setLeast_1 ?_
  refine y_callVi0 C (metX2_isDimension hd hB h) (cwV 1 C.hts (lw_V q1290 q1292 qs34 q91 q1293) rfl rfl rfl kdX2_isDimension ⟨Nat.le_of_ble_eq_true rfl, Nat.le_of_ble_eq_true rfl⟩) mM_0 rfl rfl rfl (Nat.le_of_ble_eq_true rfl) dX2_setLeast_2 (fun r1 M1 hp => ?_)
  clear h
  obtain ⟨rfl, h⟩ := hp
  refine y_if_eq C 28 dX2_setLeast_5 (by decide) (fun c9 => ?_) (fun c9 => ?_)
  · replace h := h.1 c9
    refine y_iconst C (-1) dX2_setLeast_28 litm1 ?_
    exact y_ireti C hr rfl rfl ⟨_, _, rfl, h⟩ dX2_setLeast_29
  · replace h := h.2 c9
    refine y_iload_n C 2 rfl rfl dX2_setLeast_8 ?_
    refine y_iconst C 0 dX2_setLeast_9 lit0 ?_
    refine y_bipush C 9 dX2_setLeast_10 y_b9 ?_
    refine y_callSi0 C (metX2_in hB h) (va_cwS 3 C.hts (lw_S q1231 q1232 q91 q1233) rfl rfl rfl kdX2_in.2 ⟨Nat.le_of_ble_eq_true rfl, Nat.le_of_ble_eq_true rfl⟩) rfl rfl (Nat.le_of_ble_eq_true rfl) dX2_setLeast_12 (fun r2 M1 hp => ?_)
    clear h
    obtain ⟨rfl, h⟩ := hp
    refine y_if_eq C 28 dX2_setLeast_15 (by decide) (fun c9 => ?_) (fun c9 => ?_)
    · replace h := h.1 c9
      refine y_iconst C (-1) dX2_setLeast_28 litm1 ?_
      exact y_ireti C hr rfl rfl ⟨_, _, rfl, h⟩ dX2_setLeast_29
    · replace h := h.2 c9
      refine y_aload_n C 0 rfl rfl dX2_setLeast_18 ?_
      refine y_iload_n C 1 rfl rfl dX2_setLeast_19 ?_
      refine y_iconst C 5 dX2_setLeast_20 lit5 ?_
      refine y_iload_n C 2 rfl rfl dX2_setLeast_21 ?_
      refine y_callVi0 C (metX2_becomes hd hB h) (cwV 3 C.hts (lw_V q1302 q1304 qs35 q91 q1305) rfl rfl rfl kdX2_becomes ⟨Nat.le_of_ble_eq_true rfl, Nat.le_of_ble_eq_true rfl⟩) mM_0 rfl rfl rfl (Nat.le_of_ble_eq_true rfl) dX2_setLeast_22 (fun r5 M1 hp => ?_)
      clear h
      obtain ⟨w_pg3, w_bm4, rfl, h⟩ := hp
      refine y_goto C 29 dX2_setLeast_25 (by decide) ?_
      exact y_ireti C hr rfl rfl ⟨_, _, rfl, h⟩ dX2_setLeast_29
theorem kdX2_setLeast : yX2_setLeast.cls = RX2 ∧ yX2_setLeast.cls ≠ "java/lang/invoke/MethodHandle" ∧ yX2_setLeast.cls ≠ "java/lang/invoke/VarHandle" ∧ (parseMethodDescriptor yX2_setLeast.desc).map (fun d => d.parameters.length) = some 2 := by decide +kernel
def wpX2_setting (c_pg : Nat → Int32) (c_bm : Int32) (a1 : Int32) (a2 : Int32) (post : Int32 → (Nat → Int32) → Int32 → Prop) : Prop := wpX2_in a2 1 9 (fun r1 => ((¬ r1 = 0 → wpX2_records c_pg c_bm (fun w_pg2 w_bm3 => vp_in a1 1120 ∧ ∀ x4 : Int32, x4 = (w_pg2 (Int32.toNatClampNeg a1)) → vp_in a1 1120 ∧ ∀ f5 : Nat → Int32, f5 = upd w_pg2 (Int32.toNatClampNeg a1) a2 → post x4 f5 w_bm3)) ∧ (r1 = 0 → post (-1) c_pg c_bm)))
theorem metX2_setting {l : Launch} {D : va_G} {s0 : State} {a0 : Array Value} {ad : Nat → Nat} (hd : yAd ad) (hB : yB D s0 a0) {c_pg : Nat → Int32} {c_bm : Int32} {c_tx : Nat → Int32} {c_ty : Int32} {c_ft : Int32} {c_fa : Int32} {c_sp : Int32} {c_nu : Int32} {c_un : Nat → Int32} {c_sf : Nat → Int32} {c_st : Nat → Int32} {c_ll : Nat → Int32} {c_ln : Nat → Int32} {c_ip : Nat → Int32} {c_gr : Nat → Int32} {c_hs : Int64} {a1 : Int32} {a2 : Int32} {post : Int32 → (Nat → Int32) → Int32 → Prop} (h : wpX2_setting c_pg c_bm a1 a2 post) : yMi l yX2_setting (ws_ yX2_setting cX2_setting 4 (some .int)) 3 108 0 0 D s0 [yr (some (ad 0)), yi a1, yi a2] (mM ad c_pg c_bm c_tx c_ty c_ft c_fa c_sp c_nu c_un c_sf c_st c_ll c_ln c_ip c_gr c_hs) (fun r M1 => ∃ (w_pg : Nat → Int32) (w_bm : Int32), M1 = mM ad w_pg w_bm c_tx c_ty c_ft c_fa c_sp c_nu c_un c_sf c_st c_ll c_ln c_ip c_gr c_hs ∧ post r w_pg w_bm) := by
  refine y_meti hB (by decide) rfl (Nat.le_of_ble_eq_true rfl) ?_
  intro p e s m below meth c A hr hnm C
  rw [wpX2_setting] at h
  refine y_iload_n C 2 rfl rfl dX2_setting_0 ?_
  refine y_iconst C 1 dX2_setting_1 lit1 ?_
  refine y_bipush C 9 dX2_setting_2 y_b9 ?_
  refine y_callSi0 C (metX2_in hB h) (va_cwS 3 C.hts (lw_S q1231 q1232 q91 q1233) rfl rfl rfl kdX2_in.2 ⟨Nat.le_of_ble_eq_true rfl, Nat.le_of_ble_eq_true rfl⟩) rfl rfl (Nat.le_of_ble_eq_true rfl) dX2_setting_4 (fun r1 M1 hp => ?_)
  clear h
  obtain ⟨rfl, h⟩ := hp
  refine y_if_ne C 12 dX2_setting_7 (by decide) (fun c9 => ?_) (fun c9 => ?_)
  · replace h := h.1 c9
    refine y_aload_n C 0 rfl rfl dX2_setting_12 ?_
    refine y_callVv0 C (metX2_records hd hB h) (cwV 0 C.hts (lw_V q1242 q1244 qs26 q91 q1245) rfl rfl rfl kdX2_records ⟨Nat.le_of_ble_eq_true rfl, Nat.le_of_ble_eq_true rfl⟩) mM_0 rfl rfl rfl (Nat.le_of_ble_eq_true rfl) dX2_setting_13 (fun M1 hp => ?_)
    clear h
    obtain ⟨w_pg2, w_bm3, rfl, h⟩ := hp
    refine y_aload_n C 0 rfl rfl dX2_setting_16 ?_
    refine y_get (ci := 2) (k := 0) C in_X2 rfl (by decide) q1169 (fun _ h => h) mM_0 rfl dX2_setting_17 ?_
    refine y_iload_n C 1 rfl rfl dX2_setting_20 ?_
    obtain ⟨i9, h⟩ := h
    refine y_iald C (mM_1 hd) i9 dX2_setting_21 ?_
    replace h := h _ rfl
    refine y_istore_n C 3 rfl (by decide) dX2_setting_22 ?_
    refine y_aload_n C 0 rfl rfl dX2_setting_23 ?_
    refine y_get (ci := 2) (k := 0) C in_X2 rfl (by decide) q1169 (fun _ h => h) mM_0 rfl dX2_setting_24 ?_
    refine y_iload_n C 1 rfl rfl dX2_setting_27 ?_
    refine y_iload_n C 2 rfl rfl dX2_setting_28 ?_
    obtain ⟨i9, h⟩ := h
    replace h := h _ rfl
    refine y_iast C (mM_1 hd) i9 (mU_pg hd _) dX2_setting_29 ?_
    refine y_iload_n C 3 rfl rfl dX2_setting_30 ?_
    exact y_ireti C hr rfl rfl ⟨_, _, rfl, h⟩ dX2_setting_31
  · replace h := h.2 c9
    refine y_iconst C (-1) dX2_setting_10 litm1 ?_
    exact y_ireti C hr rfl rfl ⟨_, _, rfl, h⟩ dX2_setting_11
theorem kdX2_setting : yX2_setting.cls = RX2 ∧ yX2_setting.cls ≠ "java/lang/invoke/MethodHandle" ∧ yX2_setting.cls ≠ "java/lang/invoke/VarHandle" ∧ (parseMethodDescriptor yX2_setting.desc).map (fun d => d.parameters.length) = some 2 := by decide +kernel
def wpX2_setLetter (c_pg : Nat → Int32) (c_bm : Int32) (a1 : Int32) (post : Int32 → (Nat → Int32) → Int32 → Prop) : Prop := wpX2_setting c_pg c_bm 110 a1 (fun r3 w_pg1 w_bm2 => post r3 w_pg1 w_bm2)
theorem metX2_setLetter {l : Launch} {D : va_G} {s0 : State} {a0 : Array Value} {ad : Nat → Nat} (hd : yAd ad) (hB : yB D s0 a0) {c_pg : Nat → Int32} {c_bm : Int32} {c_tx : Nat → Int32} {c_ty : Int32} {c_ft : Int32} {c_fa : Int32} {c_sp : Int32} {c_nu : Int32} {c_un : Nat → Int32} {c_sf : Nat → Int32} {c_st : Nat → Int32} {c_ll : Nat → Int32} {c_ln : Nat → Int32} {c_ip : Nat → Int32} {c_gr : Nat → Int32} {c_hs : Int64} {a1 : Int32} {post : Int32 → (Nat → Int32) → Int32 → Prop} (h : wpX2_setLetter c_pg c_bm a1 post) : yMi l yX2_setLetter (ws_ yX2_setLetter cX2_setLetter 2 (some .int)) 4 131 0 0 D s0 [yr (some (ad 0)), yi a1] (mM ad c_pg c_bm c_tx c_ty c_ft c_fa c_sp c_nu c_un c_sf c_st c_ll c_ln c_ip c_gr c_hs) (fun r M1 => ∃ (w_pg : Nat → Int32) (w_bm : Int32), M1 = mM ad w_pg w_bm c_tx c_ty c_ft c_fa c_sp c_nu c_un c_sf c_st c_ll c_ln c_ip c_gr c_hs ∧ post r w_pg w_bm) := by
  refine y_meti hB (by decide) rfl (Nat.le_of_ble_eq_true rfl) ?_
  intro p e s m below meth c A hr hnm C
  rw [wpX2_setLetter] at h
  refine y_aload_n C 0 rfl rfl dX2_setLetter_0 ?_
  refine y_bipush C 110 dX2_setLetter_1 y_b110 ?_
  refine y_iload_n C 1 rfl rfl dX2_setLetter_3 ?_
  refine y_callVi0 C (metX2_setting hd hB h) (cwV 2 C.hts (lw_V q1314 q1316 qs36 q91 q1317) rfl rfl rfl kdX2_setting ⟨Nat.le_of_ble_eq_true rfl, Nat.le_of_ble_eq_true rfl⟩) mM_0 rfl rfl rfl (Nat.le_of_ble_eq_true rfl) dX2_setLetter_4 (fun r3 M1 hp => ?_)
  clear h
  obtain ⟨w_pg1, w_bm2, rfl, h⟩ := hp
  exact y_ireti C hr rfl rfl ⟨_, _, rfl, h⟩ dX2_setLetter_7
theorem kdX2_setLetter : yX2_setLetter.cls = RX2 ∧ yX2_setLetter.cls ≠ "java/lang/invoke/MethodHandle" ∧ yX2_setLetter.cls ≠ "java/lang/invoke/VarHandle" ∧ (parseMethodDescriptor yX2_setLetter.desc).map (fun d => d.parameters.length) = some 1 := by decide +kernel
def wpX2_setArrow (c_pg : Nat → Int32) (c_bm : Int32) (a1 : Int32) (post : Int32 → (Nat → Int32) → Int32 → Prop) : Prop := wpX2_setting c_pg c_bm 111 a1 (fun r3 w_pg1 w_bm2 => post r3 w_pg1 w_bm2)
theorem metX2_setArrow {l : Launch} {D : va_G} {s0 : State} {a0 : Array Value} {ad : Nat → Nat} (hd : yAd ad) (hB : yB D s0 a0) {c_pg : Nat → Int32} {c_bm : Int32} {c_tx : Nat → Int32} {c_ty : Int32} {c_ft : Int32} {c_fa : Int32} {c_sp : Int32} {c_nu : Int32} {c_un : Nat → Int32} {c_sf : Nat → Int32} {c_st : Nat → Int32} {c_ll : Nat → Int32} {c_ln : Nat → Int32} {c_ip : Nat → Int32} {c_gr : Nat → Int32} {c_hs : Int64} {a1 : Int32} {post : Int32 → (Nat → Int32) → Int32 → Prop} (h : wpX2_setArrow c_pg c_bm a1 post) : yMi l yX2_setArrow (ws_ yX2_setArrow cX2_setArrow 2 (some .int)) 4 131 0 0 D s0 [yr (some (ad 0)), yi a1] (mM ad c_pg c_bm c_tx c_ty c_ft c_fa c_sp c_nu c_un c_sf c_st c_ll c_ln c_ip c_gr c_hs) (fun r M1 => ∃ (w_pg : Nat → Int32) (w_bm : Int32), M1 = mM ad w_pg w_bm c_tx c_ty c_ft c_fa c_sp c_nu c_un c_sf c_st c_ll c_ln c_ip c_gr c_hs ∧ post r w_pg w_bm) := by
  refine y_meti hB (by decide) rfl (Nat.le_of_ble_eq_true rfl) ?_
  intro p e s m below meth c A hr hnm C
  rw [wpX2_setArrow] at h
  refine y_aload_n C 0 rfl rfl dX2_setArrow_0 ?_
  refine y_bipush C 111 dX2_setArrow_1 y_b111 ?_
  refine y_iload_n C 1 rfl rfl dX2_setArrow_3 ?_
  refine y_callVi0 C (metX2_setting hd hB h) (cwV 2 C.hts (lw_V q1314 q1316 qs36 q91 q1317) rfl rfl rfl kdX2_setting ⟨Nat.le_of_ble_eq_true rfl, Nat.le_of_ble_eq_true rfl⟩) mM_0 rfl rfl rfl (Nat.le_of_ble_eq_true rfl) dX2_setArrow_4 (fun r3 M1 hp => ?_)
  clear h
  obtain ⟨w_pg1, w_bm2, rfl, h⟩ := hp
  exact y_ireti C hr rfl rfl ⟨_, _, rfl, h⟩ dX2_setArrow_7
theorem kdX2_setArrow : yX2_setArrow.cls = RX2 ∧ yX2_setArrow.cls ≠ "java/lang/invoke/MethodHandle" ∧ yX2_setArrow.cls ≠ "java/lang/invoke/VarHandle" ∧ (parseMethodDescriptor yX2_setArrow.desc).map (fun d => d.parameters.length) = some 1 := by decide +kernel
def wpX2_type (c_tx : Nat → Int32) (c_ty : Int32) (a1 : Int32) (post : Int32 → (Nat → Int32) → Int32 → Prop) : Prop := wpX2_in a1 32 126 (fun r1 => ((¬ r1 = 0 → ((¬ c_ty = 80 → vp_in c_ty 80 ∧ ∀ f2 : Nat → Int32, f2 = upd c_tx (Int32.toNatClampNeg c_ty) a1 → ∀ x3 : Int32, x3 = (c_ty + 1) → post x3 f2 x3) ∧ (c_ty = 80 → post (-3) c_tx c_ty))) ∧ (r1 = 0 → post (-1) c_tx c_ty)))
theorem metX2_type {l : Launch} {D : va_G} {s0 : State} {a0 : Array Value} {ad : Nat → Nat} (hd : yAd ad) (hB : yB D s0 a0) {c_pg : Nat → Int32} {c_bm : Int32} {c_tx : Nat → Int32} {c_ty : Int32} {c_ft : Int32} {c_fa : Int32} {c_sp : Int32} {c_nu : Int32} {c_un : Nat → Int32} {c_sf : Nat → Int32} {c_st : Nat → Int32} {c_ll : Nat → Int32} {c_ln : Nat → Int32} {c_ip : Nat → Int32} {c_gr : Nat → Int32} {c_hs : Int64} {a1 : Int32} {post : Int32 → (Nat → Int32) → Int32 → Prop} (h : wpX2_type c_tx c_ty a1 post) : yMi l yX2_type (ws_ yX2_type cX2_type 2 (some .int)) 2 86 0 0 D s0 [yr (some (ad 0)), yi a1] (mM ad c_pg c_bm c_tx c_ty c_ft c_fa c_sp c_nu c_un c_sf c_st c_ll c_ln c_ip c_gr c_hs) (fun r M1 => ∃ (w_tx : Nat → Int32) (w_ty : Int32), M1 = mM ad c_pg c_bm w_tx w_ty c_ft c_fa c_sp c_nu c_un c_sf c_st c_ll c_ln c_ip c_gr c_hs ∧ post r w_tx w_ty) := by
  refine y_meti hB (by decide) rfl (Nat.le_of_ble_eq_true rfl) ?_
  intro p e s m below meth c A hr hnm C
  rw [wpX2_type] at h
  refine y_iload_n C 1 rfl rfl dX2_type_0 ?_
  refine y_bipush C 32 dX2_type_1 y_b32 ?_
  refine y_bipush C 126 dX2_type_3 y_b126 ?_
  refine y_callSi0 C (metX2_in hB h) (va_cwS 3 C.hts (lw_S q1231 q1232 q91 q1233) rfl rfl rfl kdX2_in.2 ⟨Nat.le_of_ble_eq_true rfl, Nat.le_of_ble_eq_true rfl⟩) rfl rfl (Nat.le_of_ble_eq_true rfl) dX2_type_5 (fun r1 M1 hp => ?_)
  clear h
  obtain ⟨rfl, h⟩ := hp
  refine y_if_ne C 13 dX2_type_8 (by decide) (fun c9 => ?_) (fun c9 => ?_)
  · replace h := h.1 c9
    refine y_aload_n C 0 rfl rfl dX2_type_13 ?_
    refine y_get (ci := 2) (k := 3) C in_X2 rfl (by decide) q1172 (fun _ h => h) mM_0 rfl dX2_type_14 ?_
    refine y_bipush C 80 dX2_type_17 y_b80 ?_
    refine y_icmp_ne C 25 dX2_type_19 (by decide) (fun c9 => ?_) (fun c9 => ?_)
    · replace h := h.1 c9
      refine y_aload_n C 0 rfl rfl dX2_type_25 ?_
      refine y_get (ci := 2) (k := 2) C in_X2 rfl (by decide) q1171 (fun _ h => h) mM_0 rfl dX2_type_26 ?_
      refine y_aload_n C 0 rfl rfl dX2_type_29 ?_
      refine y_get (ci := 2) (k := 3) C in_X2 rfl (by decide) q1172 (fun _ h => h) mM_0 rfl dX2_type_30 ?_
      refine y_iload_n C 1 rfl rfl dX2_type_33 ?_
      obtain ⟨i9, h⟩ := h
      replace h := h _ rfl
      refine y_iast C (mM_2 hd) i9 (mU_tx hd _) dX2_type_34 ?_
      refine y_aload_n C 0 rfl rfl dX2_type_35 ?_
      refine y_dup C rfl dX2_type_36 ?_
      refine y_get (ci := 2) (k := 3) C in_X2 rfl (by decide) q1172 (fun _ h => h) mM_0 rfl dX2_type_37 ?_
      refine y_iconst C 1 dX2_type_40 lit1 ?_
      refine y_iadd C dX2_type_41 ?_
      replace h := h _ rfl
      refine y_put (ci := 2) (k := 3) C in_X2 tyX2_ok nmX2 rfl (by decide) q1172 (fun _ h => h) rfl mM_0 (y_lt rfl) rfl rfl (mU_ty _) dX2_type_42 ?_
      refine y_aload_n C 0 rfl rfl dX2_type_45 ?_
      refine y_get (ci := 2) (k := 3) C in_X2 rfl (by decide) q1172 (fun _ h => h) mM_0 rfl dX2_type_46 ?_
      exact y_ireti C hr rfl rfl ⟨_, _, rfl, h⟩ dX2_type_49
    · replace h := h.2 c9
      refine y_bipush C (-3) dX2_type_22 y_bm3 ?_
      exact y_ireti C hr rfl rfl ⟨_, _, rfl, h⟩ dX2_type_24
  · replace h := h.2 c9
    refine y_iconst C (-1) dX2_type_11 litm1 ?_
    exact y_ireti C hr rfl rfl ⟨_, _, rfl, h⟩ dX2_type_12
theorem kdX2_type : yX2_type.cls = RX2 ∧ yX2_type.cls ≠ "java/lang/invoke/MethodHandle" ∧ yX2_type.cls ≠ "java/lang/invoke/VarHandle" ∧ (parseMethodDescriptor yX2_type.desc).map (fun d => d.parameters.length) = some 1 := by decide +kernel
def wpX2_clearText (c_ty : Int32)  (post : Int32 → Int32 → Prop) : Prop := post c_ty 0
theorem metX2_clearText {l : Launch} {D : va_G} {s0 : State} {a0 : Array Value} {ad : Nat → Nat} (hd : yAd ad) (hB : yB D s0 a0) {c_pg : Nat → Int32} {c_bm : Int32} {c_tx : Nat → Int32} {c_ty : Int32} {c_ft : Int32} {c_fa : Int32} {c_sp : Int32} {c_nu : Int32} {c_un : Nat → Int32} {c_sf : Nat → Int32} {c_st : Nat → Int32} {c_ll : Nat → Int32} {c_ln : Nat → Int32} {c_ip : Nat → Int32} {c_gr : Nat → Int32} {c_hs : Int64}  {post : Int32 → Int32 → Prop} (h : wpX2_clearText c_ty  post) : yMi l yX2_clearText (ws_ yX2_clearText cX2_clearText 2 (some .int)) 1 64 0 0 D s0 [yr (some (ad 0))] (mM ad c_pg c_bm c_tx c_ty c_ft c_fa c_sp c_nu c_un c_sf c_st c_ll c_ln c_ip c_gr c_hs) (fun r M1 => ∃ (w_ty : Int32), M1 = mM ad c_pg c_bm c_tx w_ty c_ft c_fa c_sp c_nu c_un c_sf c_st c_ll c_ln c_ip c_gr c_hs ∧ post r w_ty) := by
  refine y_meti hB (by decide) rfl (Nat.le_of_ble_eq_true rfl) ?_
  intro p e s m below meth c A hr hnm C
  rw [wpX2_clearText] at h
  refine y_aload_n C 0 rfl rfl dX2_clearText_0 ?_
  refine y_get (ci := 2) (k := 3) C in_X2 rfl (by decide) q1172 (fun _ h => h) mM_0 rfl dX2_clearText_1 ?_
  refine y_istore_n C 1 rfl (by decide) dX2_clearText_4 ?_
  refine y_aload_n C 0 rfl rfl dX2_clearText_5 ?_
  refine y_iconst C 0 dX2_clearText_6 lit0 ?_
  refine y_put (ci := 2) (k := 3) C in_X2 tyX2_ok nmX2 rfl (by decide) q1172 (fun _ h => h) rfl mM_0 (y_lt rfl) rfl rfl (mU_ty _) dX2_clearText_7 ?_
  refine y_iload_n C 1 rfl rfl dX2_clearText_10 ?_
  exact y_ireti C hr rfl rfl ⟨_, rfl, h⟩ dX2_clearText_11
theorem kdX2_clearText : yX2_clearText.cls = RX2 ∧ yX2_clearText.cls ≠ "java/lang/invoke/MethodHandle" ∧ yX2_clearText.cls ≠ "java/lang/invoke/VarHandle" ∧ (parseMethodDescriptor yX2_clearText.desc).map (fun d => d.parameters.length) = some 0 := by decide +kernel
def wpX2_here (c_tx : Nat → Int32) (c_ty : Int32) (c_sp : Int32)  (post : Int32 → Prop) : Prop := ((c_ty ≤ c_sp → post (-999)) ∧ (¬ c_ty ≤ c_sp → vp_in c_sp 80 ∧ post (c_tx (Int32.toNatClampNeg c_sp))))
theorem metX2_here {l : Launch} {D : va_G} {s0 : State} {a0 : Array Value} {ad : Nat → Nat} (hd : yAd ad) (hB : yB D s0 a0) {c_pg : Nat → Int32} {c_bm : Int32} {c_tx : Nat → Int32} {c_ty : Int32} {c_ft : Int32} {c_fa : Int32} {c_sp : Int32} {c_nu : Int32} {c_un : Nat → Int32} {c_sf : Nat → Int32} {c_st : Nat → Int32} {c_ll : Nat → Int32} {c_ln : Nat → Int32} {c_ip : Nat → Int32} {c_gr : Nat → Int32} {c_hs : Int64}  {post : Int32 → Prop} (h : wpX2_here c_tx c_ty c_sp  post) : yMi l yX2_here (ws_ yX2_here cX2_here 1 (some .int)) 1 64 0 0 D s0 [yr (some (ad 0))] (mM ad c_pg c_bm c_tx c_ty c_ft c_fa c_sp c_nu c_un c_sf c_st c_ll c_ln c_ip c_gr c_hs) (fun r M1 => M1 = mM ad c_pg c_bm c_tx c_ty c_ft c_fa c_sp c_nu c_un c_sf c_st c_ll c_ln c_ip c_gr c_hs ∧ post r) := by
  refine y_meti hB (by decide) rfl (Nat.le_of_ble_eq_true rfl) ?_
  intro p e s m below meth c A hr hnm C
  rw [wpX2_here] at h
  refine y_aload_n C 0 rfl rfl dX2_here_0 ?_
  refine y_get (ci := 2) (k := 6) C in_X2 rfl (by decide) q1175 (fun _ h => h) mM_0 rfl dX2_here_1 ?_
  refine y_aload_n C 0 rfl rfl dX2_here_4 ?_
  refine y_get (ci := 2) (k := 3) C in_X2 rfl (by decide) q1172 (fun _ h => h) mM_0 rfl dX2_here_5 ?_
  refine y_icmp_ge C 23 dX2_here_8 (by decide) (fun c9 => ?_) (fun c9 => ?_)
  · replace h := h.1 c9
    refine y_sipush C (-999) dX2_here_23 y_sm999 ?_
    exact y_ireti C hr rfl rfl ⟨rfl, h⟩ dX2_here_26
  · replace h := h.2 c9
    refine y_aload_n C 0 rfl rfl dX2_here_11 ?_
    refine y_get (ci := 2) (k := 2) C in_X2 rfl (by decide) q1171 (fun _ h => h) mM_0 rfl dX2_here_12 ?_
    refine y_aload_n C 0 rfl rfl dX2_here_15 ?_
    refine y_get (ci := 2) (k := 6) C in_X2 rfl (by decide) q1175 (fun _ h => h) mM_0 rfl dX2_here_16 ?_
    obtain ⟨i9, h⟩ := h
    refine y_iald C (mM_2 hd) i9 dX2_here_19 ?_
    refine y_goto C 26 dX2_here_20 (by decide) ?_
    exact y_ireti C hr rfl rfl ⟨rfl, h⟩ dX2_here_26
theorem kdX2_here : yX2_here.cls = RX2 ∧ yX2_here.cls ≠ "java/lang/invoke/MethodHandle" ∧ yX2_here.cls ≠ "java/lang/invoke/VarHandle" ∧ (parseMethodDescriptor yX2_here.desc).map (fun d => d.parameters.length) = some 0 := by decide +kernel

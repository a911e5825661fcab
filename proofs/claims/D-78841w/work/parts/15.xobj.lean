set_option maxRecDepth 100000
theorem kdJ15_equals : yJ15_equals.cls = RJ15 ∧ yJ15_equals.cls ≠ "java/lang/invoke/MethodHandle" ∧ yJ15_equals.cls ≠ "java/lang/invoke/VarHandle" ∧ (parseMethodDescriptor yJ15_equals.desc).map (fun d => d.parameters.length) = some 1 := by decide +kernel
def wpJ15_equals (M : yM) (o_ : Nat) (a1 : Option Nat) (post : Int32 → Prop) : Prop := ((¬ (some o_) = a1 → post 0) ∧ ((some o_) = a1 → post 1))
theorem metJ15_equals {l : Launch} {D : va_G} {s0 : State} {a0 : Array Value} (hB : yB D s0 a0) {M : yM} {o_ : Nat} {a1 : Option Nat} {post : Int32 → Prop} (h : wpJ15_equals M o_ a1 post) : yMi l yJ15_equals (ws_ yJ15_equals cJ15_equals 2 (some .boolean)) 1 80 0 0 D s0 [yr (some o_), yr a1] M (fun r M1 => M1 = M ∧ post r) := by
  refine y_metiF hB (by decide +kernel) rfl (Nat.le_of_ble_eq_true rfl) ?_
  intro p e s m below meth c A hr hnm C
  rw [wpJ15_equals] at h
  refine y_aload_n C 0 rfl rfl dJ15_equals_0 ?_
  refine y_aload_n C 1 rfl rfl dJ15_equals_1 ?_
  refine y_acmp_ne C 9 dJ15_equals_2 (by decide) (fun c9 => ?_) (fun c9 => ?_)
  · replace h := h.1 c9
    refine y_iconst C 0 dJ15_equals_9 lit0 ?_
    exact y_iretz C hr rfl rfl (by decide) ⟨rfl, h⟩ dJ15_equals_10
  · replace h := h.2 c9
    refine y_iconst C 1 dJ15_equals_5 lit1 ?_
    refine y_goto C 10 dJ15_equals_6 (by decide) ?_
    exact y_iretz C hr rfl rfl (by decide) ⟨rfl, h⟩ dJ15_equals_10
section YEQ
variable {p : Program} {l : Launch} {e : Env} {R : Room} {s : State} {m : MethodId} {args : Array Value} {below : List Frame} {meth : Method} {c : Code} {Q : State → Prop} {D : va_G} {s0 : State} {a0 : Array Value} {A : Nat → Prop} {cc : ByteArray} {nL : Nat} {M : yM} {rc rs : Nat} {lv : List (Option yV)} {pc : Nat} {st : List yV} {own : String}
theorem y_equals (C : yC p R s m args meth c cc nL own D s0 a0 A) (hB : yB D s0 a0) {index a ci : Nat} {vs : List yV} {y : Option Nat} (hq : Cond.methodLink own index ⟨"java/lang/Object", "equals", "(Ljava/lang/Object;)Z"⟩ ∈ lw_all) (hM : M a = some (yo ci vs)) (hci : ci = 5 ∨ ci = 6 ∨ ci = 7) (hcat : (st.map ycat).sum ≤ 8) (hf : 2 ≤ R.frames) (ho : 101 ≤ R.locals) (d : decode cc pc = .ok (.invokevirtual index, 3)) (k : Y p l e R s m args below meth c Q D s0 A nL M rc rs lv (pc + 3) (yi (if some a = y then 1 else 0) :: st)) : Y p l e R s m args below meth c Q D s0 A nL M rc rs lv pc (yr y :: yr (some a) :: st) := by
  have hwp : wpJ15_equals M a y (fun r => r = (if some a = y then 1 else 0)) := by
    rw [wpJ15_equals]
    refine ⟨fun h => ?_, fun h => ?_⟩
    · rw [if_neg h]
    · rw [if_pos h]
  rcases hci with rfl | rfl | rfl
  · exact y_callUi0 C (metJ15_equals hB (post := fun r => r = (if some a = y then 1 else 0)) hwp) (va_cwU 1 C.hts (lw_U hq q685 q691 q684 q1596 q696) rfl rfl rfl rfl (by decide +kernel) ⟨by show 1 + 1 ≤ _; omega, by show 8 + (2 + 11) + 80 ≤ _; omega⟩) hM rfl rfl rfl hcat d (fun r M1 hp => by obtain ⟨e1, e2⟩ := hp; rw [e1, e2]; exact k)
  · exact y_callUi0 C (metJ15_equals hB (post := fun r => r = (if some a = y then 1 else 0)) hwp) (va_cwU 1 C.hts (lw_U hq q685 q688 q684 q1596 q696) rfl rfl rfl rfl (by decide +kernel) ⟨by show 1 + 1 ≤ _; omega, by show 8 + (2 + 11) + 80 ≤ _; omega⟩) hM rfl rfl rfl hcat d (fun r M1 hp => by obtain ⟨e1, e2⟩ := hp; rw [e1, e2]; exact k)
  · exact y_callUi0 C (metJ15_equals hB (post := fun r => r = (if some a = y then 1 else 0)) hwp) (va_cwU 1 C.hts (lw_U hq q685 q693 q684 q1596 q696) rfl rfl rfl rfl (by decide +kernel) ⟨by show 1 + 1 ≤ _; omega, by show 8 + (2 + 11) + 80 ≤ _; omega⟩) hM rfl rfl rfl hcat d (fun r M1 hp => by obtain ⟨e1, e2⟩ := hp; rw [e1, e2]; exact k)
end YEQ

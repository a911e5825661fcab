/-! Y: a judgement over W with the heap as a map from addresses to entries; values as sums. Written for this claim. -/
set_option maxRecDepth 100000
abbrev yV : Type := Int32 ⊕ (Int64 ⊕ Option Nat)
abbrev yi (x : Int32) : yV := .inl x
abbrev yl (x : Int64) : yV := .inr (.inl x)
abbrev yr (x : Option Nat) : yV := .inr (.inr x)
def yval (v : yV) : Value := match v with
  | .inl x => .int x
  | .inr (.inl x) => .long x
  | .inr (.inr r) => va_rf r
def yvs : List yV → List Value
  | [] => []
  | v :: l => yval v :: yvs l
def yget : List (Option yV) → Nat → Option yV
  | [], _ => none
  | a :: _, 0 => a
  | _ :: l, n + 1 => yget l n
def yset : List (Option yV) → Nat → Option yV → List (Option yV)
  | [], _, _ => []
  | _ :: l, 0, v => v :: l
  | a :: l, n + 1, v => a :: yset l n v
def yclr (lv : List (Option yV)) (i : Nat) : List (Option yV) := match i with
  | 0 => lv
  | j + 1 => match yget lv j with
    | some (.inr (.inl _)) => yset lv j none
    | _ => lv
theorem yval_c1 (v : yV) (h : ∀ x, v ≠ yl x) : (yval v).category = 1 := by
  match v, h with
  | .inl x, _ => rfl
  | .inr (.inl x), h => exact absurd rfl (h x)
  | .inr (.inr none), _ => rfl
  | .inr (.inr (some a)), _ => rfl
theorem yget_yset : ∀ (l : List (Option yV)) (i j : Nat) (v : Option yV) (w : yV), yget (yset l i v) j = some w → (j = i ∧ v = some w) ∨ (j ≠ i ∧ yget l j = some w)
  | [], _, _, _, _, h => by simp [yset, yget] at h
  | a :: l, 0, 0, v, w, h => Or.inl ⟨rfl, h⟩
  | a :: l, 0, j + 1, v, w, h => Or.inr ⟨by omega, h⟩
  | a :: l, i + 1, 0, v, w, h => Or.inr ⟨by omega, h⟩
  | a :: l, i + 1, j + 1, v, w, h => by
    rcases yget_yset l i j v w h with ⟨e, h⟩ | ⟨e, h⟩
    · exact Or.inl ⟨by omega, h⟩
    · exact Or.inr ⟨by omega, h⟩
theorem yget_yclr {l : List (Option yV)} {i j : Nat} {w : yV} (h : yget (yclr l i) j = some w) : yget l j = some w ∧ (j + 1 = i → (yval w).category = 1) := by
  cases i with
  | zero => exact ⟨h, fun q => by omega⟩
  | succ k =>
    have hcase : (∃ x, yget l k = some (yl x)) ∨ (∀ x, yget l k ≠ some (yl x)) := by
      by_cases hq : ∃ x, yget l k = some (yl x)
      · exact Or.inl hq
      · exact Or.inr (fun x hx => hq ⟨x, hx⟩)
    rcases hcase with ⟨x, hx⟩ | hx
    · have e : yclr l (k + 1) = yset l k none := by
        show (match yget l k with | some (.inr (.inl _)) => yset l k none | _ => l) = _
        rw [hx]
      rw [e] at h
      rcases yget_yset l k j none w h with ⟨_, q⟩ | ⟨q, h⟩
      · cases q
      · exact ⟨h, fun z => absurd (by omega : j = k) q⟩
    · have e : yclr l (k + 1) = l := by
        show (match yget l k with | some (.inr (.inl _)) => yset l k none | _ => l) = _
        split
        · rename_i x q
          exact absurd q (hx x)
        · rfl
      rw [e] at h
      refine ⟨h, fun z => yval_c1 w (fun x q => ?_)⟩
      have : j = k := by omega
      subst this
      exact hx x (by rw [h, q])
def yLv (ls : Array Slot) (nL : Nat) (lv : List (Option yV)) : Prop := ls.size = nL ∧ lv_wf ls ∧ ∀ (i : Nat) (v : yV), yget lv i = some v → ls[i]? = some (.val (yval v))
def ypr : Nat → List (Option yV) → List (Nat × Value)
  | _, [] => []
  | n, none :: l => ypr (n + 1) l
  | n, some v :: l => (n, yval v) :: ypr (n + 1) l
theorem ypr_mem : ∀ (l : List (Option yV)) (n j : Nat) (w : yV), yget l j = some w → (n + j, yval w) ∈ ypr n l
  | [], _, _, _, h => by simp [yget] at h
  | none :: l, n, 0, w, h => by simp [yget] at h
  | some v :: l, n, 0, w, h => by
    have e : v = w := Option.some.inj h
    subst e
    exact List.mem_cons_self
  | none :: l, n, j + 1, w, h => by
    have := ypr_mem l (n + 1) j w h
    rw [show n + (j + 1) = n + 1 + j by omega]
    exact this
  | some v :: l, n, j + 1, w, h => by
    have := ypr_mem l (n + 1) j w h
    rw [show n + (j + 1) = n + 1 + j by omega]
    exact List.mem_cons_of_mem _ this
theorem ypr_of : ∀ (l : List (Option yV)) (n : Nat) (q : Nat × Value), q ∈ ypr n l → ∃ j w, q = (n + j, yval w) ∧ yget l j = some w
  | [], _, _, h => by simp [ypr] at h
  | none :: l, n, q, h => by
    obtain ⟨j, w, e1, e2⟩ := ypr_of l (n + 1) q h
    exact ⟨j + 1, w, by rw [e1, show n + (j + 1) = n + 1 + j by omega], e2⟩
  | some v :: l, n, q, h => by
    rcases List.mem_cons.mp h with h | h
    · exact ⟨0, v, h, rfl⟩
    · obtain ⟨j, w, e1, e2⟩ := ypr_of l (n + 1) q h
      exact ⟨j + 1, w, by rw [e1, show n + (j + 1) = n + 1 + j by omega], e2⟩
theorem yLv.has {ls : Array Slot} {nL : Nat} {lv : List (Option yV)} (h : yLv ls nL lv) : lv_has ls nL (ypr 0 lv) := by
  refine ⟨h.1, h.2.1, fun q hq => ?_⟩
  obtain ⟨j, w, e1, e2⟩ := ypr_of lv 0 q hq
  rw [e1, Nat.zero_add]
  exact h.2.2 j w e2
theorem yLv.sub {ls : Array Slot} {nL : Nat} {lv lv' : List (Option yV)} (h : yLv ls nL lv) (hs : ∀ i v, yget lv' i = some v → yget lv i = some v) : yLv ls nL lv' := ⟨h.1, h.2.1, fun i v q => h.2.2 i v (hs i v q)⟩
theorem yLv.st1 {ls : Array Slot} {nL i : Nat} {lv : List (Option yV)} {v : yV} (h : lv_has ls nL ((i, yval v) :: (ypr 0 lv).filter (fun q => !(q.1 == i) && !(q.1 + 1 == i && q.2.category == 2)))) : yLv ls nL (yset (yclr lv i) i (some v)) := by
  refine ⟨h.1, h.2.1, fun j w hj => ?_⟩
  rcases yget_yset _ _ _ _ _ hj with ⟨e, q⟩ | ⟨e, q⟩
  · have q := Option.some.inj q
    subst q e
    exact h.2.2 _ List.mem_cons_self
  · obtain ⟨q1, q2⟩ := yget_yclr q
    have hm := ypr_mem lv 0 j w q1
    rw [Nat.zero_add] at hm
    refine h.2.2 (j, yval w) (List.mem_cons_of_mem _ (List.mem_filter.mpr ⟨hm, ?_⟩))
    simp only [Bool.and_eq_true, Bool.not_eq_true', beq_eq_false_iff_ne, ne_eq, Bool.and_eq_false_iff]
    refine ⟨e, ?_⟩
    by_cases z : j + 1 = i
    · right
      rw [q2 z]
      decide
    · exact Or.inl z
theorem yLv.st2 {ls : Array Slot} {nL i : Nat} {lv : List (Option yV)} {v : yV} (h : lv_has ls nL ((i, yval v) :: (ypr 0 lv).filter (fun q => !(q.1 == i) && (!(q.1 == i + 1) && !(q.1 + 1 == i && q.2.category == 2))))) : yLv ls nL (yset (yset (yclr lv i) (i + 1) none) i (some v)) := by
  refine ⟨h.1, h.2.1, fun j w hj => ?_⟩
  rcases yget_yset _ _ _ _ _ hj with ⟨e, q⟩ | ⟨e, q⟩
  · have q := Option.some.inj q
    subst q e
    exact h.2.2 _ List.mem_cons_self
  · rcases yget_yset _ _ _ _ _ q with ⟨_, q⟩ | ⟨e9, q⟩
    · cases q
    obtain ⟨q1, q2⟩ := yget_yclr q
    have hm := ypr_mem lv 0 j w q1
    rw [Nat.zero_add] at hm
    refine h.2.2 (j, yval w) (List.mem_cons_of_mem _ (List.mem_filter.mpr ⟨hm, ?_⟩))
    simp only [Bool.and_eq_true, Bool.not_eq_true', beq_eq_false_iff_ne, ne_eq, Bool.and_eq_false_iff]
    refine ⟨e, e9, ?_⟩
    by_cases z : j + 1 = i
    · right
      rw [q2 z]
      decide
    · exact Or.inl z
/-- the classes whose objects the heap's map speaks of -/
def y_cl : List vw_C := [(RX0, TX0, 6), (RX1, TX1, 7), (RX2, TX2, 16), (RX3, TX3, 3), (RX4, TX4, 8), (RX5, TX5, 1), (RX6, TX6, 10), (RX7, TX7, 5), (RX9, TX9, 2), (RJ2, TJ2, 3), (RJ4, TJ4, 4)]
/-- an entry: an array (its component type, length, contents) or an object (its class's number in y_cl, its fields) -/
abbrev yE : Type := (FieldType × vp_A) ⊕ (Nat × List yV)
abbrev yM : Type := Nat → Option yE
abbrev yai (n : Nat) (f : Nat → Int32) : yE := .inl (.int, n, .inl f)
abbrev yaz (n : Nat) (f : Nat → Int32) : yE := .inl (.boolean, n, .inl f)
abbrev yac (n : Nat) (f : Nat → Int32) : yE := .inl (.char, n, .inl f)
abbrev yab (n : Nat) (f : Nat → Int32) : yE := .inl (.byte, n, .inl f)
abbrev yaq (C : String) (n : Nat) (f : Nat → Option Nat) : yE := .inl (.object C, n, .inr (.inr (.inr (.inr f))))
abbrev yo (ci : Nat) (fs : List yV) : yE := .inr (ci, fs)
/-- an entry and a cell of the kit's lists -/
def yE2 (U : State) (e : yE) (x : va_E) : Prop := match e, x with
  | .inl a, .inl b => a.2 = b.2 ∧ ArrOfT U b.1 a.1 ∧ va_RA U b.1 a.1
  | .inr a, .inr b => a.1 = b.1 ∧ yvs a.2 = b.2
  | _, _ => False
def yAt (D : va_G) (U : State) (a : Nat) (e : yE) (H : Heap) : Prop := ∃ x : va_E, va_at D y_cl (a, x) H ∧ yE2 U e x
theorem yE2.moved {u U : State} (hvm : u.vm.Alike U.vm) {e : yE} {x : va_E} (h : yE2 u e x) : yE2 U e x := by
  match e, x, h with
  | .inl a, .inl b, h => exact ⟨h.1, arrOfT_moved hvm h.2.1, h.2.2.moved hvm⟩
  | .inr a, .inr b, h => exact h
theorem yAt.moved {D : va_G} {u U : State} (hvm : u.vm.Alike U.vm) {a : Nat} {e : yE} {H : Heap} (h : yAt D u a e H) : yAt D U a e H := by
  obtain ⟨x, h1, h2⟩ := h
  exact ⟨x, h1, h2.moved hvm⟩
theorem yAt.kept {D : va_G} {U : State} {a : Nat} {e : yE} {H H1 : Heap} (h : yAt D U a e H) (hq : H1[a]? = H[a]?) : yAt D U a e H1 := by
  obtain ⟨x, h1, h2⟩ := h
  exact ⟨x, h1.kept hq, h2⟩
theorem yAt.lt {D : va_G} {U : State} {a : Nat} {e : yE} {H : Heap} (h : yAt D U a e H) : a < H.size := by
  obtain ⟨x, h1, h2⟩ := h
  exact h1.lt
/-- the map's cells lie in the heap, and in A; an array of no places may be one of the law's start (ArrayList's two empty ones) -/
def yEz (s0 : State) (a : Nat) (e : yE) : Prop := a < s0.heap.size ∧ ∃ ty g, e = .inl (ty, 0, g)
def yCells (D : va_G) (s0 : State) (A : Nat → Prop) (M : yM) (U : State) (H : Heap) : Prop := ∀ a e, M a = some e → yAt D U a e H ∧ (A a ∨ yEz s0 a e)
theorem yCells.moved {D : va_G} {s0 : State} {A : Nat → Prop} {M : yM} {u U : State} {H : Heap} (hvm : u.vm.Alike U.vm) (h : yCells D s0 A M u H) : yCells D s0 A M U H := fun a e q => ⟨(h a e q).1.moved hvm, (h a e q).2⟩
/-- what the law's start gives: the words of the tables, the start's premise, the classes known -/
def yB (D : va_G) (s0 : State) (a0 : Array Value) : Prop := (∀ w ∈ lw_tbl, w.before a0 s0 = true) ∧ (Jvm.Cond.and given_1 narrow_1).before a0 s0 = true ∧ ∀ (c : Nat) (q : vw_C), y_cl[c]? = some q → u_Kn s0 q.1 q.2.1 q.2.2 (D.1 c) (D.2 c)
/-- what holds between the law's start s0 and a method's start s: A lies above s0's heap, what is new lies in A, s0's cells are as they were, the tables are warmer -/
def yBase (s0 : State) (A : Nat → Prop) (s : State) : Prop := (∀ q : Nat, s.heap.size ≤ q → A q) ∧ (∀ q : Nat, A q → s0.heap.size ≤ q) ∧ s0.heap.size ≤ s.heap.size ∧ (∀ q : Nat, q < s0.heap.size → s.heap[q]? = s0.heap[q]?) ∧ s0.WarmedH s.vm
/-- a method's context -/
def yC (p : Program) (R : Room) (s : State) (m : MethodId) (args : Array Value) (meth : Method) (c : Code) (cc : ByteArray) (nL : Nat) (own : String) (D : va_G) (s0 : State) (a0 : Array Value) (A : Nat → Prop) : Prop :=
  CallFix p m c cc nL s args lw_all own ∧ meth.locks = false ∧ yB D s0 a0 ∧ yBase s0 A s
theorem y_one {α : Type} {x q : α} {k : Nat} (h : [x][k]? = some q) : k = 0 ∧ q = x := by
  cases k with
  | zero => exact ⟨rfl, (Option.some.inj h).symm⟩
  | succ k => simp at h
/-- the map's cells that lie in A, as a world of the kit -/
def yIn (U : State) (A : Nat → Prop) (M : yM) (ws : va_W) : Prop := ∀ a e, M a = some e → A a → ∃ (k : Nat) (x : va_E), ws[k]? = some (a, x) ∧ yE2 U e x
theorem y_dn {D : va_G} {s0 : State} {A : Nat → Prop} {M : yM} {U : State} {H : Heap} (h : yCells D s0 A M U H) : ∃ ws : va_W, va_P D y_cl ws H ∧ va_D A ws ∧ yIn U A M ws := by
  have key : ∀ n : Nat, ∃ ws : va_W, va_P D y_cl ws H ∧ va_D A ws ∧ (∀ (k : Nat) (q : Nat × va_E), ws[k]? = some q → q.1 < n) ∧ ∀ a e, a < n → M a = some e → A a → ∃ (k : Nat) (x : va_E), ws[k]? = some (a, x) ∧ yE2 U e x := by
    intro n
    induction n with
    | zero => exact ⟨[], fun k q hk => by simp at hk, ⟨fun i j p q hp => by simp at hp, fun k q hk => by simp at hk⟩, fun k q hk => by simp at hk, fun a e ha => absurd ha (Nat.not_lt_zero a)⟩
    | succ n ih =>
      obtain ⟨ws, h1, h2, h3, h4⟩ := ih
      have skip : (∀ e, M n = some e → ¬ A n) → ∃ ws : va_W, va_P D y_cl ws H ∧ va_D A ws ∧ (∀ (k : Nat) (q : Nat × va_E), ws[k]? = some q → q.1 < n + 1) ∧ ∀ a e, a < n + 1 → M a = some e → A a → ∃ (k : Nat) (x : va_E), ws[k]? = some (a, x) ∧ yE2 U e x := by
        intro hno
        refine ⟨ws, h1, h2, fun k q hk => Nat.lt_succ_of_lt (h3 k q hk), fun a e ha he hA => ?_⟩
        rcases Nat.lt_succ_iff_lt_or_eq.mp ha with q | q
        · exact h4 a e q he hA
        · subst q
          exact absurd hA (hno e he)
      cases hM : M n with
      | none => exact skip (fun e he => by rw [hM] at he; cases he)
      | some e0 =>
        obtain ⟨⟨x, hx1, hx2⟩, hA⟩ := h n e0 hM
        by_cases hA : A n
        · refine ⟨ws ++ [(n, x)], h1.app (fun k q hk => ?_), h2.app ⟨fun i j p q hp hq _ => ?_, fun k q hk => ?_⟩ (fun i j p q hp hq e => ?_), fun k q hk => ?_, fun a e ha he hAa => ?_⟩
          · obtain ⟨-, rfl⟩ := y_one hk
            exact hx1
          · rw [(y_one hp).1, (y_one hq).1]
          · obtain ⟨-, rfl⟩ := y_one hk
            exact hA
          · obtain ⟨-, rfl⟩ := y_one hq
            have := h3 i p hp
            dsimp only at e
            omega
          · rcases List.mem_append.mp (List.mem_of_getElem? hk) with z | z
            · obtain ⟨i, hi⟩ := List.getElem?_of_mem z
              exact Nat.lt_succ_of_lt (h3 i q hi)
            · rw [List.mem_singleton.mp z]
              exact Nat.lt_succ_self n
          · rcases Nat.lt_succ_iff_lt_or_eq.mp ha with q | q
            · obtain ⟨k, y, g1, g2⟩ := h4 a e q he hAa
              refine ⟨k, y, ?_, g2⟩
              rw [List.getElem?_append_left (List.getElem?_eq_some_iff.mp g1).1]
              exact g1
            · subst q
              have e9 : e0 = e := Option.some.inj (hM.symm.trans he)
              subst e9
              refine ⟨ws.length, x, ?_, hx2⟩
              rw [List.getElem?_append_right (Nat.le_refl _), Nat.sub_self]
              rfl
        · exact skip (fun _ _ => hA)
  obtain ⟨ws, h1, h2, -, h4⟩ := key H.size
  exact ⟨ws, h1, h2, fun a e he => h4 a e (h a e he).1.lt he⟩
def yup (M : yM) (a : Nat) (e : yE) : yM := fun b => if b = a then some e else M b
theorem yup_self (M : yM) (a : Nat) (e : yE) : yup M a e a = some e := if_pos rfl
theorem yup_ne (M : yM) {a b : Nat} (e : yE) (h : b ≠ a) : yup M a e b = M b := if_neg h
/-- a cell of the law's start that is no cell of A is as it was -/
theorem yEz.kept {D : va_G} {s0 s : State} {A : Nat → Prop} {H H1 : Heap} {locs locs1 : List Loc} {a : Nat} {e : yE} (hb : yBase s0 A s) (hS : va_S A s.heap H locs) (hS1 : va_S A s.heap H1 locs1) (hz : yEz s0 a e) {U : State} (h : yAt D U a e H) : yAt D U a e H1 := by
  have hl : a < s.heap.size := Nat.lt_of_lt_of_le hz.1 hb.2.2.1
  have hA : ¬ A a := fun q => by have := hb.2.1 a q; have := hz.1; omega
  exact h.kept (by rw [hS1.2.1 a hl hA, hS.2.1 a hl hA])
theorem y_upset {D : va_G} {s0 s : State} {A : Nat → Prop} {M : yM} {H H1 : Heap} {locs locs1 : List Loc} {ws : va_W} {q0 a : Nat} {x0 x : va_E} {e : yE} (hb : yBase s0 A s) (hS : va_S A s.heap H locs) (hS1 : va_S A s.heap H1 locs1) (hC : yCells D s0 A M s H) (hw : yIn s A M ws) (hD : va_D A ws) (h0 : ws[q0]? = some (a, x0)) (hP1 : va_P D y_cl (ws.set q0 (a, x)) H1) (he : yE2 s e x) : yCells D s0 A (yup M a e) s H1 := by
  have hl := (List.getElem?_eq_some_iff.mp h0).1
  intro b e' hb'
  by_cases hba : b = a
  · subst hba
    rw [yup_self] at hb'
    have e9 : e = e' := Option.some.inj hb'
    subst e9
    exact ⟨⟨x, hP1 q0 (b, x) (List.getElem?_set_self hl), he⟩, Or.inl (hD.2 q0 _ h0)⟩
  · rw [yup_ne _ _ hba] at hb'
    obtain ⟨g9, gA⟩ := hC b e' hb'
    rcases gA with gA | gA
    · obtain ⟨k, y, g1, g2⟩ := hw b e' hb' gA
      have hk : q0 ≠ k := fun z => by
        subst z
        rw [h0] at g1
        cases g1
        exact hba rfl
      exact ⟨⟨y, hP1 k (b, y) (by rw [List.getElem?_set_ne hk]; exact g1), g2⟩, Or.inl gA⟩
    · exact ⟨gA.kept hb hS hS1 g9, Or.inr gA⟩
theorem y_uppush {D : va_G} {s0 s : State} {A : Nat → Prop} {M : yM} {H H1 : Heap} {locs locs1 : List Loc} {ws : va_W} {a : Nat} {x : va_E} {e : yE} (hb : yBase s0 A s) (hS : va_S A s.heap H locs) (hS1 : va_S A s.heap H1 locs1) (hC : yCells D s0 A M s H) (hw : yIn s A M ws) (hD1 : va_D A (ws ++ [(a, x)])) (hP1 : va_P D y_cl (ws ++ [(a, x)]) H1) (he : yE2 s e x) : yCells D s0 A (yup M a e) s H1 ∧ M a = none := by
  have hlast : (ws ++ [(a, x)])[ws.length]? = some (a, x) := by rw [List.getElem?_append_right (Nat.le_refl _), Nat.sub_self]; rfl
  have hold : ∀ k (y : Nat × va_E), ws[k]? = some y → (ws ++ [(a, x)])[k]? = some y ∧ k < ws.length := fun k y g => ⟨by rw [List.getElem?_append_left (List.getElem?_eq_some_iff.mp g).1]; exact g, (List.getElem?_eq_some_iff.mp g).1⟩
  have hAa : A a := hD1.2 _ _ hlast
  have hnone : M a = none := by
    cases hM : M a with
    | none => rfl
    | some e0 =>
      obtain ⟨k, y, g1, -⟩ := hw a e0 hM hAa
      obtain ⟨g3, g4⟩ := hold k _ g1
      have := hD1.1 k ws.length (a, y) (a, x) g3 hlast rfl
      omega
  refine ⟨fun b e' hb' => ?_, hnone⟩
  by_cases hba : b = a
  · subst hba
    rw [yup_self] at hb'
    have e9 : e = e' := Option.some.inj hb'
    subst e9
    exact ⟨⟨x, hP1 _ _ hlast, he⟩, Or.inl hAa⟩
  · rw [yup_ne _ _ hba] at hb'
    obtain ⟨g9, gA⟩ := hC b e' hb'
    rcases gA with gA | gA
    · obtain ⟨k, y, g1, g2⟩ := hw b e' hb' gA
      exact ⟨⟨y, hP1 k (b, y) (hold k _ g1).1, g2⟩, Or.inl gA⟩
    · exact ⟨gA.kept hb hS hS1 g9, Or.inr gA⟩
/-- the walk, with the heap as a map: rc cells and rs slots may still be made -/
def Y (p : Program) (l : Launch) (e : Env) (R : Room) (s : State) (m : MethodId) (args : Array Value) (below : List Frame) (meth : Method) (c : Code) (Q : State → Prop) (D : va_G) (s0 : State) (A : Nat → Prop) (nL : Nat) (M : yM) (rc rs : Nat) (lv : List (Option yV)) (pc : Nat) (st : List yV) : Prop :=
  ∀ (H : Heap) (locs : List Loc) (cells slots : Nat) (ls : Array Slot), yCells D s0 A M s H → va_S A s.heap H locs → cells + rc ≤ R.cells → slots + rs ≤ R.slots → yLv ls nL lv → W p l e R s m args below meth c H locs cells slots Q (F0 m pc ls (yvs st))
/-- contracts: an int; a long; nothing; a reference -/
abbrev yPc (D : va_G) (s0 : State) (A : Nat → Prop) (av : List yV) (M : yM) : Array Value → State → Prop := va_Pc (yvs av) (fun U => yCells D s0 A M U U.heap ∧ yBase s0 A U)
abbrev yQi (D : va_G) (s0 : State) (A : Nat → Prop) (post : Int32 → yM → Prop) : Array Value → State → Outcome → State → Prop := va_Qi post (fun u t => yCells D s0 A u t t.heap) A
abbrev yQl (D : va_G) (s0 : State) (A : Nat → Prop) (post : Int64 → yM → Prop) : Array Value → State → Outcome → State → Prop := va_Ql post (fun u t => yCells D s0 A u t t.heap) A
abbrev yQv (D : va_G) (s0 : State) (A : Nat → Prop) (post : yM → Prop) : Array Value → State → Outcome → State → Prop := va_Qv post (fun u t => yCells D s0 A u t t.heap) A
abbrev yQq (D : va_G) (s0 : State) (A : Nat → Prop) (post : Option Nat → yM → Prop) : Array Value → State → Outcome → State → Prop := va_Qq post (fun u t => yCells D s0 A u t t.heap) A
def yMi (l : Launch) (y : MethodName) (ws : List Cond) (fr lo mc ms : Nat) (D : va_G) (s0 : State) (av : List yV) (M : yM) (post : Int32 → yM → Prop) : Prop := ∀ A : Nat → Prop, Met l y ws { frames := fr, cells := mc, slots := ms, locals := lo } (yPc D s0 A av M) (yQi D s0 A post) mc ms A
def yMl (l : Launch) (y : MethodName) (ws : List Cond) (fr lo mc ms : Nat) (D : va_G) (s0 : State) (av : List yV) (M : yM) (post : Int64 → yM → Prop) : Prop := ∀ A : Nat → Prop, Met l y ws { frames := fr, cells := mc, slots := ms, locals := lo } (yPc D s0 A av M) (yQl D s0 A post) mc ms A
def yMv (l : Launch) (y : MethodName) (ws : List Cond) (fr lo mc ms : Nat) (D : va_G) (s0 : State) (av : List yV) (M : yM) (post : yM → Prop) : Prop := ∀ A : Nat → Prop, Met l y ws { frames := fr, cells := mc, slots := ms, locals := lo } (yPc D s0 A av M) (yQv D s0 A post) mc ms A
def yMq (l : Launch) (y : MethodName) (ws : List Cond) (fr lo mc ms : Nat) (D : va_G) (s0 : State) (av : List yV) (M : yM) (post : Option Nat → yM → Prop) : Prop := ∀ A : Nat → Prop, Met l y ws { frames := fr, cells := mc, slots := ms, locals := lo } (yPc D s0 A av M) (yQq D s0 A post) mc ms A

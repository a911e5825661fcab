/-! The Model's world: one object with nine arrays; printed by gen/genm.py. -/
set_option maxRecDepth 100000
theorem y_inc1 (x : Int32) : x + Int32.ofInt 1 = x + 1 := by rw [lit1]
theorem y_incm1 (x : Int32) : x + Int32.ofInt (-1) = x + (-1) := by rw [litm1]
theorem y_lit4 : Int32.ofInt 4 = 4 := by decide
theorem y_inc4 (x : Int32) : x + Int32.ofInt 4 = x + 4 := by rw [y_lit4]
theorem y_lt {a b : Nat} (h : Nat.ble (a + 1) b = true) : a < b := Nat.le_of_ble_eq_true h
theorem y_bm10 : (Int8.ofInt (-10)).toInt32 = (-10) := by decide
theorem y_bm9 : (Int8.ofInt (-9)).toInt32 = (-9) := by decide
theorem y_bm3 : (Int8.ofInt (-3)).toInt32 = (-3) := by decide
theorem y_bm2 : (Int8.ofInt (-2)).toInt32 = (-2) := by decide
theorem y_b6 : (Int8.ofInt 6).toInt32 = 6 := by decide
theorem y_b8 : (Int8.ofInt 8).toInt32 = 8 := by decide
theorem y_b9 : (Int8.ofInt 9).toInt32 = 9 := by decide
theorem y_b10 : (Int8.ofInt 10).toInt32 = 10 := by decide
theorem y_b11 : (Int8.ofInt 11).toInt32 = 11 := by decide
theorem y_b12 : (Int8.ofInt 12).toInt32 = 12 := by decide
theorem y_b13 : (Int8.ofInt 13).toInt32 = 13 := by decide
theorem y_b14 : (Int8.ofInt 14).toInt32 = 14 := by decide
theorem y_b16 : (Int8.ofInt 16).toInt32 = 16 := by decide
theorem y_b20 : (Int8.ofInt 20).toInt32 = 20 := by decide
theorem y_b32 : (Int8.ofInt 32).toInt32 = 32 := by decide
theorem y_b43 : (Int8.ofInt 43).toInt32 = 43 := by decide
theorem y_b44 : (Int8.ofInt 44).toInt32 = 44 := by decide
theorem y_b45 : (Int8.ofInt 45).toInt32 = 45 := by decide
theorem y_b48 : (Int8.ofInt 48).toInt32 = 48 := by decide
theorem y_b57 : (Int8.ofInt 57).toInt32 = 57 := by decide
theorem y_b59 : (Int8.ofInt 59).toInt32 = 59 := by decide
theorem y_b80 : (Int8.ofInt 80).toInt32 = 80 := by decide
theorem y_b99 : (Int8.ofInt 99).toInt32 = 99 := by decide
theorem y_b100 : (Int8.ofInt 100).toInt32 = 100 := by decide
theorem y_b110 : (Int8.ofInt 110).toInt32 = 110 := by decide
theorem y_b111 : (Int8.ofInt 111).toInt32 = 111 := by decide
theorem y_b112 : (Int8.ofInt 112).toInt32 = 112 := by decide
theorem y_b126 : (Int8.ofInt 126).toInt32 = 126 := by decide
theorem y_sm999 : (Int16.ofInt (-999)).toInt32 = (-999) := by decide
theorem y_s144 : (Int16.ofInt 144).toInt32 = 144 := by decide
theorem y_s300 : (Int16.ofInt 300).toInt32 = 300 := by decide
theorem y_s400 : (Int16.ofInt 400).toInt32 = 400 := by decide
theorem y_s1008 : (Int16.ofInt 1008).toInt32 = 1008 := by decide
def yAd (ad : Nat → Nat) : Prop := ∀ i j, i < 10 → j < 10 → ad i = ad j → i = j
abbrev mF (ad : Nat → Nat) (c_pg : Nat → Int32) (c_bm : Int32) (c_tx : Nat → Int32) (c_ty : Int32) (c_ft : Int32) (c_fa : Int32) (c_sp : Int32) (c_nu : Int32) (c_un : Nat → Int32) (c_sf : Nat → Int32) (c_st : Nat → Int32) (c_ll : Nat → Int32) (c_ln : Nat → Int32) (c_ip : Nat → Int32) (c_gr : Nat → Int32) (c_hs : Int64) : List yV := [yr (some (ad 1)), yi c_bm, yr (some (ad 2)), yi c_ty, yi c_ft, yi c_fa, yi c_sp, yi c_nu, yr (some (ad 3)), yr (some (ad 4)), yr (some (ad 5)), yr (some (ad 6)), yr (some (ad 7)), yr (some (ad 8)), yr (some (ad 9)), yl c_hs]
def mM (ad : Nat → Nat) (c_pg : Nat → Int32) (c_bm : Int32) (c_tx : Nat → Int32) (c_ty : Int32) (c_ft : Int32) (c_fa : Int32) (c_sp : Int32) (c_nu : Int32) (c_un : Nat → Int32) (c_sf : Nat → Int32) (c_st : Nat → Int32) (c_ll : Nat → Int32) (c_ln : Nat → Int32) (c_ip : Nat → Int32) (c_gr : Nat → Int32) (c_hs : Int64) : yM := fun a => if a = ad 0 then some (yo 2 (mF ad c_pg c_bm c_tx c_ty c_ft c_fa c_sp c_nu c_un c_sf c_st c_ll c_ln c_ip c_gr c_hs)) else if a = ad 1 then some (yai 1120 c_pg) else if a = ad 2 then some (yai 80 c_tx) else if a = ad 3 then some (yai 16 c_un) else if a = ad 4 then some (yai 16 c_sf) else if a = ad 5 then some (yai 16 c_st) else if a = ad 6 then some (yai 16 c_ll) else if a = ad 7 then some (yai 16 c_ln) else if a = ad 8 then some (yaz 16 c_ip) else if a = ad 9 then some (yai 144 c_gr) else none
section MM
variable {ad : Nat → Nat} {c_pg : Nat → Int32} {c_bm : Int32} {c_tx : Nat → Int32} {c_ty : Int32} {c_ft : Int32} {c_fa : Int32} {c_sp : Int32} {c_nu : Int32} {c_un : Nat → Int32} {c_sf : Nat → Int32} {c_st : Nat → Int32} {c_ll : Nat → Int32} {c_ln : Nat → Int32} {c_ip : Nat → Int32} {c_gr : Nat → Int32} {c_hs : Int64}
theorem mM_0 : mM ad c_pg c_bm c_tx c_ty c_ft c_fa c_sp c_nu c_un c_sf c_st c_ll c_ln c_ip c_gr c_hs (ad 0) = some (yo 2 (mF ad c_pg c_bm c_tx c_ty c_ft c_fa c_sp c_nu c_un c_sf c_st c_ll c_ln c_ip c_gr c_hs)) := if_pos rfl
theorem yAd.ne (hd : yAd ad) {i j : Nat} (hi : i < 10) (hj : j < 10) (h : i ≠ j) : ¬ ad i = ad j := fun e => h (hd i j hi hj e)
theorem mM_1 (hd : yAd ad) : mM ad c_pg c_bm c_tx c_ty c_ft c_fa c_sp c_nu c_un c_sf c_st c_ll c_ln c_ip c_gr c_hs (ad 1) = some (yai 1120 c_pg) := by
  unfold mM
  rw [if_neg (hd.ne (i := 1) (j := 0) (by decide) (by decide) (by decide))]
  exact if_pos rfl
theorem mM_2 (hd : yAd ad) : mM ad c_pg c_bm c_tx c_ty c_ft c_fa c_sp c_nu c_un c_sf c_st c_ll c_ln c_ip c_gr c_hs (ad 2) = some (yai 80 c_tx) := by
  unfold mM
  rw [if_neg (hd.ne (i := 2) (j := 0) (by decide) (by decide) (by decide))]
  rw [if_neg (hd.ne (i := 2) (j := 1) (by decide) (by decide) (by decide))]
  exact if_pos rfl
theorem mM_3 (hd : yAd ad) : mM ad c_pg c_bm c_tx c_ty c_ft c_fa c_sp c_nu c_un c_sf c_st c_ll c_ln c_ip c_gr c_hs (ad 3) = some (yai 16 c_un) := by
  unfold mM
  rw [if_neg (hd.ne (i := 3) (j := 0) (by decide) (by decide) (by decide))]
  rw [if_neg (hd.ne (i := 3) (j := 1) (by decide) (by decide) (by decide))]
  rw [if_neg (hd.ne (i := 3) (j := 2) (by decide) (by decide) (by decide))]
  exact if_pos rfl
theorem mM_4 (hd : yAd ad) : mM ad c_pg c_bm c_tx c_ty c_ft c_fa c_sp c_nu c_un c_sf c_st c_ll c_ln c_ip c_gr c_hs (ad 4) = some (yai 16 c_sf) := by
  unfold mM
  rw [if_neg (hd.ne (i := 4) (j := 0) (by decide) (by decide) (by decide))]
  rw [if_neg (hd.ne (i := 4) (j := 1) (by decide) (by decide) (by decide))]
  rw [if_neg (hd.ne (i := 4) (j := 2) (by decide) (by decide) (by decide))]
  rw [if_neg (hd.ne (i := 4) (j := 3) (by decide) (by decide) (by decide))]
  exact if_pos rfl
theorem mM_5 (hd : yAd ad) : mM ad c_pg c_bm c_tx c_ty c_ft c_fa c_sp c_nu c_un c_sf c_st c_ll c_ln c_ip c_gr c_hs (ad 5) = some (yai 16 c_st) := by
  unfold mM
  rw [if_neg (hd.ne (i := 5) (j := 0) (by decide) (by decide) (by decide))]
  rw [if_neg (hd.ne (i := 5) (j := 1) (by decide) (by decide) (by decide))]
  rw [if_neg (hd.ne (i := 5) (j := 2) (by decide) (by decide) (by decide))]
  rw [if_neg (hd.ne (i := 5) (j := 3) (by decide) (by decide) (by decide))]
  rw [if_neg (hd.ne (i := 5) (j := 4) (by decide) (by decide) (by decide))]
  exact if_pos rfl
theorem mM_6 (hd : yAd ad) : mM ad c_pg c_bm c_tx c_ty c_ft c_fa c_sp c_nu c_un c_sf c_st c_ll c_ln c_ip c_gr c_hs (ad 6) = some (yai 16 c_ll) := by
  unfold mM
  rw [if_neg (hd.ne (i := 6) (j := 0) (by decide) (by decide) (by decide))]
  rw [if_neg (hd.ne (i := 6) (j := 1) (by decide) (by decide) (by decide))]
  rw [if_neg (hd.ne (i := 6) (j := 2) (by decide) (by decide) (by decide))]
  rw [if_neg (hd.ne (i := 6) (j := 3) (by decide) (by decide) (by decide))]
  rw [if_neg (hd.ne (i := 6) (j := 4) (by decide) (by decide) (by decide))]
  rw [if_neg (hd.ne (i := 6) (j := 5) (by decide) (by decide) (by decide))]
  exact if_pos rfl
theorem mM_7 (hd : yAd ad) : mM ad c_pg c_bm c_tx c_ty c_ft c_fa c_sp c_nu c_un c_sf c_st c_ll c_ln c_ip c_gr c_hs (ad 7) = some (yai 16 c_ln) := by
  unfold mM
  rw [if_neg (hd.ne (i := 7) (j := 0) (by decide) (by decide) (by decide))]
  rw [if_neg (hd.ne (i := 7) (j := 1) (by decide) (by decide) (by decide))]
  rw [if_neg (hd.ne (i := 7) (j := 2) (by decide) (by decide) (by decide))]
  rw [if_neg (hd.ne (i := 7) (j := 3) (by decide) (by decide) (by decide))]
  rw [if_neg (hd.ne (i := 7) (j := 4) (by decide) (by decide) (by decide))]
  rw [if_neg (hd.ne (i := 7) (j := 5) (by decide) (by decide) (by decide))]
  rw [if_neg (hd.ne (i := 7) (j := 6) (by decide) (by decide) (by decide))]
  exact if_pos rfl
theorem mM_8 (hd : yAd ad) : mM ad c_pg c_bm c_tx c_ty c_ft c_fa c_sp c_nu c_un c_sf c_st c_ll c_ln c_ip c_gr c_hs (ad 8) = some (yaz 16 c_ip) := by
  unfold mM
  rw [if_neg (hd.ne (i := 8) (j := 0) (by decide) (by decide) (by decide))]
  rw [if_neg (hd.ne (i := 8) (j := 1) (by decide) (by decide) (by decide))]
  rw [if_neg (hd.ne (i := 8) (j := 2) (by decide) (by decide) (by decide))]
  rw [if_neg (hd.ne (i := 8) (j := 3) (by decide) (by decide) (by decide))]
  rw [if_neg (hd.ne (i := 8) (j := 4) (by decide) (by decide) (by decide))]
  rw [if_neg (hd.ne (i := 8) (j := 5) (by decide) (by decide) (by decide))]
  rw [if_neg (hd.ne (i := 8) (j := 6) (by decide) (by decide) (by decide))]
  rw [if_neg (hd.ne (i := 8) (j := 7) (by decide) (by decide) (by decide))]
  exact if_pos rfl
theorem mM_9 (hd : yAd ad) : mM ad c_pg c_bm c_tx c_ty c_ft c_fa c_sp c_nu c_un c_sf c_st c_ll c_ln c_ip c_gr c_hs (ad 9) = some (yai 144 c_gr) := by
  unfold mM
  rw [if_neg (hd.ne (i := 9) (j := 0) (by decide) (by decide) (by decide))]
  rw [if_neg (hd.ne (i := 9) (j := 1) (by decide) (by decide) (by decide))]
  rw [if_neg (hd.ne (i := 9) (j := 2) (by decide) (by decide) (by decide))]
  rw [if_neg (hd.ne (i := 9) (j := 3) (by decide) (by decide) (by decide))]
  rw [if_neg (hd.ne (i := 9) (j := 4) (by decide) (by decide) (by decide))]
  rw [if_neg (hd.ne (i := 9) (j := 5) (by decide) (by decide) (by decide))]
  rw [if_neg (hd.ne (i := 9) (j := 6) (by decide) (by decide) (by decide))]
  rw [if_neg (hd.ne (i := 9) (j := 7) (by decide) (by decide) (by decide))]
  rw [if_neg (hd.ne (i := 9) (j := 8) (by decide) (by decide) (by decide))]
  exact if_pos rfl
theorem mU_pg (hd : yAd ad) (z9 : Nat → Int32) : yup (mM ad c_pg c_bm c_tx c_ty c_ft c_fa c_sp c_nu c_un c_sf c_st c_ll c_ln c_ip c_gr c_hs) (ad 1) (yai 1120 z9) = mM ad z9 c_bm c_tx c_ty c_ft c_fa c_sp c_nu c_un c_sf c_st c_ll c_ln c_ip c_gr c_hs := by
  funext a
  by_cases h : a = ad 1
  · subst h
    rw [yup_self, mM_1 hd]
  · rw [yup_ne _ _ h]
    unfold mM
    simp only [if_neg h]
theorem mU_bm (z9 : Int32) : yup (mM ad c_pg c_bm c_tx c_ty c_ft c_fa c_sp c_nu c_un c_sf c_st c_ll c_ln c_ip c_gr c_hs) (ad 0) (yo 2 ((mF ad c_pg c_bm c_tx c_ty c_ft c_fa c_sp c_nu c_un c_sf c_st c_ll c_ln c_ip c_gr c_hs).set 1 (yi z9))) = mM ad c_pg z9 c_tx c_ty c_ft c_fa c_sp c_nu c_un c_sf c_st c_ll c_ln c_ip c_gr c_hs := by
  funext a
  by_cases h : a = ad 0
  · subst h
    rw [yup_self, mM_0]
    rfl
  · rw [yup_ne _ _ h]
    unfold mM
    simp only [if_neg h]
theorem mU_tx (hd : yAd ad) (z9 : Nat → Int32) : yup (mM ad c_pg c_bm c_tx c_ty c_ft c_fa c_sp c_nu c_un c_sf c_st c_ll c_ln c_ip c_gr c_hs) (ad 2) (yai 80 z9) = mM ad c_pg c_bm z9 c_ty c_ft c_fa c_sp c_nu c_un c_sf c_st c_ll c_ln c_ip c_gr c_hs := by
  funext a
  by_cases h : a = ad 2
  · subst h
    rw [yup_self, mM_2 hd]
  · rw [yup_ne _ _ h]
    unfold mM
    simp only [if_neg h]
theorem mU_ty (z9 : Int32) : yup (mM ad c_pg c_bm c_tx c_ty c_ft c_fa c_sp c_nu c_un c_sf c_st c_ll c_ln c_ip c_gr c_hs) (ad 0) (yo 2 ((mF ad c_pg c_bm c_tx c_ty c_ft c_fa c_sp c_nu c_un c_sf c_st c_ll c_ln c_ip c_gr c_hs).set 3 (yi z9))) = mM ad c_pg c_bm c_tx z9 c_ft c_fa c_sp c_nu c_un c_sf c_st c_ll c_ln c_ip c_gr c_hs := by
  funext a
  by_cases h : a = ad 0
  · subst h
    rw [yup_self, mM_0]
    rfl
  · rw [yup_ne _ _ h]
    unfold mM
    simp only [if_neg h]
theorem mU_ft (z9 : Int32) : yup (mM ad c_pg c_bm c_tx c_ty c_ft c_fa c_sp c_nu c_un c_sf c_st c_ll c_ln c_ip c_gr c_hs) (ad 0) (yo 2 ((mF ad c_pg c_bm c_tx c_ty c_ft c_fa c_sp c_nu c_un c_sf c_st c_ll c_ln c_ip c_gr c_hs).set 4 (yi z9))) = mM ad c_pg c_bm c_tx c_ty z9 c_fa c_sp c_nu c_un c_sf c_st c_ll c_ln c_ip c_gr c_hs := by
  funext a
  by_cases h : a = ad 0
  · subst h
    rw [yup_self, mM_0]
    rfl
  · rw [yup_ne _ _ h]
    unfold mM
    simp only [if_neg h]
theorem mU_fa (z9 : Int32) : yup (mM ad c_pg c_bm c_tx c_ty c_ft c_fa c_sp c_nu c_un c_sf c_st c_ll c_ln c_ip c_gr c_hs) (ad 0) (yo 2 ((mF ad c_pg c_bm c_tx c_ty c_ft c_fa c_sp c_nu c_un c_sf c_st c_ll c_ln c_ip c_gr c_hs).set 5 (yi z9))) = mM ad c_pg c_bm c_tx c_ty c_ft z9 c_sp c_nu c_un c_sf c_st c_ll c_ln c_ip c_gr c_hs := by
  funext a
  by_cases h : a = ad 0
  · subst h
    rw [yup_self, mM_0]
    rfl
  · rw [yup_ne _ _ h]
    unfold mM
    simp only [if_neg h]
theorem mU_sp (z9 : Int32) : yup (mM ad c_pg c_bm c_tx c_ty c_ft c_fa c_sp c_nu c_un c_sf c_st c_ll c_ln c_ip c_gr c_hs) (ad 0) (yo 2 ((mF ad c_pg c_bm c_tx c_ty c_ft c_fa c_sp c_nu c_un c_sf c_st c_ll c_ln c_ip c_gr c_hs).set 6 (yi z9))) = mM ad c_pg c_bm c_tx c_ty c_ft c_fa z9 c_nu c_un c_sf c_st c_ll c_ln c_ip c_gr c_hs := by
  funext a
  by_cases h : a = ad 0
  · subst h
    rw [yup_self, mM_0]
    rfl
  · rw [yup_ne _ _ h]
    unfold mM
    simp only [if_neg h]
theorem mU_nu (z9 : Int32) : yup (mM ad c_pg c_bm c_tx c_ty c_ft c_fa c_sp c_nu c_un c_sf c_st c_ll c_ln c_ip c_gr c_hs) (ad 0) (yo 2 ((mF ad c_pg c_bm c_tx c_ty c_ft c_fa c_sp c_nu c_un c_sf c_st c_ll c_ln c_ip c_gr c_hs).set 7 (yi z9))) = mM ad c_pg c_bm c_tx c_ty c_ft c_fa c_sp z9 c_un c_sf c_st c_ll c_ln c_ip c_gr c_hs := by
  funext a
  by_cases h : a = ad 0
  · subst h
    rw [yup_self, mM_0]
    rfl
  · rw [yup_ne _ _ h]
    unfold mM
    simp only [if_neg h]
theorem mU_un (hd : yAd ad) (z9 : Nat → Int32) : yup (mM ad c_pg c_bm c_tx c_ty c_ft c_fa c_sp c_nu c_un c_sf c_st c_ll c_ln c_ip c_gr c_hs) (ad 3) (yai 16 z9) = mM ad c_pg c_bm c_tx c_ty c_ft c_fa c_sp c_nu z9 c_sf c_st c_ll c_ln c_ip c_gr c_hs := by
  funext a
  by_cases h : a = ad 3
  · subst h
    rw [yup_self, mM_3 hd]
  · rw [yup_ne _ _ h]
    unfold mM
    simp only [if_neg h]
theorem mU_sf (hd : yAd ad) (z9 : Nat → Int32) : yup (mM ad c_pg c_bm c_tx c_ty c_ft c_fa c_sp c_nu c_un c_sf c_st c_ll c_ln c_ip c_gr c_hs) (ad 4) (yai 16 z9) = mM ad c_pg c_bm c_tx c_ty c_ft c_fa c_sp c_nu c_un z9 c_st c_ll c_ln c_ip c_gr c_hs := by
  funext a
  by_cases h : a = ad 4
  · subst h
    rw [yup_self, mM_4 hd]
  · rw [yup_ne _ _ h]
    unfold mM
    simp only [if_neg h]
theorem mU_st (hd : yAd ad) (z9 : Nat → Int32) : yup (mM ad c_pg c_bm c_tx c_ty c_ft c_fa c_sp c_nu c_un c_sf c_st c_ll c_ln c_ip c_gr c_hs) (ad 5) (yai 16 z9) = mM ad c_pg c_bm c_tx c_ty c_ft c_fa c_sp c_nu c_un c_sf z9 c_ll c_ln c_ip c_gr c_hs := by
  funext a
  by_cases h : a = ad 5
  · subst h
    rw [yup_self, mM_5 hd]
  · rw [yup_ne _ _ h]
    unfold mM
    simp only [if_neg h]
theorem mU_ll (hd : yAd ad) (z9 : Nat → Int32) : yup (mM ad c_pg c_bm c_tx c_ty c_ft c_fa c_sp c_nu c_un c_sf c_st c_ll c_ln c_ip c_gr c_hs) (ad 6) (yai 16 z9) = mM ad c_pg c_bm c_tx c_ty c_ft c_fa c_sp c_nu c_un c_sf c_st z9 c_ln c_ip c_gr c_hs := by
  funext a
  by_cases h : a = ad 6
  · subst h
    rw [yup_self, mM_6 hd]
  · rw [yup_ne _ _ h]
    unfold mM
    simp only [if_neg h]
theorem mU_ln (hd : yAd ad) (z9 : Nat → Int32) : yup (mM ad c_pg c_bm c_tx c_ty c_ft c_fa c_sp c_nu c_un c_sf c_st c_ll c_ln c_ip c_gr c_hs) (ad 7) (yai 16 z9) = mM ad c_pg c_bm c_tx c_ty c_ft c_fa c_sp c_nu c_un c_sf c_st c_ll z9 c_ip c_gr c_hs := by
  funext a
  by_cases h : a = ad 7
  · subst h
    rw [yup_self, mM_7 hd]
  · rw [yup_ne _ _ h]
    unfold mM
    simp only [if_neg h]
theorem mU_ip (hd : yAd ad) (z9 : Nat → Int32) : yup (mM ad c_pg c_bm c_tx c_ty c_ft c_fa c_sp c_nu c_un c_sf c_st c_ll c_ln c_ip c_gr c_hs) (ad 8) (yaz 16 z9) = mM ad c_pg c_bm c_tx c_ty c_ft c_fa c_sp c_nu c_un c_sf c_st c_ll c_ln z9 c_gr c_hs := by
  funext a
  by_cases h : a = ad 8
  · subst h
    rw [yup_self, mM_8 hd]
  · rw [yup_ne _ _ h]
    unfold mM
    simp only [if_neg h]
theorem mU_gr (hd : yAd ad) (z9 : Nat → Int32) : yup (mM ad c_pg c_bm c_tx c_ty c_ft c_fa c_sp c_nu c_un c_sf c_st c_ll c_ln c_ip c_gr c_hs) (ad 9) (yai 144 z9) = mM ad c_pg c_bm c_tx c_ty c_ft c_fa c_sp c_nu c_un c_sf c_st c_ll c_ln c_ip z9 c_hs := by
  funext a
  by_cases h : a = ad 9
  · subst h
    rw [yup_self, mM_9 hd]
  · rw [yup_ne _ _ h]
    unfold mM
    simp only [if_neg h]
theorem mU_hs (z9 : Int64) : yup (mM ad c_pg c_bm c_tx c_ty c_ft c_fa c_sp c_nu c_un c_sf c_st c_ll c_ln c_ip c_gr c_hs) (ad 0) (yo 2 ((mF ad c_pg c_bm c_tx c_ty c_ft c_fa c_sp c_nu c_un c_sf c_st c_ll c_ln c_ip c_gr c_hs).set 15 (yl z9))) = mM ad c_pg c_bm c_tx c_ty c_ft c_fa c_sp c_nu c_un c_sf c_st c_ll c_ln c_ip c_gr z9 := by
  funext a
  by_cases h : a = ad 0
  · subst h
    rw [yup_self, mM_0]
    rfl
  · rw [yup_ne _ _ h]
    unfold mM
    simp only [if_neg h]
end MM

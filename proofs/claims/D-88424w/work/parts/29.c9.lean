set_option maxRecDepth 100000
set_option maxHeartbeats 4000000
def MX13_init (Γ : eb_C) (bc bs : Nat) (st : eb_S) (a0 : Nat) (a1 : Nat) (a2 : Nat) (K : eb_S → Prop) : Prop :=
  eb_pt st a0 12 0 (.ref a1) (fun g1 => eb_pt g1 a0 12 1 (.ref a2) (fun g2 => eb_gr g2 a1 11 1 (fun v3 => eb_nn v3 (fun p4 => eb_ni g2 p4 0 (fun v5 => eb_pt g2 a0 12 2 (.int v5) (fun g6 => eb_gi g6 a0 12 2 (fun v7 => eb_ok1 v7 ∧ (eb_mk g6 (eb_ia Γ 0 (v7.toNatClampNeg) (fun _ => 0)) (v7.toNatClampNeg) bc bs 0 0 (fun p8 g9 => eb_pt g9 a0 12 3 (.ref p8) (fun g10 => eb_gi g10 a0 12 2 (fun v11 => eb_ok1 v11 ∧ (eb_mk g10 (eb_ia Γ 0 (v11.toNatClampNeg) (fun _ => 0)) (v11.toNatClampNeg) bc bs (0 + 1) ((0 + (v7.toNatClampNeg))) (fun p12 g13 => eb_pt g13 a0 12 4 (.ref p12) (fun g14 => eb_gi g14 a0 12 2 (fun v15 => eb_ok1 v15 ∧ (eb_mk g14 (eb_ia Γ 1 (v15.toNatClampNeg) (fun _ => 0)) (v15.toNatClampNeg) bc bs (((0 + 1) + 1)) (((0 + (v7.toNatClampNeg)) + (v11.toNatClampNeg))) (fun p16 g17 => eb_pt g17 a0 12 5 (.ref p16) (fun g18 => eb_gi g18 a0 12 2 (fun v19 => eb_ok1 v19 ∧ (eb_mk g18 (eb_ia Γ 0 (v19.toNatClampNeg) (fun _ => 0)) (v19.toNatClampNeg) bc bs ((((0 + 1) + 1) + 1)) ((((0 + (v7.toNatClampNeg)) + (v11.toNatClampNeg)) + (v15.toNatClampNeg))) (fun p20 g21 => eb_pt g21 a0 12 6 (.ref p20) (fun g22 => K g22))))))))))))))))))))))
abbrev rmX13_init (bc bs : Nat) : Room := { frames := 2, cells := bc, slots := bs, locals := 40 }
theorem nX13_init : eb_ar yX13_init 2 := by decide +kernel
theorem dX13_init_0 : eb_dc cX13_init 0 (.aload_n 0) 1 1 := by decide +kernel
theorem dX13_init_1 : eb_dc cX13_init 1 (.invokespecial 3) 3 4 := by decide +kernel
theorem dX13_init_4 : eb_dc cX13_init 4 (.aload_n 0) 1 5 := by decide +kernel
theorem dX13_init_5 : eb_dc cX13_init 5 (.aload_n 1) 1 6 := by decide +kernel
theorem dX13_init_6 : eb_dc cX13_init 6 (.putfield 9) 3 9 := by decide +kernel
theorem dX13_init_9 : eb_dc cX13_init 9 (.aload_n 0) 1 10 := by decide +kernel
theorem dX13_init_10 : eb_dc cX13_init 10 (.aload_n 2) 1 11 := by decide +kernel
theorem dX13_init_11 : eb_dc cX13_init 11 (.putfield 15) 3 14 := by decide +kernel
theorem dX13_init_14 : eb_dc cX13_init 14 (.aload_n 0) 1 15 := by decide +kernel
theorem dX13_init_15 : eb_dc cX13_init 15 (.aload_n 1) 1 16 := by decide +kernel
theorem dX13_init_16 : eb_dc cX13_init 16 (.getfield 18) 3 19 := by decide +kernel
theorem dX13_init_19 : eb_dc cX13_init 19 (.getfield 24) 3 22 := by decide +kernel
theorem dX13_init_22 : eb_dc cX13_init 22 (.putfield 30) 3 25 := by decide +kernel
theorem dX13_init_25 : eb_dc cX13_init 25 (.aload_n 0) 1 26 := by decide +kernel
theorem dX13_init_26 : eb_dc cX13_init 26 (.aload_n 0) 1 27 := by decide +kernel
theorem dX13_init_27 : eb_dc cX13_init 27 (.getfield 30) 3 30 := by decide +kernel
theorem dX13_init_30 : eb_dc cX13_init 30 (.newarray .int) 2 32 := by decide +kernel
theorem dX13_init_32 : eb_dc cX13_init 32 (.putfield 31) 3 35 := by decide +kernel
theorem dX13_init_35 : eb_dc cX13_init 35 (.aload_n 0) 1 36 := by decide +kernel
theorem dX13_init_36 : eb_dc cX13_init 36 (.aload_n 0) 1 37 := by decide +kernel
theorem dX13_init_37 : eb_dc cX13_init 37 (.getfield 30) 3 40 := by decide +kernel
theorem dX13_init_40 : eb_dc cX13_init 40 (.newarray .int) 2 42 := by decide +kernel
theorem dX13_init_42 : eb_dc cX13_init 42 (.putfield 35) 3 45 := by decide +kernel
theorem dX13_init_45 : eb_dc cX13_init 45 (.aload_n 0) 1 46 := by decide +kernel
theorem dX13_init_46 : eb_dc cX13_init 46 (.aload_n 0) 1 47 := by decide +kernel
theorem dX13_init_47 : eb_dc cX13_init 47 (.getfield 30) 3 50 := by decide +kernel
theorem dX13_init_50 : eb_dc cX13_init 50 (.newarray .boolean) 2 52 := by decide +kernel
theorem dX13_init_52 : eb_dc cX13_init 52 (.putfield 38) 3 55 := by decide +kernel
theorem dX13_init_55 : eb_dc cX13_init 55 (.aload_n 0) 1 56 := by decide +kernel
theorem dX13_init_56 : eb_dc cX13_init 56 (.aload_n 0) 1 57 := by decide +kernel
theorem dX13_init_57 : eb_dc cX13_init 57 (.getfield 30) 3 60 := by decide +kernel
theorem dX13_init_60 : eb_dc cX13_init 60 (.newarray .int) 2 62 := by decide +kernel
theorem dX13_init_62 : eb_dc cX13_init 62 (.putfield 42) 3 65 := by decide +kernel
theorem dX13_init_65 : eb_dc cX13_init 65 (.return_) 1 66 := by decide +kernel
theorem ctX13_init {l : Launch} {Γ : eb_C} {bc bs : Nat} {st : eb_S} {a0 : Nat} {a1 : Nat} {a2 : Nat} {K : eb_S → Prop} (h : MX13_init Γ bc bs st a0 a1 a2 K) : eb_Ct l Γ yX13_init cX13_init 3 (none) (rmX13_init bc bs) [.ref a0, .ref a1, .ref a2] st (eb_oV K) := by
  refine eb_of (by decide) (Nat.le_of_ble_eq_true rfl) (fun X P hP hX0 => ?_)
  replace hX0 := hX0 rfl
  suffices hgo : (0 ≤ bc ∧ 0 ≤ bs) → eb_G l Γ P X cX13_init RX13 3 (none) (rmX13_init bc bs) 0 [(0, .ref a0), (1, .ref a1), (2, .ref a2)] [] st 0 0 from hgo ⟨Nat.zero_le _, Nat.zero_le _⟩
  intro hu
  refine eg_aload_n 0 dX13_init_0 rfl rfl ?_
  refine eg_objInit q805 q104 q105 dX13_init_1 (Nat.le_of_ble_eq_true rfl) (Nat.le_of_ble_eq_true rfl) ?_
  refine eg_aload_n 0 dX13_init_4 rfl rfl ?_
  refine eg_aload_n 1 dX13_init_5 rfl rfl ?_
  obtain ⟨fs, he, hlen, h⟩ := h
  refine eh_putF 0 in_X13 he rfl (Nat.le_of_ble_eq_true rfl) tyX13 tyX13_ok nmX13 q806 rfl rfl hX0 rfl rfl rfl hlen dX13_init_6 (fun g1 eg1 => ?_)
  replace h := h g1 eg1
  refine eg_aload_n 0 dX13_init_9 rfl rfl ?_
  refine eg_aload_n 2 dX13_init_10 rfl rfl ?_
  obtain ⟨fs, he, hlen, h⟩ := h
  refine eh_putF 1 in_X13 he rfl (Nat.le_of_ble_eq_true rfl) tyX13 tyX13_ok nmX13 q807 rfl rfl hX0 rfl rfl rfl hlen dX13_init_11 (fun g2 eg2 => ?_)
  replace h := h g2 eg2
  refine eg_aload_n 0 dX13_init_14 rfl rfl ?_
  refine eg_aload_n 1 dX13_init_15 rfl rfl ?_
  obtain ⟨fs, v3, he, hv, h⟩ := h
  refine eg_getN 1 in_X12 he rfl (Nat.le_of_ble_eq_true rfl) (List.mem_of_getElem? (i := 18) rfl) rfl hv dX13_init_16 ?_
  obtain ⟨p4, rfl, h⟩ := h
  obtain ⟨c0, fs, v5, hc0, he, hv, h⟩ := h
  refine en_get 0 (Nat.le_of_ble_eq_true rfl) hc0 he q630 hv dX13_init_19 ?_
  obtain ⟨fs, he, hlen, h⟩ := h
  refine eh_putF 2 in_X13 he rfl (Nat.le_of_ble_eq_true rfl) tyX13 tyX13_ok nmX13 q808 rfl rfl hX0 rfl rfl rfl hlen dX13_init_22 (fun g6 eg6 => ?_)
  replace h := h g6 eg6
  refine eg_aload_n 0 dX13_init_25 rfl rfl ?_
  refine eg_aload_n 0 dX13_init_26 rfl rfl ?_
  obtain ⟨fs, v7, he, hv, h⟩ := h
  refine eg_get 2 in_X13 he rfl (Nat.le_of_ble_eq_true rfl) q808 rfl hv dX13_init_27 ?_
  obtain ⟨hok, h⟩ := h
  obtain ⟨hc1, hs1, h⟩ := h
  refine eh_new_i q158 rfl hok hc1 hs1 dX13_init_30 (fun p8 qp8 g9 eg9 => ?_)
  replace h := h p8 qp8 g9 eg9
  replace hu := And.intro hc1 hs1
  obtain ⟨fs, he, hlen, h⟩ := h
  refine eh_putF 3 in_X13 he rfl (Nat.le_of_ble_eq_true rfl) tyX13 tyX13_ok nmX13 q809 rfl rfl hX0 rfl rfl rfl hlen dX13_init_32 (fun g10 eg10 => ?_)
  replace h := h g10 eg10
  refine eg_aload_n 0 dX13_init_35 rfl rfl ?_
  refine eg_aload_n 0 dX13_init_36 rfl rfl ?_
  obtain ⟨fs, v11, he, hv, h⟩ := h
  refine eg_get 2 in_X13 he rfl (Nat.le_of_ble_eq_true rfl) q808 rfl hv dX13_init_37 ?_
  obtain ⟨hok, h⟩ := h
  obtain ⟨hc1, hs1, h⟩ := h
  refine eh_new_i q158 rfl hok hc1 hs1 dX13_init_40 (fun p12 qp12 g13 eg13 => ?_)
  replace h := h p12 qp12 g13 eg13
  replace hu := And.intro hc1 hs1
  obtain ⟨fs, he, hlen, h⟩ := h
  refine eh_putF 4 in_X13 he rfl (Nat.le_of_ble_eq_true rfl) tyX13 tyX13_ok nmX13 q810 rfl rfl hX0 rfl rfl rfl hlen dX13_init_42 (fun g14 eg14 => ?_)
  replace h := h g14 eg14
  refine eg_aload_n 0 dX13_init_45 rfl rfl ?_
  refine eg_aload_n 0 dX13_init_46 rfl rfl ?_
  obtain ⟨fs, v15, he, hv, h⟩ := h
  refine eg_get 2 in_X13 he rfl (Nat.le_of_ble_eq_true rfl) q808 rfl hv dX13_init_47 ?_
  obtain ⟨hok, h⟩ := h
  obtain ⟨hc1, hs1, h⟩ := h
  refine eh_new_z q472 rfl hok hc1 hs1 dX13_init_50 (fun p16 qp16 g17 eg17 => ?_)
  replace h := h p16 qp16 g17 eg17
  replace hu := And.intro hc1 hs1
  obtain ⟨fs, he, hlen, h⟩ := h
  refine eh_putF 5 in_X13 he rfl (Nat.le_of_ble_eq_true rfl) tyX13 tyX13_ok nmX13 q811 rfl rfl hX0 rfl rfl rfl hlen dX13_init_52 (fun g18 eg18 => ?_)
  replace h := h g18 eg18
  refine eg_aload_n 0 dX13_init_55 rfl rfl ?_
  refine eg_aload_n 0 dX13_init_56 rfl rfl ?_
  obtain ⟨fs, v19, he, hv, h⟩ := h
  refine eg_get 2 in_X13 he rfl (Nat.le_of_ble_eq_true rfl) q808 rfl hv dX13_init_57 ?_
  obtain ⟨hok, h⟩ := h
  obtain ⟨hc1, hs1, h⟩ := h
  refine eh_new_i q158 rfl hok hc1 hs1 dX13_init_60 (fun p20 qp20 g21 eg21 => ?_)
  replace h := h p20 qp20 g21 eg21
  replace hu := And.intro hc1 hs1
  obtain ⟨fs, he, hlen, h⟩ := h
  refine eh_putF 6 in_X13 he rfl (Nat.le_of_ble_eq_true rfl) tyX13 tyX13_ok nmX13 q812 rfl rfl hX0 rfl rfl rfl hlen dX13_init_62 (fun g22 eg22 => ?_)
  replace h := h g22 eg22
  exact eg_vret dX13_init_65 hu.1 hu.2 (hP _ _ ⟨rfl, h⟩)
def MX13_comes (Γ : eb_C) (st : eb_S) (a0 : Nat) (a1 : Int32) (a2 : Int32) (a3 : Int32) (K : eb_S → Prop) : Prop :=
  eb_gr st a0 12 3 (fun v1 => eb_nn v1 (fun p2 => eb_wi Γ st p2 0 a1 a2 (fun g3 => eb_gr g3 a0 12 4 (fun v4 => eb_nn v4 (fun p5 => eb_wi Γ g3 p5 0 a1 a3 (fun g6 => eb_gr g6 a0 12 5 (fun v7 => eb_nn v7 (fun p8 => eb_wi Γ g6 p8 1 a2 (vp_nar .boolean 1) (fun g9 => eb_gr g9 a0 12 6 (fun v10 => eb_gi g9 a0 12 7 (fun v11 => eb_nn v10 (fun p12 => eb_wi Γ g9 p12 0 v11 a1 (fun g13 => eb_gi g13 a0 12 7 (fun v14 => eb_pt g13 a0 12 7 (.int (v14 + 1)) (fun g15 => K g15)))))))))))))))
abbrev rmX13_comes : Room := { frames := 1, cells := 0, slots := 0, locals := 12 }
theorem nX13_comes : eb_ar yX13_comes 3 := by decide +kernel
theorem dX13_comes_0 : eb_dc cX13_comes 0 (.aload_n 0) 1 1 := by decide +kernel
theorem dX13_comes_1 : eb_dc cX13_comes 1 (.getfield 31) 3 4 := by decide +kernel
theorem dX13_comes_4 : eb_dc cX13_comes 4 (.iload_n 1) 1 5 := by decide +kernel
theorem dX13_comes_5 : eb_dc cX13_comes 5 (.iload_n 2) 1 6 := by decide +kernel
theorem dX13_comes_6 : eb_dc cX13_comes 6 (.iastore) 1 7 := by decide +kernel
theorem dX13_comes_7 : eb_dc cX13_comes 7 (.aload_n 0) 1 8 := by decide +kernel
theorem dX13_comes_8 : eb_dc cX13_comes 8 (.getfield 35) 3 11 := by decide +kernel
theorem dX13_comes_11 : eb_dc cX13_comes 11 (.iload_n 1) 1 12 := by decide +kernel
theorem dX13_comes_12 : eb_dc cX13_comes 12 (.iload_n 3) 1 13 := by decide +kernel
theorem dX13_comes_13 : eb_dc cX13_comes 13 (.iastore) 1 14 := by decide +kernel
theorem dX13_comes_14 : eb_dc cX13_comes 14 (.aload_n 0) 1 15 := by decide +kernel
theorem dX13_comes_15 : eb_dc cX13_comes 15 (.getfield 38) 3 18 := by decide +kernel
theorem dX13_comes_18 : eb_dc cX13_comes 18 (.iload_n 2) 1 19 := by decide +kernel
theorem dX13_comes_19 : eb_dc cX13_comes 19 (.iconst 1) 1 20 := by decide +kernel
theorem dX13_comes_20 : eb_dc cX13_comes 20 (.bastore) 1 21 := by decide +kernel
theorem dX13_comes_21 : eb_dc cX13_comes 21 (.aload_n 0) 1 22 := by decide +kernel
theorem dX13_comes_22 : eb_dc cX13_comes 22 (.getfield 42) 3 25 := by decide +kernel
theorem dX13_comes_25 : eb_dc cX13_comes 25 (.aload_n 0) 1 26 := by decide +kernel
theorem dX13_comes_26 : eb_dc cX13_comes 26 (.getfield 54) 3 29 := by decide +kernel
theorem dX13_comes_29 : eb_dc cX13_comes 29 (.iload_n 1) 1 30 := by decide +kernel
theorem dX13_comes_30 : eb_dc cX13_comes 30 (.iastore) 1 31 := by decide +kernel
theorem dX13_comes_31 : eb_dc cX13_comes 31 (.aload_n 0) 1 32 := by decide +kernel
theorem dX13_comes_32 : eb_dc cX13_comes 32 (.dup) 1 33 := by decide +kernel
theorem dX13_comes_33 : eb_dc cX13_comes 33 (.getfield 54) 3 36 := by decide +kernel
theorem dX13_comes_36 : eb_dc cX13_comes 36 (.iconst 1) 1 37 := by decide +kernel
theorem dX13_comes_37 : eb_dc cX13_comes 37 (.iadd) 1 38 := by decide +kernel
theorem dX13_comes_38 : eb_dc cX13_comes 38 (.putfield 54) 3 41 := by decide +kernel
theorem dX13_comes_41 : eb_dc cX13_comes 41 (.return_) 1 42 := by decide +kernel
theorem ctX13_comes {l : Launch} {Γ : eb_C} {st : eb_S} {a0 : Nat} {a1 : Int32} {a2 : Int32} {a3 : Int32} {K : eb_S → Prop} (h : MX13_comes Γ st a0 a1 a2 a3 K) : eb_Ct l Γ yX13_comes cX13_comes 4 (none) rmX13_comes [.ref a0, .int a1, .int a2, .int a3] st (eb_oV K) := by
  refine eb_of (by decide) (Nat.le_of_ble_eq_true rfl) (fun X P hP hX0 => ?_)
  show eb_G l Γ P X cX13_comes RX13 4 (none) rmX13_comes 0 [(0, .ref a0), (1, .int a1), (2, .int a2), (3, .int a3)] [] st 0 0
  refine eg_aload_n 0 dX13_comes_0 rfl rfl ?_
  obtain ⟨fs, v1, he, hv, h⟩ := h
  refine eg_get 3 in_X13 he rfl (Nat.le_of_ble_eq_true rfl) q809 rfl hv dX13_comes_1 ?_
  refine eg_iload_n 1 dX13_comes_4 rfl rfl ?_
  refine eg_iload_n 2 dX13_comes_5 rfl rfl ?_
  obtain ⟨p2, rfl, h⟩ := h
  obtain ⟨nA, fA, he, hb, h⟩ := h
  refine eh_iast he hb dX13_comes_6 (fun g3 eg3 => ?_)
  replace h := h g3 eg3
  refine eg_aload_n 0 dX13_comes_7 rfl rfl ?_
  obtain ⟨fs, v4, he, hv, h⟩ := h
  refine eg_get 4 in_X13 he rfl (Nat.le_of_ble_eq_true rfl) q810 rfl hv dX13_comes_8 ?_
  refine eg_iload_n 1 dX13_comes_11 rfl rfl ?_
  refine eg_iload_n 3 dX13_comes_12 rfl rfl ?_
  obtain ⟨p5, rfl, h⟩ := h
  obtain ⟨nA, fA, he, hb, h⟩ := h
  refine eh_iast he hb dX13_comes_13 (fun g6 eg6 => ?_)
  replace h := h g6 eg6
  refine eg_aload_n 0 dX13_comes_14 rfl rfl ?_
  obtain ⟨fs, v7, he, hv, h⟩ := h
  refine eg_get 5 in_X13 he rfl (Nat.le_of_ble_eq_true rfl) q811 rfl hv dX13_comes_15 ?_
  refine eg_iload_n 2 dX13_comes_18 rfl rfl ?_
  refine eg_iconst dX13_comes_19 kc_1 ?_
  obtain ⟨p8, rfl, h⟩ := h
  obtain ⟨nA, fA, he, hb, h⟩ := h
  refine eh_zast he hb dX13_comes_20 (fun g9 eg9 => ?_)
  replace h := h g9 eg9
  refine eg_aload_n 0 dX13_comes_21 rfl rfl ?_
  obtain ⟨fs, v10, he, hv, h⟩ := h
  refine eg_get 6 in_X13 he rfl (Nat.le_of_ble_eq_true rfl) q812 rfl hv dX13_comes_22 ?_
  refine eg_aload_n 0 dX13_comes_25 rfl rfl ?_
  obtain ⟨fs, v11, he, hv, h⟩ := h
  refine eg_get 7 in_X13 he rfl (Nat.le_of_ble_eq_true rfl) q813 rfl hv dX13_comes_26 ?_
  refine eg_iload_n 1 dX13_comes_29 rfl rfl ?_
  obtain ⟨p12, rfl, h⟩ := h
  obtain ⟨nA, fA, he, hb, h⟩ := h
  refine eh_iast he hb dX13_comes_30 (fun g13 eg13 => ?_)
  replace h := h g13 eg13
  refine eg_aload_n 0 dX13_comes_31 rfl rfl ?_
  refine eg_dup dX13_comes_32 rfl ?_
  obtain ⟨fs, v14, he, hv, h⟩ := h
  refine eg_get 7 in_X13 he rfl (Nat.le_of_ble_eq_true rfl) q813 rfl hv dX13_comes_33 ?_
  refine eg_iconst dX13_comes_36 kc_1 ?_
  refine eg_iadd dX13_comes_37 ?_
  obtain ⟨fs, he, hlen, h⟩ := h
  refine eh_put 7 in_X13 he rfl (Nat.le_of_ble_eq_true rfl) tyX13 tyX13_ok nmX13 q813 rfl rfl rfl rfl hlen dX13_comes_38 (fun g15 eg15 => ?_)
  replace h := h g15 eg15
  exact eg_vret dX13_comes_41 (Nat.zero_le _) (Nat.zero_le _) (hP _ _ ⟨rfl, h⟩)
theorem gUX13_65 : ∀ c ∈ [9, 10, 13], ∃ (C : String) (T : u_T) (N : Nat), eb_cl[c]? = some (C, T, N) ∧ GoodIn lw_all (va_wsU "EvenBodies$Laid" 65 C "EvenBodies$Net" ⟨"EvenBodies$Net", "degree", "(I)I"⟩ yX10_degree (ws_ yX10_degree cX10_degree 2 (some .int))) := by
  intro c hc
  simp only [List.mem_cons, List.not_mem_nil, or_false] at hc
  rcases hc with rfl | rfl | rfl
  · exact ⟨_, _, _, rfl, lw_U q847 q651 q650 q649 q87 q654⟩
  · exact ⟨_, _, _, rfl, lw_U q847 q651 q652 q649 q87 q654⟩
  · exact ⟨_, _, _, rfl, lw_U q847 q651 q653 q649 q87 q654⟩
def MX13_goesOn (Γ : eb_C) (st : eb_S) (a0 : Nat) (a1 : Int32) (a2 : Int32) (K : Int32 → eb_S → Prop) : Prop :=
  eb_gr st a0 12 3 (fun v1 => eb_nn v1 (fun p2 => eb_li Γ st p2 0 a1 (fun v3 => eb_gr st a0 12 0 (fun v4 => eb_nn v4 (fun p5 => eb_gr st p5 11 1 (fun v6 => eb_nn v6 (fun p7 => eb_cs st p7 [9, 10, 13] ∧ MX10_degree Γ st p7 a1 (fun v8 => eb_gr st a0 12 1 (fun v12 => eb_nn v12 (fun p13 => eb_gr st p13 11 1 (fun v14 => eb_nn v14 (fun p15 => eb_cs st p15 [9, 10, 13] ∧ MX10_degree Γ st p15 v3 (fun v16 => eb_br (v16 = v8) (eb_loop2 (fun r22 (x5_20 : Int32) (g21 : eb_S) => eb_br (v8 ≤ x5_20) (K 1 g21) (eb_gr g21 a0 12 4 (fun v23 => eb_nn v23 (fun p24 => eb_li Γ g21 p24 0 a1 (fun v25 => MJ2_floorMod ((v25 + (a2 * x5_20))) v8 (fun v26 => eb_gr g21 a0 12 1 (fun v30 => eb_jp1 (fun (s31 : Int32) => eb_nn v30 (fun p32 => eb_cs g21 p32 [11] ∧ MX12_sizeBehind Γ g21 p32 v3 s31 (fun v33 => eb_gr g21 a0 12 0 (fun v37 => eb_nn v37 (fun p38 => eb_cs g21 p38 [11] ∧ MX12_neighbour Γ g21 p38 a1 x5_20 (fun v39 => eb_gr g21 a0 12 1 (fun v43 => eb_nn v43 (fun p44 => eb_cs g21 p44 [11] ∧ MX12_neighbour Γ g21 p44 v3 v26 (fun v45 => eb_gr g21 a0 12 0 (fun v49 => eb_nn v49 (fun p50 => eb_cs g21 p50 [11] ∧ MX12_sizeBehind Γ g21 p50 a1 x5_20 (fun v51 => eb_br (v51 = v33) (eb_gr g21 a0 12 3 (fun v55 => eb_nn v55 (fun p56 => eb_li Γ g21 p56 0 v39 (fun v57 => eb_jp0 (eb_gr g21 a0 12 3 (fun v58 => eb_nn v58 (fun p59 => eb_li Γ g21 p59 0 v39 (fun v60 => eb_jp0 (eb_gr g21 a0 12 3 (fun v61 => eb_nn v61 (fun p62 => eb_li Γ g21 p62 0 v39 (fun v63 => eb_jp1 (fun (g64 : eb_S) => r22 (x5_20 + 1) g64) (fun k65 => eb_br (v63 = (-1)) (eb_gr g21 a0 12 1 (fun v66 => eb_nn v66 (fun p67 => eb_cs g21 p67 [11] ∧ MX12_placeOf Γ g21 p67 v45 v3 (fun v68 => eb_gr g21 a0 12 0 (fun v72 => eb_nn v72 (fun p73 => eb_cs g21 p73 [11] ∧ MX12_placeOf Γ g21 p73 v39 a1 (fun v74 => eb_gr g21 a0 12 1 (fun v78 => eb_nn v78 (fun p79 => eb_gr g21 p79 11 1 (fun v80 => eb_nn v80 (fun p81 => eb_cs g21 p81 [9, 10, 13] ∧ MX10_degree Γ g21 p81 v45 (fun v82 => MJ2_floorMod ((v68 - (a2 * v74))) v82 (fun v86 => eb_cs g21 a0 [12] ∧ MX13_comes Γ g21 a0 v39 v45 v86 (fun g91 => k65 g91)))))))))))))) (k65 g21)))))) (fun k95 => eb_br (v60 = (-1)) (k95) (eb_gr g21 a0 12 3 (fun v96 => eb_nn v96 (fun p97 => eb_li Γ g21 p97 0 v39 (fun v98 => eb_br (v98 = v45) (k95) (K 0 g21)))))))))) (fun k101 => eb_br (v57 = (-1)) (eb_gr g21 a0 12 5 (fun v102 => eb_nn v102 (fun p103 => eb_li Γ g21 p103 1 v45 (fun v104 => eb_br (v104 = 0) (k101) (K 0 g21))))) (k101)))))) (K 0 g21))))))))))))) (fun k108 => eb_br (a2 = 1) (k108 v26) (eb_gr g21 a0 12 1 (fun v109 => eb_nn v109 (fun p110 => eb_cs g21 p110 [11] ∧ MX12_before Γ g21 p110 v3 v26 (fun v111 => k108 v111)))))))))))) 0 st) (K 0 st))))))))))))))
abbrev rmX13_goesOn : Room := { frames := 3, cells := 0, slots := 0, locals := 57 }
theorem nX13_goesOn : eb_ar yX13_goesOn 2 := by decide +kernel
theorem dX13_goesOn_0 : eb_dc cX13_goesOn 0 (.aload_n 0) 1 1 := by decide +kernel
theorem dX13_goesOn_1 : eb_dc cX13_goesOn 1 (.getfield 31) 3 4 := by decide +kernel
theorem dX13_goesOn_4 : eb_dc cX13_goesOn 4 (.iload_n 1) 1 5 := by decide +kernel
theorem dX13_goesOn_5 : eb_dc cX13_goesOn 5 (.iaload) 1 6 := by decide +kernel
theorem dX13_goesOn_6 : eb_dc cX13_goesOn 6 (.istore_n 3) 1 7 := by decide +kernel
theorem dX13_goesOn_7 : eb_dc cX13_goesOn 7 (.aload_n 0) 1 8 := by decide +kernel
theorem dX13_goesOn_8 : eb_dc cX13_goesOn 8 (.getfield 9) 3 11 := by decide +kernel
theorem dX13_goesOn_11 : eb_dc cX13_goesOn 11 (.getfield 18) 3 14 := by decide +kernel
theorem dX13_goesOn_14 : eb_dc cX13_goesOn 14 (.iload_n 1) 1 15 := by decide +kernel
theorem dX13_goesOn_15 : eb_dc cX13_goesOn 15 (.invokevirtual 65) 3 18 := by decide +kernel
theorem dX13_goesOn_18 : eb_dc cX13_goesOn 18 (.istore 4) 2 20 := by decide +kernel
theorem dX13_goesOn_20 : eb_dc cX13_goesOn 20 (.aload_n 0) 1 21 := by decide +kernel
theorem dX13_goesOn_21 : eb_dc cX13_goesOn 21 (.getfield 15) 3 24 := by decide +kernel
theorem dX13_goesOn_24 : eb_dc cX13_goesOn 24 (.getfield 18) 3 27 := by decide +kernel
theorem dX13_goesOn_27 : eb_dc cX13_goesOn 27 (.iload_n 3) 1 28 := by decide +kernel
theorem dX13_goesOn_28 : eb_dc cX13_goesOn 28 (.invokevirtual 65) 3 31 := by decide +kernel
theorem dX13_goesOn_31 : eb_dc cX13_goesOn 31 (.iload 4) 2 33 := by decide +kernel
theorem dX13_goesOn_33 : eb_dj cX13_goesOn 33 (.if_icmp .eq 5) 5 36 38 := by decide +kernel
theorem dX13_goesOn_36 : eb_dc cX13_goesOn 36 (.iconst 0) 1 37 := by decide +kernel
theorem dX13_goesOn_37 : eb_dc cX13_goesOn 37 (.ireturn) 1 38 := by decide +kernel
theorem dX13_goesOn_38 : eb_dc cX13_goesOn 38 (.iconst 0) 1 39 := by decide +kernel
theorem dX13_goesOn_39 : eb_dc cX13_goesOn 39 (.istore 5) 2 41 := by decide +kernel
theorem dX13_goesOn_41 : eb_dc cX13_goesOn 41 (.iload 5) 2 43 := by decide +kernel
theorem dX13_goesOn_43 : eb_dc cX13_goesOn 43 (.iload 4) 2 45 := by decide +kernel
theorem dX13_goesOn_45 : eb_dj cX13_goesOn 45 (.if_icmp .ge 203) 203 48 248 := by decide +kernel
theorem dX13_goesOn_48 : eb_dc cX13_goesOn 48 (.aload_n 0) 1 49 := by decide +kernel
theorem dX13_goesOn_49 : eb_dc cX13_goesOn 49 (.getfield 35) 3 52 := by decide +kernel
theorem dX13_goesOn_52 : eb_dc cX13_goesOn 52 (.iload_n 1) 1 53 := by decide +kernel
theorem dX13_goesOn_53 : eb_dc cX13_goesOn 53 (.iaload) 1 54 := by decide +kernel
theorem dX13_goesOn_54 : eb_dc cX13_goesOn 54 (.iload_n 2) 1 55 := by decide +kernel
theorem dX13_goesOn_55 : eb_dc cX13_goesOn 55 (.iload 5) 2 57 := by decide +kernel
theorem dX13_goesOn_57 : eb_dc cX13_goesOn 57 (.imul) 1 58 := by decide +kernel
theorem dX13_goesOn_58 : eb_dc cX13_goesOn 58 (.iadd) 1 59 := by decide +kernel
theorem dX13_goesOn_59 : eb_dc cX13_goesOn 59 (.iload 4) 2 61 := by decide +kernel
theorem dX13_goesOn_61 : eb_dc cX13_goesOn 61 (.invokestatic 69) 3 64 := by decide +kernel
theorem dX13_goesOn_64 : eb_dc cX13_goesOn 64 (.istore 6) 2 66 := by decide +kernel
theorem dX13_goesOn_66 : eb_dc cX13_goesOn 66 (.aload_n 0) 1 67 := by decide +kernel
theorem dX13_goesOn_67 : eb_dc cX13_goesOn 67 (.getfield 15) 3 70 := by decide +kernel
theorem dX13_goesOn_70 : eb_dc cX13_goesOn 70 (.iload_n 3) 1 71 := by decide +kernel
theorem dX13_goesOn_71 : eb_dc cX13_goesOn 71 (.iload_n 2) 1 72 := by decide +kernel
theorem dX13_goesOn_72 : eb_dc cX13_goesOn 72 (.iconst 1) 1 73 := by decide +kernel
theorem dX13_goesOn_73 : eb_dj cX13_goesOn 73 (.if_icmp .ne 8) 8 76 81 := by decide +kernel
theorem dX13_goesOn_76 : eb_dc cX13_goesOn 76 (.iload 6) 2 78 := by decide +kernel
theorem dX13_goesOn_78 : eb_dj cX13_goesOn 78 (.goto 13) 13 81 91 := by decide +kernel
theorem dX13_goesOn_81 : eb_dc cX13_goesOn 81 (.aload_n 0) 1 82 := by decide +kernel
theorem dX13_goesOn_82 : eb_dc cX13_goesOn 82 (.getfield 15) 3 85 := by decide +kernel
theorem dX13_goesOn_85 : eb_dc cX13_goesOn 85 (.iload_n 3) 1 86 := by decide +kernel
theorem dX13_goesOn_86 : eb_dc cX13_goesOn 86 (.iload 6) 2 88 := by decide +kernel
theorem dX13_goesOn_88 : eb_dc cX13_goesOn 88 (.invokevirtual 75) 3 91 := by decide +kernel
theorem dX13_goesOn_91 : eb_dc cX13_goesOn 91 (.invokevirtual 78) 3 94 := by decide +kernel
theorem dX13_goesOn_94 : eb_dc cX13_goesOn 94 (.istore 7) 2 96 := by decide +kernel
theorem dX13_goesOn_96 : eb_dc cX13_goesOn 96 (.aload_n 0) 1 97 := by decide +kernel
theorem dX13_goesOn_97 : eb_dc cX13_goesOn 97 (.getfield 9) 3 100 := by decide +kernel
theorem dX13_goesOn_100 : eb_dc cX13_goesOn 100 (.iload_n 1) 1 101 := by decide +kernel
theorem dX13_goesOn_101 : eb_dc cX13_goesOn 101 (.iload 5) 2 103 := by decide +kernel
theorem dX13_goesOn_103 : eb_dc cX13_goesOn 103 (.invokevirtual 81) 3 106 := by decide +kernel
theorem dX13_goesOn_106 : eb_dc cX13_goesOn 106 (.istore 8) 2 108 := by decide +kernel
theorem dX13_goesOn_108 : eb_dc cX13_goesOn 108 (.aload_n 0) 1 109 := by decide +kernel
theorem dX13_goesOn_109 : eb_dc cX13_goesOn 109 (.getfield 15) 3 112 := by decide +kernel
theorem dX13_goesOn_112 : eb_dc cX13_goesOn 112 (.iload_n 3) 1 113 := by decide +kernel
theorem dX13_goesOn_113 : eb_dc cX13_goesOn 113 (.iload 6) 2 115 := by decide +kernel
theorem dX13_goesOn_115 : eb_dc cX13_goesOn 115 (.invokevirtual 81) 3 118 := by decide +kernel
theorem dX13_goesOn_118 : eb_dc cX13_goesOn 118 (.istore 9) 2 120 := by decide +kernel
theorem dX13_goesOn_120 : eb_dc cX13_goesOn 120 (.aload_n 0) 1 121 := by decide +kernel
theorem dX13_goesOn_121 : eb_dc cX13_goesOn 121 (.getfield 9) 3 124 := by decide +kernel
theorem dX13_goesOn_124 : eb_dc cX13_goesOn 124 (.iload_n 1) 1 125 := by decide +kernel
theorem dX13_goesOn_125 : eb_dc cX13_goesOn 125 (.iload 5) 2 127 := by decide +kernel
theorem dX13_goesOn_127 : eb_dc cX13_goesOn 127 (.invokevirtual 78) 3 130 := by decide +kernel
theorem dX13_goesOn_130 : eb_dc cX13_goesOn 130 (.iload 7) 2 132 := by decide +kernel
theorem dX13_goesOn_132 : eb_dj cX13_goesOn 132 (.if_icmp .ne 47) 47 135 179 := by decide +kernel
theorem dX13_goesOn_135 : eb_dc cX13_goesOn 135 (.aload_n 0) 1 136 := by decide +kernel
theorem dX13_goesOn_136 : eb_dc cX13_goesOn 136 (.getfield 31) 3 139 := by decide +kernel
theorem dX13_goesOn_139 : eb_dc cX13_goesOn 139 (.iload 8) 2 141 := by decide +kernel
theorem dX13_goesOn_141 : eb_dc cX13_goesOn 141 (.iaload) 1 142 := by decide +kernel
theorem dX13_goesOn_142 : eb_dc cX13_goesOn 142 (.iconst (-1)) 1 143 := by decide +kernel
theorem dX13_goesOn_143 : eb_dj cX13_goesOn 143 (.if_icmp .ne 13) 13 146 156 := by decide +kernel
theorem dX13_goesOn_146 : eb_dc cX13_goesOn 146 (.aload_n 0) 1 147 := by decide +kernel
theorem dX13_goesOn_147 : eb_dc cX13_goesOn 147 (.getfield 38) 3 150 := by decide +kernel
theorem dX13_goesOn_150 : eb_dc cX13_goesOn 150 (.iload 9) 2 152 := by decide +kernel
theorem dX13_goesOn_152 : eb_dc cX13_goesOn 152 (.baload) 1 153 := by decide +kernel
theorem dX13_goesOn_153 : eb_dj cX13_goesOn 153 (.ifCond .ne 26) 26 156 179 := by decide +kernel
theorem dX13_goesOn_156 : eb_dc cX13_goesOn 156 (.aload_n 0) 1 157 := by decide +kernel
theorem dX13_goesOn_157 : eb_dc cX13_goesOn 157 (.getfield 31) 3 160 := by decide +kernel
theorem dX13_goesOn_160 : eb_dc cX13_goesOn 160 (.iload 8) 2 162 := by decide +kernel
theorem dX13_goesOn_162 : eb_dc cX13_goesOn 162 (.iaload) 1 163 := by decide +kernel
theorem dX13_goesOn_163 : eb_dc cX13_goesOn 163 (.iconst (-1)) 1 164 := by decide +kernel
theorem dX13_goesOn_164 : eb_dj cX13_goesOn 164 (.if_icmp .eq 17) 17 167 181 := by decide +kernel
theorem dX13_goesOn_167 : eb_dc cX13_goesOn 167 (.aload_n 0) 1 168 := by decide +kernel
theorem dX13_goesOn_168 : eb_dc cX13_goesOn 168 (.getfield 31) 3 171 := by decide +kernel
theorem dX13_goesOn_171 : eb_dc cX13_goesOn 171 (.iload 8) 2 173 := by decide +kernel
theorem dX13_goesOn_173 : eb_dc cX13_goesOn 173 (.iaload) 1 174 := by decide +kernel
theorem dX13_goesOn_174 : eb_dc cX13_goesOn 174 (.iload 9) 2 176 := by decide +kernel
theorem dX13_goesOn_176 : eb_dj cX13_goesOn 176 (.if_icmp .eq 5) 5 179 181 := by decide +kernel
theorem dX13_goesOn_179 : eb_dc cX13_goesOn 179 (.iconst 0) 1 180 := by decide +kernel
theorem dX13_goesOn_180 : eb_dc cX13_goesOn 180 (.ireturn) 1 181 := by decide +kernel
theorem dX13_goesOn_181 : eb_dc cX13_goesOn 181 (.aload_n 0) 1 182 := by decide +kernel
theorem dX13_goesOn_182 : eb_dc cX13_goesOn 182 (.getfield 31) 3 185 := by decide +kernel
theorem dX13_goesOn_185 : eb_dc cX13_goesOn 185 (.iload 8) 2 187 := by decide +kernel
theorem dX13_goesOn_187 : eb_dc cX13_goesOn 187 (.iaload) 1 188 := by decide +kernel
theorem dX13_goesOn_188 : eb_dc cX13_goesOn 188 (.iconst (-1)) 1 189 := by decide +kernel
theorem dX13_goesOn_189 : eb_dj cX13_goesOn 189 (.if_icmp .ne 53) 53 192 242 := by decide +kernel
theorem dX13_goesOn_192 : eb_dc cX13_goesOn 192 (.aload_n 0) 1 193 := by decide +kernel
theorem dX13_goesOn_193 : eb_dc cX13_goesOn 193 (.getfield 15) 3 196 := by decide +kernel
theorem dX13_goesOn_196 : eb_dc cX13_goesOn 196 (.iload 9) 2 198 := by decide +kernel
theorem dX13_goesOn_198 : eb_dc cX13_goesOn 198 (.iload_n 3) 1 199 := by decide +kernel
theorem dX13_goesOn_199 : eb_dc cX13_goesOn 199 (.invokevirtual 84) 3 202 := by decide +kernel
theorem dX13_goesOn_202 : eb_dc cX13_goesOn 202 (.iload_n 2) 1 203 := by decide +kernel
theorem dX13_goesOn_203 : eb_dc cX13_goesOn 203 (.aload_n 0) 1 204 := by decide +kernel
theorem dX13_goesOn_204 : eb_dc cX13_goesOn 204 (.getfield 9) 3 207 := by decide +kernel
theorem dX13_goesOn_207 : eb_dc cX13_goesOn 207 (.iload 8) 2 209 := by decide +kernel
theorem dX13_goesOn_209 : eb_dc cX13_goesOn 209 (.iload_n 1) 1 210 := by decide +kernel
theorem dX13_goesOn_210 : eb_dc cX13_goesOn 210 (.invokevirtual 84) 3 213 := by decide +kernel
theorem dX13_goesOn_213 : eb_dc cX13_goesOn 213 (.imul) 1 214 := by decide +kernel
theorem dX13_goesOn_214 : eb_dc cX13_goesOn 214 (.isub) 1 215 := by decide +kernel
theorem dX13_goesOn_215 : eb_dc cX13_goesOn 215 (.istore 10) 2 217 := by decide +kernel
theorem dX13_goesOn_217 : eb_dc cX13_goesOn 217 (.aload_n 0) 1 218 := by decide +kernel
theorem dX13_goesOn_218 : eb_dc cX13_goesOn 218 (.iload 8) 2 220 := by decide +kernel
theorem dX13_goesOn_220 : eb_dc cX13_goesOn 220 (.iload 9) 2 222 := by decide +kernel
theorem dX13_goesOn_222 : eb_dc cX13_goesOn 222 (.iload 10) 2 224 := by decide +kernel
theorem dX13_goesOn_224 : eb_dc cX13_goesOn 224 (.aload_n 0) 1 225 := by decide +kernel
theorem dX13_goesOn_225 : eb_dc cX13_goesOn 225 (.getfield 15) 3 228 := by decide +kernel
theorem dX13_goesOn_228 : eb_dc cX13_goesOn 228 (.getfield 18) 3 231 := by decide +kernel
theorem dX13_goesOn_231 : eb_dc cX13_goesOn 231 (.iload 9) 2 233 := by decide +kernel
theorem dX13_goesOn_233 : eb_dc cX13_goesOn 233 (.invokevirtual 65) 3 236 := by decide +kernel
theorem dX13_goesOn_236 : eb_dc cX13_goesOn 236 (.invokestatic 69) 3 239 := by decide +kernel
theorem dX13_goesOn_239 : eb_dc cX13_goesOn 239 (.invokevirtual 57) 3 242 := by decide +kernel
theorem dX13_goesOn_242 : eb_dc cX13_goesOn 242 (.iinc 5 1) 3 245 := by decide +kernel
theorem dX13_goesOn_245 : eb_dj cX13_goesOn 245 (.goto (-204)) (-204) 248 41 := by decide +kernel
theorem dX13_goesOn_248 : eb_dc cX13_goesOn 248 (.iconst 1) 1 249 := by decide +kernel
theorem dX13_goesOn_249 : eb_dc cX13_goesOn 249 (.ireturn) 1 250 := by decide +kernel
theorem ctX13_goesOn {l : Launch} {Γ : eb_C} {st : eb_S} {a0 : Nat} {a1 : Int32} {a2 : Int32} {K : Int32 → eb_S → Prop} (h : MX13_goesOn Γ st a0 a1 a2 K) : eb_Ct l Γ yX13_goesOn cX13_goesOn 11 (some .boolean) rmX13_goesOn [.ref a0, .int a1, .int a2] st (eb_oI K) := by
  refine eb_of (by decide) (Nat.le_of_ble_eq_true rfl) (fun X P hP hX0 => ?_)
  show eb_G l Γ P X cX13_goesOn RX13 11 (some .boolean) rmX13_goesOn 0 [(0, .ref a0), (1, .int a1), (2, .int a2)] [] st 0 0
  refine eg_aload_n 0 dX13_goesOn_0 rfl rfl ?_
  obtain ⟨fs, v1, he, hv, h⟩ := h
  refine eg_get 3 in_X13 he rfl (Nat.le_of_ble_eq_true rfl) q809 rfl hv dX13_goesOn_1 ?_
  refine eg_iload_n 1 dX13_goesOn_4 rfl rfl ?_
  obtain ⟨p2, rfl, h⟩ := h
  obtain ⟨nA, fA, he, hb, h⟩ := h
  refine eh_iald he hb dX13_goesOn_5 (fun v3 ev3 => ?_)
  replace h := h v3 ev3
  refine eg_istore_n (lv' := [(3, .int v3), (0, .ref a0), (1, .int a1), (2, .int a2)]) dX13_goesOn_6 rfl (Nat.le_of_ble_eq_true rfl) rfl ?_
  refine eg_aload_n 1 dX13_goesOn_7 rfl rfl ?_
  obtain ⟨fs, v4, he, hv, h⟩ := h
  refine eg_get 0 in_X13 he rfl (Nat.le_of_ble_eq_true rfl) q806 rfl hv dX13_goesOn_8 ?_
  obtain ⟨p5, rfl, h⟩ := h
  obtain ⟨fs, v6, he, hv, h⟩ := h
  refine eg_getN 1 in_X12 he rfl (Nat.le_of_ble_eq_true rfl) (List.mem_of_getElem? (i := 18) rfl) rfl hv dX13_goesOn_11 ?_
  refine eg_iload_n 2 dX13_goesOn_14 rfl rfl ?_
  obtain ⟨p7, rfl, h⟩ := h
  obtain ⟨hcs, h⟩ := h
  have hM0 := h
  clear h
  refine ec_UIp (rest := []) (ctX10_degree hM0) gUX13_65 rfl hcs nX10_degree ⟨Nat.le_of_ble_eq_true rfl, Nat.le_of_ble_eq_true rfl⟩ ⟨rfl, rfl⟩ ⟨Nat.zero_le _, Nat.zero_le _⟩ rfl rfl (Nat.le_of_ble_eq_true rfl) dX13_goesOn_15 (fun v8 h => ?_)
  clear hM0
  refine eg_istore (lv' := [(4, .int v8), (3, .int v3), (0, .ref a0), (1, .int a1), (2, .int a2)]) dX13_goesOn_18 (Nat.le_of_ble_eq_true rfl) rfl ?_
  refine eg_aload_n 2 dX13_goesOn_20 rfl rfl ?_
  obtain ⟨fs, v12, he, hv, h⟩ := h
  refine eg_get 1 in_X13 he rfl (Nat.le_of_ble_eq_true rfl) q807 rfl hv dX13_goesOn_21 ?_
  obtain ⟨p13, rfl, h⟩ := h
  obtain ⟨fs, v14, he, hv, h⟩ := h
  refine eg_getN 1 in_X12 he rfl (Nat.le_of_ble_eq_true rfl) (List.mem_of_getElem? (i := 18) rfl) rfl hv dX13_goesOn_24 ?_
  refine eg_iload_n 1 dX13_goesOn_27 rfl rfl ?_
  obtain ⟨p15, rfl, h⟩ := h
  obtain ⟨hcs, h⟩ := h
  have hM0 := h
  clear h
  refine ec_UIp (rest := []) (ctX10_degree hM0) gUX13_65 rfl hcs nX10_degree ⟨Nat.le_of_ble_eq_true rfl, Nat.le_of_ble_eq_true rfl⟩ ⟨rfl, rfl⟩ ⟨Nat.zero_le _, Nat.zero_le _⟩ rfl rfl (Nat.le_of_ble_eq_true rfl) dX13_goesOn_28 (fun v16 h => ?_)
  clear hM0
  refine eg_iload 0 dX13_goesOn_31 rfl ?_
  refine eg_icmp_eq dX13_goesOn_33 (fun c117 => ?_) (fun c117 => ?_)
  · replace h := h.1 c117
    refine eg_iconst dX13_goesOn_38 kc_0 ?_
    refine eg_istore (lv' := [(5, .int 0), (4, .int v8), (3, .int v3), (0, .ref a0), (1, .int a1), (2, .int a2)]) dX13_goesOn_39 (Nat.le_of_ble_eq_true rfl) rfl ?_
    refine eg_sub [3, 4, 5, 2, 1, 0] rfl ?_
    refine eb_loop2_e (J := fun (x5_20 : Int32) (g21 : eb_S) => eb_G l Γ P X cX13_goesOn RX13 11 (some .boolean) rmX13_goesOn 41 [(0, .ref a0), (1, .int a1), (2, .int a2), (3, .int v3), (4, .int v8), (5, .int x5_20)] [] g21 0 0) h ?_
    clear h
    intro r22 hr22 x5_20 g21 h
    refine eg_iload 5 dX13_goesOn_41 rfl ?_
    refine eg_iload 4 dX13_goesOn_43 rfl ?_
    refine eg_icmp_ge dX13_goesOn_45 (fun c116 => ?_) (fun c116 => ?_)
    · replace h := h.1 c116
      refine eg_iconst dX13_goesOn_248 kc_1 ?_
      exact eg_zret dX13_goesOn_249 rfl (Nat.zero_le _) (Nat.zero_le _) (hP _ _ ⟨_, rfl, h⟩)
    · replace h := h.2 c116
      refine eg_aload_n 0 dX13_goesOn_48 rfl rfl ?_
      obtain ⟨fs, v23, he, hv, h⟩ := h
      refine eg_get 4 in_X13 he rfl (Nat.le_of_ble_eq_true rfl) q810 rfl hv dX13_goesOn_49 ?_
      refine eg_iload_n 1 dX13_goesOn_52 rfl rfl ?_
      obtain ⟨p24, rfl, h⟩ := h
      obtain ⟨nA, fA, he, hb, h⟩ := h
      refine eh_iald he hb dX13_goesOn_53 (fun v25 ev25 => ?_)
      replace h := h v25 ev25
      refine eg_iload_n 2 dX13_goesOn_54 rfl rfl ?_
      refine eg_iload 5 dX13_goesOn_55 rfl ?_
      refine eg_imul dX13_goesOn_57 ?_
      refine eg_iadd dX13_goesOn_58 ?_
      refine eg_iload 4 dX13_goesOn_59 rfl ?_
      have hM0 := h
      clear h
      refine ec_SIp (rest := []) (ctJ2_floorMod hM0) (lw_S q848 q745 q90 q746) nJ2_floorMod ⟨Nat.le_of_ble_eq_true rfl, Nat.le_of_ble_eq_true rfl⟩ ⟨rfl, rfl⟩ ⟨Nat.zero_le _, Nat.zero_le _⟩ rfl rfl (Nat.le_of_ble_eq_true rfl) dX13_goesOn_61 (fun v26 h => ?_)
      clear hM0
      refine eg_istore (lv' := [(6, .int v26), (0, .ref a0), (1, .int a1), (2, .int a2), (3, .int v3), (4, .int v8), (5, .int x5_20)]) dX13_goesOn_64 (Nat.le_of_ble_eq_true rfl) rfl ?_
      refine eg_aload_n 1 dX13_goesOn_66 rfl rfl ?_
      obtain ⟨fs, v30, he, hv, h⟩ := h
      refine eg_get 1 in_X13 he rfl (Nat.le_of_ble_eq_true rfl) q807 rfl hv dX13_goesOn_67 ?_
      refine eg_iload_n 4 dX13_goesOn_70 rfl rfl ?_
      refine eg_iload_n 3 dX13_goesOn_71 rfl rfl ?_
      refine eg_iconst dX13_goesOn_72 kc_1 ?_
      refine eb_jp1_e (J := fun (s31 : Int32) => eb_G l Γ P X cX13_goesOn RX13 11 (some .boolean) rmX13_goesOn 91 [(0, .ref a0), (1, .int a1), (2, .int a2), (3, .int v3), (4, .int v8), (5, .int x5_20), (6, .int v26)] [.int s31, .int v3, va_rf v30] g21 0 0) h ?_ ?_
      · clear h
        intro s31 h
        obtain ⟨p32, rfl, h⟩ := h
        obtain ⟨hcs, h⟩ := h
        have hM0 := h
        clear h
        refine ec_VNIp (rest := []) (ctX12_sizeBehind hM0) q788 (List.mem_of_getElem? (i := 1) rfl) q89 q787 qs27 rfl hcs nX12_sizeBehind ⟨Nat.le_of_ble_eq_true rfl, Nat.le_of_ble_eq_true rfl⟩ ⟨rfl, rfl⟩ ⟨Nat.zero_le _, Nat.zero_le _⟩ rfl rfl (Nat.le_of_ble_eq_true rfl) dX13_goesOn_91 (fun v33 h => ?_)
        clear hM0
        refine eg_istore (lv' := [(7, .int v33), (0, .ref a0), (1, .int a1), (2, .int a2), (3, .int v3), (4, .int v8), (5, .int x5_20), (6, .int v26)]) dX13_goesOn_94 (Nat.le_of_ble_eq_true rfl) rfl ?_
        refine eg_aload_n 1 dX13_goesOn_96 rfl rfl ?_
        obtain ⟨fs, v37, he, hv, h⟩ := h
        refine eg_get 0 in_X13 he rfl (Nat.le_of_ble_eq_true rfl) q806 rfl hv dX13_goesOn_97 ?_
        refine eg_iload_n 2 dX13_goesOn_100 rfl rfl ?_
        refine eg_iload 6 dX13_goesOn_101 rfl ?_
        obtain ⟨p38, rfl, h⟩ := h
        obtain ⟨hcs, h⟩ := h
        have hM0 := h
        clear h
        refine ec_VNIp (rest := []) (ctX12_neighbour hM0) q731 (List.mem_of_getElem? (i := 2) rfl) q89 q730 qs21 rfl hcs nX12_neighbour ⟨Nat.le_of_ble_eq_true rfl, Nat.le_of_ble_eq_true rfl⟩ ⟨rfl, rfl⟩ ⟨Nat.zero_le _, Nat.zero_le _⟩ rfl rfl (Nat.le_of_ble_eq_true rfl) dX13_goesOn_103 (fun v39 h => ?_)
        clear hM0
        refine eg_istore (lv' := [(8, .int v39), (7, .int v33), (0, .ref a0), (1, .int a1), (2, .int a2), (3, .int v3), (4, .int v8), (5, .int x5_20), (6, .int v26)]) dX13_goesOn_106 (Nat.le_of_ble_eq_true rfl) rfl ?_
        refine eg_aload_n 2 dX13_goesOn_108 rfl rfl ?_
        obtain ⟨fs, v43, he, hv, h⟩ := h
        refine eg_get 1 in_X13 he rfl (Nat.le_of_ble_eq_true rfl) q807 rfl hv dX13_goesOn_109 ?_
        refine eg_iload_n 5 dX13_goesOn_112 rfl rfl ?_
        refine eg_iload 8 dX13_goesOn_113 rfl ?_
        obtain ⟨p44, rfl, h⟩ := h
        obtain ⟨hcs, h⟩ := h
        have hM0 := h
        clear h
        refine ec_VNIp (rest := []) (ctX12_neighbour hM0) q731 (List.mem_of_getElem? (i := 2) rfl) q89 q730 qs21 rfl hcs nX12_neighbour ⟨Nat.le_of_ble_eq_true rfl, Nat.le_of_ble_eq_true rfl⟩ ⟨rfl, rfl⟩ ⟨Nat.zero_le _, Nat.zero_le _⟩ rfl rfl (Nat.le_of_ble_eq_true rfl) dX13_goesOn_115 (fun v45 h => ?_)
        clear hM0
        refine eg_istore (lv' := [(9, .int v45), (8, .int v39), (7, .int v33), (0, .ref a0), (1, .int a1), (2, .int a2), (3, .int v3), (4, .int v8), (5, .int x5_20), (6, .int v26)]) dX13_goesOn_118 (Nat.le_of_ble_eq_true rfl) rfl ?_
        refine eg_aload_n 3 dX13_goesOn_120 rfl rfl ?_
        obtain ⟨fs, v49, he, hv, h⟩ := h
        refine eg_get 0 in_X13 he rfl (Nat.le_of_ble_eq_true rfl) q806 rfl hv dX13_goesOn_121 ?_
        refine eg_iload_n 4 dX13_goesOn_124 rfl rfl ?_
        refine eg_iload 8 dX13_goesOn_125 rfl ?_
        obtain ⟨p50, rfl, h⟩ := h
        obtain ⟨hcs, h⟩ := h
        have hM0 := h
        clear h
        refine ec_VNIp (rest := []) (ctX12_sizeBehind hM0) q788 (List.mem_of_getElem? (i := 1) rfl) q89 q787 qs27 rfl hcs nX12_sizeBehind ⟨Nat.le_of_ble_eq_true rfl, Nat.le_of_ble_eq_true rfl⟩ ⟨rfl, rfl⟩ ⟨Nat.zero_le _, Nat.zero_le _⟩ rfl rfl (Nat.le_of_ble_eq_true rfl) dX13_goesOn_127 (fun v51 h => ?_)
        clear hM0
        refine eg_iload 2 dX13_goesOn_130 rfl ?_
        refine eg_icmp_ne dX13_goesOn_132 (fun c107 => ?_) (fun c107 => ?_)
        · replace h := h.2 c107
          refine eg_iconst dX13_goesOn_179 kc_0 ?_
          exact eg_zret dX13_goesOn_180 rfl (Nat.zero_le _) (Nat.zero_le _) (hP _ _ ⟨_, rfl, h⟩)
        · replace h := h.1 c107
          refine eg_aload_n 3 dX13_goesOn_135 rfl rfl ?_
          obtain ⟨fs, v55, he, hv, h⟩ := h
          refine eg_get 3 in_X13 he rfl (Nat.le_of_ble_eq_true rfl) q809 rfl hv dX13_goesOn_136 ?_
          refine eg_iload 1 dX13_goesOn_139 rfl ?_
          obtain ⟨p56, rfl, h⟩ := h
          obtain ⟨nA, fA, he, hb, h⟩ := h
          refine eh_iald he hb dX13_goesOn_141 (fun v57 ev57 => ?_)
          replace h := h v57 ev57
          refine eg_iconst dX13_goesOn_142 kc_m1 ?_
          refine eb_jp0_e (J := eb_G l Γ P X cX13_goesOn RX13 11 (some .boolean) rmX13_goesOn 156 [(0, .ref a0), (1, .int a1), (2, .int a2), (3, .int v3), (4, .int v8), (5, .int x5_20), (8, .int v39), (9, .int v45)] [] g21 0 0) h ?_ ?_
          · clear h
            intro  h
            refine eg_aload_n 0 dX13_goesOn_156 rfl rfl ?_
            obtain ⟨fs, v58, he, hv, h⟩ := h
            refine eg_get 3 in_X13 he rfl (Nat.le_of_ble_eq_true rfl) q809 rfl hv dX13_goesOn_157 ?_
            refine eg_iload 6 dX13_goesOn_160 rfl ?_
            obtain ⟨p59, rfl, h⟩ := h
            obtain ⟨nA, fA, he, hb, h⟩ := h
            refine eh_iald he hb dX13_goesOn_162 (fun v60 ev60 => ?_)
            replace h := h v60 ev60
            refine eg_iconst dX13_goesOn_163 kc_m1 ?_
            refine eb_jp0_e (J := eb_G l Γ P X cX13_goesOn RX13 11 (some .boolean) rmX13_goesOn 181 [(0, .ref a0), (1, .int a1), (2, .int a2), (3, .int v3), (4, .int v8), (5, .int x5_20), (8, .int v39), (9, .int v45)] [] g21 0 0) h ?_ ?_
            · clear h
              intro  h
              refine eg_aload_n 0 dX13_goesOn_181 rfl rfl ?_
              obtain ⟨fs, v61, he, hv, h⟩ := h
              refine eg_get 3 in_X13 he rfl (Nat.le_of_ble_eq_true rfl) q809 rfl hv dX13_goesOn_182 ?_
              refine eg_iload 6 dX13_goesOn_185 rfl ?_
              obtain ⟨p62, rfl, h⟩ := h
              obtain ⟨nA, fA, he, hb, h⟩ := h
              refine eh_iald he hb dX13_goesOn_187 (fun v63 ev63 => ?_)
              replace h := h v63 ev63
              refine eg_iconst dX13_goesOn_188 kc_m1 ?_
              refine eb_jp1_e (J := fun (g64 : eb_S) => eb_G l Γ P X cX13_goesOn RX13 11 (some .boolean) rmX13_goesOn 242 [(0, .ref a0), (1, .int a1), (2, .int a2), (3, .int v3), (4, .int v8), (5, .int x5_20)] [] g64 0 0) h ?_ ?_
              · clear h
                intro g64 h
                refine eg_iinc (j := 5) (lv' := [(5, .int (x5_20 + 1)), (0, .ref a0), (1, .int a1), (2, .int a2), (3, .int v3), (4, .int v8)]) dX13_goesOn_242 rfl (by rw [kc_1]) (Nat.le_of_ble_eq_true rfl) rfl ?_
                refine eg_goto dX13_goesOn_245 ?_
                exact eg_sub [1, 2, 3, 4, 5, 0] rfl (hr22 (x5_20 + 1) g64 h)
              · clear h
                intro k65 hk65 h
                refine eg_icmp_ne dX13_goesOn_189 (fun c94 => ?_) (fun c94 => ?_)
                · replace h := h.2 c94
                  exact eg_sub [0, 1, 2, 3, 4, 5] rfl (hk65 g21 h)
                · replace h := h.1 c94
                  refine eg_aload_n 0 dX13_goesOn_192 rfl rfl ?_
                  obtain ⟨fs, v66, he, hv, h⟩ := h
                  refine eg_get 1 in_X13 he rfl (Nat.le_of_ble_eq_true rfl) q807 rfl hv dX13_goesOn_193 ?_
                  refine eg_iload 7 dX13_goesOn_196 rfl ?_
                  refine eg_iload_n 3 dX13_goesOn_198 rfl rfl ?_
                  obtain ⟨p67, rfl, h⟩ := h
                  obtain ⟨hcs, h⟩ := h
                  have hM0 := h
                  clear h
                  refine ec_VNIp (rest := []) (ctX12_placeOf hM0) q739 (List.mem_of_getElem? (i := 3) rfl) q89 q738 qs23 rfl hcs nX12_placeOf ⟨Nat.le_of_ble_eq_true rfl, Nat.le_of_ble_eq_true rfl⟩ ⟨rfl, rfl⟩ ⟨Nat.zero_le _, Nat.zero_le _⟩ rfl rfl (Nat.le_of_ble_eq_true rfl) dX13_goesOn_199 (fun v68 h => ?_)
                  clear hM0
                  refine eg_iload_n 2 dX13_goesOn_202 rfl rfl ?_
                  refine eg_aload_n 0 dX13_goesOn_203 rfl rfl ?_
                  obtain ⟨fs, v72, he, hv, h⟩ := h
                  refine eg_get 0 in_X13 he rfl (Nat.le_of_ble_eq_true rfl) q806 rfl hv dX13_goesOn_204 ?_
                  refine eg_iload 6 dX13_goesOn_207 rfl ?_
                  refine eg_iload_n 1 dX13_goesOn_209 rfl rfl ?_
                  obtain ⟨p73, rfl, h⟩ := h
                  obtain ⟨hcs, h⟩ := h
                  have hM0 := h
                  clear h
                  refine ec_VNIp (rest := [.int a2, .int v68]) (ctX12_placeOf hM0) q739 (List.mem_of_getElem? (i := 3) rfl) q89 q738 qs23 rfl hcs nX12_placeOf ⟨Nat.le_of_ble_eq_true rfl, Nat.le_of_ble_eq_true rfl⟩ ⟨rfl, rfl⟩ ⟨Nat.zero_le _, Nat.zero_le _⟩ rfl rfl (Nat.le_of_ble_eq_true rfl) dX13_goesOn_210 (fun v74 h => ?_)
                  clear hM0
                  refine eg_imul dX13_goesOn_213 ?_
                  refine eg_isub dX13_goesOn_214 ?_
                  refine eg_istore (lv' := [(10, .int (v68 - (a2 * v74))), (0, .ref a0), (1, .int a1), (2, .int a2), (3, .int v3), (4, .int v8), (5, .int x5_20), (8, .int v39), (9, .int v45)]) dX13_goesOn_215 (Nat.le_of_ble_eq_true rfl) rfl ?_
                  refine eg_aload_n 1 dX13_goesOn_217 rfl rfl ?_
                  refine eg_iload 7 dX13_goesOn_218 rfl ?_
                  refine eg_iload 8 dX13_goesOn_220 rfl ?_
                  refine eg_iload 0 dX13_goesOn_222 rfl ?_
                  refine eg_aload_n 1 dX13_goesOn_224 rfl rfl ?_
                  obtain ⟨fs, v78, he, hv, h⟩ := h
                  refine eg_get 1 in_X13 he rfl (Nat.le_of_ble_eq_true rfl) q807 rfl hv dX13_goesOn_225 ?_
                  obtain ⟨p79, rfl, h⟩ := h
                  obtain ⟨fs, v80, he, hv, h⟩ := h
                  refine eg_getN 1 in_X12 he rfl (Nat.le_of_ble_eq_true rfl) (List.mem_of_getElem? (i := 18) rfl) rfl hv dX13_goesOn_228 ?_
                  refine eg_iload 8 dX13_goesOn_231 rfl ?_
                  obtain ⟨p81, rfl, h⟩ := h
                  obtain ⟨hcs, h⟩ := h
                  have hM0 := h
                  clear h
                  refine ec_UIp (rest := [.int (v68 - (a2 * v74)), .int v45, .int v39, .ref a0]) (ctX10_degree hM0) gUX13_65 rfl hcs nX10_degree ⟨Nat.le_of_ble_eq_true rfl, Nat.le_of_ble_eq_true rfl⟩ ⟨rfl, rfl⟩ ⟨Nat.zero_le _, Nat.zero_le _⟩ rfl rfl (Nat.le_of_ble_eq_true rfl) dX13_goesOn_233 (fun v82 h => ?_)
                  clear hM0
                  have hM0 := h
                  clear h
                  refine ec_SIp (rest := [.int v45, .int v39, .ref a0]) (ctJ2_floorMod hM0) (lw_S q848 q745 q90 q746) nJ2_floorMod ⟨Nat.le_of_ble_eq_true rfl, Nat.le_of_ble_eq_true rfl⟩ ⟨rfl, rfl⟩ ⟨Nat.zero_le _, Nat.zero_le _⟩ rfl rfl (Nat.le_of_ble_eq_true rfl) dX13_goesOn_236 (fun v86 h => ?_)
                  clear hM0
                  obtain ⟨hcs, h⟩ := h
                  have hM0 := h
                  clear h
                  refine ec_VVw (rest := []) (ctX13_comes hM0) (lw_V q839 q841 qs28 q91 q842) rfl rfl hcs nX13_comes ⟨Nat.le_of_ble_eq_true rfl, Nat.le_of_ble_eq_true rfl⟩ ⟨rfl, rfl⟩ ⟨Nat.zero_le _, Nat.zero_le _⟩ rfl rfl (Nat.le_of_ble_eq_true rfl) dX13_goesOn_239 (fun g91 h => ?_)
                  clear hM0
                  exact eg_sub [1, 2, 3, 4, 5, 6] rfl (hk65 g91 h)
            · clear h
              intro k95 hk95 h
              refine eg_icmp_eq dX13_goesOn_164 (fun c100 => ?_) (fun c100 => ?_)
              · replace h := h.1 c100
                exact hk95 h
              · replace h := h.2 c100
                refine eg_aload_n 0 dX13_goesOn_167 rfl rfl ?_
                obtain ⟨fs, v96, he, hv, h⟩ := h
                refine eg_get 3 in_X13 he rfl (Nat.le_of_ble_eq_true rfl) q809 rfl hv dX13_goesOn_168 ?_
                refine eg_iload 6 dX13_goesOn_171 rfl ?_
                obtain ⟨p97, rfl, h⟩ := h
                obtain ⟨nA, fA, he, hb, h⟩ := h
                refine eh_iald he hb dX13_goesOn_173 (fun v98 ev98 => ?_)
                replace h := h v98 ev98
                refine eg_iload 7 dX13_goesOn_174 rfl ?_
                refine eg_icmp_eq dX13_goesOn_176 (fun c99 => ?_) (fun c99 => ?_)
                · replace h := h.1 c99
                  exact hk95 h
                · replace h := h.2 c99
                  refine eg_iconst dX13_goesOn_179 kc_0 ?_
                  exact eg_zret dX13_goesOn_180 rfl (Nat.zero_le _) (Nat.zero_le _) (hP _ _ ⟨_, rfl, h⟩)
          · clear h
            intro k101 hk101 h
            refine eg_icmp_ne dX13_goesOn_143 (fun c106 => ?_) (fun c106 => ?_)
            · replace h := h.2 c106
              exact eg_sub [3, 4, 5, 6, 7, 8, 1, 0] rfl (hk101 h)
            · replace h := h.1 c106
              refine eg_aload_n 3 dX13_goesOn_146 rfl rfl ?_
              obtain ⟨fs, v102, he, hv, h⟩ := h
              refine eg_get 5 in_X13 he rfl (Nat.le_of_ble_eq_true rfl) q811 rfl hv dX13_goesOn_147 ?_
              refine eg_iload 0 dX13_goesOn_150 rfl ?_
              obtain ⟨p103, rfl, h⟩ := h
              obtain ⟨nA, fA, he, hb, h⟩ := h
              refine eh_zald he hb dX13_goesOn_152 (fun v104 ev104 => ?_)
              replace h := h v104 ev104
              refine eg_if_ne dX13_goesOn_153 (fun c105 => ?_) (fun c105 => ?_)
              · replace h := h.2 c105
                refine eg_iconst dX13_goesOn_179 kc_0 ?_
                exact eg_zret dX13_goesOn_180 rfl (Nat.zero_le _) (Nat.zero_le _) (hP _ _ ⟨_, rfl, h⟩)
              · replace h := h.1 c105
                exact eg_sub [3, 4, 5, 6, 7, 8, 1, 0] rfl (hk101 h)
      · clear h
        intro k108 hk108 h
        refine eg_icmp_ne dX13_goesOn_73 (fun c115 => ?_) (fun c115 => ?_)
        · replace h := h.2 c115
          refine eg_aload_n 1 dX13_goesOn_81 rfl rfl ?_
          obtain ⟨fs, v109, he, hv, h⟩ := h
          refine eg_get 1 in_X13 he rfl (Nat.le_of_ble_eq_true rfl) q807 rfl hv dX13_goesOn_82 ?_
          refine eg_iload_n 4 dX13_goesOn_85 rfl rfl ?_
          refine eg_iload 0 dX13_goesOn_86 rfl ?_
          obtain ⟨p110, rfl, h⟩ := h
          obtain ⟨hcs, h⟩ := h
          have hM0 := h
          clear h
          refine ec_VNIp (rest := [.int v3, va_rf v30]) (ctX12_before hM0) q743 (List.mem_of_getElem? (i := 0) rfl) q89 q742 qs24 rfl hcs nX12_before ⟨Nat.le_of_ble_eq_true rfl, Nat.le_of_ble_eq_true rfl⟩ ⟨rfl, rfl⟩ ⟨Nat.zero_le _, Nat.zero_le _⟩ rfl rfl (by simp only [List.map_cons, List.map_nil, eb_rfc]; exact Nat.le_of_ble_eq_true rfl) dX13_goesOn_88 (fun v111 h => ?_)
          clear hM0
          exact eg_sub [1, 2, 3, 4, 5, 6, 0] rfl (hk108 v111 h)
        · replace h := h.1 c115
          refine eg_iload 0 dX13_goesOn_76 rfl ?_
          refine eg_goto dX13_goesOn_78 ?_
          exact eg_sub [1, 2, 3, 4, 5, 6, 0] rfl (hk108 v26 h)
  · replace h := h.2 c117
    refine eg_iconst dX13_goesOn_36 kc_0 ?_
    exact eg_zret dX13_goesOn_37 rfl (Nat.zero_le _) (Nat.zero_le _) (hP _ _ ⟨_, rfl, h⟩)
def MX13_lies (Γ : eb_C) (st : eb_S) (a0 : Nat) (a1 : Int32) (a2 : Int32) (K : Int32 → eb_S → Prop) : Prop :=
  eb_gr st a0 12 3 (fun v1 => eb_nn v1 (fun p2 => MJ0_fill Γ st p2 (-1) (fun g4 => eb_gr g4 a0 12 5 (fun v7 => eb_nn v7 (fun p8 => MJ0_fill_4 Γ g4 p8 0 (fun g10 => eb_pt g10 a0 12 7 (.int 0) (fun g13 => eb_cs g13 a0 [12] ∧ MX13_comes Γ g13 a0 0 0 a1 (fun g15 => eb_jp1 (fun (g18 : eb_S) => eb_gi g18 a0 12 7 (fun v19 => eb_gi g18 a0 12 2 (fun v20 => eb_br (v19 = v20) (K 1 g18) (K 0 g18)))) (fun k22 => eb_loop2 (fun r25 (x3_23 : Int32) (g24 : eb_S) => eb_gi g24 a0 12 7 (fun v26 => eb_br (v26 ≤ x3_23) (k22 g24) (eb_gr g24 a0 12 6 (fun v27 => eb_nn v27 (fun p28 => eb_li Γ g24 p28 0 x3_23 (fun v29 => eb_cs g24 a0 [12] ∧ MX13_goesOn Γ g24 a0 v29 a2 (fun v30 g31 => eb_br (v30 = 0) (K 0 g31) (r25 (x3_23 + 1) g31)))))))) 0 g15)))))))))
abbrev rmX13_lies : Room := { frames := 4, cells := 0, slots := 0, locals := 87 }
theorem nX13_lies : eb_ar yX13_lies 2 := by decide +kernel
theorem dX13_lies_0 : eb_dc cX13_lies 0 (.aload_n 0) 1 1 := by decide +kernel
theorem dX13_lies_1 : eb_dc cX13_lies 1 (.getfield 31) 3 4 := by decide +kernel
theorem dX13_lies_4 : eb_dc cX13_lies 4 (.iconst (-1)) 1 5 := by decide +kernel
theorem dX13_lies_5 : eb_dc cX13_lies 5 (.invokestatic 45) 3 8 := by decide +kernel
theorem dX13_lies_8 : eb_dc cX13_lies 8 (.aload_n 0) 1 9 := by decide +kernel
theorem dX13_lies_9 : eb_dc cX13_lies 9 (.getfield 38) 3 12 := by decide +kernel
theorem dX13_lies_12 : eb_dc cX13_lies 12 (.iconst 0) 1 13 := by decide +kernel
theorem dX13_lies_13 : eb_dc cX13_lies 13 (.invokestatic 51) 3 16 := by decide +kernel
theorem dX13_lies_16 : eb_dc cX13_lies 16 (.aload_n 0) 1 17 := by decide +kernel
theorem dX13_lies_17 : eb_dc cX13_lies 17 (.iconst 0) 1 18 := by decide +kernel
theorem dX13_lies_18 : eb_dc cX13_lies 18 (.putfield 54) 3 21 := by decide +kernel
theorem dX13_lies_21 : eb_dc cX13_lies 21 (.aload_n 0) 1 22 := by decide +kernel
theorem dX13_lies_22 : eb_dc cX13_lies 22 (.iconst 0) 1 23 := by decide +kernel
theorem dX13_lies_23 : eb_dc cX13_lies 23 (.iconst 0) 1 24 := by decide +kernel
theorem dX13_lies_24 : eb_dc cX13_lies 24 (.iload_n 1) 1 25 := by decide +kernel
theorem dX13_lies_25 : eb_dc cX13_lies 25 (.invokevirtual 57) 3 28 := by decide +kernel
theorem dX13_lies_28 : eb_dc cX13_lies 28 (.iconst 0) 1 29 := by decide +kernel
theorem dX13_lies_29 : eb_dc cX13_lies 29 (.istore_n 3) 1 30 := by decide +kernel
theorem dX13_lies_30 : eb_dc cX13_lies 30 (.iload_n 3) 1 31 := by decide +kernel
theorem dX13_lies_31 : eb_dc cX13_lies 31 (.aload_n 0) 1 32 := by decide +kernel
theorem dX13_lies_32 : eb_dc cX13_lies 32 (.getfield 54) 3 35 := by decide +kernel
theorem dX13_lies_35 : eb_dj cX13_lies 35 (.if_icmp .ge 25) 25 38 60 := by decide +kernel
theorem dX13_lies_38 : eb_dc cX13_lies 38 (.aload_n 0) 1 39 := by decide +kernel
theorem dX13_lies_39 : eb_dc cX13_lies 39 (.aload_n 0) 1 40 := by decide +kernel
theorem dX13_lies_40 : eb_dc cX13_lies 40 (.getfield 42) 3 43 := by decide +kernel
theorem dX13_lies_43 : eb_dc cX13_lies 43 (.iload_n 3) 1 44 := by decide +kernel
theorem dX13_lies_44 : eb_dc cX13_lies 44 (.iaload) 1 45 := by decide +kernel
theorem dX13_lies_45 : eb_dc cX13_lies 45 (.iload_n 2) 1 46 := by decide +kernel
theorem dX13_lies_46 : eb_dc cX13_lies 46 (.invokevirtual 61) 3 49 := by decide +kernel
theorem dX13_lies_49 : eb_dj cX13_lies 49 (.ifCond .ne 5) 5 52 54 := by decide +kernel
theorem dX13_lies_52 : eb_dc cX13_lies 52 (.iconst 0) 1 53 := by decide +kernel
theorem dX13_lies_53 : eb_dc cX13_lies 53 (.ireturn) 1 54 := by decide +kernel
theorem dX13_lies_54 : eb_dc cX13_lies 54 (.iinc 3 1) 3 57 := by decide +kernel
theorem dX13_lies_57 : eb_dj cX13_lies 57 (.goto (-27)) (-27) 60 30 := by decide +kernel
theorem dX13_lies_60 : eb_dc cX13_lies 60 (.aload_n 0) 1 61 := by decide +kernel
theorem dX13_lies_61 : eb_dc cX13_lies 61 (.getfield 54) 3 64 := by decide +kernel
theorem dX13_lies_64 : eb_dc cX13_lies 64 (.aload_n 0) 1 65 := by decide +kernel
theorem dX13_lies_65 : eb_dc cX13_lies 65 (.getfield 30) 3 68 := by decide +kernel
theorem dX13_lies_68 : eb_dj cX13_lies 68 (.if_icmp .ne 7) 7 71 75 := by decide +kernel
theorem dX13_lies_71 : eb_dc cX13_lies 71 (.iconst 1) 1 72 := by decide +kernel
theorem dX13_lies_72 : eb_dj cX13_lies 72 (.goto 4) 4 75 76 := by decide +kernel
theorem dX13_lies_75 : eb_dc cX13_lies 75 (.iconst 0) 1 76 := by decide +kernel
theorem dX13_lies_76 : eb_dc cX13_lies 76 (.ireturn) 1 77 := by decide +kernel
theorem ctX13_lies {l : Launch} {Γ : eb_C} {st : eb_S} {a0 : Nat} {a1 : Int32} {a2 : Int32} {K : Int32 → eb_S → Prop} (h : MX13_lies Γ st a0 a1 a2 K) : eb_Ct l Γ yX13_lies cX13_lies 4 (some .boolean) rmX13_lies [.ref a0, .int a1, .int a2] st (eb_oI K) := by
  refine eb_of (by decide) (Nat.le_of_ble_eq_true rfl) (fun X P hP hX0 => ?_)
  show eb_G l Γ P X cX13_lies RX13 4 (some .boolean) rmX13_lies 0 [(0, .ref a0), (1, .int a1), (2, .int a2)] [] st 0 0
  refine eg_aload_n 0 dX13_lies_0 rfl rfl ?_
  obtain ⟨fs, v1, he, hv, h⟩ := h
  refine eg_get 3 in_X13 he rfl (Nat.le_of_ble_eq_true rfl) q809 rfl hv dX13_lies_1 ?_
  refine eg_iconst dX13_lies_4 kc_m1 ?_
  obtain ⟨p2, rfl, h⟩ := h
  have hM0 := h
  clear h
  refine ec_SVw (rest := []) (ctJ0_fill hM0) (lw_S q835 q116 q76 q117) nJ0_fill ⟨Nat.le_of_ble_eq_true rfl, Nat.le_of_ble_eq_true rfl⟩ ⟨rfl, rfl⟩ ⟨Nat.zero_le _, Nat.zero_le _⟩ rfl rfl (Nat.le_of_ble_eq_true rfl) dX13_lies_5 (fun g4 h => ?_)
  clear hM0
  refine eg_aload_n 0 dX13_lies_8 rfl rfl ?_
  obtain ⟨fs, v7, he, hv, h⟩ := h
  refine eg_get 5 in_X13 he rfl (Nat.le_of_ble_eq_true rfl) q811 rfl hv dX13_lies_9 ?_
  refine eg_iconst dX13_lies_12 kc_0 ?_
  obtain ⟨p8, rfl, h⟩ := h
  have hM0 := h
  clear h
  refine ec_SVw (rest := []) (ctJ0_fill_4 hM0) (lw_S q836 q837 q76 q838) nJ0_fill_4 ⟨Nat.le_of_ble_eq_true rfl, Nat.le_of_ble_eq_true rfl⟩ ⟨rfl, rfl⟩ ⟨Nat.zero_le _, Nat.zero_le _⟩ rfl rfl (Nat.le_of_ble_eq_true rfl) dX13_lies_13 (fun g10 h => ?_)
  clear hM0
  refine eg_aload_n 0 dX13_lies_16 rfl rfl ?_
  refine eg_iconst dX13_lies_17 kc_0 ?_
  obtain ⟨fs, he, hlen, h⟩ := h
  refine eh_put 7 in_X13 he rfl (Nat.le_of_ble_eq_true rfl) tyX13 tyX13_ok nmX13 q813 rfl rfl rfl rfl hlen dX13_lies_18 (fun g13 eg13 => ?_)
  replace h := h g13 eg13
  refine eg_aload_n 0 dX13_lies_21 rfl rfl ?_
  refine eg_iconst dX13_lies_22 kc_0 ?_
  refine eg_iconst dX13_lies_23 kc_0 ?_
  refine eg_iload_n 1 dX13_lies_24 rfl rfl ?_
  obtain ⟨hcs, h⟩ := h
  have hM0 := h
  clear h
  refine ec_VVw (rest := []) (ctX13_comes hM0) (lw_V q839 q841 qs28 q91 q842) rfl rfl hcs nX13_comes ⟨Nat.le_of_ble_eq_true rfl, Nat.le_of_ble_eq_true rfl⟩ ⟨rfl, rfl⟩ ⟨Nat.zero_le _, Nat.zero_le _⟩ rfl rfl (Nat.le_of_ble_eq_true rfl) dX13_lies_25 (fun g15 h => ?_)
  clear hM0
  refine eg_iconst dX13_lies_28 kc_0 ?_
  refine eg_istore_n (lv' := [(3, .int 0), (0, .ref a0), (1, .int a1), (2, .int a2)]) dX13_lies_29 rfl (Nat.le_of_ble_eq_true rfl) rfl ?_
  refine eb_jp1_e (J := fun (g18 : eb_S) => eb_G l Γ P X cX13_lies RX13 4 (some .boolean) rmX13_lies 60 [(0, .ref a0)] [] g18 0 0) h ?_ ?_
  · clear h
    intro g18 h
    refine eg_aload_n 0 dX13_lies_60 rfl rfl ?_
    obtain ⟨fs, v19, he, hv, h⟩ := h
    refine eg_get 7 in_X13 he rfl (Nat.le_of_ble_eq_true rfl) q813 rfl hv dX13_lies_61 ?_
    refine eg_aload_n 0 dX13_lies_64 rfl rfl ?_
    obtain ⟨fs, v20, he, hv, h⟩ := h
    refine eg_get 2 in_X13 he rfl (Nat.le_of_ble_eq_true rfl) q808 rfl hv dX13_lies_65 ?_
    refine eg_icmp_ne dX13_lies_68 (fun c21 => ?_) (fun c21 => ?_)
    · replace h := h.2 c21
      refine eg_iconst dX13_lies_75 kc_0 ?_
      exact eg_zret dX13_lies_76 rfl (Nat.zero_le _) (Nat.zero_le _) (hP _ _ ⟨_, rfl, h⟩)
    · replace h := h.1 c21
      refine eg_iconst dX13_lies_71 kc_1 ?_
      refine eg_goto dX13_lies_72 ?_
      exact eg_zret dX13_lies_76 rfl (Nat.zero_le _) (Nat.zero_le _) (hP _ _ ⟨_, rfl, h⟩)
  · clear h
    intro k22 hk22 h
    refine eg_sub [1, 3, 0] rfl ?_
    refine eb_loop2_e (J := fun (x3_23 : Int32) (g24 : eb_S) => eb_G l Γ P X cX13_lies RX13 4 (some .boolean) rmX13_lies 30 [(0, .ref a0), (2, .int a2), (3, .int x3_23)] [] g24 0 0) h ?_
    clear h
    intro r25 hr25 x3_23 g24 h
    refine eg_iload_n 2 dX13_lies_30 rfl rfl ?_
    refine eg_aload_n 0 dX13_lies_31 rfl rfl ?_
    obtain ⟨fs, v26, he, hv, h⟩ := h
    refine eg_get 7 in_X13 he rfl (Nat.le_of_ble_eq_true rfl) q813 rfl hv dX13_lies_32 ?_
    refine eg_icmp_ge dX13_lies_35 (fun c35 => ?_) (fun c35 => ?_)
    · replace h := h.1 c35
      exact eg_sub [0] rfl (hk22 g24 h)
    · replace h := h.2 c35
      refine eg_aload_n 0 dX13_lies_38 rfl rfl ?_
      refine eg_aload_n 0 dX13_lies_39 rfl rfl ?_
      obtain ⟨fs, v27, he, hv, h⟩ := h
      refine eg_get 6 in_X13 he rfl (Nat.le_of_ble_eq_true rfl) q812 rfl hv dX13_lies_40 ?_
      refine eg_iload_n 2 dX13_lies_43 rfl rfl ?_
      obtain ⟨p28, rfl, h⟩ := h
      obtain ⟨nA, fA, he, hb, h⟩ := h
      refine eh_iald he hb dX13_lies_44 (fun v29 ev29 => ?_)
      replace h := h v29 ev29
      refine eg_iload_n 1 dX13_lies_45 rfl rfl ?_
      obtain ⟨hcs, h⟩ := h
      have hM0 := h
      clear h
      refine ec_VIw (rest := []) (ctX13_goesOn hM0) (lw_V q843 q845 qs29 q91 q846) rfl rfl hcs nX13_goesOn ⟨Nat.le_of_ble_eq_true rfl, Nat.le_of_ble_eq_true rfl⟩ ⟨rfl, rfl⟩ ⟨Nat.zero_le _, Nat.zero_le _⟩ rfl rfl (Nat.le_of_ble_eq_true rfl) dX13_lies_46 (fun v30 g31 h => ?_)
      clear hM0
      refine eg_if_ne dX13_lies_49 (fun c34 => ?_) (fun c34 => ?_)
      · replace h := h.2 c34
        refine eg_iinc (j := 2) (lv' := [(3, .int (x3_23 + 1)), (0, .ref a0), (2, .int a2)]) dX13_lies_54 rfl (by rw [kc_1]) (Nat.le_of_ble_eq_true rfl) rfl ?_
        refine eg_goto dX13_lies_57 ?_
        exact eg_sub [1, 2, 0] rfl (hr25 (x3_23 + 1) g31 h)
      · replace h := h.1 c34
        refine eg_iconst dX13_lies_52 kc_0 ?_
        exact eg_zret dX13_lies_53 rfl (Nat.zero_le _) (Nat.zero_le _) (hP _ _ ⟨_, rfl, h⟩)
def MX12_isLike (Γ : eb_C) (bc bs : Nat) (st : eb_S) (a0 : Nat) (a1 : Nat) (K : Int32 → eb_S → Prop) : Prop :=
  eb_gr st a0 11 1 (fun v1 => eb_nn v1 (fun p2 => eb_ni st p2 0 (fun v3 => eb_gr st a1 11 1 (fun v4 => eb_nn v4 (fun p5 => eb_ni st p5 0 (fun v6 => eb_br (v3 = v6) (eb_gr st a0 11 1 (fun v7 => eb_nn v7 (fun p8 => eb_cs st p8 [9, 10, 13] ∧ MX10_degree Γ st p8 0 (fun v9 => eb_gr st a1 11 1 (fun v13 => eb_nn v13 (fun p14 => eb_cs st p14 [9, 10, 13] ∧ MX10_degree Γ st p14 0 (fun v15 => eb_br (v9 = v15) (eb_gi st a0 11 2 (fun v19 => eb_gi st a1 11 2 (fun v20 => eb_br (v19 = v20) (eb_mk st (.inr (12, [.null, .null, .int 0, .null, .null, .null, .null, .int 0])) 8 bc bs 0 0 (fun p21 g22 => ∃ c25 s26 : Nat, ((0 + 1) + c25 ≤ bc ∧ (0 + 8) + s26 ≤ bs) ∧ MX13_init Γ c25 s26 g22 p21 a0 a1 (fun g24 => eb_loop2 (fun r29 (x3_27 : Int32) (g28 : eb_S) => eb_gr g28 a0 11 1 (fun v30 => eb_nn v30 (fun p31 => eb_cs g28 p31 [9, 10, 13] ∧ MX10_degree Γ g28 p31 0 (fun v32 => eb_br (v32 ≤ x3_27) (K 0 g28) (eb_cs g28 p21 [12] ∧ MX13_lies Γ g28 p21 x3_27 1 (fun v36 g37 => eb_br (v36 = 0) (eb_cs g37 p21 [12] ∧ MX13_lies Γ g37 p21 x3_27 (-1) (fun v40 g41 => eb_br (v40 = 0) (r29 (x3_27 + 1) g41) (K 1 g41))) (K 1 g37))))))) 0 g24))) (K 0 st)))) (K 0 st)))))))) (K 0 st)))))))
abbrev rmX12_isLike (bc bs : Nat) : Room := { frames := 5, cells := bc, slots := bs, locals := 110 }
theorem nX12_isLike : eb_ar yX12_isLike 1 := by decide +kernel
theorem dX12_isLike_0 : eb_dc cX12_isLike 0 (.aload_n 0) 1 1 := by decide +kernel
theorem dX12_isLike_1 : eb_dc cX12_isLike 1 (.getfield 27) 3 4 := by decide +kernel
theorem dX12_isLike_4 : eb_dc cX12_isLike 4 (.getfield 31) 3 7 := by decide +kernel
theorem dX12_isLike_7 : eb_dc cX12_isLike 7 (.aload_n 1) 1 8 := by decide +kernel
theorem dX12_isLike_8 : eb_dc cX12_isLike 8 (.getfield 27) 3 11 := by decide +kernel
theorem dX12_isLike_11 : eb_dc cX12_isLike 11 (.getfield 31) 3 14 := by decide +kernel
theorem dX12_isLike_14 : eb_dj cX12_isLike 14 (.if_icmp .ne 33) 33 17 47 := by decide +kernel
theorem dX12_isLike_17 : eb_dc cX12_isLike 17 (.aload_n 0) 1 18 := by decide +kernel
theorem dX12_isLike_18 : eb_dc cX12_isLike 18 (.getfield 27) 3 21 := by decide +kernel
theorem dX12_isLike_21 : eb_dc cX12_isLike 21 (.iconst 0) 1 22 := by decide +kernel
theorem dX12_isLike_22 : eb_dc cX12_isLike 22 (.invokevirtual 91) 3 25 := by decide +kernel
theorem dX12_isLike_25 : eb_dc cX12_isLike 25 (.aload_n 1) 1 26 := by decide +kernel
theorem dX12_isLike_26 : eb_dc cX12_isLike 26 (.getfield 27) 3 29 := by decide +kernel
theorem dX12_isLike_29 : eb_dc cX12_isLike 29 (.iconst 0) 1 30 := by decide +kernel
theorem dX12_isLike_30 : eb_dc cX12_isLike 30 (.invokevirtual 91) 3 33 := by decide +kernel
theorem dX12_isLike_33 : eb_dj cX12_isLike 33 (.if_icmp .ne 14) 14 36 47 := by decide +kernel
theorem dX12_isLike_36 : eb_dc cX12_isLike 36 (.aload_n 0) 1 37 := by decide +kernel
theorem dX12_isLike_37 : eb_dc cX12_isLike 37 (.getfield 70) 3 40 := by decide +kernel
theorem dX12_isLike_40 : eb_dc cX12_isLike 40 (.aload_n 1) 1 41 := by decide +kernel
theorem dX12_isLike_41 : eb_dc cX12_isLike 41 (.getfield 70) 3 44 := by decide +kernel
theorem dX12_isLike_44 : eb_dj cX12_isLike 44 (.if_icmp .eq 5) 5 47 49 := by decide +kernel
theorem dX12_isLike_47 : eb_dc cX12_isLike 47 (.iconst 0) 1 48 := by decide +kernel
theorem dX12_isLike_48 : eb_dc cX12_isLike 48 (.ireturn) 1 49 := by decide +kernel
theorem dX12_isLike_49 : eb_dc cX12_isLike 49 (.new 138) 3 52 := by decide +kernel
theorem dX12_isLike_52 : eb_dc cX12_isLike 52 (.dup) 1 53 := by decide +kernel
theorem dX12_isLike_53 : eb_dc cX12_isLike 53 (.aload_n 0) 1 54 := by decide +kernel
theorem dX12_isLike_54 : eb_dc cX12_isLike 54 (.aload_n 1) 1 55 := by decide +kernel
theorem dX12_isLike_55 : eb_dc cX12_isLike 55 (.invokespecial 140) 3 58 := by decide +kernel
theorem dX12_isLike_58 : eb_dc cX12_isLike 58 (.astore_n 2) 1 59 := by decide +kernel
theorem dX12_isLike_59 : eb_dc cX12_isLike 59 (.iconst 0) 1 60 := by decide +kernel
theorem dX12_isLike_60 : eb_dc cX12_isLike 60 (.istore_n 3) 1 61 := by decide +kernel
theorem dX12_isLike_61 : eb_dc cX12_isLike 61 (.iload_n 3) 1 62 := by decide +kernel
theorem dX12_isLike_62 : eb_dc cX12_isLike 62 (.aload_n 0) 1 63 := by decide +kernel
theorem dX12_isLike_63 : eb_dc cX12_isLike 63 (.getfield 27) 3 66 := by decide +kernel
theorem dX12_isLike_66 : eb_dc cX12_isLike 66 (.iconst 0) 1 67 := by decide +kernel
theorem dX12_isLike_67 : eb_dc cX12_isLike 67 (.invokevirtual 91) 3 70 := by decide +kernel
theorem dX12_isLike_70 : eb_dj cX12_isLike 70 (.if_icmp .ge 29) 29 73 99 := by decide +kernel
theorem dX12_isLike_73 : eb_dc cX12_isLike 73 (.aload_n 2) 1 74 := by decide +kernel
theorem dX12_isLike_74 : eb_dc cX12_isLike 74 (.iload_n 3) 1 75 := by decide +kernel
theorem dX12_isLike_75 : eb_dc cX12_isLike 75 (.iconst 1) 1 76 := by decide +kernel
theorem dX12_isLike_76 : eb_dc cX12_isLike 76 (.invokevirtual 143) 3 79 := by decide +kernel
theorem dX12_isLike_79 : eb_dj cX12_isLike 79 (.ifCond .ne 12) 12 82 91 := by decide +kernel
theorem dX12_isLike_82 : eb_dc cX12_isLike 82 (.aload_n 2) 1 83 := by decide +kernel
theorem dX12_isLike_83 : eb_dc cX12_isLike 83 (.iload_n 3) 1 84 := by decide +kernel
theorem dX12_isLike_84 : eb_dc cX12_isLike 84 (.iconst (-1)) 1 85 := by decide +kernel
theorem dX12_isLike_85 : eb_dc cX12_isLike 85 (.invokevirtual 143) 3 88 := by decide +kernel
theorem dX12_isLike_88 : eb_dj cX12_isLike 88 (.ifCond .eq 5) 5 91 93 := by decide +kernel
theorem dX12_isLike_91 : eb_dc cX12_isLike 91 (.iconst 1) 1 92 := by decide +kernel
theorem dX12_isLike_92 : eb_dc cX12_isLike 92 (.ireturn) 1 93 := by decide +kernel
theorem dX12_isLike_93 : eb_dc cX12_isLike 93 (.iinc 3 1) 3 96 := by decide +kernel
theorem dX12_isLike_96 : eb_dj cX12_isLike 96 (.goto (-35)) (-35) 99 61 := by decide +kernel
theorem dX12_isLike_99 : eb_dc cX12_isLike 99 (.iconst 0) 1 100 := by decide +kernel
theorem dX12_isLike_100 : eb_dc cX12_isLike 100 (.ireturn) 1 101 := by decide +kernel
theorem ctX12_isLike {l : Launch} {Γ : eb_C} {bc bs : Nat} {st : eb_S} {a0 : Nat} {a1 : Nat} {K : Int32 → eb_S → Prop} (h : MX12_isLike Γ bc bs st a0 a1 K) : eb_Ct l Γ yX12_isLike cX12_isLike 4 (some .boolean) (rmX12_isLike bc bs) [.ref a0, .ref a1] st (eb_oI K) := by
  refine eb_of (by decide) (Nat.le_of_ble_eq_true rfl) (fun X P hP hX0 => ?_)
  suffices hgo : (0 ≤ bc ∧ 0 ≤ bs) → eb_G l Γ P X cX12_isLike RX12 4 (some .boolean) (rmX12_isLike bc bs) 0 [(0, .ref a0), (1, .ref a1)] [] st 0 0 from hgo ⟨Nat.zero_le _, Nat.zero_le _⟩
  intro hu
  refine eg_aload_n 0 dX12_isLike_0 rfl rfl ?_
  obtain ⟨fs, v1, he, hv, h⟩ := h
  refine eg_get 1 in_X12 he rfl (Nat.le_of_ble_eq_true rfl) q758 rfl hv dX12_isLike_1 ?_
  obtain ⟨p2, rfl, h⟩ := h
  obtain ⟨c0, fs, v3, hc0, he, hv, h⟩ := h
  refine en_get 0 (Nat.le_of_ble_eq_true rfl) hc0 he q631 hv dX12_isLike_4 ?_
  refine eg_aload_n 1 dX12_isLike_7 rfl rfl ?_
  obtain ⟨fs, v4, he, hv, h⟩ := h
  refine eg_get 1 in_X12 he rfl (Nat.le_of_ble_eq_true rfl) q758 rfl hv dX12_isLike_8 ?_
  obtain ⟨p5, rfl, h⟩ := h
  obtain ⟨c0, fs, v6, hc0, he, hv, h⟩ := h
  refine en_get 0 (Nat.le_of_ble_eq_true rfl) hc0 he q631 hv dX12_isLike_11 ?_
  refine eg_icmp_ne dX12_isLike_14 (fun c49 => ?_) (fun c49 => ?_)
  · replace h := h.2 c49
    refine eg_iconst dX12_isLike_47 kc_0 ?_
    exact eg_zret dX12_isLike_48 rfl hu.1 hu.2 (hP _ _ ⟨_, rfl, h⟩)
  · replace h := h.1 c49
    refine eg_aload_n 0 dX12_isLike_17 rfl rfl ?_
    obtain ⟨fs, v7, he, hv, h⟩ := h
    refine eg_get 1 in_X12 he rfl (Nat.le_of_ble_eq_true rfl) q758 rfl hv dX12_isLike_18 ?_
    refine eg_iconst dX12_isLike_21 kc_0 ?_
    obtain ⟨p8, rfl, h⟩ := h
    obtain ⟨hcs, h⟩ := h
    have hM0 := h
    clear h
    refine ec_UIp (rest := []) (ctX10_degree hM0) gUX12_91 rfl hcs nX10_degree ⟨Nat.le_of_ble_eq_true rfl, Nat.le_of_ble_eq_true rfl⟩ ⟨rfl, rfl⟩ hu rfl rfl (Nat.le_of_ble_eq_true rfl) dX12_isLike_22 (fun v9 h => ?_)
    clear hM0
    refine eg_aload_n 1 dX12_isLike_25 rfl rfl ?_
    obtain ⟨fs, v13, he, hv, h⟩ := h
    refine eg_get 1 in_X12 he rfl (Nat.le_of_ble_eq_true rfl) q758 rfl hv dX12_isLike_26 ?_
    refine eg_iconst dX12_isLike_29 kc_0 ?_
    obtain ⟨p14, rfl, h⟩ := h
    obtain ⟨hcs, h⟩ := h
    have hM0 := h
    clear h
    refine ec_UIp (rest := [.int v9]) (ctX10_degree hM0) gUX12_91 rfl hcs nX10_degree ⟨Nat.le_of_ble_eq_true rfl, Nat.le_of_ble_eq_true rfl⟩ ⟨rfl, rfl⟩ hu rfl rfl (Nat.le_of_ble_eq_true rfl) dX12_isLike_30 (fun v15 h => ?_)
    clear hM0
    refine eg_icmp_ne dX12_isLike_33 (fun c48 => ?_) (fun c48 => ?_)
    · replace h := h.2 c48
      refine eg_iconst dX12_isLike_47 kc_0 ?_
      exact eg_zret dX12_isLike_48 rfl hu.1 hu.2 (hP _ _ ⟨_, rfl, h⟩)
    · replace h := h.1 c48
      refine eg_aload_n 0 dX12_isLike_36 rfl rfl ?_
      obtain ⟨fs, v19, he, hv, h⟩ := h
      refine eg_get 2 in_X12 he rfl (Nat.le_of_ble_eq_true rfl) q760 rfl hv dX12_isLike_37 ?_
      refine eg_aload_n 1 dX12_isLike_40 rfl rfl ?_
      obtain ⟨fs, v20, he, hv, h⟩ := h
      refine eg_get 2 in_X12 he rfl (Nat.le_of_ble_eq_true rfl) q760 rfl hv dX12_isLike_41 ?_
      refine eg_icmp_eq dX12_isLike_44 (fun c47 => ?_) (fun c47 => ?_)
      · replace h := h.1 c47
        obtain ⟨hc1, hs1, h⟩ := h
        refine eh_new (ci := 12) (fs := [.null, .null, .int 0, .null, .null, .null, .null, .int 0]) in_X13 tyX13 tyX13_ok q800 q801 q91 rfl (by decide +kernel) hc1 hs1 dX12_isLike_49 (fun p21 qp21 g22 eg22 => ?_)
        replace h := h p21 qp21 g22 eg22
        replace hu := And.intro hc1 hs1
        refine eg_dup dX12_isLike_52 rfl ?_
        refine eg_aload_n 0 dX12_isLike_53 rfl rfl ?_
        refine eg_aload_n 1 dX12_isLike_54 rfl rfl ?_
        obtain ⟨c25, s26, hca, h⟩ := h
        have hM0 := h
        clear h
        refine ec_IVa (rest := [.ref p21]) (ctX13_init hM0) q804 q91 q802 q803 rfl nX13_init ⟨Nat.le_of_ble_eq_true rfl, Nat.le_of_ble_eq_true rfl⟩ ⟨rfl, rfl⟩ hca rfl rfl (Nat.le_of_ble_eq_true rfl) dX12_isLike_55 (fun g24 h => ?_)
        clear hM0
        replace hu := hca
        refine eg_astore_n (i := 2) (lv' := [(2, .ref p21), (0, .ref a0), (1, .ref a1)]) dX12_isLike_58 rfl (Nat.le_of_ble_eq_true rfl) rfl ?_
        refine eg_iconst dX12_isLike_59 kc_0 ?_
        refine eg_istore_n (lv' := [(3, .int 0), (2, .ref p21), (0, .ref a0), (1, .ref a1)]) dX12_isLike_60 rfl (Nat.le_of_ble_eq_true rfl) rfl ?_
        refine eg_sub [2, 1, 0] rfl ?_
        refine eb_loop2_e (J := fun (x3_27 : Int32) (g28 : eb_S) => (((0 + 1) + c25) ≤ bc ∧ ((0 + 8) + s26) ≤ bs) → eb_G l Γ P X cX12_isLike RX12 4 (some .boolean) (rmX12_isLike bc bs) 61 [(0, .ref a0), (2, .ref p21), (3, .int x3_27)] [] g28 ((0 + 1) + c25) ((0 + 8) + s26)) h ?_ hu
        clear h
        clear hu
        intro r29 hr29 x3_27 g28 h hu
        refine eg_iload_n 2 dX12_isLike_61 rfl rfl ?_
        refine eg_aload_n 0 dX12_isLike_62 rfl rfl ?_
        obtain ⟨fs, v30, he, hv, h⟩ := h
        refine eg_get 1 in_X12 he rfl (Nat.le_of_ble_eq_true rfl) q758 rfl hv dX12_isLike_63 ?_
        refine eg_iconst dX12_isLike_66 kc_0 ?_
        obtain ⟨p31, rfl, h⟩ := h
        obtain ⟨hcs, h⟩ := h
        have hM0 := h
        clear h
        refine ec_UIp (rest := [.int x3_27]) (ctX10_degree hM0) gUX12_91 rfl hcs nX10_degree ⟨Nat.le_of_ble_eq_true rfl, Nat.le_of_ble_eq_true rfl⟩ ⟨rfl, rfl⟩ hu rfl rfl (Nat.le_of_ble_eq_true rfl) dX12_isLike_67 (fun v32 h => ?_)
        clear hM0
        refine eg_icmp_ge dX12_isLike_70 (fun c46 => ?_) (fun c46 => ?_)
        · replace h := h.1 c46
          refine eg_iconst dX12_isLike_99 kc_0 ?_
          exact eg_zret dX12_isLike_100 rfl hu.1 hu.2 (hP _ _ ⟨_, rfl, h⟩)
        · replace h := h.2 c46
          refine eg_aload_n 1 dX12_isLike_73 rfl rfl ?_
          refine eg_iload_n 2 dX12_isLike_74 rfl rfl ?_
          refine eg_iconst dX12_isLike_75 kc_1 ?_
          obtain ⟨hcs, h⟩ := h
          have hM0 := h
          clear h
          refine ec_VIw (rest := []) (ctX13_lies hM0) (lw_V q831 q832 q833 q91 q834) rfl rfl hcs nX13_lies ⟨Nat.le_of_ble_eq_true rfl, Nat.le_of_ble_eq_true rfl⟩ ⟨rfl, rfl⟩ hu rfl rfl (Nat.le_of_ble_eq_true rfl) dX12_isLike_76 (fun v36 g37 h => ?_)
          clear hM0
          refine eg_if_ne dX12_isLike_79 (fun c45 => ?_) (fun c45 => ?_)
          · replace h := h.2 c45
            refine eg_iconst dX12_isLike_91 kc_1 ?_
            exact eg_zret dX12_isLike_92 rfl hu.1 hu.2 (hP _ _ ⟨_, rfl, h⟩)
          · replace h := h.1 c45
            refine eg_aload_n 1 dX12_isLike_82 rfl rfl ?_
            refine eg_iload_n 2 dX12_isLike_83 rfl rfl ?_
            refine eg_iconst dX12_isLike_84 kc_m1 ?_
            obtain ⟨hcs, h⟩ := h
            have hM0 := h
            clear h
            refine ec_VIw (rest := []) (ctX13_lies hM0) (lw_V q831 q832 q833 q91 q834) rfl rfl hcs nX13_lies ⟨Nat.le_of_ble_eq_true rfl, Nat.le_of_ble_eq_true rfl⟩ ⟨rfl, rfl⟩ hu rfl rfl (Nat.le_of_ble_eq_true rfl) dX12_isLike_85 (fun v40 g41 h => ?_)
            clear hM0
            refine eg_if_eq dX12_isLike_88 (fun c44 => ?_) (fun c44 => ?_)
            · replace h := h.1 c44
              refine eg_iinc (j := 2) (lv' := [(3, .int (x3_27 + 1)), (0, .ref a0), (2, .ref p21)]) dX12_isLike_93 rfl (by rw [kc_1]) (Nat.le_of_ble_eq_true rfl) rfl ?_
              refine eg_goto dX12_isLike_96 ?_
              exact eg_sub [1, 2, 0] rfl (hr29 (x3_27 + 1) g41 h hu)
            · replace h := h.2 c44
              refine eg_iconst dX12_isLike_91 kc_1 ?_
              exact eg_zret dX12_isLike_92 rfl hu.1 hu.2 (hP _ _ ⟨_, rfl, h⟩)
      · replace h := h.2 c47
        refine eg_iconst dX12_isLike_47 kc_0 ?_
        exact eg_zret dX12_isLike_48 rfl hu.1 hu.2 (hP _ _ ⟨_, rfl, h⟩)
def MX0_alike (Γ : eb_C) (bc bs : Nat) (st : eb_S) (a0 : Nat) (a1 : Int32) (a2 : Int32) (K : Int32 → eb_S → Prop) : Prop :=
  MX0_isBody a2 (fun v1 => eb_jp4 (fun (s5 : Int32) (g6 : eb_S) (u7 : Nat) (w8 : Nat) => MX0_isBody a1 (fun v9 => eb_jp4 (fun (s13 : Int32) (g14 : eb_S) (u15 : Nat) (w16 : Nat) => eb_br (s5 = (-2)) (K (-2) g14) (eb_br (s13 = (-2)) (K (-2) g14) (eb_jp0 (eb_jp0 (K (-5) g14) (fun k17 => eb_br (s5 = (-5)) (k17) (eb_br (s13 = (-5)) (k17) (K (-3) g14)))) (fun k20 => eb_br (s5 = 1) (eb_br (s13 = 1) (eb_gr g14 a0 0 0 (fun v21 => eb_nn v21 (fun p22 => eb_lr Γ g14 p22 7 a1 (fun v23 => eb_nn v23 (fun p24 => eb_cs g14 p24 [1] ∧ ∃ c27 s28 : Nat, (u15 + c27 ≤ bc ∧ w16 + s28 ≤ bs) ∧ MX1_hull Γ c27 s28 g14 p24 (fun v25 g26 => eb_gr g26 a0 0 0 (fun v29 => eb_nn v29 (fun p30 => eb_lr Γ g26 p30 7 a2 (fun v31 => eb_nn v31 (fun p32 => eb_cs g26 p32 [1] ∧ ∃ c35 s36 : Nat, ((u15 + c27) + c35 ≤ bc ∧ (w16 + s28) + s36 ≤ bs) ∧ MX1_hull Γ c35 s36 g26 p32 (fun v33 g34 => eb_nn v33 (fun p37 => eb_nn v25 (fun p38 => eb_cs g34 p38 [11] ∧ ∃ c41 s42 : Nat, ((((u15 + c27) + c35)) + c41 ≤ bc ∧ (((w16 + s28) + s36)) + s42 ≤ bs) ∧ MX12_isLike Γ c41 s42 g34 p38 p37 (fun v39 g40 => eb_br (v39 = 0) (K 0 g40) (K 1 g40))))))))))))))) (k20)) (k20))))) (fun k48 => eb_br (v9 = 0) (k48 (-2) g6 u7 w8) (eb_cs g6 a0 [0] ∧ ∃ c51 s52 : Nat, (u7 + c51 ≤ bc ∧ w8 + s52 ≤ bs) ∧ MX0_whyHull Γ c51 s52 g6 a0 a2 1 (fun v49 g50 => k48 v49 g50 (u7 + c51) (w8 + s52)))))) (fun k54 => eb_br (v1 = 0) (k54 (-2) st 0 0) (eb_cs st a0 [0] ∧ ∃ c57 s58 : Nat, (0 + c57 ≤ bc ∧ 0 + s58 ≤ bs) ∧ MX0_whyHull Γ c57 s58 st a0 a1 1 (fun v55 g56 => k54 v55 g56 (0 + c57) (0 + s58)))))
abbrev rmX0_alike (bc bs : Nat) : Room := { frames := 15, cells := bc, slots := bs, locals := 329 }
theorem nX0_alike : eb_ar yX0_alike 2 := by decide +kernel
theorem dX0_alike_0 : eb_dc cX0_alike 0 (.iload_n 2) 1 1 := by decide +kernel
theorem dX0_alike_1 : eb_dc cX0_alike 1 (.invokestatic 30) 3 4 := by decide +kernel
theorem dX0_alike_4 : eb_dj cX0_alike 4 (.ifCond .eq 12) 12 7 16 := by decide +kernel
theorem dX0_alike_7 : eb_dc cX0_alike 7 (.aload_n 0) 1 8 := by decide +kernel
theorem dX0_alike_8 : eb_dc cX0_alike 8 (.iload_n 1) 1 9 := by decide +kernel
theorem dX0_alike_9 : eb_dc cX0_alike 9 (.iconst 1) 1 10 := by decide +kernel
theorem dX0_alike_10 : eb_dc cX0_alike 10 (.invokevirtual 187) 3 13 := by decide +kernel
theorem dX0_alike_13 : eb_dj cX0_alike 13 (.goto 5) 5 16 18 := by decide +kernel
theorem dX0_alike_16 : eb_dc cX0_alike 16 (.bipush (-2)) 2 18 := by decide +kernel
theorem dX0_alike_18 : eb_dc cX0_alike 18 (.istore_n 3) 1 19 := by decide +kernel
theorem dX0_alike_19 : eb_dc cX0_alike 19 (.iload_n 1) 1 20 := by decide +kernel
theorem dX0_alike_20 : eb_dc cX0_alike 20 (.invokestatic 30) 3 23 := by decide +kernel
theorem dX0_alike_23 : eb_dj cX0_alike 23 (.ifCond .eq 12) 12 26 35 := by decide +kernel
theorem dX0_alike_26 : eb_dc cX0_alike 26 (.aload_n 0) 1 27 := by decide +kernel
theorem dX0_alike_27 : eb_dc cX0_alike 27 (.iload_n 2) 1 28 := by decide +kernel
theorem dX0_alike_28 : eb_dc cX0_alike 28 (.iconst 1) 1 29 := by decide +kernel
theorem dX0_alike_29 : eb_dc cX0_alike 29 (.invokevirtual 187) 3 32 := by decide +kernel
theorem dX0_alike_32 : eb_dj cX0_alike 32 (.goto 5) 5 35 37 := by decide +kernel
theorem dX0_alike_35 : eb_dc cX0_alike 35 (.bipush (-2)) 2 37 := by decide +kernel
theorem dX0_alike_37 : eb_dc cX0_alike 37 (.istore 4) 2 39 := by decide +kernel
theorem dX0_alike_39 : eb_dc cX0_alike 39 (.iload_n 3) 1 40 := by decide +kernel
theorem dX0_alike_40 : eb_dc cX0_alike 40 (.bipush (-2)) 2 42 := by decide +kernel
theorem dX0_alike_42 : eb_dj cX0_alike 42 (.if_icmp .eq 10) 10 45 52 := by decide +kernel
theorem dX0_alike_45 : eb_dc cX0_alike 45 (.iload 4) 2 47 := by decide +kernel
theorem dX0_alike_47 : eb_dc cX0_alike 47 (.bipush (-2)) 2 49 := by decide +kernel
theorem dX0_alike_49 : eb_dj cX0_alike 49 (.if_icmp .ne 6) 6 52 55 := by decide +kernel
theorem dX0_alike_52 : eb_dc cX0_alike 52 (.bipush (-2)) 2 54 := by decide +kernel
theorem dX0_alike_54 : eb_dc cX0_alike 54 (.ireturn) 1 55 := by decide +kernel
theorem dX0_alike_55 : eb_dc cX0_alike 55 (.iload_n 3) 1 56 := by decide +kernel
theorem dX0_alike_56 : eb_dc cX0_alike 56 (.iconst 1) 1 57 := by decide +kernel
theorem dX0_alike_57 : eb_dj cX0_alike 57 (.if_icmp .ne 9) 9 60 66 := by decide +kernel
theorem dX0_alike_60 : eb_dc cX0_alike 60 (.iload 4) 2 62 := by decide +kernel
theorem dX0_alike_62 : eb_dc cX0_alike 62 (.iconst 1) 1 63 := by decide +kernel
theorem dX0_alike_63 : eb_dj cX0_alike 63 (.if_icmp .eq 24) 24 66 87 := by decide +kernel
theorem dX0_alike_66 : eb_dc cX0_alike 66 (.iload_n 3) 1 67 := by decide +kernel
theorem dX0_alike_67 : eb_dc cX0_alike 67 (.bipush (-5)) 2 69 := by decide +kernel
theorem dX0_alike_69 : eb_dj cX0_alike 69 (.if_icmp .eq 10) 10 72 79 := by decide +kernel
theorem dX0_alike_72 : eb_dc cX0_alike 72 (.iload 4) 2 74 := by decide +kernel
theorem dX0_alike_74 : eb_dc cX0_alike 74 (.bipush (-5)) 2 76 := by decide +kernel
theorem dX0_alike_76 : eb_dj cX0_alike 76 (.if_icmp .ne 8) 8 79 84 := by decide +kernel
theorem dX0_alike_79 : eb_dc cX0_alike 79 (.bipush (-5)) 2 81 := by decide +kernel
theorem dX0_alike_81 : eb_dj cX0_alike 81 (.goto 5) 5 84 86 := by decide +kernel
theorem dX0_alike_84 : eb_dc cX0_alike 84 (.bipush (-3)) 2 86 := by decide +kernel
theorem dX0_alike_86 : eb_dc cX0_alike 86 (.ireturn) 1 87 := by decide +kernel
theorem dX0_alike_87 : eb_dc cX0_alike 87 (.aload_n 0) 1 88 := by decide +kernel
theorem dX0_alike_88 : eb_dc cX0_alike 88 (.getfield 15) 3 91 := by decide +kernel
theorem dX0_alike_91 : eb_dc cX0_alike 91 (.iload_n 1) 1 92 := by decide +kernel
theorem dX0_alike_92 : eb_dc cX0_alike 92 (.aaload) 1 93 := by decide +kernel
theorem dX0_alike_93 : eb_dc cX0_alike 93 (.invokevirtual 190) 3 96 := by decide +kernel
theorem dX0_alike_96 : eb_dc cX0_alike 96 (.aload_n 0) 1 97 := by decide +kernel
theorem dX0_alike_97 : eb_dc cX0_alike 97 (.getfield 15) 3 100 := by decide +kernel
theorem dX0_alike_100 : eb_dc cX0_alike 100 (.iload_n 2) 1 101 := by decide +kernel
theorem dX0_alike_101 : eb_dc cX0_alike 101 (.aaload) 1 102 := by decide +kernel
theorem dX0_alike_102 : eb_dc cX0_alike 102 (.invokevirtual 190) 3 105 := by decide +kernel
theorem dX0_alike_105 : eb_dc cX0_alike 105 (.invokevirtual 200) 3 108 := by decide +kernel
theorem dX0_alike_108 : eb_dj cX0_alike 108 (.ifCond .eq 7) 7 111 115 := by decide +kernel
theorem dX0_alike_111 : eb_dc cX0_alike 111 (.iconst 1) 1 112 := by decide +kernel
theorem dX0_alike_112 : eb_dj cX0_alike 112 (.goto 4) 4 115 116 := by decide +kernel
theorem dX0_alike_115 : eb_dc cX0_alike 115 (.iconst 0) 1 116 := by decide +kernel
theorem dX0_alike_116 : eb_dc cX0_alike 116 (.ireturn) 1 117 := by decide +kernel
theorem ctX0_alike {l : Launch} {Γ : eb_C} {bc bs : Nat} {st : eb_S} {a0 : Nat} {a1 : Int32} {a2 : Int32} {K : Int32 → eb_S → Prop} (h : MX0_alike Γ bc bs st a0 a1 a2 K) : eb_Ct l Γ yX0_alike cX0_alike 5 (some .int) (rmX0_alike bc bs) [.ref a0, .int a1, .int a2] st (eb_oI K) := by
  refine eb_of (by decide) (Nat.le_of_ble_eq_true rfl) (fun X P hP hX0 => ?_)
  suffices hgo : (0 ≤ bc ∧ 0 ≤ bs) → eb_G l Γ P X cX0_alike RX0 5 (some .int) (rmX0_alike bc bs) 0 [(0, .ref a0), (1, .int a1), (2, .int a2)] [] st 0 0 from hgo ⟨Nat.zero_le _, Nat.zero_le _⟩
  intro hu
  refine eg_iload_n 2 dX0_alike_0 rfl rfl ?_
  have hM0 := h
  clear h
  refine ec_SIp (rest := []) (ctX0_isBody hM0) (lw_S q182 q183 q74 q184) nX0_isBody ⟨Nat.le_of_ble_eq_true rfl, Nat.le_of_ble_eq_true rfl⟩ ⟨rfl, rfl⟩ hu rfl rfl (Nat.le_of_ble_eq_true rfl) dX0_alike_1 (fun v1 h => ?_)
  clear hM0
  refine eb_jp4_e (J := fun (s5 : Int32) (g6 : eb_S) (u7 : Nat) (w8 : Nat) => (u7 ≤ bc ∧ w8 ≤ bs) → eb_G l Γ P X cX0_alike RX0 5 (some .int) (rmX0_alike bc bs) 18 [(0, .ref a0), (1, .int a1), (2, .int a2)] [.int s5] g6 u7 w8) h ?_ ?_
  · clear h
    intro s5 g6 u7 w8 h hu
    refine eg_istore_n (lv' := [(3, .int s5), (0, .ref a0), (1, .int a1), (2, .int a2)]) dX0_alike_18 rfl (Nat.le_of_ble_eq_true rfl) rfl ?_
    refine eg_iload_n 2 dX0_alike_19 rfl rfl ?_
    have hM0 := h
    clear h
    refine ec_SIp (rest := []) (ctX0_isBody hM0) (lw_S q182 q183 q74 q184) nX0_isBody ⟨Nat.le_of_ble_eq_true rfl, Nat.le_of_ble_eq_true rfl⟩ ⟨rfl, rfl⟩ hu rfl rfl (Nat.le_of_ble_eq_true rfl) dX0_alike_20 (fun v9 h => ?_)
    clear hM0
    refine eb_jp4_e (J := fun (s13 : Int32) (g14 : eb_S) (u15 : Nat) (w16 : Nat) => (u15 ≤ bc ∧ w16 ≤ bs) → eb_G l Γ P X cX0_alike RX0 5 (some .int) (rmX0_alike bc bs) 37 [(0, .ref a0), (1, .int a1), (2, .int a2), (3, .int s5)] [.int s13] g14 u15 w16) h ?_ ?_
    · clear h
      intro s13 g14 u15 w16 h hu
      refine eg_istore (lv' := [(4, .int s13), (0, .ref a0), (1, .int a1), (2, .int a2), (3, .int s5)]) dX0_alike_37 (Nat.le_of_ble_eq_true rfl) rfl ?_
      refine eg_iload_n 4 dX0_alike_39 rfl rfl ?_
      refine eg_bipush dX0_alike_40 kb_m2 ?_
      refine eg_icmp_eq dX0_alike_42 (fun c47 => ?_) (fun c47 => ?_)
      · replace h := h.1 c47
        refine eg_bipush dX0_alike_52 kb_m2 ?_
        exact eg_iret dX0_alike_54 hu.1 hu.2 (hP _ _ ⟨_, rfl, h⟩)
      · replace h := h.2 c47
        refine eg_iload 0 dX0_alike_45 rfl ?_
        refine eg_bipush dX0_alike_47 kb_m2 ?_
        refine eg_icmp_ne dX0_alike_49 (fun c46 => ?_) (fun c46 => ?_)
        · replace h := h.2 c46
          refine eg_iload_n 4 dX0_alike_55 rfl rfl ?_
          refine eg_iconst dX0_alike_56 kc_1 ?_
          refine eb_jp0_e (J := (u15 ≤ bc ∧ w16 ≤ bs) → eb_G l Γ P X cX0_alike RX0 5 (some .int) (rmX0_alike bc bs) 66 [(3, .int s5), (4, .int s13)] [] g14 u15 w16) h ?_ ?_
          · clear h
            intro  h hu
            refine eg_iload_n 0 dX0_alike_66 rfl rfl ?_
            refine eg_bipush dX0_alike_67 kb_m5 ?_
            refine eb_jp0_e (J := (u15 ≤ bc ∧ w16 ≤ bs) → eb_G l Γ P X cX0_alike RX0 5 (some .int) (rmX0_alike bc bs) 79 [] [] g14 u15 w16) h ?_ ?_
            · clear h
              intro  h hu
              refine eg_bipush dX0_alike_79 kb_m5 ?_
              refine eg_goto dX0_alike_81 ?_
              exact eg_iret dX0_alike_86 hu.1 hu.2 (hP _ _ ⟨_, rfl, h⟩)
            · clear h
              intro k17 hk17 h
              refine eg_icmp_eq dX0_alike_69 (fun c19 => ?_) (fun c19 => ?_)
              · replace h := h.1 c19
                exact eg_sub [] rfl (hk17 h hu)
              · replace h := h.2 c19
                refine eg_iload 1 dX0_alike_72 rfl ?_
                refine eg_bipush dX0_alike_74 kb_m5 ?_
                refine eg_icmp_ne dX0_alike_76 (fun c18 => ?_) (fun c18 => ?_)
                · replace h := h.2 c18
                  refine eg_bipush dX0_alike_84 kb_m3 ?_
                  exact eg_iret dX0_alike_86 hu.1 hu.2 (hP _ _ ⟨_, rfl, h⟩)
                · replace h := h.1 c18
                  exact eg_sub [] rfl (hk17 h hu)
          · clear h
            intro k20 hk20 h
            refine eg_icmp_ne dX0_alike_57 (fun c45 => ?_) (fun c45 => ?_)
            · replace h := h.2 c45
              exact eg_sub [4, 0] rfl (hk20 h hu)
            · replace h := h.1 c45
              refine eg_iload 0 dX0_alike_60 rfl ?_
              refine eg_iconst dX0_alike_62 kc_1 ?_
              refine eg_icmp_eq dX0_alike_63 (fun c44 => ?_) (fun c44 => ?_)
              · replace h := h.1 c44
                refine eg_aload_n 1 dX0_alike_87 rfl rfl ?_
                obtain ⟨fs, v21, he, hv, h⟩ := h
                refine eg_get 0 in_X0 he rfl (Nat.le_of_ble_eq_true rfl) q159 rfl hv dX0_alike_88 ?_
                refine eg_iload_n 2 dX0_alike_91 rfl rfl ?_
                obtain ⟨p22, rfl, h⟩ := h
                obtain ⟨nA, fA, he, hb, h⟩ := h
                refine eg_aald (t := 7) (ty := .object "EvenBodies$Body") rfl rfl he hb dX0_alike_92 (fun v23 ev23 => ?_)
                replace h := h v23 ev23
                obtain ⟨p24, rfl, h⟩ := h
                obtain ⟨hcs, h⟩ := h
                obtain ⟨c27, s28, hca, h⟩ := h
                have hM0 := h
                clear h
                refine ec_VRa (rest := []) (ctX1_hull hM0) (lw_V q689 q690 q691 q75 q692) rfl rfl hcs nX1_hull ⟨Nat.le_of_ble_eq_true rfl, Nat.le_of_ble_eq_true rfl⟩ ⟨rfl, rfl⟩ hca rfl rfl (Nat.le_of_ble_eq_true rfl) dX0_alike_93 (fun v25 g26 h => ?_)
                clear hM0
                replace hu := hca
                refine eg_aload_n 1 dX0_alike_96 rfl rfl ?_
                obtain ⟨fs, v29, he, hv, h⟩ := h
                refine eg_get 0 in_X0 he rfl (Nat.le_of_ble_eq_true rfl) q159 rfl hv dX0_alike_97 ?_
                refine eg_iload_n 3 dX0_alike_100 rfl rfl ?_
                obtain ⟨p30, rfl, h⟩ := h
                obtain ⟨nA, fA, he, hb, h⟩ := h
                refine eg_aald (t := 7) (ty := .object "EvenBodies$Body") rfl rfl he hb dX0_alike_101 (fun v31 ev31 => ?_)
                replace h := h v31 ev31
                obtain ⟨p32, rfl, h⟩ := h
                obtain ⟨hcs, h⟩ := h
                obtain ⟨c35, s36, hca, h⟩ := h
                have hM0 := h
                clear h
                refine ec_VRa (rest := [va_rf v25]) (ctX1_hull hM0) (lw_V q689 q690 q691 q75 q692) rfl rfl hcs nX1_hull ⟨Nat.le_of_ble_eq_true rfl, Nat.le_of_ble_eq_true rfl⟩ ⟨rfl, rfl⟩ hca rfl rfl (by simp only [List.map_cons, List.map_nil, eb_rfc]; exact Nat.le_of_ble_eq_true rfl) dX0_alike_102 (fun v33 g34 h => ?_)
                clear hM0
                replace hu := hca
                obtain ⟨p37, rfl, h⟩ := h
                obtain ⟨p38, rfl, h⟩ := h
                obtain ⟨hcs, h⟩ := h
                obtain ⟨c41, s42, hca, h⟩ := h
                have hM0 := h
                clear h
                refine ec_VIa (rest := []) (ctX12_isLike hM0) (lw_V q796 q797 q798 q89 q799) rfl rfl hcs nX12_isLike ⟨Nat.le_of_ble_eq_true rfl, Nat.le_of_ble_eq_true rfl⟩ ⟨rfl, rfl⟩ hca rfl rfl (Nat.le_of_ble_eq_true rfl) dX0_alike_105 (fun v39 g40 h => ?_)
                clear hM0
                replace hu := hca
                refine eg_if_eq dX0_alike_108 (fun c43 => ?_) (fun c43 => ?_)
                · replace h := h.1 c43
                  refine eg_iconst dX0_alike_115 kc_0 ?_
                  exact eg_iret dX0_alike_116 hu.1 hu.2 (hP _ _ ⟨_, rfl, h⟩)
                · replace h := h.2 c43
                  refine eg_iconst dX0_alike_111 kc_1 ?_
                  refine eg_goto dX0_alike_112 ?_
                  exact eg_iret dX0_alike_116 hu.1 hu.2 (hP _ _ ⟨_, rfl, h⟩)
              · replace h := h.2 c44
                exact eg_sub [4, 0] rfl (hk20 h hu)
        · replace h := h.1 c46
          refine eg_bipush dX0_alike_52 kb_m2 ?_
          exact eg_iret dX0_alike_54 hu.1 hu.2 (hP _ _ ⟨_, rfl, h⟩)
    · clear h
      intro k48 hk48 h
      refine eg_if_eq dX0_alike_23 (fun c53 => ?_) (fun c53 => ?_)
      · replace h := h.1 c53
        refine eg_bipush dX0_alike_35 kb_m2 ?_
        exact eg_sub [1, 2, 3, 0] rfl (hk48 (-2) g6 u7 w8 h hu)
      · replace h := h.2 c53
        refine eg_aload_n 1 dX0_alike_26 rfl rfl ?_
        refine eg_iload_n 3 dX0_alike_27 rfl rfl ?_
        refine eg_iconst dX0_alike_28 kc_1 ?_
        obtain ⟨hcs, h⟩ := h
        obtain ⟨c51, s52, hca, h⟩ := h
        have hM0 := h
        clear h
        refine ec_VIa (rest := []) (ctX0_whyHull hM0) (lw_V q685 q687 qs15 q74 q688) rfl rfl hcs nX0_whyHull ⟨Nat.le_of_ble_eq_true rfl, Nat.le_of_ble_eq_true rfl⟩ ⟨rfl, rfl⟩ hca rfl rfl (Nat.le_of_ble_eq_true rfl) dX0_alike_29 (fun v49 g50 h => ?_)
        clear hM0
        replace hu := hca
        refine eg_goto dX0_alike_32 ?_
        exact eg_sub [1, 2, 3, 0] rfl (hk48 v49 g50 (u7 + c51) (w8 + s52) h hu)
  · clear h
    intro k54 hk54 h
    refine eg_if_eq dX0_alike_4 (fun c59 => ?_) (fun c59 => ?_)
    · replace h := h.1 c59
      refine eg_bipush dX0_alike_16 kb_m2 ?_
      exact hk54 (-2) st 0 0 h hu
    · replace h := h.2 c59
      refine eg_aload_n 0 dX0_alike_7 rfl rfl ?_
      refine eg_iload_n 1 dX0_alike_8 rfl rfl ?_
      refine eg_iconst dX0_alike_9 kc_1 ?_
      obtain ⟨hcs, h⟩ := h
      obtain ⟨c57, s58, hca, h⟩ := h
      have hM0 := h
      clear h
      refine ec_VIa (rest := []) (ctX0_whyHull hM0) (lw_V q685 q687 qs15 q74 q688) rfl rfl hcs nX0_whyHull ⟨Nat.le_of_ble_eq_true rfl, Nat.le_of_ble_eq_true rfl⟩ ⟨rfl, rfl⟩ hca rfl rfl (Nat.le_of_ble_eq_true rfl) dX0_alike_10 (fun v55 g56 h => ?_)
      clear hM0
      replace hu := hca
      refine eg_goto dX0_alike_13 ?_
      exact hk54 v55 g56 (0 + c57) (0 + s58) h hu
def MJ4_init (Γ : eb_C) (st : eb_S) (a0 : Nat) (K : eb_S → Prop) : Prop :=
  MJ3_init Γ st a0 (fun g2 => eb_pt g2 a0 14 0 (.int 0) (fun g5 => K g5))
abbrev rmJ4_init : Room := { frames := 3, cells := 0, slots := 0, locals := 60 }
theorem nJ4_init : eb_ar yJ4_init 0 := by decide +kernel
theorem dJ4_init_0 : eb_dc cJ4_init 0 (.aload_n 0) 1 1 := by decide +kernel
theorem dJ4_init_1 : eb_dc cJ4_init 1 (.invokespecial 1) 3 4 := by decide +kernel
theorem dJ4_init_4 : eb_dc cJ4_init 4 (.aload_n 0) 1 5 := by decide +kernel
theorem dJ4_init_5 : eb_dc cJ4_init 5 (.iconst 0) 1 6 := by decide +kernel
theorem dJ4_init_6 : eb_dc cJ4_init 6 (.putfield 7) 3 9 := by decide +kernel
theorem dJ4_init_9 : eb_dc cJ4_init 9 (.return_) 1 10 := by decide +kernel
theorem ctJ4_init {l : Launch} {Γ : eb_C} {st : eb_S} {a0 : Nat} {K : eb_S → Prop} (h : MJ4_init Γ st a0 K) : eb_Ct l Γ yJ4_init cJ4_init 1 (none) rmJ4_init [.ref a0] st (eb_oV K) := by
  refine eb_of (by decide) (Nat.le_of_ble_eq_true rfl) (fun X P hP hX0 => ?_)
  replace hX0 := hX0 rfl
  show eb_G l Γ P X cJ4_init RJ4 1 (none) rmJ4_init 0 [(0, .ref a0)] [] st 0 0
  refine eg_aload_n 0 dJ4_init_0 rfl rfl ?_
  have hM0 := h
  clear h
  refine ec_IVw (rest := []) (ctJ3_init hM0) q867 q92 q865 q866 rfl nJ3_init ⟨Nat.le_of_ble_eq_true rfl, Nat.le_of_ble_eq_true rfl⟩ ⟨rfl, rfl⟩ ⟨Nat.zero_le _, Nat.zero_le _⟩ rfl rfl (Nat.le_of_ble_eq_true rfl) dJ4_init_1 (fun g2 h => ?_)
  clear hM0
  refine eg_aload_n 0 dJ4_init_4 rfl rfl ?_
  refine eg_iconst dJ4_init_5 kc_0 ?_
  obtain ⟨fs, he, hlen, h⟩ := h
  refine eh_put 0 in_J5 he rfl (Nat.le_of_ble_eq_true rfl) tyJ5 tyJ5_ok nmJ5 q875 rfl rfl rfl rfl hlen dJ4_init_6 (fun g5 eg5 => ?_)
  replace h := h g5 eg5
  exact eg_vret dJ4_init_9 (Nat.zero_le _) (Nat.zero_le _) (hP _ _ ⟨rfl, h⟩)
def MJ5_init (Γ : eb_C) (st : eb_S) (a0 : Nat) (K : eb_S → Prop) : Prop :=
  MJ4_init Γ st a0 (fun g2 => eb_pt g2 a0 14 1 (.ref Γ.2.2.2) (fun g5 => K g5))
abbrev rmJ5_init : Room := { frames := 4, cells := 0, slots := 0, locals := 80 }
theorem nJ5_init : eb_ar yJ5_init 0 := by decide +kernel
theorem dJ5_init_0 : eb_dc cJ5_init 0 (.aload_n 0) 1 1 := by decide +kernel
theorem dJ5_init_1 : eb_dc cJ5_init 1 (.invokespecial 1) 3 4 := by decide +kernel
theorem dJ5_init_4 : eb_dc cJ5_init 4 (.aload_n 0) 1 5 := by decide +kernel
theorem dJ5_init_5 : eb_dc cJ5_init 5 (.getstatic 39) 3 8 := by decide +kernel
theorem dJ5_init_8 : eb_dc cJ5_init 8 (.putfield 9) 3 11 := by decide +kernel
theorem dJ5_init_11 : eb_dc cJ5_init 11 (.return_) 1 12 := by decide +kernel
theorem ctJ5_init {l : Launch} {Γ : eb_C} {st : eb_S} {a0 : Nat} {K : eb_S → Prop} (h : MJ5_init Γ st a0 K) : eb_Ct l Γ yJ5_init cJ5_init 1 (none) rmJ5_init [.ref a0] st (eb_oV K) := by
  refine eb_of (by decide) (Nat.le_of_ble_eq_true rfl) (fun X P hP hX0 => ?_)
  replace hX0 := hX0 rfl
  show eb_G l Γ P X cJ5_init RJ5 1 (none) rmJ5_init 0 [(0, .ref a0)] [] st 0 0
  refine eg_aload_n 0 dJ5_init_0 rfl rfl ?_
  have hM0 := h
  clear h
  refine ec_IVw (rest := []) (ctJ4_init hM0) q864 q93 q862 q863 rfl nJ4_init ⟨Nat.le_of_ble_eq_true rfl, Nat.le_of_ble_eq_true rfl⟩ ⟨rfl, rfl⟩ ⟨Nat.zero_le _, Nat.zero_le _⟩ rfl rfl (Nat.le_of_ble_eq_true rfl) dJ5_init_1 (fun g2 h => ?_)
  clear hM0
  refine eg_aload_n 0 dJ5_init_4 rfl rfl ?_
  refine eg_sempty q869 dJ5_init_5 ?_
  obtain ⟨fs, he, hlen, h⟩ := h
  refine eh_put 1 in_J5 he rfl (Nat.le_of_ble_eq_true rfl) tyJ5 tyJ5_ok nmJ5 q871 rfl rfl rfl rfl hlen dJ5_init_8 (fun g5 eg5 => ?_)
  replace h := h g5 eg5
  exact eg_vret dJ5_init_11 (Nat.zero_le _) (Nat.zero_le _) (hP _ _ ⟨rfl, h⟩)
def MX1_ringedBy (Γ : eb_C) (bc bs : Nat) (st : eb_S) (a0 : Nat) (a1 : Int32) (K : Option Nat → eb_S → Prop) : Prop :=
  eb_mk st (.inr (1, [.int 0, .null, .int 0, .null, .int 0, .null, .null, .null, .null])) 9 bc bs 0 0 (fun p1 g2 => eb_gi g2 a0 1 0 (fun v3 => ∃ c6 s7 : Nat, ((0 + 1) + c6 ≤ bc ∧ (0 + 9) + s7 ≤ bs) ∧ MX1_init Γ c6 s7 g2 p1 v3 (fun g5 => eb_gr g5 a0 1 1 (fun v8 => eb_gr g5 p1 1 1 (fun v9 => eb_gr g5 a0 1 1 (fun v10 => eb_nn v10 (fun p11 => eb_ln Γ g5 p11 0 (fun v12 => eb_nn v8 (fun p13 => eb_nn v9 (fun p14 => eb_cp Γ g5 p13 0 p14 0 v12 (fun g15 => eb_pt g15 p1 1 2 (.int a1) (fun g16 => eb_gr g16 a0 1 3 (fun v17 => eb_pt g16 p1 1 3 (va_rf v17) (fun g18 => eb_gi g18 a0 1 4 (fun v19 => eb_zb v19 ∧ (eb_pt g18 p1 1 4 (.int v19) (fun g20 => K (some p1) g20)))))))))))))))))
abbrev rmX1_ringedBy (bc bs : Nat) : Room := { frames := 3, cells := bc, slots := bs, locals := 80 }
theorem nX1_ringedBy : eb_ar yX1_ringedBy 1 := by decide +kernel
theorem dX1_ringedBy_0 : eb_dc cX1_ringedBy 0 (.new 10) 3 3 := by decide +kernel
theorem dX1_ringedBy_3 : eb_dc cX1_ringedBy 3 (.dup) 1 4 := by decide +kernel
theorem dX1_ringedBy_4 : eb_dc cX1_ringedBy 4 (.aload_n 0) 1 5 := by decide +kernel
theorem dX1_ringedBy_5 : eb_dc cX1_ringedBy 5 (.getfield 28) 3 8 := by decide +kernel
theorem dX1_ringedBy_8 : eb_dc cX1_ringedBy 8 (.invokespecial 118) 3 11 := by decide +kernel
theorem dX1_ringedBy_11 : eb_dc cX1_ringedBy 11 (.astore_n 2) 1 12 := by decide +kernel
theorem dX1_ringedBy_12 : eb_dc cX1_ringedBy 12 (.aload_n 0) 1 13 := by decide +kernel
theorem dX1_ringedBy_13 : eb_dc cX1_ringedBy 13 (.getfield 9) 3 16 := by decide +kernel
theorem dX1_ringedBy_16 : eb_dc cX1_ringedBy 16 (.iconst 0) 1 17 := by decide +kernel
theorem dX1_ringedBy_17 : eb_dc cX1_ringedBy 17 (.aload_n 2) 1 18 := by decide +kernel
theorem dX1_ringedBy_18 : eb_dc cX1_ringedBy 18 (.getfield 9) 3 21 := by decide +kernel
theorem dX1_ringedBy_21 : eb_dc cX1_ringedBy 21 (.iconst 0) 1 22 := by decide +kernel
theorem dX1_ringedBy_22 : eb_dc cX1_ringedBy 22 (.aload_n 0) 1 23 := by decide +kernel
theorem dX1_ringedBy_23 : eb_dc cX1_ringedBy 23 (.getfield 9) 3 26 := by decide +kernel
theorem dX1_ringedBy_26 : eb_dc cX1_ringedBy 26 (.arraylength) 1 27 := by decide +kernel
theorem dX1_ringedBy_27 : eb_dc cX1_ringedBy 27 (.invokestatic 121) 3 30 := by decide +kernel
theorem dX1_ringedBy_30 : eb_dc cX1_ringedBy 30 (.aload_n 2) 1 31 := by decide +kernel
theorem dX1_ringedBy_31 : eb_dc cX1_ringedBy 31 (.iload_n 1) 1 32 := by decide +kernel
theorem dX1_ringedBy_32 : eb_dc cX1_ringedBy 32 (.putfield 15) 3 35 := by decide +kernel
theorem dX1_ringedBy_35 : eb_dc cX1_ringedBy 35 (.aload_n 2) 1 36 := by decide +kernel
theorem dX1_ringedBy_36 : eb_dc cX1_ringedBy 36 (.aload_n 0) 1 37 := by decide +kernel
theorem dX1_ringedBy_37 : eb_dc cX1_ringedBy 37 (.getfield 45) 3 40 := by decide +kernel
theorem dX1_ringedBy_40 : eb_dc cX1_ringedBy 40 (.putfield 45) 3 43 := by decide +kernel
theorem dX1_ringedBy_43 : eb_dc cX1_ringedBy 43 (.aload_n 2) 1 44 := by decide +kernel
theorem dX1_ringedBy_44 : eb_dc cX1_ringedBy 44 (.aload_n 0) 1 45 := by decide +kernel
theorem dX1_ringedBy_45 : eb_dc cX1_ringedBy 45 (.getfield 41) 3 48 := by decide +kernel
theorem dX1_ringedBy_48 : eb_dc cX1_ringedBy 48 (.putfield 41) 3 51 := by decide +kernel
theorem dX1_ringedBy_51 : eb_dc cX1_ringedBy 51 (.aload_n 2) 1 52 := by decide +kernel
theorem dX1_ringedBy_52 : eb_dc cX1_ringedBy 52 (.areturn) 1 53 := by decide +kernel
theorem ctX1_ringedBy {l : Launch} {Γ : eb_C} {bc bs : Nat} {st : eb_S} {a0 : Nat} {a1 : Int32} {K : Option Nat → eb_S → Prop} (h : MX1_ringedBy Γ bc bs st a0 a1 K) : eb_Ct l Γ yX1_ringedBy cX1_ringedBy 3 (some (.object "EvenBodies$Body")) (rmX1_ringedBy bc bs) [.ref a0, .int a1] st (eb_oR K) := by
  refine eb_of (by decide) (Nat.le_of_ble_eq_true rfl) (fun X P hP hX0 => ?_)
  suffices hgo : (0 ≤ bc ∧ 0 ≤ bs) → eb_G l Γ P X cX1_ringedBy RX1 3 (some (.object "EvenBodies$Body")) (rmX1_ringedBy bc bs) 0 [(0, .ref a0), (1, .int a1)] [] st 0 0 from hgo ⟨Nat.zero_le _, Nat.zero_le _⟩
  intro hu
  obtain ⟨hc1, hs1, h⟩ := h
  refine eh_new (ci := 1) (fs := [.int 0, .null, .int 0, .null, .int 0, .null, .null, .null, .null]) in_X1 tyX1 tyX1_ok q891 q108 q75 rfl (by decide +kernel) hc1 hs1 dX1_ringedBy_0 (fun p1 qp1 g2 eg2 => ?_)
  replace h := h p1 qp1 g2 eg2
  replace hu := And.intro hc1 hs1
  refine eg_dup dX1_ringedBy_3 rfl ?_
  refine eg_aload_n 0 dX1_ringedBy_4 rfl rfl ?_
  obtain ⟨fs, v3, he, hv, h⟩ := h
  refine eg_get 0 in_X1 he rfl (Nat.le_of_ble_eq_true rfl) q120 rfl hv dX1_ringedBy_5 ?_
  obtain ⟨c6, s7, hca, h⟩ := h
  have hM0 := h
  clear h
  refine ec_IVa (rest := [.ref p1]) (ctX1_init hM0) q111 q75 q892 q110 rfl nX1_init ⟨Nat.le_of_ble_eq_true rfl, Nat.le_of_ble_eq_true rfl⟩ ⟨rfl, rfl⟩ hca rfl rfl (Nat.le_of_ble_eq_true rfl) dX1_ringedBy_8 (fun g5 h => ?_)
  clear hM0
  replace hu := hca
  refine eg_astore_n (i := 2) (lv' := [(2, .ref p1), (0, .ref a0), (1, .int a1)]) dX1_ringedBy_11 rfl (Nat.le_of_ble_eq_true rfl) rfl ?_
  refine eg_aload_n 1 dX1_ringedBy_12 rfl rfl ?_
  obtain ⟨fs, v8, he, hv, h⟩ := h
  refine eg_get 1 in_X1 he rfl (Nat.le_of_ble_eq_true rfl) q123 rfl hv dX1_ringedBy_13 ?_
  refine eg_iconst dX1_ringedBy_16 kc_0 ?_
  refine eg_aload_n 0 dX1_ringedBy_17 rfl rfl ?_
  obtain ⟨fs, v9, he, hv, h⟩ := h
  refine eg_get 1 in_X1 he rfl (Nat.le_of_ble_eq_true rfl) q123 rfl hv dX1_ringedBy_18 ?_
  refine eg_iconst dX1_ringedBy_21 kc_0 ?_
  refine eg_aload_n 1 dX1_ringedBy_22 rfl rfl ?_
  obtain ⟨fs, v10, he, hv, h⟩ := h
  refine eg_get 1 in_X1 he rfl (Nat.le_of_ble_eq_true rfl) q123 rfl hv dX1_ringedBy_23 ?_
  obtain ⟨p11, rfl, h⟩ := h
  obtain ⟨xA, he, h⟩ := h
  refine eh_alen (t := 0) (ty := .int) he rfl dX1_ringedBy_26 ?_
  generalize Int32.ofNat xA.1 = v12 at h ⊢
  obtain ⟨p13, rfl, h⟩ := h
  obtain ⟨p14, rfl, h⟩ := h
  have hM0 := h
  clear h
  refine eg_copy (rest := []) q893 q363 q362 q86 rfl (Nat.le_of_ble_eq_true rfl) (Nat.le_of_ble_eq_true rfl) dX1_ringedBy_27 hM0 (fun g15 h => ?_)
  clear hM0
  refine eg_aload_n 0 dX1_ringedBy_30 rfl rfl ?_
  refine eg_iload_n 2 dX1_ringedBy_31 rfl rfl ?_
  obtain ⟨fs, he, hlen, h⟩ := h
  refine eh_put 2 in_X1 he rfl (Nat.le_of_ble_eq_true rfl) tyX1 tyX1_ok nmX1 q125 rfl rfl rfl rfl hlen dX1_ringedBy_32 (fun g16 eg16 => ?_)
  replace h := h g16 eg16
  refine eg_aload_n 0 dX1_ringedBy_35 rfl rfl ?_
  refine eg_aload_n 1 dX1_ringedBy_36 rfl rfl ?_
  obtain ⟨fs, v17, he, hv, h⟩ := h
  refine eg_get 3 in_X1 he rfl (Nat.le_of_ble_eq_true rfl) q131 rfl hv dX1_ringedBy_37 ?_
  obtain ⟨fs, he, hlen, h⟩ := h
  refine eh_put 3 in_X1 he rfl (Nat.le_of_ble_eq_true rfl) tyX1 tyX1_ok nmX1 q131 rfl rfl (eb_rfN v17 (Or.inl ⟨_, rfl⟩)) (eb_rfF v17 (Or.inl ⟨_, rfl⟩)) hlen dX1_ringedBy_40 (fun g18 eg18 => ?_)
  replace h := h g18 eg18
  refine eg_aload_n 0 dX1_ringedBy_43 rfl rfl ?_
  refine eg_aload_n 1 dX1_ringedBy_44 rfl rfl ?_
  obtain ⟨fs, v19, he, hv, h⟩ := h
  refine eg_get 4 in_X1 he rfl (Nat.le_of_ble_eq_true rfl) q133 rfl hv dX1_ringedBy_45 ?_
  obtain ⟨hzb, h⟩ := h
  obtain ⟨fs, he, hlen, h⟩ := h
  refine eh_put 4 in_X1 he rfl (Nat.le_of_ble_eq_true rfl) tyX1 tyX1_ok nmX1 q133 rfl rfl hzb.nar (eb_zbF hzb) hlen dX1_ringedBy_48 (fun g20 eg20 => ?_)
  replace h := h g20 eg20
  refine eg_aload_n 0 dX1_ringedBy_51 rfl rfl ?_
  exact eg_aret dX1_ringedBy_52 (Or.inl ⟨_, rfl⟩) (Or.inr ⟨_, rfl⟩) hu.1 hu.2 (hP _ _ ⟨(some p1), rfl, h⟩)
section SAMEF
variable {l : Launch} {Γ : eb_C} {P : Option Value → eb_S → Prop} {X : eb_X} {cc : ByteArray} {own : String} {nL : Nat} {ret : Option FieldType} {R : Room} {pc pc1 tgt : Nat} {lv lv' : eb_L} {stk : List Value} {st : eb_S} {uc us : Nat}
theorem eg_getS {a ci i : Nat} {C ref : String} {T : u_T} {N : Nat} {fs : List Value} {v : Value} (k : Nat) (hin : ∀ w ∈ u_ws C T N, w ∈ lw_all) (he : st a = some (.inr (ci, fs))) (hc : eb_cl[ci]? = some (C, T, N)) (hk : k < N) (hq : Cond.fieldLink own i ref (T k).2.1 (T k).2.2.1 ∈ lw_all) (hsf : Cond.sameField ref (T k).1 (T k).2.1 (T k).2.2.1 ∈ lw_all) (hv : fs[k]? = some v) (hd : eb_dc cc pc (.getfield i) 3 pc1) (kk : eb_G l Γ P X cc own nL ret R pc1 lv (v :: stk) st uc us) : eb_G l Γ P X cc own nL ret R pc lv (.ref a :: stk) st uc us := by
  obtain ⟨hd, rfl⟩ := hd
  obtain ⟨p, e, s, m, args, below, meth, c, A⟩ := X
  intro hX ls H locs hl hP hS
  obtain ⟨hx, hb, hml, hown, hts, hr, hlk, hK, hA⟩ := id hX
  exact va_get hx hb hts hin hown hK.1 (hP.P he) 0 rfl hc k hk (hts _ hq) (fun x h => u_same (hts _ hsf) x h) hv hd (kk hX ls H locs hl hP hS)
theorem eg_putS {a ci i : Nat} {C ref : String} {T : u_T} {N : Nat} {fs : List Value} {v : Value} (k : Nat) (hin : ∀ w ∈ u_ws C T N, w ∈ lw_all) (he : st a = some (.inr (ci, fs))) (hc : eb_cl[ci]? = some (C, T, N)) (hk : k < N) (ty0 : Nat → FieldType) (hty : ∀ k, k < N → parseFieldDescriptor (T k).2.2.1 = some (ty0 k)) (hnm : ∀ a, a < N → ∀ b, b < N → a ≠ b → (T a).2.1 ≠ (T b).2.1) (hq : Cond.fieldLink own i ref (T k).2.1 (T k).2.2.1 ∈ lw_all) (hsf : Cond.sameField ref (T k).1 (T k).2.1 (T k).2.2.1 ∈ lw_all) (hfin : (T k).2.2.2 = false) (hn : narrow (ty0 k) v = v) (hfit : fits (ty0 k) v = true) (hlen : k < fs.length) (hd : eb_dc cc pc (.putfield i) 3 pc1) (kk : eb_G l Γ P X cc own nL ret R pc1 lv stk (eb_up st a (.inr (ci, fs.set k v))) uc us) : eb_G l Γ P X cc own nL ret R pc lv (v :: .ref a :: stk) st uc us := by
  obtain ⟨hd, rfl⟩ := hd
  obtain ⟨p, e, s, m, args, below, meth, c, A⟩ := X
  intro hX ls H locs hl hP hS
  obtain ⟨hx, hb, hml, hown, hts, hr, hlk, hK, hA⟩ := id hX
  have hap := va_apart (own := own) hts hin ty0 hty hnm hK.1 hc
  obtain ⟨r, h1, cell, q1, q2, q3, q4⟩ := (hP.1 a _ he).1
  have hr1 : r = (C, T, N) := Option.some.inj (h1.symm.trans hc)
  subst hr1
  obtain ⟨hS1, hfc, kC, hkC, hkind⟩ := hK.1.1 ci _ hc
  obtain ⟨cf, kf, fi, f, hi, hsl⟩ := hS1 k hk
  have hlay := hts _ (hin _ (u_in_lay hk))
  unfold u_lay at hlay
  have hst := (u_facts hfc hkC (u_lays hts hin hk) hi).1
  have hsm : s.fieldFound? ref (T k).2.1 (T k).2.2.1 = some (cf, kf, fi, f) := u_same (hts _ hsf) _ hi
  rw [if_neg (by rw [hfin]; decide)] at hlay
  have h6 := u_store hfc hkC hkind hlay hi (hty k hk) hn hfit
  refine W.putK hx hb (f := f) ⟨hown, hts _ hq, ⟨_, _, _, hsm⟩, hst⟩ (by rw [q2]; exact h6) q1 q3 (by rw [hsl]; exact k2_hasslot (q4 k hk)) rfl rfl hd fun H' e1 e2 e3 => ?_
  rw [hsl] at e1 ⊢
  exact kk hX ls H' _ hl (hP.set he ⟨_, hc, t_OB.to (V := updV (vp_V fs) k v) ⟨_, e1, q2, q3, t_set q4 hap hk v⟩ (fun j _ => vp_updV_set hlen v j)⟩ e3) (hS.put e2 e3 (hP.1 a _ he).2)
end SAMEF
def MJ6_init (Γ : eb_C) (st : eb_S) (a0 : Nat) (a1 : Nat) (K : eb_S → Prop) : Prop :=
  eb_pt st a0 15 3 (.ref a1) (fun g1 => eb_pt g1 a0 15 1 (.int (-1)) (fun g2 => eb_gr g2 a0 15 3 (fun v3 => eb_nn v3 (fun p4 => eb_gi g2 p4 14 0 (fun v5 => eb_pt g2 a0 15 2 (.int v5) (fun g6 => K g6))))))
abbrev rmJ6_init : Room := { frames := 2, cells := 0, slots := 0, locals := 40 }
theorem nJ6_init : eb_ar yJ6_init 1 := by decide +kernel
theorem dJ6_init_0 : eb_dc cJ6_init 0 (.aload_n 0) 1 1 := by decide +kernel
theorem dJ6_init_1 : eb_dc cJ6_init 1 (.aload_n 1) 1 2 := by decide +kernel
theorem dJ6_init_2 : eb_dc cJ6_init 2 (.putfield 1) 3 5 := by decide +kernel
theorem dJ6_init_5 : eb_dc cJ6_init 5 (.aload_n 0) 1 6 := by decide +kernel
theorem dJ6_init_6 : eb_dc cJ6_init 6 (.invokespecial 7) 3 9 := by decide +kernel
theorem dJ6_init_9 : eb_dc cJ6_init 9 (.aload_n 0) 1 10 := by decide +kernel
theorem dJ6_init_10 : eb_dc cJ6_init 10 (.iconst (-1)) 1 11 := by decide +kernel
theorem dJ6_init_11 : eb_dc cJ6_init 11 (.putfield 13) 3 14 := by decide +kernel
theorem dJ6_init_14 : eb_dc cJ6_init 14 (.aload_n 0) 1 15 := by decide +kernel
theorem dJ6_init_15 : eb_dc cJ6_init 15 (.aload_n 0) 1 16 := by decide +kernel
theorem dJ6_init_16 : eb_dc cJ6_init 16 (.getfield 1) 3 19 := by decide +kernel
theorem dJ6_init_19 : eb_dc cJ6_init 19 (.getfield 17) 3 22 := by decide +kernel
theorem dJ6_init_22 : eb_dc cJ6_init 22 (.putfield 22) 3 25 := by decide +kernel
theorem dJ6_init_25 : eb_dc cJ6_init 25 (.return_) 1 26 := by decide +kernel
theorem ctJ6_init {l : Launch} {Γ : eb_C} {st : eb_S} {a0 : Nat} {a1 : Nat} {K : eb_S → Prop} (h : MJ6_init Γ st a0 a1 K) : eb_Ct l Γ yJ6_init cJ6_init 2 (none) rmJ6_init [.ref a0, .ref a1] st (eb_oV K) := by
  refine eb_of (by decide) (Nat.le_of_ble_eq_true rfl) (fun X P hP hX0 => ?_)
  replace hX0 := hX0 rfl
  show eb_G l Γ P X cJ6_init RJ6 2 (none) rmJ6_init 0 [(0, .ref a0), (1, .ref a1)] [] st 0 0
  refine eg_aload_n 0 dJ6_init_0 rfl rfl ?_
  refine eg_aload_n 1 dJ6_init_1 rfl rfl ?_
  obtain ⟨fs, he, hlen, h⟩ := h
  refine eh_putF 3 in_J6 he rfl (Nat.le_of_ble_eq_true rfl) tyJ6 tyJ6_ok nmJ6 q914 rfl rfl hX0 rfl rfl rfl hlen dJ6_init_2 (fun g1 eg1 => ?_)
  replace h := h g1 eg1
  refine eg_aload_n 0 dJ6_init_5 rfl rfl ?_
  refine eg_objInit q910 q104 q105 dJ6_init_6 (Nat.le_of_ble_eq_true rfl) (Nat.le_of_ble_eq_true rfl) ?_
  refine eg_aload_n 0 dJ6_init_9 rfl rfl ?_
  refine eg_iconst dJ6_init_10 kc_m1 ?_
  obtain ⟨fs, he, hlen, h⟩ := h
  refine eh_put 1 in_J6 he rfl (Nat.le_of_ble_eq_true rfl) tyJ6 tyJ6_ok nmJ6 q912 rfl rfl rfl rfl hlen dJ6_init_11 (fun g2 eg2 => ?_)
  replace h := h g2 eg2
  refine eg_aload_n 0 dJ6_init_14 rfl rfl ?_
  refine eg_aload_n 0 dJ6_init_15 rfl rfl ?_
  obtain ⟨fs, v3, he, hv, h⟩ := h
  refine eg_get 3 in_J6 he rfl (Nat.le_of_ble_eq_true rfl) q914 rfl hv dJ6_init_16 ?_
  obtain ⟨p4, rfl, h⟩ := h
  obtain ⟨fs, v5, he, hv, h⟩ := h
  refine eg_getS 0 in_J5 he rfl (Nat.le_of_ble_eq_true rfl) q876 q877 hv dJ6_init_19 ?_
  obtain ⟨fs, he, hlen, h⟩ := h
  refine eh_put 2 in_J6 he rfl (Nat.le_of_ble_eq_true rfl) tyJ6 tyJ6_ok nmJ6 q913 rfl rfl rfl rfl hlen dJ6_init_22 (fun g6 eg6 => ?_)
  replace h := h g6 eg6
  exact eg_vret dJ6_init_25 (Nat.zero_le _) (Nat.zero_le _) (hP _ _ ⟨rfl, h⟩)
def MJ5_iterator (Γ : eb_C) (bc bs : Nat) (st : eb_S) (a0 : Nat) (K : Option Nat → eb_S → Prop) : Prop :=
  eb_mk st (.inr (15, [.int 0, .int 0, .int 0, .null])) 4 bc bs 0 0 (fun p1 g2 => MJ6_init Γ g2 p1 a0 (fun g4 => K (some p1) g4))
abbrev rmJ5_iterator (bc bs : Nat) : Room := { frames := 3, cells := bc, slots := bs, locals := 61 }
theorem nJ5_iterator : eb_ar yJ5_iterator 0 := by decide +kernel
theorem dJ5_iterator_0 : eb_dc cJ5_iterator 0 (.new 267) 3 3 := by decide +kernel
theorem dJ5_iterator_3 : eb_dc cJ5_iterator 3 (.dup) 1 4 := by decide +kernel
theorem dJ5_iterator_4 : eb_dc cJ5_iterator 4 (.aload_n 0) 1 5 := by decide +kernel
theorem dJ5_iterator_5 : eb_dc cJ5_iterator 5 (.invokespecial 269) 3 8 := by decide +kernel
theorem dJ5_iterator_8 : eb_dc cJ5_iterator 8 (.areturn) 1 9 := by decide +kernel
theorem ctJ5_iterator {l : Launch} {Γ : eb_C} {bc bs : Nat} {st : eb_S} {a0 : Nat} {K : Option Nat → eb_S → Prop} (h : MJ5_iterator Γ bc bs st a0 K) : eb_Ct l Γ yJ5_iterator cJ5_iterator 1 (some (.object "java/util/Iterator")) (rmJ5_iterator bc bs) [.ref a0] st (eb_oR K) := by
  refine eb_of (by decide) (Nat.le_of_ble_eq_true rfl) (fun X P hP hX0 => ?_)
  suffices hgo : (0 ≤ bc ∧ 0 ≤ bs) → eb_G l Γ P X cJ5_iterator RJ5 1 (some (.object "java/util/Iterator")) (rmJ5_iterator bc bs) 0 [(0, .ref a0)] [] st 0 0 from hgo ⟨Nat.zero_le _, Nat.zero_le _⟩
  intro hu
  obtain ⟨hc1, hs1, h⟩ := h
  refine eh_new (ci := 15) (fs := [.int 0, .int 0, .int 0, .null]) in_J6 tyJ6 tyJ6_ok q905 q906 q95 rfl (by decide +kernel) hc1 hs1 dJ5_iterator_0 (fun p1 qp1 g2 eg2 => ?_)
  replace h := h p1 qp1 g2 eg2
  replace hu := And.intro hc1 hs1
  refine eg_dup dJ5_iterator_3 rfl ?_
  refine eg_aload_n 0 dJ5_iterator_4 rfl rfl ?_
  have hM0 := h
  clear h
  refine ec_IVw (rest := [.ref p1]) (ctJ6_init hM0) q909 q95 q907 q908 rfl nJ6_init ⟨Nat.le_of_ble_eq_true rfl, Nat.le_of_ble_eq_true rfl⟩ ⟨rfl, rfl⟩ hu rfl rfl (Nat.le_of_ble_eq_true rfl) dJ5_iterator_5 (fun g4 h => ?_)
  clear hM0
  exact eg_aret dJ5_iterator_8 (Or.inl ⟨_, rfl⟩) (Or.inr ⟨_, rfl⟩) hu.1 hu.2 (hP _ _ ⟨(some p1), rfl, h⟩)
def MJ6_hasNext (Γ : eb_C) (st : eb_S) (a0 : Nat) (K : Int32 → Prop) : Prop :=
  eb_gi st a0 15 0 (fun v1 => eb_gr st a0 15 3 (fun v2 => eb_nn v2 (fun p3 => eb_gi st p3 14 2 (fun v4 => eb_br (v1 = v4) (K 0) (K 1)))))
abbrev rmJ6_hasNext : Room := { frames := 1, cells := 0, slots := 0, locals := 12 }
theorem nJ6_hasNext : eb_ar yJ6_hasNext 0 := by decide +kernel
theorem dJ6_hasNext_0 : eb_dc cJ6_hasNext 0 (.aload_n 0) 1 1 := by decide +kernel
theorem dJ6_hasNext_1 : eb_dc cJ6_hasNext 1 (.getfield 25) 3 4 := by decide +kernel
theorem dJ6_hasNext_4 : eb_dc cJ6_hasNext 4 (.aload_n 0) 1 5 := by decide +kernel
theorem dJ6_hasNext_5 : eb_dc cJ6_hasNext 5 (.getfield 1) 3 8 := by decide +kernel
theorem dJ6_hasNext_8 : eb_dc cJ6_hasNext 8 (.getfield 28) 3 11 := by decide +kernel
theorem dJ6_hasNext_11 : eb_dj cJ6_hasNext 11 (.if_icmp .eq 7) 7 14 18 := by decide +kernel
theorem dJ6_hasNext_14 : eb_dc cJ6_hasNext 14 (.iconst 1) 1 15 := by decide +kernel
theorem dJ6_hasNext_15 : eb_dj cJ6_hasNext 15 (.goto 4) 4 18 19 := by decide +kernel
theorem dJ6_hasNext_18 : eb_dc cJ6_hasNext 18 (.iconst 0) 1 19 := by decide +kernel
theorem dJ6_hasNext_19 : eb_dc cJ6_hasNext 19 (.ireturn) 1 20 := by decide +kernel
theorem ctJ6_hasNext {l : Launch} {Γ : eb_C} {st : eb_S} {a0 : Nat} {K : Int32 → Prop} (h : MJ6_hasNext Γ st a0 K) : eb_Ct l Γ yJ6_hasNext cJ6_hasNext 1 (some .boolean) rmJ6_hasNext [.ref a0] st (eb_pI st K) := by
  refine eb_of (by decide) (Nat.le_of_ble_eq_true rfl) (fun X P hP hX0 => ?_)
  show eb_G l Γ P X cJ6_hasNext RJ6 1 (some .boolean) rmJ6_hasNext 0 [(0, .ref a0)] [] st 0 0
  refine eg_aload_n 0 dJ6_hasNext_0 rfl rfl ?_
  obtain ⟨fs, v1, he, hv, h⟩ := h
  refine eg_get 0 in_J6 he rfl (Nat.le_of_ble_eq_true rfl) q911 rfl hv dJ6_hasNext_1 ?_
  refine eg_aload_n 0 dJ6_hasNext_4 rfl rfl ?_
  obtain ⟨fs, v2, he, hv, h⟩ := h
  refine eg_get 3 in_J6 he rfl (Nat.le_of_ble_eq_true rfl) q914 rfl hv dJ6_hasNext_5 ?_
  obtain ⟨p3, rfl, h⟩ := h
  obtain ⟨fs, v4, he, hv, h⟩ := h
  refine eg_getN 2 in_J5 he rfl (Nat.le_of_ble_eq_true rfl) (List.mem_of_getElem? (i := 0) rfl) rfl hv dJ6_hasNext_8 ?_
  refine eg_icmp_eq dJ6_hasNext_11 (fun c5 => ?_) (fun c5 => ?_)
  · replace h := h.1 c5
    refine eg_iconst dJ6_hasNext_18 kc_0 ?_
    exact eg_zret dJ6_hasNext_19 rfl (Nat.zero_le _) (Nat.zero_le _) (hP _ _ ⟨_, rfl, rfl, h⟩)
  · replace h := h.2 c5
    refine eg_iconst dJ6_hasNext_14 kc_1 ?_
    refine eg_goto dJ6_hasNext_15 ?_
    exact eg_zret dJ6_hasNext_19 rfl (Nat.zero_le _) (Nat.zero_le _) (hP _ _ ⟨_, rfl, rfl, h⟩)
def MJ6_checkForComodification (Γ : eb_C) (st : eb_S) (a0 : Nat) (K : eb_S → Prop) : Prop :=
  eb_gr st a0 15 3 (fun v1 => eb_nn v1 (fun p2 => eb_gi st p2 14 0 (fun v3 => eb_gi st a0 15 2 (fun v4 => eb_br (v3 = v4) (K st) (False)))))
abbrev rmJ6_checkForComodification : Room := { frames := 2, cells := 0, slots := 0, locals := 40 }
theorem nJ6_checkForComodification : eb_ar yJ6_checkForComodification 0 := by decide +kernel
theorem dJ6_checkForComodification_0 : eb_dc cJ6_checkForComodification 0 (.aload_n 0) 1 1 := by decide +kernel
theorem dJ6_checkForComodification_1 : eb_dc cJ6_checkForComodification 1 (.getfield 1) 3 4 := by decide +kernel
theorem dJ6_checkForComodification_4 : eb_dc cJ6_checkForComodification 4 (.getfield 17) 3 7 := by decide +kernel
theorem dJ6_checkForComodification_7 : eb_dc cJ6_checkForComodification 7 (.aload_n 0) 1 8 := by decide +kernel
theorem dJ6_checkForComodification_8 : eb_dc cJ6_checkForComodification 8 (.getfield 22) 3 11 := by decide +kernel
theorem dJ6_checkForComodification_11 : eb_dj cJ6_checkForComodification 11 (.if_icmp .eq 11) 11 14 22 := by decide +kernel
theorem dJ6_checkForComodification_22 : eb_dc cJ6_checkForComodification 22 (.return_) 1 23 := by decide +kernel
theorem ctJ6_checkForComodification {l : Launch} {Γ : eb_C} {st : eb_S} {a0 : Nat} {K : eb_S → Prop} (h : MJ6_checkForComodification Γ st a0 K) : eb_Ct l Γ yJ6_checkForComodification cJ6_checkForComodification 1 (none) rmJ6_checkForComodification [.ref a0] st (eb_oV K) := by
  refine eb_of (by decide) (Nat.le_of_ble_eq_true rfl) (fun X P hP hX0 => ?_)
  show eb_G l Γ P X cJ6_checkForComodification RJ6 1 (none) rmJ6_checkForComodification 0 [(0, .ref a0)] [] st 0 0
  refine eg_aload_n 0 dJ6_checkForComodification_0 rfl rfl ?_
  obtain ⟨fs, v1, he, hv, h⟩ := h
  refine eg_get 3 in_J6 he rfl (Nat.le_of_ble_eq_true rfl) q914 rfl hv dJ6_checkForComodification_1 ?_
  obtain ⟨p2, rfl, h⟩ := h
  obtain ⟨fs, v3, he, hv, h⟩ := h
  refine eg_getS 0 in_J5 he rfl (Nat.le_of_ble_eq_true rfl) q876 q877 hv dJ6_checkForComodification_4 ?_
  refine eg_aload_n 0 dJ6_checkForComodification_7 rfl rfl ?_
  obtain ⟨fs, v4, he, hv, h⟩ := h
  refine eg_get 2 in_J6 he rfl (Nat.le_of_ble_eq_true rfl) q913 rfl hv dJ6_checkForComodification_8 ?_
  refine eg_icmp_eq dJ6_checkForComodification_11 (fun c5 => ?_) (fun c5 => ?_)
  · replace h := h.1 c5
    exact eg_vret dJ6_checkForComodification_22 (Nat.zero_le _) (Nat.zero_le _) (hP _ _ ⟨rfl, h⟩)
  · replace h := h.2 c5
    exact absurd h id

set_option maxRecDepth 100000
set_option maxHeartbeats 4000000
def MX1_stay (Γ : eb_C) (st : eb_S) (a0 : Nat) (a1 : Int32) (K : Int32 → Prop) : Prop :=
  eb_cs st a0 [1] ∧ MX1_all Γ st a0 (fun v1 => eb_gi st a0 1 2 (fun v5 => eb_let (((v1 &&& (a1 ^^^ (-1))) &&& (v5 ^^^ (-1)))) (fun v6 => eb_jp1 (fun (x2_7 : Int32) => K (a1 ||| x2_7)) (fun k8 => eb_loop2 (fun r11 (x2_9 : Int32) (x3_10 : Int32) => eb_gi st a0 1 0 (fun v12 => eb_br (v12 ≤ x3_10) (k8 x2_9) (eb_jp1 (fun (s13 : Int32) => r11 (x2_9 &&& s13) (x3_10 + 1)) (fun k14 => eb_br (((eb_shr a1 x3_10) &&& 1) = 1) (eb_cs st a0 [1] ∧ MX1_joined Γ st a0 x3_10 (fun v15 => k14 ((v15 ^^^ (-1))))) (k14 (-1)))))) v6 0))))
abbrev rmX1_stay : Room := { frames := 3, cells := 0, slots := 0, locals := 57 }
theorem nX1_stay : eb_ar yX1_stay 1 := by decide +kernel
theorem dX1_stay_0 : eb_dc cX1_stay 0 (.aload_n 0) 1 1 := by decide +kernel
theorem dX1_stay_1 : eb_dc cX1_stay 1 (.invokevirtual 72) 3 4 := by decide +kernel
theorem dX1_stay_4 : eb_dc cX1_stay 4 (.iload_n 1) 1 5 := by decide +kernel
theorem dX1_stay_5 : eb_dc cX1_stay 5 (.iconst (-1)) 1 6 := by decide +kernel
theorem dX1_stay_6 : eb_dc cX1_stay 6 (.ixor) 1 7 := by decide +kernel
theorem dX1_stay_7 : eb_dc cX1_stay 7 (.iand) 1 8 := by decide +kernel
theorem dX1_stay_8 : eb_dc cX1_stay 8 (.aload_n 0) 1 9 := by decide +kernel
theorem dX1_stay_9 : eb_dc cX1_stay 9 (.getfield 15) 3 12 := by decide +kernel
theorem dX1_stay_12 : eb_dc cX1_stay 12 (.iconst (-1)) 1 13 := by decide +kernel
theorem dX1_stay_13 : eb_dc cX1_stay 13 (.ixor) 1 14 := by decide +kernel
theorem dX1_stay_14 : eb_dc cX1_stay 14 (.iand) 1 15 := by decide +kernel
theorem dX1_stay_15 : eb_dc cX1_stay 15 (.istore_n 2) 1 16 := by decide +kernel
theorem dX1_stay_16 : eb_dc cX1_stay 16 (.iconst 0) 1 17 := by decide +kernel
theorem dX1_stay_17 : eb_dc cX1_stay 17 (.istore_n 3) 1 18 := by decide +kernel
theorem dX1_stay_18 : eb_dc cX1_stay 18 (.iload_n 3) 1 19 := by decide +kernel
theorem dX1_stay_19 : eb_dc cX1_stay 19 (.aload_n 0) 1 20 := by decide +kernel
theorem dX1_stay_20 : eb_dc cX1_stay 20 (.getfield 28) 3 23 := by decide +kernel
theorem dX1_stay_23 : eb_dj cX1_stay 23 (.if_icmp .ge 32) 32 26 55 := by decide +kernel
theorem dX1_stay_26 : eb_dc cX1_stay 26 (.iload_n 2) 1 27 := by decide +kernel
theorem dX1_stay_27 : eb_dc cX1_stay 27 (.iload_n 1) 1 28 := by decide +kernel
theorem dX1_stay_28 : eb_dc cX1_stay 28 (.iload_n 3) 1 29 := by decide +kernel
theorem dX1_stay_29 : eb_dc cX1_stay 29 (.ishr) 1 30 := by decide +kernel
theorem dX1_stay_30 : eb_dc cX1_stay 30 (.iconst 1) 1 31 := by decide +kernel
theorem dX1_stay_31 : eb_dc cX1_stay 31 (.iand) 1 32 := by decide +kernel
theorem dX1_stay_32 : eb_dc cX1_stay 32 (.iconst 1) 1 33 := by decide +kernel
theorem dX1_stay_33 : eb_dj cX1_stay 33 (.if_icmp .ne 13) 13 36 46 := by decide +kernel
theorem dX1_stay_36 : eb_dc cX1_stay 36 (.aload_n 0) 1 37 := by decide +kernel
theorem dX1_stay_37 : eb_dc cX1_stay 37 (.iload_n 3) 1 38 := by decide +kernel
theorem dX1_stay_38 : eb_dc cX1_stay 38 (.invokevirtual 68) 3 41 := by decide +kernel
theorem dX1_stay_41 : eb_dc cX1_stay 41 (.iconst (-1)) 1 42 := by decide +kernel
theorem dX1_stay_42 : eb_dc cX1_stay 42 (.ixor) 1 43 := by decide +kernel
theorem dX1_stay_43 : eb_dj cX1_stay 43 (.goto 4) 4 46 47 := by decide +kernel
theorem dX1_stay_46 : eb_dc cX1_stay 46 (.iconst (-1)) 1 47 := by decide +kernel
theorem dX1_stay_47 : eb_dc cX1_stay 47 (.iand) 1 48 := by decide +kernel
theorem dX1_stay_48 : eb_dc cX1_stay 48 (.istore_n 2) 1 49 := by decide +kernel
theorem dX1_stay_49 : eb_dc cX1_stay 49 (.iinc 3 1) 3 52 := by decide +kernel
theorem dX1_stay_52 : eb_dj cX1_stay 52 (.goto (-34)) (-34) 55 18 := by decide +kernel
theorem dX1_stay_55 : eb_dc cX1_stay 55 (.iload_n 1) 1 56 := by decide +kernel
theorem dX1_stay_56 : eb_dc cX1_stay 56 (.iload_n 2) 1 57 := by decide +kernel
theorem dX1_stay_57 : eb_dc cX1_stay 57 (.ior) 1 58 := by decide +kernel
theorem dX1_stay_58 : eb_dc cX1_stay 58 (.ireturn) 1 59 := by decide +kernel
theorem ctX1_stay {l : Launch} {Γ : eb_C} {st : eb_S} {a0 : Nat} {a1 : Int32} {K : Int32 → Prop} (h : MX1_stay Γ st a0 a1 K) : eb_Ct l Γ yX1_stay cX1_stay 4 (some .int) rmX1_stay [.ref a0, .int a1] st (eb_pI st K) := by
  refine eb_of (by decide) (Nat.le_of_ble_eq_true rfl) (fun X P hP hX0 => ?_)
  show eb_G l Γ P X cX1_stay RX1 4 (some .int) rmX1_stay 0 [(0, .ref a0), (1, .int a1)] [] st 0 0
  refine eg_aload_n 0 dX1_stay_0 rfl rfl ?_
  obtain ⟨hcs, h⟩ := h
  have hM0 := h
  clear h
  refine ec_VIp (rest := []) (ctX1_all hM0) (lw_V q245 q216 q217 q75 q218) rfl rfl hcs nX1_all ⟨Nat.le_of_ble_eq_true rfl, Nat.le_of_ble_eq_true rfl⟩ ⟨rfl, rfl⟩ ⟨Nat.zero_le _, Nat.zero_le _⟩ rfl rfl (Nat.le_of_ble_eq_true rfl) dX1_stay_1 (fun v1 h => ?_)
  clear hM0
  refine eg_iload_n 1 dX1_stay_4 rfl rfl ?_
  refine eg_iconst dX1_stay_5 kc_m1 ?_
  refine eg_ixor dX1_stay_6 ?_
  refine eg_iand dX1_stay_7 ?_
  refine eg_aload_n 0 dX1_stay_8 rfl rfl ?_
  obtain ⟨fs, v5, he, hv, h⟩ := h
  refine eg_get 2 in_X1 he rfl (Nat.le_of_ble_eq_true rfl) q125 rfl hv dX1_stay_9 ?_
  refine eg_iconst dX1_stay_12 kc_m1 ?_
  refine eg_ixor dX1_stay_13 ?_
  refine eg_iand dX1_stay_14 ?_
  refine eg_leti (fun v6 ev6 => ?_)
  replace h := h v6 ev6
  refine eg_istore_n (lv' := [(2, .int v6), (0, .ref a0), (1, .int a1)]) dX1_stay_15 rfl (Nat.le_of_ble_eq_true rfl) rfl ?_
  refine eg_iconst dX1_stay_16 kc_0 ?_
  refine eg_istore_n (lv' := [(3, .int 0), (2, .int v6), (0, .ref a0), (1, .int a1)]) dX1_stay_17 rfl (Nat.le_of_ble_eq_true rfl) rfl ?_
  refine eb_jp1_e (J := fun (x2_7 : Int32) => eb_G l Γ P X cX1_stay RX1 4 (some .int) rmX1_stay 55 [(1, .int a1), (2, .int x2_7)] [] st 0 0) h ?_ ?_
  · clear h
    intro x2_7 h
    refine eg_iload_n 0 dX1_stay_55 rfl rfl ?_
    refine eg_iload_n 1 dX1_stay_56 rfl rfl ?_
    refine eg_ior dX1_stay_57 ?_
    exact eg_iret dX1_stay_58 (Nat.zero_le _) (Nat.zero_le _) (hP _ _ ⟨_, rfl, rfl, h⟩)
  · clear h
    intro k8 hk8 h
    refine eg_sub [2, 3, 1, 0] rfl ?_
    refine eb_loop2_e (J := fun (x2_9 : Int32) (x3_10 : Int32) => eb_G l Γ P X cX1_stay RX1 4 (some .int) rmX1_stay 18 [(0, .ref a0), (1, .int a1), (2, .int x2_9), (3, .int x3_10)] [] st 0 0) h ?_
    clear h
    intro r11 hr11 x2_9 x3_10 h
    refine eg_iload_n 3 dX1_stay_18 rfl rfl ?_
    refine eg_aload_n 0 dX1_stay_19 rfl rfl ?_
    obtain ⟨fs, v12, he, hv, h⟩ := h
    refine eg_get 0 in_X1 he rfl (Nat.le_of_ble_eq_true rfl) q120 rfl hv dX1_stay_20 ?_
    refine eg_icmp_ge dX1_stay_23 (fun c20 => ?_) (fun c20 => ?_)
    · replace h := h.1 c20
      exact eg_sub [1, 2] rfl (hk8 x2_9 h)
    · replace h := h.2 c20
      refine eg_iload_n 2 dX1_stay_26 rfl rfl ?_
      refine eg_iload_n 1 dX1_stay_27 rfl rfl ?_
      refine eg_iload_n 3 dX1_stay_28 rfl rfl ?_
      refine eg_ishr dX1_stay_29 ?_
      refine eg_iconst dX1_stay_30 kc_1 ?_
      refine eg_iand dX1_stay_31 ?_
      refine eg_iconst dX1_stay_32 kc_1 ?_
      refine eb_jp1_e (J := fun (s13 : Int32) => eb_G l Γ P X cX1_stay RX1 4 (some .int) rmX1_stay 47 [(0, .ref a0), (1, .int a1), (3, .int x3_10)] [.int s13, .int x2_9] st 0 0) h ?_ ?_
      · clear h
        intro s13 h
        refine eg_iand dX1_stay_47 ?_
        refine eg_istore_n (lv' := [(2, .int (x2_9 &&& s13)), (0, .ref a0), (1, .int a1), (3, .int x3_10)]) dX1_stay_48 rfl (Nat.le_of_ble_eq_true rfl) rfl ?_
        refine eg_iinc (j := 3) (lv' := [(3, .int (x3_10 + 1)), (2, .int (x2_9 &&& s13)), (0, .ref a0), (1, .int a1)]) dX1_stay_49 rfl (by rw [kc_1]) (Nat.le_of_ble_eq_true rfl) rfl ?_
        refine eg_goto dX1_stay_52 ?_
        exact eg_sub [2, 3, 1, 0] rfl (hr11 (x2_9 &&& s13) (x3_10 + 1) h)
      · clear h
        intro k14 hk14 h
        refine eg_icmp_ne dX1_stay_33 (fun c19 => ?_) (fun c19 => ?_)
        · replace h := h.2 c19
          refine eg_iconst dX1_stay_46 kc_m1 ?_
          exact eg_sub [0, 1, 3] rfl (hk14 (-1) h)
        · replace h := h.1 c19
          refine eg_aload_n 0 dX1_stay_36 rfl rfl ?_
          refine eg_iload_n 3 dX1_stay_37 rfl rfl ?_
          obtain ⟨hcs, h⟩ := h
          have hM0 := h
          clear h
          refine ec_VIp (rest := [.int x2_9]) (ctX1_joined hM0) (lw_V q253 q230 q231 q75 q232) rfl rfl hcs nX1_joined ⟨Nat.le_of_ble_eq_true rfl, Nat.le_of_ble_eq_true rfl⟩ ⟨rfl, rfl⟩ ⟨Nat.zero_le _, Nat.zero_le _⟩ rfl rfl (Nat.le_of_ble_eq_true rfl) dX1_stay_38 (fun v15 h => ?_)
          clear hM0
          refine eg_iconst dX1_stay_41 kc_m1 ?_
          refine eg_ixor dX1_stay_42 ?_
          refine eg_goto dX1_stay_43 ?_
          exact eg_sub [0, 1, 3] rfl (hk14 ((v15 ^^^ (-1))) h)
def MX1_parts (Γ : eb_C) (bc bs : Nat) (st : eb_S) (a0 : Nat) (a1 : Int32) (K : Option Nat → eb_S → Prop) : Prop :=
  eb_gr st a0 1 5 (fun v1 => eb_nn v1 (fun p2 => eb_lr Γ st p2 6 a1 (fun v3 => eb_jp3 (fun (g4 : eb_S) (u5 : Nat) (w6 : Nat) => eb_gr g4 a0 1 5 (fun v7 => eb_nn v7 (fun p8 => eb_lr Γ g4 p8 6 a1 (fun v9 => K v9 g4)))) (fun k10 => eb_nb v3 (eb_cs st a0 [1] ∧ MX1_stay Γ st a0 a1 (fun v12 => eb_gr st a0 1 3 (fun v16 => eb_nn v16 (fun p17 => eb_gi st p17 7 1 (fun v18 => eb_ok1 v18 ∧ (eb_mk st (eb_ia Γ 3 (v18.toNatClampNeg) (fun _ => 0)) (v18.toNatClampNeg) bc bs 0 0 (fun p19 g20 => MJ0_fill_3 Γ g20 p19 (-1) (fun g22 => eb_gr g22 a0 1 3 (fun v25 => eb_nn v25 (fun p26 => eb_gi g22 p26 7 1 (fun v27 => eb_ok1 v27 ∧ (eb_mk g22 (eb_ia Γ 0 (v27.toNatClampNeg) (fun _ => 0)) (v27.toNatClampNeg) bc bs (0 + 1) ((0 + (v18.toNatClampNeg))) (fun p28 g29 => eb_jp2 (fun (x4_30 : Int32) (g31 : eb_S) => eb_gr g31 a0 1 5 (fun v32 => eb_nn v32 (fun p33 => (∃ x : vp_A, g31 p19 = some (.inl (Γ.2.1 3, x))) ∧ (eb_wr Γ g31 p33 6 a1 (some p19) (fun g34 => eb_gr g34 a0 1 6 (fun v35 => eb_nn v35 (fun p36 => eb_wi Γ g34 p36 0 a1 x4_30 (fun g37 => k10 g37 (((0 + 1) + 1)) (((0 + (v18.toNatClampNeg)) + (v27.toNatClampNeg))))))))))) (fun k38 => eb_loop3 (fun r42 (x4_39 : Int32) (x6_40 : Int32) (g41 : eb_S) => eb_gr g41 a0 1 3 (fun v43 => eb_nn v43 (fun p44 => eb_gi g41 p44 7 1 (fun v45 => eb_br (v45 ≤ x6_40) (k38 x4_39 g41) (eb_li Γ g41 p19 3 x6_40 (fun v46 => eb_jp2 (fun (x4_47 : Int32) (g48 : eb_S) => r42 x4_47 (x6_40 + 1) g48) (fun k49 => eb_br (v46 = (-1)) (eb_wi Γ g41 p19 3 x6_40 (vp_nar .short (x4_39.toInt16.toInt32)) (fun g50 => eb_wi Γ g50 p28 0 0 x6_40 (fun g51 => eb_jp1 (fun (g52 : eb_S) => k49 (x4_39 + 1) g52) (fun k53 => eb_loop3 (fun r57 (x7_54 : Int32) (x8_55 : Int32) (g56 : eb_S) => eb_br (x7_54 ≤ x8_55) (k53 g56) (eb_jp2 (fun (x7_58 : Int32) (g59 : eb_S) => r57 x7_58 (x8_55 + 1) g59) (fun k60 => eb_loop3 (fun r64 (x7_61 : Int32) (x9_62 : Int32) (g63 : eb_S) => eb_gi g63 a0 1 0 (fun v65 => eb_br (v65 ≤ x9_62) (k60 x7_61 g63) (eb_gr g63 a0 1 3 (fun v66 => eb_li Γ g63 p28 0 x8_55 (fun v67 => eb_nn v66 (fun p68 => eb_cs g63 p68 [7] ∧ MX8_by Γ g63 p68 v67 x9_62 (fun v69 => eb_jp2 (fun (x7_73 : Int32) (g74 : eb_S) => r64 x7_73 (x9_62 + 1) g74) (fun k75 => eb_br (((eb_shr v12 x9_62) &&& 1) = 1) (eb_li Γ g63 p19 3 v69 (fun v76 => eb_br (v76 = (-1)) (eb_wi Γ g63 p19 3 v69 (vp_nar .short (x4_39.toInt16.toInt32)) (fun g77 => eb_wi Γ g77 p28 0 x7_61 v69 (fun g78 => k75 (x7_61 + 1) g78))) (k75 x7_61 g63))) (k75 x7_61 g63))))))))) x7_54 0 g56))) 1 0 g51)))) (k49 x4_39 g41)))))))) 0 0 g29)))))))))))))) (fun p11 => k10 st 0 0)))))
abbrev rmX1_parts (bc bs : Nat) : Room := { frames := 4, cells := bc, slots := bs, locals := 80 }
theorem nX1_parts : eb_ar yX1_parts 1 := by decide +kernel
theorem dX1_parts_0 : eb_dc cX1_parts 0 (.aload_n 0) 1 1 := by decide +kernel
theorem dX1_parts_1 : eb_dc cX1_parts 1 (.getfield 21) 3 4 := by decide +kernel
theorem dX1_parts_4 : eb_dc cX1_parts 4 (.iload_n 1) 1 5 := by decide +kernel
theorem dX1_parts_5 : eb_dc cX1_parts 5 (.aaload) 1 6 := by decide +kernel
theorem dX1_parts_6 : eb_dj cX1_parts 6 (.ifnonnull 186) 186 9 192 := by decide +kernel
theorem dX1_parts_9 : eb_dc cX1_parts 9 (.aload_n 0) 1 10 := by decide +kernel
theorem dX1_parts_10 : eb_dc cX1_parts 10 (.iload_n 1) 1 11 := by decide +kernel
theorem dX1_parts_11 : eb_dc cX1_parts 11 (.invokevirtual 100) 3 14 := by decide +kernel
theorem dX1_parts_14 : eb_dc cX1_parts 14 (.istore_n 2) 1 15 := by decide +kernel
theorem dX1_parts_15 : eb_dc cX1_parts 15 (.aload_n 0) 1 16 := by decide +kernel
theorem dX1_parts_16 : eb_dc cX1_parts 16 (.getfield 45) 3 19 := by decide +kernel
theorem dX1_parts_19 : eb_dc cX1_parts 19 (.getfield 103) 3 22 := by decide +kernel
theorem dX1_parts_22 : eb_dc cX1_parts 22 (.newarray .short) 2 24 := by decide +kernel
theorem dX1_parts_24 : eb_dc cX1_parts 24 (.astore_n 3) 1 25 := by decide +kernel
theorem dX1_parts_25 : eb_dc cX1_parts 25 (.aload_n 3) 1 26 := by decide +kernel
theorem dX1_parts_26 : eb_dc cX1_parts 26 (.iconst (-1)) 1 27 := by decide +kernel
theorem dX1_parts_27 : eb_dc cX1_parts 27 (.invokestatic 106) 3 30 := by decide +kernel
theorem dX1_parts_30 : eb_dc cX1_parts 30 (.iconst 0) 1 31 := by decide +kernel
theorem dX1_parts_31 : eb_dc cX1_parts 31 (.istore 4) 2 33 := by decide +kernel
theorem dX1_parts_33 : eb_dc cX1_parts 33 (.aload_n 0) 1 34 := by decide +kernel
theorem dX1_parts_34 : eb_dc cX1_parts 34 (.getfield 45) 3 37 := by decide +kernel
theorem dX1_parts_37 : eb_dc cX1_parts 37 (.getfield 103) 3 40 := by decide +kernel
theorem dX1_parts_40 : eb_dc cX1_parts 40 (.newarray .int) 2 42 := by decide +kernel
theorem dX1_parts_42 : eb_dc cX1_parts 42 (.astore 5) 2 44 := by decide +kernel
theorem dX1_parts_44 : eb_dc cX1_parts 44 (.iconst 0) 1 45 := by decide +kernel
theorem dX1_parts_45 : eb_dc cX1_parts 45 (.istore 6) 2 47 := by decide +kernel
theorem dX1_parts_47 : eb_dc cX1_parts 47 (.iload 6) 2 49 := by decide +kernel
theorem dX1_parts_49 : eb_dc cX1_parts 49 (.aload_n 0) 1 50 := by decide +kernel
theorem dX1_parts_50 : eb_dc cX1_parts 50 (.getfield 45) 3 53 := by decide +kernel
theorem dX1_parts_53 : eb_dc cX1_parts 53 (.getfield 103) 3 56 := by decide +kernel
theorem dX1_parts_56 : eb_dj cX1_parts 56 (.if_icmp .ge 121) 121 59 177 := by decide +kernel
theorem dX1_parts_59 : eb_dc cX1_parts 59 (.aload_n 3) 1 60 := by decide +kernel
theorem dX1_parts_60 : eb_dc cX1_parts 60 (.iload 6) 2 62 := by decide +kernel
theorem dX1_parts_62 : eb_dc cX1_parts 62 (.saload) 1 63 := by decide +kernel
theorem dX1_parts_63 : eb_dc cX1_parts 63 (.iconst (-1)) 1 64 := by decide +kernel
theorem dX1_parts_64 : eb_dj cX1_parts 64 (.if_icmp .ne 107) 107 67 171 := by decide +kernel
theorem dX1_parts_67 : eb_dc cX1_parts 67 (.aload_n 3) 1 68 := by decide +kernel
theorem dX1_parts_68 : eb_dc cX1_parts 68 (.iload 6) 2 70 := by decide +kernel
theorem dX1_parts_70 : eb_dc cX1_parts 70 (.iload 4) 2 72 := by decide +kernel
theorem dX1_parts_72 : eb_dc cX1_parts 72 (.i2s) 1 73 := by decide +kernel
theorem dX1_parts_73 : eb_dc cX1_parts 73 (.sastore) 1 74 := by decide +kernel
theorem dX1_parts_74 : eb_dc cX1_parts 74 (.aload 5) 2 76 := by decide +kernel
theorem dX1_parts_76 : eb_dc cX1_parts 76 (.iconst 0) 1 77 := by decide +kernel
theorem dX1_parts_77 : eb_dc cX1_parts 77 (.iload 6) 2 79 := by decide +kernel
theorem dX1_parts_79 : eb_dc cX1_parts 79 (.iastore) 1 80 := by decide +kernel
theorem dX1_parts_80 : eb_dc cX1_parts 80 (.iconst 1) 1 81 := by decide +kernel
theorem dX1_parts_81 : eb_dc cX1_parts 81 (.istore 7) 2 83 := by decide +kernel
theorem dX1_parts_83 : eb_dc cX1_parts 83 (.iconst 0) 1 84 := by decide +kernel
theorem dX1_parts_84 : eb_dc cX1_parts 84 (.istore 8) 2 86 := by decide +kernel
theorem dX1_parts_86 : eb_dc cX1_parts 86 (.iload 8) 2 88 := by decide +kernel
theorem dX1_parts_88 : eb_dc cX1_parts 88 (.iload 7) 2 90 := by decide +kernel
theorem dX1_parts_90 : eb_dj cX1_parts 90 (.if_icmp .ge 78) 78 93 168 := by decide +kernel
theorem dX1_parts_93 : eb_dc cX1_parts 93 (.iconst 0) 1 94 := by decide +kernel
theorem dX1_parts_94 : eb_dc cX1_parts 94 (.istore 9) 2 96 := by decide +kernel
theorem dX1_parts_96 : eb_dc cX1_parts 96 (.iload 9) 2 98 := by decide +kernel
theorem dX1_parts_98 : eb_dc cX1_parts 98 (.aload_n 0) 1 99 := by decide +kernel
theorem dX1_parts_99 : eb_dc cX1_parts 99 (.getfield 28) 3 102 := by decide +kernel
theorem dX1_parts_102 : eb_dj cX1_parts 102 (.if_icmp .ge 60) 60 105 162 := by decide +kernel
theorem dX1_parts_105 : eb_dc cX1_parts 105 (.aload_n 0) 1 106 := by decide +kernel
theorem dX1_parts_106 : eb_dc cX1_parts 106 (.getfield 45) 3 109 := by decide +kernel
theorem dX1_parts_109 : eb_dc cX1_parts 109 (.aload 5) 2 111 := by decide +kernel
theorem dX1_parts_111 : eb_dc cX1_parts 111 (.iload 8) 2 113 := by decide +kernel
theorem dX1_parts_113 : eb_dc cX1_parts 113 (.iaload) 1 114 := by decide +kernel
theorem dX1_parts_114 : eb_dc cX1_parts 114 (.iload 9) 2 116 := by decide +kernel
theorem dX1_parts_116 : eb_dc cX1_parts 116 (.invokevirtual 109) 3 119 := by decide +kernel
theorem dX1_parts_119 : eb_dc cX1_parts 119 (.istore 10) 2 121 := by decide +kernel
theorem dX1_parts_121 : eb_dc cX1_parts 121 (.iload_n 2) 1 122 := by decide +kernel
theorem dX1_parts_122 : eb_dc cX1_parts 122 (.iload 9) 2 124 := by decide +kernel
theorem dX1_parts_124 : eb_dc cX1_parts 124 (.ishr) 1 125 := by decide +kernel
theorem dX1_parts_125 : eb_dc cX1_parts 125 (.iconst 1) 1 126 := by decide +kernel
theorem dX1_parts_126 : eb_dc cX1_parts 126 (.iand) 1 127 := by decide +kernel
theorem dX1_parts_127 : eb_dc cX1_parts 127 (.iconst 1) 1 128 := by decide +kernel
theorem dX1_parts_128 : eb_dj cX1_parts 128 (.if_icmp .ne 28) 28 131 156 := by decide +kernel
theorem dX1_parts_131 : eb_dc cX1_parts 131 (.aload_n 3) 1 132 := by decide +kernel
theorem dX1_parts_132 : eb_dc cX1_parts 132 (.iload 10) 2 134 := by decide +kernel
theorem dX1_parts_134 : eb_dc cX1_parts 134 (.saload) 1 135 := by decide +kernel
theorem dX1_parts_135 : eb_dc cX1_parts 135 (.iconst (-1)) 1 136 := by decide +kernel
theorem dX1_parts_136 : eb_dj cX1_parts 136 (.if_icmp .ne 20) 20 139 156 := by decide +kernel
theorem dX1_parts_139 : eb_dc cX1_parts 139 (.aload_n 3) 1 140 := by decide +kernel
theorem dX1_parts_140 : eb_dc cX1_parts 140 (.iload 10) 2 142 := by decide +kernel
theorem dX1_parts_142 : eb_dc cX1_parts 142 (.iload 4) 2 144 := by decide +kernel
theorem dX1_parts_144 : eb_dc cX1_parts 144 (.i2s) 1 145 := by decide +kernel
theorem dX1_parts_145 : eb_dc cX1_parts 145 (.sastore) 1 146 := by decide +kernel
theorem dX1_parts_146 : eb_dc cX1_parts 146 (.aload 5) 2 148 := by decide +kernel
theorem dX1_parts_148 : eb_dc cX1_parts 148 (.iload 7) 2 150 := by decide +kernel
theorem dX1_parts_150 : eb_dc cX1_parts 150 (.iload 10) 2 152 := by decide +kernel
theorem dX1_parts_152 : eb_dc cX1_parts 152 (.iastore) 1 153 := by decide +kernel
theorem dX1_parts_153 : eb_dc cX1_parts 153 (.iinc 7 1) 3 156 := by decide +kernel
theorem dX1_parts_156 : eb_dc cX1_parts 156 (.iinc 9 1) 3 159 := by decide +kernel
theorem dX1_parts_159 : eb_dj cX1_parts 159 (.goto (-63)) (-63) 162 96 := by decide +kernel
theorem dX1_parts_162 : eb_dc cX1_parts 162 (.iinc 8 1) 3 165 := by decide +kernel
theorem dX1_parts_165 : eb_dj cX1_parts 165 (.goto (-79)) (-79) 168 86 := by decide +kernel
theorem dX1_parts_168 : eb_dc cX1_parts 168 (.iinc 4 1) 3 171 := by decide +kernel
theorem dX1_parts_171 : eb_dc cX1_parts 171 (.iinc 6 1) 3 174 := by decide +kernel
theorem dX1_parts_174 : eb_dj cX1_parts 174 (.goto (-127)) (-127) 177 47 := by decide +kernel
theorem dX1_parts_177 : eb_dc cX1_parts 177 (.aload_n 0) 1 178 := by decide +kernel
theorem dX1_parts_178 : eb_dc cX1_parts 178 (.getfield 21) 3 181 := by decide +kernel
theorem dX1_parts_181 : eb_dc cX1_parts 181 (.iload_n 1) 1 182 := by decide +kernel
theorem dX1_parts_182 : eb_dc cX1_parts 182 (.aload_n 3) 1 183 := by decide +kernel
theorem dX1_parts_183 : eb_dc cX1_parts 183 (.aastore) 1 184 := by decide +kernel
theorem dX1_parts_184 : eb_dc cX1_parts 184 (.aload_n 0) 1 185 := by decide +kernel
theorem dX1_parts_185 : eb_dc cX1_parts 185 (.getfield 25) 3 188 := by decide +kernel
theorem dX1_parts_188 : eb_dc cX1_parts 188 (.iload_n 1) 1 189 := by decide +kernel
theorem dX1_parts_189 : eb_dc cX1_parts 189 (.iload 4) 2 191 := by decide +kernel
theorem dX1_parts_191 : eb_dc cX1_parts 191 (.iastore) 1 192 := by decide +kernel
theorem dX1_parts_192 : eb_dc cX1_parts 192 (.aload_n 0) 1 193 := by decide +kernel
theorem dX1_parts_193 : eb_dc cX1_parts 193 (.getfield 21) 3 196 := by decide +kernel
theorem dX1_parts_196 : eb_dc cX1_parts 196 (.iload_n 1) 1 197 := by decide +kernel
theorem dX1_parts_197 : eb_dc cX1_parts 197 (.aaload) 1 198 := by decide +kernel
theorem dX1_parts_198 : eb_dc cX1_parts 198 (.areturn) 1 199 := by decide +kernel
theorem ctX1_parts {l : Launch} {Γ : eb_C} {bc bs : Nat} {st : eb_S} {a0 : Nat} {a1 : Int32} {K : Option Nat → eb_S → Prop} (h : MX1_parts Γ bc bs st a0 a1 K) : eb_Ct l Γ yX1_parts cX1_parts 11 (some (.array .short)) (rmX1_parts bc bs) [.ref a0, .int a1] st (eb_oR K) := by
  refine eb_of (by decide) (Nat.le_of_ble_eq_true rfl) (fun X P hP hX0 => ?_)
  suffices hgo : (0 ≤ bc ∧ 0 ≤ bs) → eb_G l Γ P X cX1_parts RX1 11 (some (.array .short)) (rmX1_parts bc bs) 0 [(0, .ref a0), (1, .int a1)] [] st 0 0 from hgo ⟨Nat.zero_le _, Nat.zero_le _⟩
  intro hu
  refine eg_aload_n 0 dX1_parts_0 rfl rfl ?_
  obtain ⟨fs, v1, he, hv, h⟩ := h
  refine eg_get 5 in_X1 he rfl (Nat.le_of_ble_eq_true rfl) q134 rfl hv dX1_parts_1 ?_
  refine eg_iload_n 1 dX1_parts_4 rfl rfl ?_
  obtain ⟨p2, rfl, h⟩ := h
  obtain ⟨nA, fA, he, hb, h⟩ := h
  refine eg_aald (t := 6) (ty := .array .short) rfl rfl he hb dX1_parts_5 (fun v3 ev3 => ?_)
  replace h := h v3 ev3
  refine eb_jp3_e (J := fun (g4 : eb_S) (u5 : Nat) (w6 : Nat) => (u5 ≤ bc ∧ w6 ≤ bs) → eb_G l Γ P X cX1_parts RX1 11 (some (.array .short)) (rmX1_parts bc bs) 192 [(0, .ref a0), (1, .int a1)] [] g4 u5 w6) h ?_ ?_
  · clear h
    intro g4 u5 w6 h hu
    refine eg_aload_n 0 dX1_parts_192 rfl rfl ?_
    obtain ⟨fs, v7, he, hv, h⟩ := h
    refine eg_get 5 in_X1 he rfl (Nat.le_of_ble_eq_true rfl) q134 rfl hv dX1_parts_193 ?_
    refine eg_iload_n 1 dX1_parts_196 rfl rfl ?_
    obtain ⟨p8, rfl, h⟩ := h
    obtain ⟨nA, fA, he, hb, h⟩ := h
    refine eg_aald (t := 6) (ty := .array .short) rfl rfl he hb dX1_parts_197 (fun v9 ev9 => ?_)
    replace h := h v9 ev9
    exact eg_aret dX1_parts_198 (Or.inr ⟨_, rfl⟩) (eb_rfz v9) hu.1 hu.2 (hP _ _ ⟨v9, rfl, h⟩)
  · clear h
    intro k10 hk10 h
    refine eg_ifnonnull (v := v3) dX1_parts_6 (fun p11 hnon => ?_) (fun hnul => ?_)
    · subst hnon
      replace h := h.2 p11 rfl
      exact hk10 st 0 0 h hu
    · subst hnul
      replace h := h.1 rfl
      refine eg_aload_n 0 dX1_parts_9 rfl rfl ?_
      refine eg_iload_n 1 dX1_parts_10 rfl rfl ?_
      obtain ⟨hcs, h⟩ := h
      have hM0 := h
      clear h
      refine ec_VIp (rest := []) (ctX1_stay hM0) (lw_V q518 q519 q520 q75 q521) rfl rfl hcs nX1_stay ⟨Nat.le_of_ble_eq_true rfl, Nat.le_of_ble_eq_true rfl⟩ ⟨rfl, rfl⟩ hu rfl rfl (Nat.le_of_ble_eq_true rfl) dX1_parts_11 (fun v12 h => ?_)
      clear hM0
      refine eg_istore_n (lv' := [(2, .int v12), (0, .ref a0), (1, .int a1)]) dX1_parts_14 rfl (Nat.le_of_ble_eq_true rfl) rfl ?_
      refine eg_aload_n 1 dX1_parts_15 rfl rfl ?_
      obtain ⟨fs, v16, he, hv, h⟩ := h
      refine eg_get 3 in_X1 he rfl (Nat.le_of_ble_eq_true rfl) q131 rfl hv dX1_parts_16 ?_
      obtain ⟨p17, rfl, h⟩ := h
      obtain ⟨fs, v18, he, hv, h⟩ := h
      refine eg_getN 1 in_X8 he rfl (Nat.le_of_ble_eq_true rfl) (List.mem_of_getElem? (i := 11) rfl) rfl hv dX1_parts_19 ?_
      obtain ⟨hok, h⟩ := h
      obtain ⟨hc1, hs1, h⟩ := h
      refine eh_new_s q383 rfl hok hc1 hs1 dX1_parts_22 (fun p19 qp19 g20 eg20 => ?_)
      replace h := h p19 qp19 g20 eg20
      replace hu := And.intro hc1 hs1
      refine eg_astore_n (i := 3) (lv' := [(3, .ref p19), (2, .int v12), (0, .ref a0), (1, .int a1)]) dX1_parts_24 rfl (Nat.le_of_ble_eq_true rfl) rfl ?_
      refine eg_aload_n 0 dX1_parts_25 rfl rfl ?_
      refine eg_iconst dX1_parts_26 kc_m1 ?_
      have hM0 := h
      clear h
      refine ec_SVw (rest := []) (ctJ0_fill_3 hM0) (lw_S q522 q523 q76 q524) nJ0_fill_3 ⟨Nat.le_of_ble_eq_true rfl, Nat.le_of_ble_eq_true rfl⟩ ⟨rfl, rfl⟩ hu rfl rfl (Nat.le_of_ble_eq_true rfl) dX1_parts_27 (fun g22 h => ?_)
      clear hM0
      refine eg_iconst dX1_parts_30 kc_0 ?_
      refine eg_istore (lv' := [(4, .int 0), (3, .ref p19), (2, .int v12), (0, .ref a0), (1, .int a1)]) dX1_parts_31 (Nat.le_of_ble_eq_true rfl) rfl ?_
      refine eg_aload_n 3 dX1_parts_33 rfl rfl ?_
      obtain ⟨fs, v25, he, hv, h⟩ := h
      refine eg_get 3 in_X1 he rfl (Nat.le_of_ble_eq_true rfl) q131 rfl hv dX1_parts_34 ?_
      obtain ⟨p26, rfl, h⟩ := h
      obtain ⟨fs, v27, he, hv, h⟩ := h
      refine eg_getN 1 in_X8 he rfl (Nat.le_of_ble_eq_true rfl) (List.mem_of_getElem? (i := 11) rfl) rfl hv dX1_parts_37 ?_
      obtain ⟨hok, h⟩ := h
      obtain ⟨hc1, hs1, h⟩ := h
      refine eh_new_i q158 rfl hok hc1 hs1 dX1_parts_40 (fun p28 qp28 g29 eg29 => ?_)
      replace h := h p28 qp28 g29 eg29
      replace hu := And.intro hc1 hs1
      refine eg_astore (i := 5) (lv' := [(5, .ref p28), (4, .int 0), (3, .ref p19), (2, .int v12), (0, .ref a0), (1, .int a1)]) dX1_parts_42 (Nat.le_of_ble_eq_true rfl) rfl ?_
      refine eg_iconst dX1_parts_44 kc_0 ?_
      refine eg_istore (lv' := [(6, .int 0), (5, .ref p28), (4, .int 0), (3, .ref p19), (2, .int v12), (0, .ref a0), (1, .int a1)]) dX1_parts_45 (Nat.le_of_ble_eq_true rfl) rfl ?_
      refine eb_jp2_e (J := fun (x4_30 : Int32) (g31 : eb_S) => (((0 + 1) + 1) ≤ bc ∧ ((0 + (v18.toNatClampNeg)) + (v27.toNatClampNeg)) ≤ bs) → eb_G l Γ P X cX1_parts RX1 11 (some (.array .short)) (rmX1_parts bc bs) 177 [(0, .ref a0), (1, .int a1), (3, .ref p19), (4, .int x4_30)] [] g31 ((0 + 1) + 1) ((0 + (v18.toNatClampNeg)) + (v27.toNatClampNeg))) h ?_ ?_
      · clear h
        intro x4_30 g31 h hu
        refine eg_aload_n 0 dX1_parts_177 rfl rfl ?_
        obtain ⟨fs, v32, he, hv, h⟩ := h
        refine eg_get 5 in_X1 he rfl (Nat.le_of_ble_eq_true rfl) q134 rfl hv dX1_parts_178 ?_
        refine eg_iload_n 1 dX1_parts_181 rfl rfl ?_
        refine eg_aload_n 2 dX1_parts_182 rfl rfl ?_
        obtain ⟨p33, rfl, h⟩ := h
        obtain ⟨⟨x1, he1⟩, h⟩ := h
        obtain ⟨nA, fA, he, hb, h⟩ := h
        refine eg_astA (t := 6) (u := 3) (ty := .short) rfl rfl (List.mem_of_getElem? (i := 2) rfl) (fun C z => by cases z) he he1 hb dX1_parts_183 ?_
        replace h := h _ rfl
        generalize eb_up _ _ _ = g34 at h ⊢
        refine eg_aload_n 0 dX1_parts_184 rfl rfl ?_
        obtain ⟨fs, v35, he, hv, h⟩ := h
        refine eg_get 6 in_X1 he rfl (Nat.le_of_ble_eq_true rfl) q135 rfl hv dX1_parts_185 ?_
        refine eg_iload_n 1 dX1_parts_188 rfl rfl ?_
        refine eg_iload 3 dX1_parts_189 rfl ?_
        obtain ⟨p36, rfl, h⟩ := h
        obtain ⟨nA, fA, he, hb, h⟩ := h
        refine eh_iast he hb dX1_parts_191 (fun g37 eg37 => ?_)
        replace h := h g37 eg37
        exact eg_sub [0, 1] rfl (hk10 g37 (((0 + 1) + 1)) (((0 + (v18.toNatClampNeg)) + (v27.toNatClampNeg))) h hu)
      · clear h
        intro k38 hk38 h
        refine eg_sub [5, 6, 4, 3, 2, 1, 0] rfl ?_
        refine eb_loop3_e (J := fun (x4_39 : Int32) (x6_40 : Int32) (g41 : eb_S) => (((0 + 1) + 1) ≤ bc ∧ ((0 + (v18.toNatClampNeg)) + (v27.toNatClampNeg)) ≤ bs) → eb_G l Γ P X cX1_parts RX1 11 (some (.array .short)) (rmX1_parts bc bs) 47 [(0, .ref a0), (1, .int a1), (2, .int v12), (3, .ref p19), (4, .int x4_39), (5, .ref p28), (6, .int x6_40)] [] g41 ((0 + 1) + 1) ((0 + (v18.toNatClampNeg)) + (v27.toNatClampNeg))) h ?_ hu
        clear h
        clear hu
        intro r42 hr42 x4_39 x6_40 g41 h hu
        refine eg_iload 6 dX1_parts_47 rfl ?_
        refine eg_aload_n 0 dX1_parts_49 rfl rfl ?_
        obtain ⟨fs, v43, he, hv, h⟩ := h
        refine eg_get 3 in_X1 he rfl (Nat.le_of_ble_eq_true rfl) q131 rfl hv dX1_parts_50 ?_
        obtain ⟨p44, rfl, h⟩ := h
        obtain ⟨fs, v45, he, hv, h⟩ := h
        refine eg_getN 1 in_X8 he rfl (Nat.le_of_ble_eq_true rfl) (List.mem_of_getElem? (i := 11) rfl) rfl hv dX1_parts_53 ?_
        refine eg_icmp_ge dX1_parts_56 (fun c84 => ?_) (fun c84 => ?_)
        · replace h := h.1 c84
          exact eg_sub [0, 1, 3, 4] rfl (hk38 x4_39 g41 h hu)
        · replace h := h.2 c84
          refine eg_aload_n 3 dX1_parts_59 rfl rfl ?_
          refine eg_iload 6 dX1_parts_60 rfl ?_
          obtain ⟨nA, fA, he, hb, h⟩ := h
          refine eh_sald he hb dX1_parts_62 (fun v46 ev46 => ?_)
          replace h := h v46 ev46
          refine eg_iconst dX1_parts_63 kc_m1 ?_
          refine eb_jp2_e (J := fun (x4_47 : Int32) (g48 : eb_S) => (((0 + 1) + 1) ≤ bc ∧ ((0 + (v18.toNatClampNeg)) + (v27.toNatClampNeg)) ≤ bs) → eb_G l Γ P X cX1_parts RX1 11 (some (.array .short)) (rmX1_parts bc bs) 171 [(0, .ref a0), (1, .int a1), (2, .int v12), (3, .ref p19), (4, .int x4_47), (5, .ref p28), (6, .int x6_40)] [] g48 ((0 + 1) + 1) ((0 + (v18.toNatClampNeg)) + (v27.toNatClampNeg))) h ?_ ?_
          · clear h
            intro x4_47 g48 h hu
            refine eg_iinc (j := 6) (lv' := [(6, .int (x6_40 + 1)), (0, .ref a0), (1, .int a1), (2, .int v12), (3, .ref p19), (4, .int x4_47), (5, .ref p28)]) dX1_parts_171 rfl (by rw [kc_1]) (Nat.le_of_ble_eq_true rfl) rfl ?_
            refine eg_goto dX1_parts_174 ?_
            exact eg_sub [1, 2, 3, 4, 5, 6, 0] rfl (hr42 x4_47 (x6_40 + 1) g48 h hu)
          · clear h
            intro k49 hk49 h
            refine eg_icmp_ne dX1_parts_64 (fun c83 => ?_) (fun c83 => ?_)
            · replace h := h.2 c83
              exact hk49 x4_39 g41 h hu
            · replace h := h.1 c83
              refine eg_aload_n 3 dX1_parts_67 rfl rfl ?_
              refine eg_iload 6 dX1_parts_68 rfl ?_
              refine eg_iload 4 dX1_parts_70 rfl ?_
              refine eg_i2s dX1_parts_72 ?_
              obtain ⟨nA, fA, he, hb, h⟩ := h
              refine eh_sast he hb dX1_parts_73 (fun g50 eg50 => ?_)
              replace h := h g50 eg50
              refine eg_aload 5 dX1_parts_74 rfl ?_
              refine eg_iconst dX1_parts_76 kc_0 ?_
              refine eg_iload 6 dX1_parts_77 rfl ?_
              obtain ⟨nA, fA, he, hb, h⟩ := h
              refine eh_iast he hb dX1_parts_79 (fun g51 eg51 => ?_)
              replace h := h g51 eg51
              refine eg_iconst dX1_parts_80 kc_1 ?_
              refine eg_istore (lv' := [(7, .int 1), (0, .ref a0), (1, .int a1), (2, .int v12), (3, .ref p19), (4, .int x4_39), (5, .ref p28), (6, .int x6_40)]) dX1_parts_81 (Nat.le_of_ble_eq_true rfl) rfl ?_
              refine eg_iconst dX1_parts_83 kc_0 ?_
              refine eg_istore (lv' := [(8, .int 0), (7, .int 1), (0, .ref a0), (1, .int a1), (2, .int v12), (3, .ref p19), (4, .int x4_39), (5, .ref p28), (6, .int x6_40)]) dX1_parts_84 (Nat.le_of_ble_eq_true rfl) rfl ?_
              refine eb_jp1_e (J := fun (g52 : eb_S) => (((0 + 1) + 1) ≤ bc ∧ ((0 + (v18.toNatClampNeg)) + (v27.toNatClampNeg)) ≤ bs) → eb_G l Γ P X cX1_parts RX1 11 (some (.array .short)) (rmX1_parts bc bs) 168 [(0, .ref a0), (1, .int a1), (2, .int v12), (3, .ref p19), (4, .int x4_39), (5, .ref p28), (6, .int x6_40)] [] g52 ((0 + 1) + 1) ((0 + (v18.toNatClampNeg)) + (v27.toNatClampNeg))) h ?_ ?_
              · clear h
                intro g52 h hu
                refine eg_iinc (j := 4) (lv' := [(4, .int (x4_39 + 1)), (0, .ref a0), (1, .int a1), (2, .int v12), (3, .ref p19), (5, .ref p28), (6, .int x6_40)]) dX1_parts_168 rfl (by rw [kc_1]) (Nat.le_of_ble_eq_true rfl) rfl ?_
                exact eg_sub [1, 2, 3, 4, 0, 5, 6] rfl (hk49 (x4_39 + 1) g52 h hu)
              · clear h
                intro k53 hk53 h
                refine eg_sub [2, 3, 4, 5, 6, 7, 8, 1, 0] rfl ?_
                refine eb_loop3_e (J := fun (x7_54 : Int32) (x8_55 : Int32) (g56 : eb_S) => (((0 + 1) + 1) ≤ bc ∧ ((0 + (v18.toNatClampNeg)) + (v27.toNatClampNeg)) ≤ bs) → eb_G l Γ P X cX1_parts RX1 11 (some (.array .short)) (rmX1_parts bc bs) 86 [(0, .ref a0), (1, .int a1), (2, .int v12), (3, .ref p19), (4, .int x4_39), (5, .ref p28), (6, .int x6_40), (7, .int x7_54), (8, .int x8_55)] [] g56 ((0 + 1) + 1) ((0 + (v18.toNatClampNeg)) + (v27.toNatClampNeg))) h ?_ hu
                clear h
                clear hu
                intro r57 hr57 x7_54 x8_55 g56 h hu
                refine eg_iload 8 dX1_parts_86 rfl ?_
                refine eg_iload 7 dX1_parts_88 rfl ?_
                refine eg_icmp_ge dX1_parts_90 (fun c82 => ?_) (fun c82 => ?_)
                · replace h := h.1 c82
                  exact eg_sub [0, 1, 2, 3, 4, 5, 6] rfl (hk53 g56 h hu)
                · replace h := h.2 c82
                  refine eg_iconst dX1_parts_93 kc_0 ?_
                  refine eg_istore (lv' := [(9, .int 0), (0, .ref a0), (1, .int a1), (2, .int v12), (3, .ref p19), (4, .int x4_39), (5, .ref p28), (6, .int x6_40), (7, .int x7_54), (8, .int x8_55)]) dX1_parts_94 (Nat.le_of_ble_eq_true rfl) rfl ?_
                  refine eb_jp2_e (J := fun (x7_58 : Int32) (g59 : eb_S) => (((0 + 1) + 1) ≤ bc ∧ ((0 + (v18.toNatClampNeg)) + (v27.toNatClampNeg)) ≤ bs) → eb_G l Γ P X cX1_parts RX1 11 (some (.array .short)) (rmX1_parts bc bs) 162 [(0, .ref a0), (1, .int a1), (2, .int v12), (3, .ref p19), (4, .int x4_39), (5, .ref p28), (6, .int x6_40), (7, .int x7_58), (8, .int x8_55)] [] g59 ((0 + 1) + 1) ((0 + (v18.toNatClampNeg)) + (v27.toNatClampNeg))) h ?_ ?_
                  · clear h
                    intro x7_58 g59 h hu
                    refine eg_iinc (j := 8) (lv' := [(8, .int (x8_55 + 1)), (0, .ref a0), (1, .int a1), (2, .int v12), (3, .ref p19), (4, .int x4_39), (5, .ref p28), (6, .int x6_40), (7, .int x7_58)]) dX1_parts_162 rfl (by rw [kc_1]) (Nat.le_of_ble_eq_true rfl) rfl ?_
                    refine eg_goto dX1_parts_165 ?_
                    exact eg_sub [1, 2, 3, 4, 5, 6, 7, 8, 0] rfl (hr57 x7_58 (x8_55 + 1) g59 h hu)
                  · clear h
                    intro k60 hk60 h
                    refine eg_sub [1, 2, 3, 4, 5, 6, 7, 8, 9, 0] rfl ?_
                    refine eb_loop3_e (J := fun (x7_61 : Int32) (x9_62 : Int32) (g63 : eb_S) => (((0 + 1) + 1) ≤ bc ∧ ((0 + (v18.toNatClampNeg)) + (v27.toNatClampNeg)) ≤ bs) → eb_G l Γ P X cX1_parts RX1 11 (some (.array .short)) (rmX1_parts bc bs) 96 [(0, .ref a0), (1, .int a1), (2, .int v12), (3, .ref p19), (4, .int x4_39), (5, .ref p28), (6, .int x6_40), (7, .int x7_61), (8, .int x8_55), (9, .int x9_62)] [] g63 ((0 + 1) + 1) ((0 + (v18.toNatClampNeg)) + (v27.toNatClampNeg))) h ?_ hu
                    clear h
                    clear hu
                    intro r64 hr64 x7_61 x9_62 g63 h hu
                    refine eg_iload 9 dX1_parts_96 rfl ?_
                    refine eg_aload_n 0 dX1_parts_98 rfl rfl ?_
                    obtain ⟨fs, v65, he, hv, h⟩ := h
                    refine eg_get 0 in_X1 he rfl (Nat.le_of_ble_eq_true rfl) q120 rfl hv dX1_parts_99 ?_
                    refine eg_icmp_ge dX1_parts_102 (fun c81 => ?_) (fun c81 => ?_)
                    · replace h := h.1 c81
                      exact eg_sub [0, 1, 2, 3, 4, 5, 6, 7, 8] rfl (hk60 x7_61 g63 h hu)
                    · replace h := h.2 c81
                      refine eg_aload_n 0 dX1_parts_105 rfl rfl ?_
                      obtain ⟨fs, v66, he, hv, h⟩ := h
                      refine eg_get 3 in_X1 he rfl (Nat.le_of_ble_eq_true rfl) q131 rfl hv dX1_parts_106 ?_
                      refine eg_aload 5 dX1_parts_109 rfl ?_
                      refine eg_iload 8 dX1_parts_111 rfl ?_
                      obtain ⟨nA, fA, he, hb, h⟩ := h
                      refine eh_iald he hb dX1_parts_113 (fun v67 ev67 => ?_)
                      replace h := h v67 ev67
                      refine eg_iload 9 dX1_parts_114 rfl ?_
                      obtain ⟨p68, rfl, h⟩ := h
                      obtain ⟨hcs, h⟩ := h
                      have hM0 := h
                      clear h
                      refine ec_VIp (rest := []) (ctX8_by hM0) (lw_V q525 q436 q437 q84 q438) rfl rfl hcs nX8_by ⟨Nat.le_of_ble_eq_true rfl, Nat.le_of_ble_eq_true rfl⟩ ⟨rfl, rfl⟩ hu rfl rfl (Nat.le_of_ble_eq_true rfl) dX1_parts_116 (fun v69 h => ?_)
                      clear hM0
                      refine eg_istore (lv' := [(10, .int v69), (0, .ref a0), (1, .int a1), (2, .int v12), (3, .ref p19), (4, .int x4_39), (5, .ref p28), (6, .int x6_40), (7, .int x7_61), (8, .int x8_55), (9, .int x9_62)]) dX1_parts_119 (Nat.le_of_ble_eq_true rfl) rfl ?_
                      refine eg_iload_n 3 dX1_parts_121 rfl rfl ?_
                      refine eg_iload 10 dX1_parts_122 rfl ?_
                      refine eg_ishr dX1_parts_124 ?_
                      refine eg_iconst dX1_parts_125 kc_1 ?_
                      refine eg_iand dX1_parts_126 ?_
                      refine eg_iconst dX1_parts_127 kc_1 ?_
                      refine eb_jp2_e (J := fun (x7_73 : Int32) (g74 : eb_S) => (((0 + 1) + 1) ≤ bc ∧ ((0 + (v18.toNatClampNeg)) + (v27.toNatClampNeg)) ≤ bs) → eb_G l Γ P X cX1_parts RX1 11 (some (.array .short)) (rmX1_parts bc bs) 156 [(0, .ref a0), (1, .int a1), (2, .int v12), (3, .ref p19), (4, .int x4_39), (5, .ref p28), (6, .int x6_40), (7, .int x7_73), (8, .int x8_55), (9, .int x9_62)] [] g74 ((0 + 1) + 1) ((0 + (v18.toNatClampNeg)) + (v27.toNatClampNeg))) h ?_ ?_
                      · clear h
                        intro x7_73 g74 h hu
                        refine eg_iinc (j := 9) (lv' := [(9, .int (x9_62 + 1)), (0, .ref a0), (1, .int a1), (2, .int v12), (3, .ref p19), (4, .int x4_39), (5, .ref p28), (6, .int x6_40), (7, .int x7_73), (8, .int x8_55)]) dX1_parts_156 rfl (by rw [kc_1]) (Nat.le_of_ble_eq_true rfl) rfl ?_
                        refine eg_goto dX1_parts_159 ?_
                        exact eg_sub [1, 2, 3, 4, 5, 6, 7, 8, 9, 0] rfl (hr64 x7_73 (x9_62 + 1) g74 h hu)
                      · clear h
                        intro k75 hk75 h
                        refine eg_icmp_ne dX1_parts_128 (fun c80 => ?_) (fun c80 => ?_)
                        · replace h := h.2 c80
                          exact eg_sub [1, 2, 3, 4, 5, 6, 7, 8, 9, 10] rfl (hk75 x7_61 g63 h hu)
                        · replace h := h.1 c80
                          refine eg_aload_n 4 dX1_parts_131 rfl rfl ?_
                          refine eg_iload 0 dX1_parts_132 rfl ?_
                          obtain ⟨nA, fA, he, hb, h⟩ := h
                          refine eh_sald he hb dX1_parts_134 (fun v76 ev76 => ?_)
                          replace h := h v76 ev76
                          refine eg_iconst dX1_parts_135 kc_m1 ?_
                          refine eg_icmp_ne dX1_parts_136 (fun c79 => ?_) (fun c79 => ?_)
                          · replace h := h.2 c79
                            exact eg_sub [1, 2, 3, 4, 5, 6, 7, 8, 9, 10] rfl (hk75 x7_61 g63 h hu)
                          · replace h := h.1 c79
                            refine eg_aload_n 4 dX1_parts_139 rfl rfl ?_
                            refine eg_iload 0 dX1_parts_140 rfl ?_
                            refine eg_iload 5 dX1_parts_142 rfl ?_
                            refine eg_i2s dX1_parts_144 ?_
                            obtain ⟨nA, fA, he, hb, h⟩ := h
                            refine eh_sast he hb dX1_parts_145 (fun g77 eg77 => ?_)
                            replace h := h g77 eg77
                            refine eg_aload 6 dX1_parts_146 rfl ?_
                            refine eg_iload 8 dX1_parts_148 rfl ?_
                            refine eg_iload 0 dX1_parts_150 rfl ?_
                            obtain ⟨nA, fA, he, hb, h⟩ := h
                            refine eh_iast he hb dX1_parts_152 (fun g78 eg78 => ?_)
                            replace h := h g78 eg78
                            refine eg_iinc (j := 8) (lv' := [(7, .int (x7_61 + 1)), (10, .int v69), (0, .ref a0), (1, .int a1), (2, .int v12), (3, .ref p19), (4, .int x4_39), (5, .ref p28), (6, .int x6_40), (8, .int x8_55), (9, .int x9_62)]) dX1_parts_153 rfl (by rw [kc_1]) (Nat.le_of_ble_eq_true rfl) rfl ?_
                            exact eg_sub [2, 3, 4, 5, 6, 7, 8, 0, 9, 10] rfl (hk75 (x7_61 + 1) g78 h hu)
def MX1_many (Γ : eb_C) (bc bs : Nat) (st : eb_S) (a0 : Nat) (a1 : Int32) (K : Int32 → eb_S → Prop) : Prop :=
  eb_cs st a0 [1] ∧ ∃ c3 s4 : Nat, (0 + c3 ≤ bc ∧ 0 + s4 ≤ bs) ∧ MX1_parts Γ c3 s4 st a0 a1 (fun v1 g2 => eb_gr g2 a0 1 6 (fun v5 => eb_nn v5 (fun p6 => eb_li Γ g2 p6 0 a1 (fun v7 => K v7 g2))))
abbrev rmX1_many (bc bs : Nat) : Room := { frames := 5, cells := bc, slots := bs, locals := 110 }
theorem nX1_many : eb_ar yX1_many 1 := by decide +kernel
theorem dX1_many_0 : eb_dc cX1_many 0 (.aload_n 0) 1 1 := by decide +kernel
theorem dX1_many_1 : eb_dc cX1_many 1 (.iload_n 1) 1 2 := by decide +kernel
theorem dX1_many_2 : eb_dc cX1_many 2 (.invokevirtual 112) 3 5 := by decide +kernel
theorem dX1_many_5 : eb_dc cX1_many 5 (.pop) 1 6 := by decide +kernel
theorem dX1_many_6 : eb_dc cX1_many 6 (.aload_n 0) 1 7 := by decide +kernel
theorem dX1_many_7 : eb_dc cX1_many 7 (.getfield 25) 3 10 := by decide +kernel
theorem dX1_many_10 : eb_dc cX1_many 10 (.iload_n 1) 1 11 := by decide +kernel
theorem dX1_many_11 : eb_dc cX1_many 11 (.iaload) 1 12 := by decide +kernel
theorem dX1_many_12 : eb_dc cX1_many 12 (.ireturn) 1 13 := by decide +kernel
theorem ctX1_many {l : Launch} {Γ : eb_C} {bc bs : Nat} {st : eb_S} {a0 : Nat} {a1 : Int32} {K : Int32 → eb_S → Prop} (h : MX1_many Γ bc bs st a0 a1 K) : eb_Ct l Γ yX1_many cX1_many 2 (some .int) (rmX1_many bc bs) [.ref a0, .int a1] st (eb_oI K) := by
  refine eb_of (by decide) (Nat.le_of_ble_eq_true rfl) (fun X P hP hX0 => ?_)
  suffices hgo : (0 ≤ bc ∧ 0 ≤ bs) → eb_G l Γ P X cX1_many RX1 2 (some .int) (rmX1_many bc bs) 0 [(0, .ref a0), (1, .int a1)] [] st 0 0 from hgo ⟨Nat.zero_le _, Nat.zero_le _⟩
  intro hu
  refine eg_aload_n 0 dX1_many_0 rfl rfl ?_
  refine eg_iload_n 1 dX1_many_1 rfl rfl ?_
  obtain ⟨hcs, h⟩ := h
  obtain ⟨c3, s4, hca, h⟩ := h
  have hM0 := h
  clear h
  refine ec_VRa (rest := []) (ctX1_parts hM0) (lw_V q514 q515 q516 q75 q517) rfl rfl hcs nX1_parts ⟨Nat.le_of_ble_eq_true rfl, Nat.le_of_ble_eq_true rfl⟩ ⟨rfl, rfl⟩ hca rfl rfl (Nat.le_of_ble_eq_true rfl) dX1_many_2 (fun v1 g2 h => ?_)
  clear hM0
  replace hu := hca
  refine eg_pop dX1_many_5 (eb_rfc v1) ?_
  refine eg_aload_n 0 dX1_many_6 rfl rfl ?_
  obtain ⟨fs, v5, he, hv, h⟩ := h
  refine eg_get 6 in_X1 he rfl (Nat.le_of_ble_eq_true rfl) q135 rfl hv dX1_many_7 ?_
  refine eg_iload_n 1 dX1_many_10 rfl rfl ?_
  obtain ⟨p6, rfl, h⟩ := h
  obtain ⟨nA, fA, he, hb, h⟩ := h
  refine eh_iald he hb dX1_many_11 (fun v7 ev7 => ?_)
  replace h := h v7 ev7
  exact eg_iret dX1_many_12 hu.1 hu.2 (hP _ _ ⟨_, rfl, h⟩)
def MX0_parts (Γ : eb_C) (bc bs : Nat) (st : eb_S) (a0 : Nat) (a1 : Int32) (a2 : Int32) (K : Int32 → eb_S → Prop) : Prop :=
  eb_cs st a0 [0] ∧ MX0_isKind Γ st a0 a1 a2 (fun v1 => eb_cs st a0 [0] ∧ ∃ c7 s8 : Nat, (0 + c7 ≤ bc ∧ 0 + s8 ≤ bs) ∧ MX0_why Γ c7 s8 st a0 a1 v1 (fun v5 g6 => eb_br (v5 = 1) (eb_gr g6 a0 0 0 (fun v9 => eb_nn v9 (fun p10 => eb_lr Γ g6 p10 7 a1 (fun v11 => eb_nn v11 (fun p12 => eb_cs g6 p12 [1] ∧ ∃ c15 s16 : Nat, ((0 + c7) + c15 ≤ bc ∧ (0 + s8) + s16 ≤ bs) ∧ MX1_many Γ c15 s16 g6 p12 a2 (fun v13 g14 => K v13 g14)))))) (K v5 g6)))
abbrev rmX0_parts (bc bs : Nat) : Room := { frames := 14, cells := bc, slots := bs, locals := 306 }
theorem nX0_parts : eb_ar yX0_parts 2 := by decide +kernel
theorem dX0_parts_0 : eb_dc cX0_parts 0 (.aload_n 0) 1 1 := by decide +kernel
theorem dX0_parts_1 : eb_dc cX0_parts 1 (.iload_n 1) 1 2 := by decide +kernel
theorem dX0_parts_2 : eb_dc cX0_parts 2 (.aload_n 0) 1 3 := by decide +kernel
theorem dX0_parts_3 : eb_dc cX0_parts 3 (.iload_n 1) 1 4 := by decide +kernel
theorem dX0_parts_4 : eb_dc cX0_parts 4 (.iload_n 2) 1 5 := by decide +kernel
theorem dX0_parts_5 : eb_dc cX0_parts 5 (.invokevirtual 120) 3 8 := by decide +kernel
theorem dX0_parts_8 : eb_dc cX0_parts 8 (.invokevirtual 75) 3 11 := by decide +kernel
theorem dX0_parts_11 : eb_dc cX0_parts 11 (.istore_n 3) 1 12 := by decide +kernel
theorem dX0_parts_12 : eb_dc cX0_parts 12 (.iload_n 3) 1 13 := by decide +kernel
theorem dX0_parts_13 : eb_dc cX0_parts 13 (.iconst 1) 1 14 := by decide +kernel
theorem dX0_parts_14 : eb_dj cX0_parts 14 (.if_icmp .eq 7) 7 17 21 := by decide +kernel
theorem dX0_parts_17 : eb_dc cX0_parts 17 (.iload_n 3) 1 18 := by decide +kernel
theorem dX0_parts_18 : eb_dj cX0_parts 18 (.goto 13) 13 21 31 := by decide +kernel
theorem dX0_parts_21 : eb_dc cX0_parts 21 (.aload_n 0) 1 22 := by decide +kernel
theorem dX0_parts_22 : eb_dc cX0_parts 22 (.getfield 15) 3 25 := by decide +kernel
theorem dX0_parts_25 : eb_dc cX0_parts 25 (.iload_n 1) 1 26 := by decide +kernel
theorem dX0_parts_26 : eb_dc cX0_parts 26 (.aaload) 1 27 := by decide +kernel
theorem dX0_parts_27 : eb_dc cX0_parts 27 (.iload_n 2) 1 28 := by decide +kernel
theorem dX0_parts_28 : eb_dc cX0_parts 28 (.invokevirtual 122) 3 31 := by decide +kernel
theorem dX0_parts_31 : eb_dc cX0_parts 31 (.ireturn) 1 32 := by decide +kernel
theorem ctX0_parts {l : Launch} {Γ : eb_C} {bc bs : Nat} {st : eb_S} {a0 : Nat} {a1 : Int32} {a2 : Int32} {K : Int32 → eb_S → Prop} (h : MX0_parts Γ bc bs st a0 a1 a2 K) : eb_Ct l Γ yX0_parts cX0_parts 4 (some .int) (rmX0_parts bc bs) [.ref a0, .int a1, .int a2] st (eb_oI K) := by
  refine eb_of (by decide) (Nat.le_of_ble_eq_true rfl) (fun X P hP hX0 => ?_)
  suffices hgo : (0 ≤ bc ∧ 0 ≤ bs) → eb_G l Γ P X cX0_parts RX0 4 (some .int) (rmX0_parts bc bs) 0 [(0, .ref a0), (1, .int a1), (2, .int a2)] [] st 0 0 from hgo ⟨Nat.zero_le _, Nat.zero_le _⟩
  intro hu
  refine eg_aload_n 0 dX0_parts_0 rfl rfl ?_
  refine eg_iload_n 1 dX0_parts_1 rfl rfl ?_
  refine eg_aload_n 0 dX0_parts_2 rfl rfl ?_
  refine eg_iload_n 1 dX0_parts_3 rfl rfl ?_
  refine eg_iload_n 2 dX0_parts_4 rfl rfl ?_
  obtain ⟨hcs, h⟩ := h
  have hM0 := h
  clear h
  refine ec_VIp (rest := [.int a1, .ref a0]) (ctX0_isKind hM0) (lw_V q506 q508 qs8 q74 q509) rfl rfl hcs nX0_isKind ⟨Nat.le_of_ble_eq_true rfl, Nat.le_of_ble_eq_true rfl⟩ ⟨rfl, rfl⟩ hu rfl rfl (Nat.le_of_ble_eq_true rfl) dX0_parts_5 (fun v1 h => ?_)
  clear hM0
  obtain ⟨hcs, h⟩ := h
  obtain ⟨c7, s8, hca, h⟩ := h
  have hM0 := h
  clear h
  refine ec_VIa (rest := []) (ctX0_why hM0) (lw_V q237 q239 qs1 q74 q240) rfl rfl hcs nX0_why ⟨Nat.le_of_ble_eq_true rfl, Nat.le_of_ble_eq_true rfl⟩ ⟨rfl, rfl⟩ hca rfl rfl (Nat.le_of_ble_eq_true rfl) dX0_parts_8 (fun v5 g6 h => ?_)
  clear hM0
  replace hu := hca
  refine eg_istore_n (lv' := [(3, .int v5), (0, .ref a0), (1, .int a1), (2, .int a2)]) dX0_parts_11 rfl (Nat.le_of_ble_eq_true rfl) rfl ?_
  refine eg_iload_n 0 dX0_parts_12 rfl rfl ?_
  refine eg_iconst dX0_parts_13 kc_1 ?_
  refine eg_icmp_eq dX0_parts_14 (fun c17 => ?_) (fun c17 => ?_)
  · replace h := h.1 c17
    refine eg_aload_n 1 dX0_parts_21 rfl rfl ?_
    obtain ⟨fs, v9, he, hv, h⟩ := h
    refine eg_get 0 in_X0 he rfl (Nat.le_of_ble_eq_true rfl) q159 rfl hv dX0_parts_22 ?_
    refine eg_iload_n 2 dX0_parts_25 rfl rfl ?_
    obtain ⟨p10, rfl, h⟩ := h
    obtain ⟨nA, fA, he, hb, h⟩ := h
    refine eg_aald (t := 7) (ty := .object "EvenBodies$Body") rfl rfl he hb dX0_parts_26 (fun v11 ev11 => ?_)
    replace h := h v11 ev11
    refine eg_iload_n 3 dX0_parts_27 rfl rfl ?_
    obtain ⟨p12, rfl, h⟩ := h
    obtain ⟨hcs, h⟩ := h
    obtain ⟨c15, s16, hca, h⟩ := h
    have hM0 := h
    clear h
    refine ec_VIa (rest := []) (ctX1_many hM0) (lw_V q510 q511 q512 q75 q513) rfl rfl hcs nX1_many ⟨Nat.le_of_ble_eq_true rfl, Nat.le_of_ble_eq_true rfl⟩ ⟨rfl, rfl⟩ hca rfl rfl (Nat.le_of_ble_eq_true rfl) dX0_parts_28 (fun v13 g14 h => ?_)
    clear hM0
    replace hu := hca
    exact eg_iret dX0_parts_31 hu.1 hu.2 (hP _ _ ⟨_, rfl, h⟩)
  · replace h := h.2 c17
    refine eg_iload_n 0 dX0_parts_17 rfl rfl ?_
    refine eg_goto dX0_parts_18 ?_
    exact eg_iret dX0_parts_31 hu.1 hu.2 (hP _ _ ⟨_, rfl, h⟩)
def MX0_partOf (Γ : eb_C) (bc bs : Nat) (st : eb_S) (a0 : Nat) (a1 : Int32) (a2 : Int32) (a3 : Int32) (K : Int32 → eb_S → Prop) : Prop :=
  eb_cs st a0 [0] ∧ MX0_isKind Γ st a0 a1 a2 (fun v1 => eb_jp4 (fun (s5 : Int32) (g6 : eb_S) (u7 : Nat) (w8 : Nat) => eb_cs g6 a0 [0] ∧ ∃ c11 s12 : Nat, (u7 + c11 ≤ bc ∧ w8 + s12 ≤ bs) ∧ MX0_why Γ c11 s12 g6 a0 a1 s5 (fun v9 g10 => eb_br (v9 = 1) (eb_gr g10 a0 0 0 (fun v13 => eb_nn v13 (fun p14 => eb_lr Γ g10 p14 7 a1 (fun v15 => eb_nn v15 (fun p16 => eb_cs g10 p16 [1] ∧ ∃ c19 s20 : Nat, ((u7 + c11) + c19 ≤ bc ∧ (w8 + s12) + s20 ≤ bs) ∧ MX1_parts Γ c19 s20 g10 p16 a2 (fun v17 g18 => eb_nn v17 (fun p21 => eb_li Γ g18 p21 3 a3 (fun v22 => K v22 g18)))))))) (K v9 g10))) (fun k24 => eb_br (v1 = 0) (k24 0 st 0 0) (eb_cs st a0 [0] ∧ ∃ c27 s28 : Nat, (0 + c27 ≤ bc ∧ 0 + s28 ≤ bs) ∧ MX0_isElement Γ c27 s28 st a0 a1 a3 (fun v25 g26 => eb_br (v25 = 0) (k24 0 g26 (0 + c27) (0 + s28)) (k24 1 g26 (0 + c27) (0 + s28))))))
abbrev rmX0_partOf (bc bs : Nat) : Room := { frames := 14, cells := bc, slots := bs, locals := 306 }
theorem nX0_partOf : eb_ar yX0_partOf 3 := by decide +kernel
theorem dX0_partOf_0 : eb_dc cX0_partOf 0 (.aload_n 0) 1 1 := by decide +kernel
theorem dX0_partOf_1 : eb_dc cX0_partOf 1 (.iload_n 1) 1 2 := by decide +kernel
theorem dX0_partOf_2 : eb_dc cX0_partOf 2 (.aload_n 0) 1 3 := by decide +kernel
theorem dX0_partOf_3 : eb_dc cX0_partOf 3 (.iload_n 1) 1 4 := by decide +kernel
theorem dX0_partOf_4 : eb_dc cX0_partOf 4 (.iload_n 2) 1 5 := by decide +kernel
theorem dX0_partOf_5 : eb_dc cX0_partOf 5 (.invokevirtual 120) 3 8 := by decide +kernel
theorem dX0_partOf_8 : eb_dj cX0_partOf 8 (.ifCond .eq 16) 16 11 24 := by decide +kernel
theorem dX0_partOf_11 : eb_dc cX0_partOf 11 (.aload_n 0) 1 12 := by decide +kernel
theorem dX0_partOf_12 : eb_dc cX0_partOf 12 (.iload_n 1) 1 13 := by decide +kernel
theorem dX0_partOf_13 : eb_dc cX0_partOf 13 (.iload_n 3) 1 14 := by decide +kernel
theorem dX0_partOf_14 : eb_dc cX0_partOf 14 (.invokevirtual 79) 3 17 := by decide +kernel
theorem dX0_partOf_17 : eb_dj cX0_partOf 17 (.ifCond .eq 7) 7 20 24 := by decide +kernel
theorem dX0_partOf_20 : eb_dc cX0_partOf 20 (.iconst 1) 1 21 := by decide +kernel
theorem dX0_partOf_21 : eb_dj cX0_partOf 21 (.goto 4) 4 24 25 := by decide +kernel
theorem dX0_partOf_24 : eb_dc cX0_partOf 24 (.iconst 0) 1 25 := by decide +kernel
theorem dX0_partOf_25 : eb_dc cX0_partOf 25 (.invokevirtual 75) 3 28 := by decide +kernel
theorem dX0_partOf_28 : eb_dc cX0_partOf 28 (.istore 4) 2 30 := by decide +kernel
theorem dX0_partOf_30 : eb_dc cX0_partOf 30 (.iload 4) 2 32 := by decide +kernel
theorem dX0_partOf_32 : eb_dc cX0_partOf 32 (.iconst 1) 1 33 := by decide +kernel
theorem dX0_partOf_33 : eb_dj cX0_partOf 33 (.if_icmp .eq 8) 8 36 41 := by decide +kernel
theorem dX0_partOf_36 : eb_dc cX0_partOf 36 (.iload 4) 2 38 := by decide +kernel
theorem dX0_partOf_38 : eb_dj cX0_partOf 38 (.goto 15) 15 41 53 := by decide +kernel
theorem dX0_partOf_41 : eb_dc cX0_partOf 41 (.aload_n 0) 1 42 := by decide +kernel
theorem dX0_partOf_42 : eb_dc cX0_partOf 42 (.getfield 15) 3 45 := by decide +kernel
theorem dX0_partOf_45 : eb_dc cX0_partOf 45 (.iload_n 1) 1 46 := by decide +kernel
theorem dX0_partOf_46 : eb_dc cX0_partOf 46 (.aaload) 1 47 := by decide +kernel
theorem dX0_partOf_47 : eb_dc cX0_partOf 47 (.iload_n 2) 1 48 := by decide +kernel
theorem dX0_partOf_48 : eb_dc cX0_partOf 48 (.invokevirtual 124) 3 51 := by decide +kernel
theorem dX0_partOf_51 : eb_dc cX0_partOf 51 (.iload_n 3) 1 52 := by decide +kernel
theorem dX0_partOf_52 : eb_dc cX0_partOf 52 (.saload) 1 53 := by decide +kernel
theorem dX0_partOf_53 : eb_dc cX0_partOf 53 (.ireturn) 1 54 := by decide +kernel
theorem ctX0_partOf {l : Launch} {Γ : eb_C} {bc bs : Nat} {st : eb_S} {a0 : Nat} {a1 : Int32} {a2 : Int32} {a3 : Int32} {K : Int32 → eb_S → Prop} (h : MX0_partOf Γ bc bs st a0 a1 a2 a3 K) : eb_Ct l Γ yX0_partOf cX0_partOf 5 (some .int) (rmX0_partOf bc bs) [.ref a0, .int a1, .int a2, .int a3] st (eb_oI K) := by
  refine eb_of (by decide) (Nat.le_of_ble_eq_true rfl) (fun X P hP hX0 => ?_)
  suffices hgo : (0 ≤ bc ∧ 0 ≤ bs) → eb_G l Γ P X cX0_partOf RX0 5 (some .int) (rmX0_partOf bc bs) 0 [(0, .ref a0), (1, .int a1), (2, .int a2), (3, .int a3)] [] st 0 0 from hgo ⟨Nat.zero_le _, Nat.zero_le _⟩
  intro hu
  refine eg_aload_n 0 dX0_partOf_0 rfl rfl ?_
  refine eg_iload_n 1 dX0_partOf_1 rfl rfl ?_
  refine eg_aload_n 0 dX0_partOf_2 rfl rfl ?_
  refine eg_iload_n 1 dX0_partOf_3 rfl rfl ?_
  refine eg_iload_n 2 dX0_partOf_4 rfl rfl ?_
  obtain ⟨hcs, h⟩ := h
  have hM0 := h
  clear h
  refine ec_VIp (rest := [.int a1, .ref a0]) (ctX0_isKind hM0) (lw_V q506 q508 qs8 q74 q509) rfl rfl hcs nX0_isKind ⟨Nat.le_of_ble_eq_true rfl, Nat.le_of_ble_eq_true rfl⟩ ⟨rfl, rfl⟩ hu rfl rfl (Nat.le_of_ble_eq_true rfl) dX0_partOf_5 (fun v1 h => ?_)
  clear hM0
  refine eb_jp4_e (J := fun (s5 : Int32) (g6 : eb_S) (u7 : Nat) (w8 : Nat) => (u7 ≤ bc ∧ w8 ≤ bs) → eb_G l Γ P X cX0_partOf RX0 5 (some .int) (rmX0_partOf bc bs) 25 [(0, .ref a0), (1, .int a1), (2, .int a2), (3, .int a3)] [.int s5, .int a1, .ref a0] g6 u7 w8) h ?_ ?_
  · clear h
    intro s5 g6 u7 w8 h hu
    obtain ⟨hcs, h⟩ := h
    obtain ⟨c11, s12, hca, h⟩ := h
    have hM0 := h
    clear h
    refine ec_VIa (rest := []) (ctX0_why hM0) (lw_V q237 q239 qs1 q74 q240) rfl rfl hcs nX0_why ⟨Nat.le_of_ble_eq_true rfl, Nat.le_of_ble_eq_true rfl⟩ ⟨rfl, rfl⟩ hca rfl rfl (Nat.le_of_ble_eq_true rfl) dX0_partOf_25 (fun v9 g10 h => ?_)
    clear hM0
    replace hu := hca
    refine eg_istore (lv' := [(4, .int v9), (0, .ref a0), (1, .int a1), (2, .int a2), (3, .int a3)]) dX0_partOf_28 (Nat.le_of_ble_eq_true rfl) rfl ?_
    refine eg_iload 0 dX0_partOf_30 rfl ?_
    refine eg_iconst dX0_partOf_32 kc_1 ?_
    refine eg_icmp_eq dX0_partOf_33 (fun c23 => ?_) (fun c23 => ?_)
    · replace h := h.1 c23
      refine eg_aload_n 1 dX0_partOf_41 rfl rfl ?_
      obtain ⟨fs, v13, he, hv, h⟩ := h
      refine eg_get 0 in_X0 he rfl (Nat.le_of_ble_eq_true rfl) q159 rfl hv dX0_partOf_42 ?_
      refine eg_iload_n 2 dX0_partOf_45 rfl rfl ?_
      obtain ⟨p14, rfl, h⟩ := h
      obtain ⟨nA, fA, he, hb, h⟩ := h
      refine eg_aald (t := 7) (ty := .object "EvenBodies$Body") rfl rfl he hb dX0_partOf_46 (fun v15 ev15 => ?_)
      replace h := h v15 ev15
      refine eg_iload_n 3 dX0_partOf_47 rfl rfl ?_
      obtain ⟨p16, rfl, h⟩ := h
      obtain ⟨hcs, h⟩ := h
      obtain ⟨c19, s20, hca, h⟩ := h
      have hM0 := h
      clear h
      refine ec_VRa (rest := []) (ctX1_parts hM0) (lw_V q530 q515 q516 q75 q517) rfl rfl hcs nX1_parts ⟨Nat.le_of_ble_eq_true rfl, Nat.le_of_ble_eq_true rfl⟩ ⟨rfl, rfl⟩ hca rfl rfl (Nat.le_of_ble_eq_true rfl) dX0_partOf_48 (fun v17 g18 h => ?_)
      clear hM0
      replace hu := hca
      refine eg_iload_n 4 dX0_partOf_51 rfl rfl ?_
      obtain ⟨p21, rfl, h⟩ := h
      obtain ⟨nA, fA, he, hb, h⟩ := h
      refine eh_sald he hb dX0_partOf_52 (fun v22 ev22 => ?_)
      replace h := h v22 ev22
      exact eg_iret dX0_partOf_53 hu.1 hu.2 (hP _ _ ⟨_, rfl, h⟩)
    · replace h := h.2 c23
      refine eg_iload 0 dX0_partOf_36 rfl ?_
      refine eg_goto dX0_partOf_38 ?_
      exact eg_iret dX0_partOf_53 hu.1 hu.2 (hP _ _ ⟨_, rfl, h⟩)
  · clear h
    intro k24 hk24 h
    refine eg_if_eq dX0_partOf_8 (fun c30 => ?_) (fun c30 => ?_)
    · replace h := h.1 c30
      refine eg_iconst dX0_partOf_24 kc_0 ?_
      exact hk24 0 st 0 0 h hu
    · replace h := h.2 c30
      refine eg_aload_n 0 dX0_partOf_11 rfl rfl ?_
      refine eg_iload_n 1 dX0_partOf_12 rfl rfl ?_
      refine eg_iload_n 3 dX0_partOf_13 rfl rfl ?_
      obtain ⟨hcs, h⟩ := h
      obtain ⟨c27, s28, hca, h⟩ := h
      have hM0 := h
      clear h
      refine ec_VIa (rest := [.int a1, .ref a0]) (ctX0_isElement hM0) (lw_V q419 q421 qs5 q74 q422) rfl rfl hcs nX0_isElement ⟨Nat.le_of_ble_eq_true rfl, Nat.le_of_ble_eq_true rfl⟩ ⟨rfl, rfl⟩ hca rfl rfl (Nat.le_of_ble_eq_true rfl) dX0_partOf_14 (fun v25 g26 h => ?_)
      clear hM0
      replace hu := hca
      refine eg_if_eq dX0_partOf_17 (fun c29 => ?_) (fun c29 => ?_)
      · replace h := h.1 c29
        refine eg_iconst dX0_partOf_24 kc_0 ?_
        exact hk24 0 g26 (0 + c27) (0 + s28) h hu
      · replace h := h.2 c29
        refine eg_iconst dX0_partOf_20 kc_1 ?_
        refine eg_goto dX0_partOf_21 ?_
        exact hk24 1 g26 (0 + c27) (0 + s28) h hu
def MX0_isPart (Γ : eb_C) (bc bs : Nat) (st : eb_S) (a0 : Nat) (a1 : Int32) (a2 : Int32) (a3 : Int32) (K : Int32 → eb_S → Prop) : Prop :=
  eb_cs st a0 [0] ∧ MX0_isKind Γ st a0 a1 a2 (fun v1 => eb_br (v1 = 0) (K 0 st) (eb_br (a3 < 0) (K 0 st) (eb_gr st a0 0 0 (fun v5 => eb_nn v5 (fun p6 => eb_lr Γ st p6 7 a1 (fun v7 => eb_nn v7 (fun p8 => eb_cs st p8 [1] ∧ ∃ c11 s12 : Nat, (0 + c11 ≤ bc ∧ 0 + s12 ≤ bs) ∧ MX1_group Γ c11 s12 st p8 (fun v9 g10 => eb_nb v9 (K 1 g10) (fun p13 => eb_gr g10 a0 0 0 (fun v14 => eb_nn v14 (fun p15 => eb_lr Γ g10 p15 7 a1 (fun v16 => eb_nn v16 (fun p17 => eb_cs g10 p17 [1] ∧ ∃ c20 s21 : Nat, ((0 + c11) + c20 ≤ bc ∧ (0 + s12) + s21 ≤ bs) ∧ MX1_many Γ c20 s21 g10 p17 a2 (fun v18 g19 => eb_br (v18 ≤ a3) (K 0 g19) (K 1 g19)))))))))))))))
abbrev rmX0_isPart (bc bs : Nat) : Room := { frames := 13, cells := bc, slots := bs, locals := 284 }
theorem nX0_isPart : eb_ar yX0_isPart 3 := by decide +kernel
theorem dX0_isPart_0 : eb_dc cX0_isPart 0 (.aload_n 0) 1 1 := by decide +kernel
theorem dX0_isPart_1 : eb_dc cX0_isPart 1 (.iload_n 1) 1 2 := by decide +kernel
theorem dX0_isPart_2 : eb_dc cX0_isPart 2 (.iload_n 2) 1 3 := by decide +kernel
theorem dX0_isPart_3 : eb_dc cX0_isPart 3 (.invokevirtual 120) 3 6 := by decide +kernel
theorem dX0_isPart_6 : eb_dj cX0_isPart 6 (.ifCond .eq 37) 37 9 43 := by decide +kernel
theorem dX0_isPart_9 : eb_dc cX0_isPart 9 (.iload_n 3) 1 10 := by decide +kernel
theorem dX0_isPart_10 : eb_dj cX0_isPart 10 (.ifCond .lt 33) 33 13 43 := by decide +kernel
theorem dX0_isPart_13 : eb_dc cX0_isPart 13 (.aload_n 0) 1 14 := by decide +kernel
theorem dX0_isPart_14 : eb_dc cX0_isPart 14 (.getfield 15) 3 17 := by decide +kernel
theorem dX0_isPart_17 : eb_dc cX0_isPart 17 (.iload_n 1) 1 18 := by decide +kernel
theorem dX0_isPart_18 : eb_dc cX0_isPart 18 (.aaload) 1 19 := by decide +kernel
theorem dX0_isPart_19 : eb_dc cX0_isPart 19 (.invokevirtual 66) 3 22 := by decide +kernel
theorem dX0_isPart_22 : eb_dj cX0_isPart 22 (.ifnull 17) 17 25 39 := by decide +kernel
theorem dX0_isPart_25 : eb_dc cX0_isPart 25 (.iload_n 3) 1 26 := by decide +kernel
theorem dX0_isPart_26 : eb_dc cX0_isPart 26 (.aload_n 0) 1 27 := by decide +kernel
theorem dX0_isPart_27 : eb_dc cX0_isPart 27 (.getfield 15) 3 30 := by decide +kernel
theorem dX0_isPart_30 : eb_dc cX0_isPart 30 (.iload_n 1) 1 31 := by decide +kernel
theorem dX0_isPart_31 : eb_dc cX0_isPart 31 (.aaload) 1 32 := by decide +kernel
theorem dX0_isPart_32 : eb_dc cX0_isPart 32 (.iload_n 2) 1 33 := by decide +kernel
theorem dX0_isPart_33 : eb_dc cX0_isPart 33 (.invokevirtual 122) 3 36 := by decide +kernel
theorem dX0_isPart_36 : eb_dj cX0_isPart 36 (.if_icmp .ge 7) 7 39 43 := by decide +kernel
theorem dX0_isPart_39 : eb_dc cX0_isPart 39 (.iconst 1) 1 40 := by decide +kernel
theorem dX0_isPart_40 : eb_dj cX0_isPart 40 (.goto 4) 4 43 44 := by decide +kernel
theorem dX0_isPart_43 : eb_dc cX0_isPart 43 (.iconst 0) 1 44 := by decide +kernel
theorem dX0_isPart_44 : eb_dc cX0_isPart 44 (.ireturn) 1 45 := by decide +kernel
theorem ctX0_isPart {l : Launch} {Γ : eb_C} {bc bs : Nat} {st : eb_S} {a0 : Nat} {a1 : Int32} {a2 : Int32} {a3 : Int32} {K : Int32 → eb_S → Prop} (h : MX0_isPart Γ bc bs st a0 a1 a2 a3 K) : eb_Ct l Γ yX0_isPart cX0_isPart 4 (some .boolean) (rmX0_isPart bc bs) [.ref a0, .int a1, .int a2, .int a3] st (eb_oI K) := by
  refine eb_of (by decide) (Nat.le_of_ble_eq_true rfl) (fun X P hP hX0 => ?_)
  suffices hgo : (0 ≤ bc ∧ 0 ≤ bs) → eb_G l Γ P X cX0_isPart RX0 4 (some .boolean) (rmX0_isPart bc bs) 0 [(0, .ref a0), (1, .int a1), (2, .int a2), (3, .int a3)] [] st 0 0 from hgo ⟨Nat.zero_le _, Nat.zero_le _⟩
  intro hu
  refine eg_aload_n 0 dX0_isPart_0 rfl rfl ?_
  refine eg_iload_n 1 dX0_isPart_1 rfl rfl ?_
  refine eg_iload_n 2 dX0_isPart_2 rfl rfl ?_
  obtain ⟨hcs, h⟩ := h
  have hM0 := h
  clear h
  refine ec_VIp (rest := []) (ctX0_isKind hM0) (lw_V q506 q508 qs8 q74 q509) rfl rfl hcs nX0_isKind ⟨Nat.le_of_ble_eq_true rfl, Nat.le_of_ble_eq_true rfl⟩ ⟨rfl, rfl⟩ hu rfl rfl (Nat.le_of_ble_eq_true rfl) dX0_isPart_3 (fun v1 h => ?_)
  clear hM0
  refine eg_if_eq dX0_isPart_6 (fun c24 => ?_) (fun c24 => ?_)
  · replace h := h.1 c24
    refine eg_iconst dX0_isPart_43 kc_0 ?_
    exact eg_zret dX0_isPart_44 rfl hu.1 hu.2 (hP _ _ ⟨_, rfl, h⟩)
  · replace h := h.2 c24
    refine eg_iload_n 3 dX0_isPart_9 rfl rfl ?_
    refine eg_if_lt dX0_isPart_10 (fun c23 => ?_) (fun c23 => ?_)
    · replace h := h.1 c23
      refine eg_iconst dX0_isPart_43 kc_0 ?_
      exact eg_zret dX0_isPart_44 rfl hu.1 hu.2 (hP _ _ ⟨_, rfl, h⟩)
    · replace h := h.2 c23
      refine eg_aload_n 0 dX0_isPart_13 rfl rfl ?_
      obtain ⟨fs, v5, he, hv, h⟩ := h
      refine eg_get 0 in_X0 he rfl (Nat.le_of_ble_eq_true rfl) q159 rfl hv dX0_isPart_14 ?_
      refine eg_iload_n 1 dX0_isPart_17 rfl rfl ?_
      obtain ⟨p6, rfl, h⟩ := h
      obtain ⟨nA, fA, he, hb, h⟩ := h
      refine eg_aald (t := 7) (ty := .object "EvenBodies$Body") rfl rfl he hb dX0_isPart_18 (fun v7 ev7 => ?_)
      replace h := h v7 ev7
      obtain ⟨p8, rfl, h⟩ := h
      obtain ⟨hcs, h⟩ := h
      obtain ⟨c11, s12, hca, h⟩ := h
      have hM0 := h
      clear h
      refine ec_VRa (rest := []) (ctX1_group hM0) (lw_V q241 q242 q243 q75 q244) rfl rfl hcs nX1_group ⟨Nat.le_of_ble_eq_true rfl, Nat.le_of_ble_eq_true rfl⟩ ⟨rfl, rfl⟩ hca rfl rfl (Nat.le_of_ble_eq_true rfl) dX0_isPart_19 (fun v9 g10 h => ?_)
      clear hM0
      replace hu := hca
      refine eg_ifnull (v := v9) dX0_isPart_22 (fun hnul => ?_) (fun p13 hnon => ?_)
      · subst hnul
        replace h := h.1 rfl
        refine eg_iconst dX0_isPart_39 kc_1 ?_
        refine eg_goto dX0_isPart_40 ?_
        exact eg_zret dX0_isPart_44 rfl hu.1 hu.2 (hP _ _ ⟨_, rfl, h⟩)
      · subst hnon
        replace h := h.2 p13 rfl
        refine eg_iload_n 3 dX0_isPart_25 rfl rfl ?_
        refine eg_aload_n 0 dX0_isPart_26 rfl rfl ?_
        obtain ⟨fs, v14, he, hv, h⟩ := h
        refine eg_get 0 in_X0 he rfl (Nat.le_of_ble_eq_true rfl) q159 rfl hv dX0_isPart_27 ?_
        refine eg_iload_n 1 dX0_isPart_30 rfl rfl ?_
        obtain ⟨p15, rfl, h⟩ := h
        obtain ⟨nA, fA, he, hb, h⟩ := h
        refine eg_aald (t := 7) (ty := .object "EvenBodies$Body") rfl rfl he hb dX0_isPart_31 (fun v16 ev16 => ?_)
        replace h := h v16 ev16
        refine eg_iload_n 2 dX0_isPart_32 rfl rfl ?_
        obtain ⟨p17, rfl, h⟩ := h
        obtain ⟨hcs, h⟩ := h
        obtain ⟨c20, s21, hca, h⟩ := h
        have hM0 := h
        clear h
        refine ec_VIa (rest := [.int a3]) (ctX1_many hM0) (lw_V q510 q511 q512 q75 q513) rfl rfl hcs nX1_many ⟨Nat.le_of_ble_eq_true rfl, Nat.le_of_ble_eq_true rfl⟩ ⟨rfl, rfl⟩ hca rfl rfl (Nat.le_of_ble_eq_true rfl) dX0_isPart_33 (fun v18 g19 h => ?_)
        clear hM0
        replace hu := hca
        refine eg_icmp_ge dX0_isPart_36 (fun c22 => ?_) (fun c22 => ?_)
        · replace h := h.1 c22
          refine eg_iconst dX0_isPart_43 kc_0 ?_
          exact eg_zret dX0_isPart_44 rfl hu.1 hu.2 (hP _ _ ⟨_, rfl, h⟩)
        · replace h := h.2 c22
          refine eg_iconst dX0_isPart_39 kc_1 ?_
          refine eg_goto dX0_isPart_40 ?_
          exact eg_zret dX0_isPart_44 rfl hu.1 hu.2 (hP _ _ ⟨_, rfl, h⟩)
def MX1_least (Γ : eb_C) (bc bs : Nat) (st : eb_S) (a0 : Nat) (a1 : Int32) (a2 : Int32) (K : Int32 → eb_S → Prop) : Prop :=
  eb_cs st a0 [1] ∧ ∃ c3 s4 : Nat, (0 + c3 ≤ bc ∧ 0 + s4 ≤ bs) ∧ MX1_parts Γ c3 s4 st a0 a1 (fun v1 g2 => eb_loop1 (fun r6 (x4_5 : Int32) => eb_nn v1 (fun p7 => eb_li Γ g2 p7 3 x4_5 (fun v8 => eb_br (v8 = a2) (K x4_5 g2) (r6 (x4_5 + 1))))) 0)
abbrev rmX1_least (bc bs : Nat) : Room := { frames := 5, cells := bc, slots := bs, locals := 110 }
theorem nX1_least : eb_ar yX1_least 2 := by decide +kernel
theorem dX1_least_0 : eb_dc cX1_least 0 (.aload_n 0) 1 1 := by decide +kernel
theorem dX1_least_1 : eb_dc cX1_least 1 (.iload_n 1) 1 2 := by decide +kernel
theorem dX1_least_2 : eb_dc cX1_least 2 (.invokevirtual 112) 3 5 := by decide +kernel
theorem dX1_least_5 : eb_dc cX1_least 5 (.astore_n 3) 1 6 := by decide +kernel
theorem dX1_least_6 : eb_dc cX1_least 6 (.iconst 0) 1 7 := by decide +kernel
theorem dX1_least_7 : eb_dc cX1_least 7 (.istore 4) 2 9 := by decide +kernel
theorem dX1_least_9 : eb_dc cX1_least 9 (.aload_n 3) 1 10 := by decide +kernel
theorem dX1_least_10 : eb_dc cX1_least 10 (.iload 4) 2 12 := by decide +kernel
theorem dX1_least_12 : eb_dc cX1_least 12 (.saload) 1 13 := by decide +kernel
theorem dX1_least_13 : eb_dc cX1_least 13 (.iload_n 2) 1 14 := by decide +kernel
theorem dX1_least_14 : eb_dj cX1_least 14 (.if_icmp .eq 9) 9 17 23 := by decide +kernel
theorem dX1_least_17 : eb_dc cX1_least 17 (.iinc 4 1) 3 20 := by decide +kernel
theorem dX1_least_20 : eb_dj cX1_least 20 (.goto (-11)) (-11) 23 9 := by decide +kernel
theorem dX1_least_23 : eb_dc cX1_least 23 (.iload 4) 2 25 := by decide +kernel
theorem dX1_least_25 : eb_dc cX1_least 25 (.ireturn) 1 26 := by decide +kernel
theorem ctX1_least {l : Launch} {Γ : eb_C} {bc bs : Nat} {st : eb_S} {a0 : Nat} {a1 : Int32} {a2 : Int32} {K : Int32 → eb_S → Prop} (h : MX1_least Γ bc bs st a0 a1 a2 K) : eb_Ct l Γ yX1_least cX1_least 5 (some .int) (rmX1_least bc bs) [.ref a0, .int a1, .int a2] st (eb_oI K) := by
  refine eb_of (by decide) (Nat.le_of_ble_eq_true rfl) (fun X P hP hX0 => ?_)
  suffices hgo : (0 ≤ bc ∧ 0 ≤ bs) → eb_G l Γ P X cX1_least RX1 5 (some .int) (rmX1_least bc bs) 0 [(0, .ref a0), (1, .int a1), (2, .int a2)] [] st 0 0 from hgo ⟨Nat.zero_le _, Nat.zero_le _⟩
  intro hu
  refine eg_aload_n 0 dX1_least_0 rfl rfl ?_
  refine eg_iload_n 1 dX1_least_1 rfl rfl ?_
  obtain ⟨hcs, h⟩ := h
  obtain ⟨c3, s4, hca, h⟩ := h
  have hM0 := h
  clear h
  refine ec_VRa (rest := []) (ctX1_parts hM0) (lw_V q514 q515 q516 q75 q517) rfl rfl hcs nX1_parts ⟨Nat.le_of_ble_eq_true rfl, Nat.le_of_ble_eq_true rfl⟩ ⟨rfl, rfl⟩ hca rfl rfl (Nat.le_of_ble_eq_true rfl) dX1_least_2 (fun v1 g2 h => ?_)
  clear hM0
  replace hu := hca
  refine eh_astore_n (i := 3) (v := v1) (lv' := [(3, va_rf v1), (0, .ref a0), (1, .int a1), (2, .int a2)]) dX1_least_5 rfl (Nat.le_of_ble_eq_true rfl) rfl ?_
  refine eg_iconst dX1_least_6 kc_0 ?_
  refine eg_istore (i := 4) (lv' := [(4, .int 0), (3, va_rf v1), (0, .ref a0), (1, .int a1), (2, .int a2)]) dX1_least_7 (Nat.le_of_ble_eq_true rfl) (by simp [List.filter_cons, eb_rfc]) ?_
  refine eg_sub [4, 1, 0] rfl ?_
  refine eb_loop1_e (J := fun (x4_5 : Int32) => ((0 + c3) ≤ bc ∧ (0 + s4) ≤ bs) → eb_G l Γ P X cX1_least RX1 5 (some .int) (rmX1_least bc bs) 9 [(2, .int a2), (3, va_rf v1), (4, .int x4_5)] [] g2 (0 + c3) (0 + s4)) h ?_ hu
  clear h
  clear hu
  intro r6 hr6 x4_5 h hu
  refine eh_aload_n (v := v1) 1 dX1_least_9 rfl rfl ?_
  refine eg_iload 2 dX1_least_10 rfl ?_
  obtain ⟨p7, rfl, h⟩ := h
  obtain ⟨nA, fA, he, hb, h⟩ := h
  refine eh_sald he hb dX1_least_12 (fun v8 ev8 => ?_)
  replace h := h v8 ev8
  refine eg_iload_n 0 dX1_least_13 rfl rfl ?_
  refine eg_icmp_eq dX1_least_14 (fun c9 => ?_) (fun c9 => ?_)
  · replace h := h.1 c9
    refine eg_iload 2 dX1_least_23 rfl ?_
    exact eg_iret dX1_least_25 hu.1 hu.2 (hP _ _ ⟨_, rfl, h⟩)
  · replace h := h.2 c9
    refine eg_iinc (j := 2) (lv' := [(4, .int (x4_5 + 1)), (2, .int a2), (3, .ref p7)]) dX1_least_17 rfl (by rw [kc_1]) (Nat.le_of_ble_eq_true rfl) rfl ?_
    refine eg_goto dX1_least_20 ?_
    exact eg_sub [1, 2, 0] rfl (hr6 (x4_5 + 1) h hu)
def MX0_least (Γ : eb_C) (bc bs : Nat) (st : eb_S) (a0 : Nat) (a1 : Int32) (a2 : Int32) (a3 : Int32) (K : Int32 → eb_S → Prop) : Prop :=
  eb_cs st a0 [0] ∧ ∃ c3 s4 : Nat, (0 + c3 ≤ bc ∧ 0 + s4 ≤ bs) ∧ MX0_isPart Γ c3 s4 st a0 a1 a2 a3 (fun v1 g2 => eb_cs g2 a0 [0] ∧ ∃ c7 s8 : Nat, ((0 + c3) + c7 ≤ bc ∧ (0 + s4) + s8 ≤ bs) ∧ MX0_why Γ c7 s8 g2 a0 a1 v1 (fun v5 g6 => eb_br (v5 = 1) (eb_gr g6 a0 0 0 (fun v9 => eb_nn v9 (fun p10 => eb_lr Γ g6 p10 7 a1 (fun v11 => eb_nn v11 (fun p12 => eb_cs g6 p12 [1] ∧ ∃ c15 s16 : Nat, ((((0 + c3) + c7)) + c15 ≤ bc ∧ (((0 + s4) + s8)) + s16 ≤ bs) ∧ MX1_least Γ c15 s16 g6 p12 a2 a3 (fun v13 g14 => K v13 g14)))))) (K v5 g6)))
abbrev rmX0_least (bc bs : Nat) : Room := { frames := 14, cells := bc, slots := bs, locals := 307 }
theorem nX0_least : eb_ar yX0_least 3 := by decide +kernel
theorem dX0_least_0 : eb_dc cX0_least 0 (.aload_n 0) 1 1 := by decide +kernel
theorem dX0_least_1 : eb_dc cX0_least 1 (.iload_n 1) 1 2 := by decide +kernel
theorem dX0_least_2 : eb_dc cX0_least 2 (.aload_n 0) 1 3 := by decide +kernel
theorem dX0_least_3 : eb_dc cX0_least 3 (.iload_n 1) 1 4 := by decide +kernel
theorem dX0_least_4 : eb_dc cX0_least 4 (.iload_n 2) 1 5 := by decide +kernel
theorem dX0_least_5 : eb_dc cX0_least 5 (.iload_n 3) 1 6 := by decide +kernel
theorem dX0_least_6 : eb_dc cX0_least 6 (.invokevirtual 128) 3 9 := by decide +kernel
theorem dX0_least_9 : eb_dc cX0_least 9 (.invokevirtual 75) 3 12 := by decide +kernel
theorem dX0_least_12 : eb_dc cX0_least 12 (.istore 4) 2 14 := by decide +kernel
theorem dX0_least_14 : eb_dc cX0_least 14 (.iload 4) 2 16 := by decide +kernel
theorem dX0_least_16 : eb_dc cX0_least 16 (.iconst 1) 1 17 := by decide +kernel
theorem dX0_least_17 : eb_dj cX0_least 17 (.if_icmp .eq 8) 8 20 25 := by decide +kernel
theorem dX0_least_20 : eb_dc cX0_least 20 (.iload 4) 2 22 := by decide +kernel
theorem dX0_least_22 : eb_dj cX0_least 22 (.goto 14) 14 25 36 := by decide +kernel
theorem dX0_least_25 : eb_dc cX0_least 25 (.aload_n 0) 1 26 := by decide +kernel
theorem dX0_least_26 : eb_dc cX0_least 26 (.getfield 15) 3 29 := by decide +kernel
theorem dX0_least_29 : eb_dc cX0_least 29 (.iload_n 1) 1 30 := by decide +kernel
theorem dX0_least_30 : eb_dc cX0_least 30 (.aaload) 1 31 := by decide +kernel
theorem dX0_least_31 : eb_dc cX0_least 31 (.iload_n 2) 1 32 := by decide +kernel
theorem dX0_least_32 : eb_dc cX0_least 32 (.iload_n 3) 1 33 := by decide +kernel
theorem dX0_least_33 : eb_dc cX0_least 33 (.invokevirtual 131) 3 36 := by decide +kernel
theorem dX0_least_36 : eb_dc cX0_least 36 (.ireturn) 1 37 := by decide +kernel
theorem ctX0_least {l : Launch} {Γ : eb_C} {bc bs : Nat} {st : eb_S} {a0 : Nat} {a1 : Int32} {a2 : Int32} {a3 : Int32} {K : Int32 → eb_S → Prop} (h : MX0_least Γ bc bs st a0 a1 a2 a3 K) : eb_Ct l Γ yX0_least cX0_least 5 (some .int) (rmX0_least bc bs) [.ref a0, .int a1, .int a2, .int a3] st (eb_oI K) := by
  refine eb_of (by decide) (Nat.le_of_ble_eq_true rfl) (fun X P hP hX0 => ?_)
  suffices hgo : (0 ≤ bc ∧ 0 ≤ bs) → eb_G l Γ P X cX0_least RX0 5 (some .int) (rmX0_least bc bs) 0 [(0, .ref a0), (1, .int a1), (2, .int a2), (3, .int a3)] [] st 0 0 from hgo ⟨Nat.zero_le _, Nat.zero_le _⟩
  intro hu
  refine eg_aload_n 0 dX0_least_0 rfl rfl ?_
  refine eg_iload_n 1 dX0_least_1 rfl rfl ?_
  refine eg_aload_n 0 dX0_least_2 rfl rfl ?_
  refine eg_iload_n 1 dX0_least_3 rfl rfl ?_
  refine eg_iload_n 2 dX0_least_4 rfl rfl ?_
  refine eg_iload_n 3 dX0_least_5 rfl rfl ?_
  obtain ⟨hcs, h⟩ := h
  obtain ⟨c3, s4, hca, h⟩ := h
  have hM0 := h
  clear h
  refine ec_VIa (rest := [.int a1, .ref a0]) (ctX0_isPart hM0) (lw_V q535 q537 qs9 q74 q538) rfl rfl hcs nX0_isPart ⟨Nat.le_of_ble_eq_true rfl, Nat.le_of_ble_eq_true rfl⟩ ⟨rfl, rfl⟩ hca rfl rfl (Nat.le_of_ble_eq_true rfl) dX0_least_6 (fun v1 g2 h => ?_)
  clear hM0
  replace hu := hca
  obtain ⟨hcs, h⟩ := h
  obtain ⟨c7, s8, hca, h⟩ := h
  have hM0 := h
  clear h
  refine ec_VIa (rest := []) (ctX0_why hM0) (lw_V q237 q239 qs1 q74 q240) rfl rfl hcs nX0_why ⟨Nat.le_of_ble_eq_true rfl, Nat.le_of_ble_eq_true rfl⟩ ⟨rfl, rfl⟩ hca rfl rfl (Nat.le_of_ble_eq_true rfl) dX0_least_9 (fun v5 g6 h => ?_)
  clear hM0
  replace hu := hca
  refine eg_istore (lv' := [(4, .int v5), (0, .ref a0), (1, .int a1), (2, .int a2), (3, .int a3)]) dX0_least_12 (Nat.le_of_ble_eq_true rfl) rfl ?_
  refine eg_iload 0 dX0_least_14 rfl ?_
  refine eg_iconst dX0_least_16 kc_1 ?_
  refine eg_icmp_eq dX0_least_17 (fun c17 => ?_) (fun c17 => ?_)
  · replace h := h.1 c17
    refine eg_aload_n 1 dX0_least_25 rfl rfl ?_
    obtain ⟨fs, v9, he, hv, h⟩ := h
    refine eg_get 0 in_X0 he rfl (Nat.le_of_ble_eq_true rfl) q159 rfl hv dX0_least_26 ?_
    refine eg_iload_n 2 dX0_least_29 rfl rfl ?_
    obtain ⟨p10, rfl, h⟩ := h
    obtain ⟨nA, fA, he, hb, h⟩ := h
    refine eg_aald (t := 7) (ty := .object "EvenBodies$Body") rfl rfl he hb dX0_least_30 (fun v11 ev11 => ?_)
    replace h := h v11 ev11
    refine eg_iload_n 3 dX0_least_31 rfl rfl ?_
    refine eg_iload_n 4 dX0_least_32 rfl rfl ?_
    obtain ⟨p12, rfl, h⟩ := h
    obtain ⟨hcs, h⟩ := h
    obtain ⟨c15, s16, hca, h⟩ := h
    have hM0 := h
    clear h
    refine ec_VIa (rest := []) (ctX1_least hM0) (lw_V q539 q540 q541 q75 q542) rfl rfl hcs nX1_least ⟨Nat.le_of_ble_eq_true rfl, Nat.le_of_ble_eq_true rfl⟩ ⟨rfl, rfl⟩ hca rfl rfl (Nat.le_of_ble_eq_true rfl) dX0_least_33 (fun v13 g14 h => ?_)
    clear hM0
    replace hu := hca
    exact eg_iret dX0_least_36 hu.1 hu.2 (hP _ _ ⟨_, rfl, h⟩)
  · replace h := h.2 c17
    refine eg_iload 0 dX0_least_20 rfl ?_
    refine eg_goto dX0_least_22 ?_
    exact eg_iret dX0_least_36 hu.1 hu.2 (hP _ _ ⟨_, rfl, h⟩)
def MX1_meets (Γ : eb_C) (bc bs : Nat) (st : eb_S) (a0 : Nat) (a1 : Int32) (a2 : Int32) (a3 : Int32) (K : Option Nat → eb_S → Prop) : Prop :=
  eb_cs st a0 [1] ∧ ∃ c3 s4 : Nat, (0 + c3 ≤ bc ∧ 0 + s4 ≤ bs) ∧ MX1_many Γ c3 s4 st a0 a1 (fun v1 g2 => eb_ok1 v1 ∧ (eb_mk g2 (eb_ia Γ 1 (v1.toNatClampNeg) (fun _ => 0)) (v1.toNatClampNeg) bc bs (0 + c3) (0 + s4) (fun p5 g6 => eb_cs g6 a0 [1] ∧ ∃ c9 s10 : Nat, ((((0 + c3) + 1)) + c9 ≤ bc ∧ (((0 + s4) + (v1.toNatClampNeg))) + s10 ≤ bs) ∧ MX1_parts Γ c9 s10 g6 a0 a1 (fun v7 g8 => eb_cs g8 a0 [1] ∧ ∃ c13 s14 : Nat, (((((0 + c3) + 1) + c9)) + c13 ≤ bc ∧ ((((0 + s4) + (v1.toNatClampNeg)) + s10)) + s14 ≤ bs) ∧ MX1_parts Γ c13 s14 g8 a0 a2 (fun v11 g12 => eb_jp1 (fun (g15 : eb_S) => K (some p5) g15) (fun k16 => eb_loop2 (fun r19 (x7_17 : Int32) (g18 : eb_S) => eb_gr g18 a0 1 3 (fun v20 => eb_nn v20 (fun p21 => eb_gi g18 p21 7 1 (fun v22 => eb_br (v22 ≤ x7_17) (k16 g18) (eb_nn v11 (fun p23 => eb_li Γ g18 p23 3 x7_17 (fun v24 => eb_jp1 (fun (g25 : eb_S) => r19 (x7_17 + 1) g25) (fun k26 => eb_br (v24 = a3) (eb_nn v7 (fun p27 => eb_li Γ g18 p27 3 x7_17 (fun v28 => eb_wi Γ g18 p5 1 v28 (vp_nar .boolean 1) (fun g29 => k26 g29)))) (k26 g18))))))))) 0 g12))))))
abbrev rmX1_meets (bc bs : Nat) : Room := { frames := 6, cells := bc, slots := bs, locals := 131 }
theorem nX1_meets : eb_ar yX1_meets 3 := by decide +kernel
theorem dX1_meets_0 : eb_dc cX1_meets 0 (.aload_n 0) 1 1 := by decide +kernel
theorem dX1_meets_1 : eb_dc cX1_meets 1 (.iload_n 1) 1 2 := by decide +kernel
theorem dX1_meets_2 : eb_dc cX1_meets 2 (.invokevirtual 115) 3 5 := by decide +kernel
theorem dX1_meets_5 : eb_dc cX1_meets 5 (.newarray .boolean) 2 7 := by decide +kernel
theorem dX1_meets_7 : eb_dc cX1_meets 7 (.astore 4) 2 9 := by decide +kernel
theorem dX1_meets_9 : eb_dc cX1_meets 9 (.aload_n 0) 1 10 := by decide +kernel
theorem dX1_meets_10 : eb_dc cX1_meets 10 (.iload_n 1) 1 11 := by decide +kernel
theorem dX1_meets_11 : eb_dc cX1_meets 11 (.invokevirtual 112) 3 14 := by decide +kernel
theorem dX1_meets_14 : eb_dc cX1_meets 14 (.astore 5) 2 16 := by decide +kernel
theorem dX1_meets_16 : eb_dc cX1_meets 16 (.aload_n 0) 1 17 := by decide +kernel
theorem dX1_meets_17 : eb_dc cX1_meets 17 (.iload_n 2) 1 18 := by decide +kernel
theorem dX1_meets_18 : eb_dc cX1_meets 18 (.invokevirtual 112) 3 21 := by decide +kernel
theorem dX1_meets_21 : eb_dc cX1_meets 21 (.astore 6) 2 23 := by decide +kernel
theorem dX1_meets_23 : eb_dc cX1_meets 23 (.iconst 0) 1 24 := by decide +kernel
theorem dX1_meets_24 : eb_dc cX1_meets 24 (.istore 7) 2 26 := by decide +kernel
theorem dX1_meets_26 : eb_dc cX1_meets 26 (.iload 7) 2 28 := by decide +kernel
theorem dX1_meets_28 : eb_dc cX1_meets 28 (.aload_n 0) 1 29 := by decide +kernel
theorem dX1_meets_29 : eb_dc cX1_meets 29 (.getfield 45) 3 32 := by decide +kernel
theorem dX1_meets_32 : eb_dc cX1_meets 32 (.getfield 103) 3 35 := by decide +kernel
theorem dX1_meets_35 : eb_dj cX1_meets 35 (.if_icmp .ge 27) 27 38 62 := by decide +kernel
theorem dX1_meets_38 : eb_dc cX1_meets 38 (.aload 6) 2 40 := by decide +kernel
theorem dX1_meets_40 : eb_dc cX1_meets 40 (.iload 7) 2 42 := by decide +kernel
theorem dX1_meets_42 : eb_dc cX1_meets 42 (.saload) 1 43 := by decide +kernel
theorem dX1_meets_43 : eb_dc cX1_meets 43 (.iload_n 3) 1 44 := by decide +kernel
theorem dX1_meets_44 : eb_dj cX1_meets 44 (.if_icmp .ne 12) 12 47 56 := by decide +kernel
theorem dX1_meets_47 : eb_dc cX1_meets 47 (.aload 4) 2 49 := by decide +kernel
theorem dX1_meets_49 : eb_dc cX1_meets 49 (.aload 5) 2 51 := by decide +kernel
theorem dX1_meets_51 : eb_dc cX1_meets 51 (.iload 7) 2 53 := by decide +kernel
theorem dX1_meets_53 : eb_dc cX1_meets 53 (.saload) 1 54 := by decide +kernel
theorem dX1_meets_54 : eb_dc cX1_meets 54 (.iconst 1) 1 55 := by decide +kernel
theorem dX1_meets_55 : eb_dc cX1_meets 55 (.bastore) 1 56 := by decide +kernel
theorem dX1_meets_56 : eb_dc cX1_meets 56 (.iinc 7 1) 3 59 := by decide +kernel
theorem dX1_meets_59 : eb_dj cX1_meets 59 (.goto (-33)) (-33) 62 26 := by decide +kernel
theorem dX1_meets_62 : eb_dc cX1_meets 62 (.aload 4) 2 64 := by decide +kernel
theorem dX1_meets_64 : eb_dc cX1_meets 64 (.areturn) 1 65 := by decide +kernel
theorem ctX1_meets {l : Launch} {Γ : eb_C} {bc bs : Nat} {st : eb_S} {a0 : Nat} {a1 : Int32} {a2 : Int32} {a3 : Int32} {K : Option Nat → eb_S → Prop} (h : MX1_meets Γ bc bs st a0 a1 a2 a3 K) : eb_Ct l Γ yX1_meets cX1_meets 8 (some (.array .boolean)) (rmX1_meets bc bs) [.ref a0, .int a1, .int a2, .int a3] st (eb_oR K) := by
  refine eb_of (by decide) (Nat.le_of_ble_eq_true rfl) (fun X P hP hX0 => ?_)
  suffices hgo : (0 ≤ bc ∧ 0 ≤ bs) → eb_G l Γ P X cX1_meets RX1 8 (some (.array .boolean)) (rmX1_meets bc bs) 0 [(0, .ref a0), (1, .int a1), (2, .int a2), (3, .int a3)] [] st 0 0 from hgo ⟨Nat.zero_le _, Nat.zero_le _⟩
  intro hu
  refine eg_aload_n 0 dX1_meets_0 rfl rfl ?_
  refine eg_iload_n 1 dX1_meets_1 rfl rfl ?_
  obtain ⟨hcs, h⟩ := h
  obtain ⟨c3, s4, hca, h⟩ := h
  have hM0 := h
  clear h
  refine ec_VIa (rest := []) (ctX1_many hM0) (lw_V q551 q511 q512 q75 q513) rfl rfl hcs nX1_many ⟨Nat.le_of_ble_eq_true rfl, Nat.le_of_ble_eq_true rfl⟩ ⟨rfl, rfl⟩ hca rfl rfl (Nat.le_of_ble_eq_true rfl) dX1_meets_2 (fun v1 g2 h => ?_)
  clear hM0
  replace hu := hca
  obtain ⟨hok, h⟩ := h
  obtain ⟨hc1, hs1, h⟩ := h
  refine eh_new_z q472 rfl hok hc1 hs1 dX1_meets_5 (fun p5 qp5 g6 eg6 => ?_)
  replace h := h p5 qp5 g6 eg6
  replace hu := And.intro hc1 hs1
  refine eg_astore (i := 4) (lv' := [(4, .ref p5), (0, .ref a0), (1, .int a1), (2, .int a2), (3, .int a3)]) dX1_meets_7 (Nat.le_of_ble_eq_true rfl) rfl ?_
  refine eg_aload_n 1 dX1_meets_9 rfl rfl ?_
  refine eg_iload_n 2 dX1_meets_10 rfl rfl ?_
  obtain ⟨hcs, h⟩ := h
  obtain ⟨c9, s10, hca, h⟩ := h
  have hM0 := h
  clear h
  refine ec_VRa (rest := []) (ctX1_parts hM0) (lw_V q514 q515 q516 q75 q517) rfl rfl hcs nX1_parts ⟨Nat.le_of_ble_eq_true rfl, Nat.le_of_ble_eq_true rfl⟩ ⟨rfl, rfl⟩ hca rfl rfl (Nat.le_of_ble_eq_true rfl) dX1_meets_11 (fun v7 g8 h => ?_)
  clear hM0
  replace hu := hca
  refine eh_astore (i := 5) (v := v7) (lv' := [(5, va_rf v7), (4, .ref p5), (0, .ref a0), (1, .int a1), (2, .int a2), (3, .int a3)]) dX1_meets_14 (Nat.le_of_ble_eq_true rfl) rfl ?_
  refine eg_aload_n 2 dX1_meets_16 rfl rfl ?_
  refine eg_iload_n 4 dX1_meets_17 rfl rfl ?_
  obtain ⟨hcs, h⟩ := h
  obtain ⟨c13, s14, hca, h⟩ := h
  have hM0 := h
  clear h
  refine ec_VRa (rest := []) (ctX1_parts hM0) (lw_V q514 q515 q516 q75 q517) rfl rfl hcs nX1_parts ⟨Nat.le_of_ble_eq_true rfl, Nat.le_of_ble_eq_true rfl⟩ ⟨rfl, rfl⟩ hca rfl rfl (Nat.le_of_ble_eq_true rfl) dX1_meets_18 (fun v11 g12 h => ?_)
  clear hM0
  replace hu := hca
  refine eh_astore (i := 6) (v := v11) (lv' := [(6, va_rf v11), (5, va_rf v7), (4, .ref p5), (0, .ref a0), (1, .int a1), (2, .int a2), (3, .int a3)]) dX1_meets_21 (Nat.le_of_ble_eq_true rfl) (by simp [List.filter_cons, eb_rfc]) ?_
  refine eg_iconst dX1_meets_23 kc_0 ?_
  refine eg_istore (i := 7) (lv' := [(7, .int 0), (6, va_rf v11), (5, va_rf v7), (4, .ref p5), (0, .ref a0), (1, .int a1), (2, .int a2), (3, .int a3)]) dX1_meets_24 (Nat.le_of_ble_eq_true rfl) (by simp [List.filter_cons, eb_rfc]) ?_
  refine eb_jp1_e (J := fun (g15 : eb_S) => (((((0 + c3) + 1) + c9) + c13) ≤ bc ∧ ((((0 + s4) + (v1.toNatClampNeg)) + s10) + s14) ≤ bs) → eb_G l Γ P X cX1_meets RX1 8 (some (.array .boolean)) (rmX1_meets bc bs) 62 [(4, .ref p5)] [] g15 ((((0 + c3) + 1) + c9) + c13) ((((0 + s4) + (v1.toNatClampNeg)) + s10) + s14)) h ?_ ?_
  · clear h
    intro g15 h hu
    refine eg_aload 0 dX1_meets_62 rfl ?_
    exact eg_aret dX1_meets_64 (Or.inr ⟨_, rfl⟩) (Or.inr ⟨_, rfl⟩) hu.1 hu.2 (hP _ _ ⟨(some p5), rfl, h⟩)
  · clear h
    intro k16 hk16 h
    refine eg_sub [4, 7, 3, 2, 1, 0] rfl ?_
    refine eb_loop2_e (J := fun (x7_17 : Int32) (g18 : eb_S) => (((((0 + c3) + 1) + c9) + c13) ≤ bc ∧ ((((0 + s4) + (v1.toNatClampNeg)) + s10) + s14) ≤ bs) → eb_G l Γ P X cX1_meets RX1 8 (some (.array .boolean)) (rmX1_meets bc bs) 26 [(0, .ref a0), (3, .int a3), (4, .ref p5), (5, va_rf v7), (6, va_rf v11), (7, .int x7_17)] [] g18 ((((0 + c3) + 1) + c9) + c13) ((((0 + s4) + (v1.toNatClampNeg)) + s10) + s14)) h ?_ hu
    clear h
    clear hu
    intro r19 hr19 x7_17 g18 h hu
    refine eg_iload 5 dX1_meets_26 rfl ?_
    refine eg_aload_n 0 dX1_meets_28 rfl rfl ?_
    obtain ⟨fs, v20, he, hv, h⟩ := h
    refine eg_get 3 in_X1 he rfl (Nat.le_of_ble_eq_true rfl) q131 rfl hv dX1_meets_29 ?_
    obtain ⟨p21, rfl, h⟩ := h
    obtain ⟨fs, v22, he, hv, h⟩ := h
    refine eg_getN 1 in_X8 he rfl (Nat.le_of_ble_eq_true rfl) (List.mem_of_getElem? (i := 11) rfl) rfl hv dX1_meets_32 ?_
    refine eg_icmp_ge dX1_meets_35 (fun c31 => ?_) (fun c31 => ?_)
    · replace h := h.1 c31
      exact eg_sub [2] rfl (hk16 g18 h hu)
    · replace h := h.2 c31
      refine eh_aload (v := v11) 4 dX1_meets_38 rfl ?_
      refine eg_iload 5 dX1_meets_40 rfl ?_
      obtain ⟨p23, rfl, h⟩ := h
      obtain ⟨nA, fA, he, hb, h⟩ := h
      refine eh_sald he hb dX1_meets_42 (fun v24 ev24 => ?_)
      replace h := h v24 ev24
      refine eg_iload_n 1 dX1_meets_43 rfl rfl ?_
      refine eb_jp1_e (J := fun (g25 : eb_S) => (((((0 + c3) + 1) + c9) + c13) ≤ bc ∧ ((((0 + s4) + (v1.toNatClampNeg)) + s10) + s14) ≤ bs) → eb_G l Γ P X cX1_meets RX1 8 (some (.array .boolean)) (rmX1_meets bc bs) 56 [(0, .ref a0), (3, .int a3), (4, .ref p5), (5, va_rf v7), (6, .ref p23), (7, .int x7_17)] [] g25 ((((0 + c3) + 1) + c9) + c13) ((((0 + s4) + (v1.toNatClampNeg)) + s10) + s14)) h ?_ ?_
      · clear h
        intro g25 h hu
        refine eg_iinc (j := 5) (lv' := [(7, .int (x7_17 + 1)), (0, .ref a0), (3, .int a3), (4, .ref p5), (5, va_rf v7), (6, .ref p23)]) dX1_meets_56 rfl (by rw [kc_1]) (Nat.le_of_ble_eq_true rfl) rfl ?_
        refine eg_goto dX1_meets_59 ?_
        exact eg_sub [1, 2, 3, 4, 5, 0] rfl (hr19 (x7_17 + 1) g25 h hu)
      · clear h
        intro k26 hk26 h
        refine eg_icmp_ne dX1_meets_44 (fun c30 => ?_) (fun c30 => ?_)
        · replace h := h.2 c30
          exact hk26 g18 h hu
        · replace h := h.1 c30
          refine eg_aload 2 dX1_meets_47 rfl ?_
          refine eh_aload (v := v7) 3 dX1_meets_49 rfl ?_
          refine eg_iload 5 dX1_meets_51 rfl ?_
          obtain ⟨p27, rfl, h⟩ := h
          obtain ⟨nA, fA, he, hb, h⟩ := h
          refine eh_sald he hb dX1_meets_53 (fun v28 ev28 => ?_)
          replace h := h v28 ev28
          refine eg_iconst dX1_meets_54 kc_1 ?_
          obtain ⟨nA, fA, he, hb, h⟩ := h
          refine eh_zast he hb dX1_meets_55 (fun g29 eg29 => ?_)
          replace h := h g29 eg29
          exact hk26 g29 h hu
def MX0_corners (Γ : eb_C) (bc bs : Nat) (st : eb_S) (a0 : Nat) (a1 : Int32) (a2 : Int32) (a3 : Int32) (K : Int32 → eb_S → Prop) : Prop :=
  eb_cs st a0 [0] ∧ ∃ c3 s4 : Nat, (0 + c3 ≤ bc ∧ 0 + s4 ≤ bs) ∧ MX0_isPart Γ c3 s4 st a0 a1 a2 a3 (fun v1 g2 => eb_cs g2 a0 [0] ∧ ∃ c7 s8 : Nat, ((0 + c3) + c7 ≤ bc ∧ (0 + s4) + s8 ≤ bs) ∧ MX0_why Γ c7 s8 g2 a0 a1 v1 (fun v5 g6 => eb_br (v5 = 1) (eb_gr g6 a0 0 0 (fun v9 => eb_nn v9 (fun p10 => eb_lr Γ g6 p10 7 a1 (fun v11 => eb_nn v11 (fun p12 => eb_cs g6 p12 [1] ∧ ∃ c15 s16 : Nat, ((((0 + c3) + c7)) + c15 ≤ bc ∧ (((0 + s4) + s8)) + s16 ≤ bs) ∧ MX1_meets Γ c15 s16 g6 p12 0 a2 a3 (fun v13 g14 => eb_nn v13 (fun p17 => MX0_many Γ g14 p17 (fun v18 => K v18 g14)))))))) (K v5 g6)))
abbrev rmX0_corners (bc bs : Nat) : Room := { frames := 14, cells := bc, slots := bs, locals := 307 }
theorem nX0_corners : eb_ar yX0_corners 3 := by decide +kernel
theorem dX0_corners_0 : eb_dc cX0_corners 0 (.aload_n 0) 1 1 := by decide +kernel
theorem dX0_corners_1 : eb_dc cX0_corners 1 (.iload_n 1) 1 2 := by decide +kernel
theorem dX0_corners_2 : eb_dc cX0_corners 2 (.aload_n 0) 1 3 := by decide +kernel
theorem dX0_corners_3 : eb_dc cX0_corners 3 (.iload_n 1) 1 4 := by decide +kernel
theorem dX0_corners_4 : eb_dc cX0_corners 4 (.iload_n 2) 1 5 := by decide +kernel
theorem dX0_corners_5 : eb_dc cX0_corners 5 (.iload_n 3) 1 6 := by decide +kernel
theorem dX0_corners_6 : eb_dc cX0_corners 6 (.invokevirtual 128) 3 9 := by decide +kernel
theorem dX0_corners_9 : eb_dc cX0_corners 9 (.invokevirtual 75) 3 12 := by decide +kernel
theorem dX0_corners_12 : eb_dc cX0_corners 12 (.istore 4) 2 14 := by decide +kernel
theorem dX0_corners_14 : eb_dc cX0_corners 14 (.iload 4) 2 16 := by decide +kernel
theorem dX0_corners_16 : eb_dc cX0_corners 16 (.iconst 1) 1 17 := by decide +kernel
theorem dX0_corners_17 : eb_dj cX0_corners 17 (.if_icmp .eq 8) 8 20 25 := by decide +kernel
theorem dX0_corners_20 : eb_dc cX0_corners 20 (.iload 4) 2 22 := by decide +kernel
theorem dX0_corners_22 : eb_dj cX0_corners 22 (.goto 18) 18 25 40 := by decide +kernel
theorem dX0_corners_25 : eb_dc cX0_corners 25 (.aload_n 0) 1 26 := by decide +kernel
theorem dX0_corners_26 : eb_dc cX0_corners 26 (.getfield 15) 3 29 := by decide +kernel
theorem dX0_corners_29 : eb_dc cX0_corners 29 (.iload_n 1) 1 30 := by decide +kernel
theorem dX0_corners_30 : eb_dc cX0_corners 30 (.aaload) 1 31 := by decide +kernel
theorem dX0_corners_31 : eb_dc cX0_corners 31 (.iconst 0) 1 32 := by decide +kernel
theorem dX0_corners_32 : eb_dc cX0_corners 32 (.iload_n 2) 1 33 := by decide +kernel
theorem dX0_corners_33 : eb_dc cX0_corners 33 (.iload_n 3) 1 34 := by decide +kernel
theorem dX0_corners_34 : eb_dc cX0_corners 34 (.invokevirtual 134) 3 37 := by decide +kernel
theorem dX0_corners_37 : eb_dc cX0_corners 37 (.invokestatic 100) 3 40 := by decide +kernel
theorem dX0_corners_40 : eb_dc cX0_corners 40 (.ireturn) 1 41 := by decide +kernel
theorem ctX0_corners {l : Launch} {Γ : eb_C} {bc bs : Nat} {st : eb_S} {a0 : Nat} {a1 : Int32} {a2 : Int32} {a3 : Int32} {K : Int32 → eb_S → Prop} (h : MX0_corners Γ bc bs st a0 a1 a2 a3 K) : eb_Ct l Γ yX0_corners cX0_corners 5 (some .int) (rmX0_corners bc bs) [.ref a0, .int a1, .int a2, .int a3] st (eb_oI K) := by
  refine eb_of (by decide) (Nat.le_of_ble_eq_true rfl) (fun X P hP hX0 => ?_)
  suffices hgo : (0 ≤ bc ∧ 0 ≤ bs) → eb_G l Γ P X cX0_corners RX0 5 (some .int) (rmX0_corners bc bs) 0 [(0, .ref a0), (1, .int a1), (2, .int a2), (3, .int a3)] [] st 0 0 from hgo ⟨Nat.zero_le _, Nat.zero_le _⟩
  intro hu
  refine eg_aload_n 0 dX0_corners_0 rfl rfl ?_
  refine eg_iload_n 1 dX0_corners_1 rfl rfl ?_
  refine eg_aload_n 0 dX0_corners_2 rfl rfl ?_
  refine eg_iload_n 1 dX0_corners_3 rfl rfl ?_
  refine eg_iload_n 2 dX0_corners_4 rfl rfl ?_
  refine eg_iload_n 3 dX0_corners_5 rfl rfl ?_
  obtain ⟨hcs, h⟩ := h
  obtain ⟨c3, s4, hca, h⟩ := h
  have hM0 := h
  clear h
  refine ec_VIa (rest := [.int a1, .ref a0]) (ctX0_isPart hM0) (lw_V q535 q537 qs9 q74 q538) rfl rfl hcs nX0_isPart ⟨Nat.le_of_ble_eq_true rfl, Nat.le_of_ble_eq_true rfl⟩ ⟨rfl, rfl⟩ hca rfl rfl (Nat.le_of_ble_eq_true rfl) dX0_corners_6 (fun v1 g2 h => ?_)
  clear hM0
  replace hu := hca
  obtain ⟨hcs, h⟩ := h
  obtain ⟨c7, s8, hca, h⟩ := h
  have hM0 := h
  clear h
  refine ec_VIa (rest := []) (ctX0_why hM0) (lw_V q237 q239 qs1 q74 q240) rfl rfl hcs nX0_why ⟨Nat.le_of_ble_eq_true rfl, Nat.le_of_ble_eq_true rfl⟩ ⟨rfl, rfl⟩ hca rfl rfl (Nat.le_of_ble_eq_true rfl) dX0_corners_9 (fun v5 g6 h => ?_)
  clear hM0
  replace hu := hca
  refine eg_istore (lv' := [(4, .int v5), (0, .ref a0), (1, .int a1), (2, .int a2), (3, .int a3)]) dX0_corners_12 (Nat.le_of_ble_eq_true rfl) rfl ?_
  refine eg_iload 0 dX0_corners_14 rfl ?_
  refine eg_iconst dX0_corners_16 kc_1 ?_
  refine eg_icmp_eq dX0_corners_17 (fun c22 => ?_) (fun c22 => ?_)
  · replace h := h.1 c22
    refine eg_aload_n 1 dX0_corners_25 rfl rfl ?_
    obtain ⟨fs, v9, he, hv, h⟩ := h
    refine eg_get 0 in_X0 he rfl (Nat.le_of_ble_eq_true rfl) q159 rfl hv dX0_corners_26 ?_
    refine eg_iload_n 2 dX0_corners_29 rfl rfl ?_
    obtain ⟨p10, rfl, h⟩ := h
    obtain ⟨nA, fA, he, hb, h⟩ := h
    refine eg_aald (t := 7) (ty := .object "EvenBodies$Body") rfl rfl he hb dX0_corners_30 (fun v11 ev11 => ?_)
    replace h := h v11 ev11
    refine eg_iconst dX0_corners_31 kc_0 ?_
    refine eg_iload_n 3 dX0_corners_32 rfl rfl ?_
    refine eg_iload_n 4 dX0_corners_33 rfl rfl ?_
    obtain ⟨p12, rfl, h⟩ := h
    obtain ⟨hcs, h⟩ := h
    obtain ⟨c15, s16, hca, h⟩ := h
    have hM0 := h
    clear h
    refine ec_VRa (rest := []) (ctX1_meets hM0) (lw_V q547 q548 q549 q75 q550) rfl rfl hcs nX1_meets ⟨Nat.le_of_ble_eq_true rfl, Nat.le_of_ble_eq_true rfl⟩ ⟨rfl, rfl⟩ hca rfl rfl (Nat.le_of_ble_eq_true rfl) dX0_corners_34 (fun v13 g14 h => ?_)
    clear hM0
    replace hu := hca
    obtain ⟨p17, rfl, h⟩ := h
    have hM0 := h
    clear h
    refine ec_SIp (rest := []) (ctX0_many hM0) (lw_S q469 q470 q74 q471) nX0_many ⟨Nat.le_of_ble_eq_true rfl, Nat.le_of_ble_eq_true rfl⟩ ⟨rfl, rfl⟩ hu rfl rfl (Nat.le_of_ble_eq_true rfl) dX0_corners_37 (fun v18 h => ?_)
    clear hM0
    exact eg_iret dX0_corners_40 hu.1 hu.2 (hP _ _ ⟨_, rfl, h⟩)
  · replace h := h.2 c22
    refine eg_iload 0 dX0_corners_20 rfl ?_
    refine eg_goto dX0_corners_22 ?_
    exact eg_iret dX0_corners_40 hu.1 hu.2 (hP _ _ ⟨_, rfl, h⟩)
def MX0_cornerOf (Γ : eb_C) (bc bs : Nat) (st : eb_S) (a0 : Nat) (a1 : Int32) (a2 : Int32) (a3 : Int32) (a4 : Int32) (K : Int32 → eb_S → Prop) : Prop :=
  eb_cs st a0 [0] ∧ ∃ c3 s4 : Nat, (0 + c3 ≤ bc ∧ 0 + s4 ≤ bs) ∧ MX0_isPart Γ c3 s4 st a0 a1 a2 a3 (fun v1 g2 => eb_jp1 (fun (s5 : Int32) => eb_cs g2 a0 [0] ∧ ∃ c8 s9 : Nat, ((0 + c3) + c8 ≤ bc ∧ (0 + s4) + s9 ≤ bs) ∧ MX0_why Γ c8 s9 g2 a0 a1 s5 (fun v6 g7 => eb_br (v6 = 1) (eb_gr g7 a0 0 0 (fun v10 => eb_nn v10 (fun p11 => eb_lr Γ g7 p11 7 a1 (fun v12 => eb_nn v12 (fun p13 => eb_cs g7 p13 [1] ∧ ∃ c16 s17 : Nat, ((((0 + c3) + c8)) + c16 ≤ bc ∧ (((0 + s4) + s9)) + s17 ≤ bs) ∧ MX1_meets Γ c16 s17 g7 p13 0 a2 a3 (fun v14 g15 => eb_loop2 (fun r20 (x7_18 : Int32) (x8_19 : Int32) => eb_nn v14 (fun p21 => eb_ln Γ g15 p21 1 (fun v22 => eb_br (v22 ≤ x8_19) (K (-1) g15) (eb_li Γ g15 p21 1 x8_19 (fun v23 => eb_jp1 (fun (x7_24 : Int32) => r20 x7_24 (x8_19 + 1)) (fun k25 => eb_br (v23 = 0) (k25 x7_18) (eb_br (x7_18 = a4) (K x8_19 g15) (k25 (x7_18 + 1))))))))) 0 0)))))) (K v6 g7))) (fun k30 => eb_br (v1 = 0) (k30 0) (eb_br (a4 < 0) (k30 0) (k30 1))))
abbrev rmX0_cornerOf (bc bs : Nat) : Room := { frames := 14, cells := bc, slots := bs, locals := 307 }
theorem nX0_cornerOf : eb_ar yX0_cornerOf 4 := by decide +kernel
theorem dX0_cornerOf_0 : eb_dc cX0_cornerOf 0 (.aload_n 0) 1 1 := by decide +kernel
theorem dX0_cornerOf_1 : eb_dc cX0_cornerOf 1 (.iload_n 1) 1 2 := by decide +kernel
theorem dX0_cornerOf_2 : eb_dc cX0_cornerOf 2 (.aload_n 0) 1 3 := by decide +kernel
theorem dX0_cornerOf_3 : eb_dc cX0_cornerOf 3 (.iload_n 1) 1 4 := by decide +kernel
theorem dX0_cornerOf_4 : eb_dc cX0_cornerOf 4 (.iload_n 2) 1 5 := by decide +kernel
theorem dX0_cornerOf_5 : eb_dc cX0_cornerOf 5 (.iload_n 3) 1 6 := by decide +kernel
theorem dX0_cornerOf_6 : eb_dc cX0_cornerOf 6 (.invokevirtual 128) 3 9 := by decide +kernel
theorem dX0_cornerOf_9 : eb_dj cX0_cornerOf 9 (.ifCond .eq 12) 12 12 21 := by decide +kernel
theorem dX0_cornerOf_12 : eb_dc cX0_cornerOf 12 (.iload 4) 2 14 := by decide +kernel
theorem dX0_cornerOf_14 : eb_dj cX0_cornerOf 14 (.ifCond .lt 7) 7 17 21 := by decide +kernel
theorem dX0_cornerOf_17 : eb_dc cX0_cornerOf 17 (.iconst 1) 1 18 := by decide +kernel
theorem dX0_cornerOf_18 : eb_dj cX0_cornerOf 18 (.goto 4) 4 21 22 := by decide +kernel
theorem dX0_cornerOf_21 : eb_dc cX0_cornerOf 21 (.iconst 0) 1 22 := by decide +kernel
theorem dX0_cornerOf_22 : eb_dc cX0_cornerOf 22 (.invokevirtual 75) 3 25 := by decide +kernel
theorem dX0_cornerOf_25 : eb_dc cX0_cornerOf 25 (.istore 5) 2 27 := by decide +kernel
theorem dX0_cornerOf_27 : eb_dc cX0_cornerOf 27 (.iload 5) 2 29 := by decide +kernel
theorem dX0_cornerOf_29 : eb_dc cX0_cornerOf 29 (.iconst 1) 1 30 := by decide +kernel
theorem dX0_cornerOf_30 : eb_dj cX0_cornerOf 30 (.if_icmp .eq 6) 6 33 36 := by decide +kernel
theorem dX0_cornerOf_33 : eb_dc cX0_cornerOf 33 (.iload 5) 2 35 := by decide +kernel
theorem dX0_cornerOf_35 : eb_dc cX0_cornerOf 35 (.ireturn) 1 36 := by decide +kernel
theorem dX0_cornerOf_36 : eb_dc cX0_cornerOf 36 (.aload_n 0) 1 37 := by decide +kernel
theorem dX0_cornerOf_37 : eb_dc cX0_cornerOf 37 (.getfield 15) 3 40 := by decide +kernel
theorem dX0_cornerOf_40 : eb_dc cX0_cornerOf 40 (.iload_n 1) 1 41 := by decide +kernel
theorem dX0_cornerOf_41 : eb_dc cX0_cornerOf 41 (.aaload) 1 42 := by decide +kernel
theorem dX0_cornerOf_42 : eb_dc cX0_cornerOf 42 (.iconst 0) 1 43 := by decide +kernel
theorem dX0_cornerOf_43 : eb_dc cX0_cornerOf 43 (.iload_n 2) 1 44 := by decide +kernel
theorem dX0_cornerOf_44 : eb_dc cX0_cornerOf 44 (.iload_n 3) 1 45 := by decide +kernel
theorem dX0_cornerOf_45 : eb_dc cX0_cornerOf 45 (.invokevirtual 134) 3 48 := by decide +kernel
theorem dX0_cornerOf_48 : eb_dc cX0_cornerOf 48 (.astore 6) 2 50 := by decide +kernel
theorem dX0_cornerOf_50 : eb_dc cX0_cornerOf 50 (.iconst 0) 1 51 := by decide +kernel
theorem dX0_cornerOf_51 : eb_dc cX0_cornerOf 51 (.istore 7) 2 53 := by decide +kernel
theorem dX0_cornerOf_53 : eb_dc cX0_cornerOf 53 (.iconst 0) 1 54 := by decide +kernel
theorem dX0_cornerOf_54 : eb_dc cX0_cornerOf 54 (.istore 8) 2 56 := by decide +kernel
theorem dX0_cornerOf_56 : eb_dc cX0_cornerOf 56 (.iload 8) 2 58 := by decide +kernel
theorem dX0_cornerOf_58 : eb_dc cX0_cornerOf 58 (.aload 6) 2 60 := by decide +kernel
theorem dX0_cornerOf_60 : eb_dc cX0_cornerOf 60 (.arraylength) 1 61 := by decide +kernel
theorem dX0_cornerOf_61 : eb_dj cX0_cornerOf 61 (.if_icmp .ge 30) 30 64 91 := by decide +kernel
theorem dX0_cornerOf_64 : eb_dc cX0_cornerOf 64 (.aload 6) 2 66 := by decide +kernel
theorem dX0_cornerOf_66 : eb_dc cX0_cornerOf 66 (.iload 8) 2 68 := by decide +kernel
theorem dX0_cornerOf_68 : eb_dc cX0_cornerOf 68 (.baload) 1 69 := by decide +kernel
theorem dX0_cornerOf_69 : eb_dj cX0_cornerOf 69 (.ifCond .eq 16) 16 72 85 := by decide +kernel
theorem dX0_cornerOf_72 : eb_dc cX0_cornerOf 72 (.iload 7) 2 74 := by decide +kernel
theorem dX0_cornerOf_74 : eb_dc cX0_cornerOf 74 (.iload 4) 2 76 := by decide +kernel
theorem dX0_cornerOf_76 : eb_dj cX0_cornerOf 76 (.if_icmp .ne 6) 6 79 82 := by decide +kernel
theorem dX0_cornerOf_79 : eb_dc cX0_cornerOf 79 (.iload 8) 2 81 := by decide +kernel
theorem dX0_cornerOf_81 : eb_dc cX0_cornerOf 81 (.ireturn) 1 82 := by decide +kernel
theorem dX0_cornerOf_82 : eb_dc cX0_cornerOf 82 (.iinc 7 1) 3 85 := by decide +kernel
theorem dX0_cornerOf_85 : eb_dc cX0_cornerOf 85 (.iinc 8 1) 3 88 := by decide +kernel
theorem dX0_cornerOf_88 : eb_dj cX0_cornerOf 88 (.goto (-32)) (-32) 91 56 := by decide +kernel
theorem dX0_cornerOf_91 : eb_dc cX0_cornerOf 91 (.iconst (-1)) 1 92 := by decide +kernel
theorem dX0_cornerOf_92 : eb_dc cX0_cornerOf 92 (.ireturn) 1 93 := by decide +kernel
theorem ctX0_cornerOf {l : Launch} {Γ : eb_C} {bc bs : Nat} {st : eb_S} {a0 : Nat} {a1 : Int32} {a2 : Int32} {a3 : Int32} {a4 : Int32} {K : Int32 → eb_S → Prop} (h : MX0_cornerOf Γ bc bs st a0 a1 a2 a3 a4 K) : eb_Ct l Γ yX0_cornerOf cX0_cornerOf 9 (some .int) (rmX0_cornerOf bc bs) [.ref a0, .int a1, .int a2, .int a3, .int a4] st (eb_oI K) := by
  refine eb_of (by decide) (Nat.le_of_ble_eq_true rfl) (fun X P hP hX0 => ?_)
  suffices hgo : (0 ≤ bc ∧ 0 ≤ bs) → eb_G l Γ P X cX0_cornerOf RX0 9 (some .int) (rmX0_cornerOf bc bs) 0 [(0, .ref a0), (1, .int a1), (2, .int a2), (3, .int a3), (4, .int a4)] [] st 0 0 from hgo ⟨Nat.zero_le _, Nat.zero_le _⟩
  intro hu
  refine eg_aload_n 0 dX0_cornerOf_0 rfl rfl ?_
  refine eg_iload_n 1 dX0_cornerOf_1 rfl rfl ?_
  refine eg_aload_n 0 dX0_cornerOf_2 rfl rfl ?_
  refine eg_iload_n 1 dX0_cornerOf_3 rfl rfl ?_
  refine eg_iload_n 2 dX0_cornerOf_4 rfl rfl ?_
  refine eg_iload_n 3 dX0_cornerOf_5 rfl rfl ?_
  obtain ⟨hcs, h⟩ := h
  obtain ⟨c3, s4, hca, h⟩ := h
  have hM0 := h
  clear h
  refine ec_VIa (rest := [.int a1, .ref a0]) (ctX0_isPart hM0) (lw_V q535 q537 qs9 q74 q538) rfl rfl hcs nX0_isPart ⟨Nat.le_of_ble_eq_true rfl, Nat.le_of_ble_eq_true rfl⟩ ⟨rfl, rfl⟩ hca rfl rfl (Nat.le_of_ble_eq_true rfl) dX0_cornerOf_6 (fun v1 g2 h => ?_)
  clear hM0
  replace hu := hca
  refine eb_jp1_e (J := fun (s5 : Int32) => ((0 + c3) ≤ bc ∧ (0 + s4) ≤ bs) → eb_G l Γ P X cX0_cornerOf RX0 9 (some .int) (rmX0_cornerOf bc bs) 22 [(0, .ref a0), (1, .int a1), (2, .int a2), (3, .int a3), (4, .int a4)] [.int s5, .int a1, .ref a0] g2 (0 + c3) (0 + s4)) h ?_ ?_
  · clear h
    intro s5 h hu
    obtain ⟨hcs, h⟩ := h
    obtain ⟨c8, s9, hca, h⟩ := h
    have hM0 := h
    clear h
    refine ec_VIa (rest := []) (ctX0_why hM0) (lw_V q237 q239 qs1 q74 q240) rfl rfl hcs nX0_why ⟨Nat.le_of_ble_eq_true rfl, Nat.le_of_ble_eq_true rfl⟩ ⟨rfl, rfl⟩ hca rfl rfl (Nat.le_of_ble_eq_true rfl) dX0_cornerOf_22 (fun v6 g7 h => ?_)
    clear hM0
    replace hu := hca
    refine eg_istore (lv' := [(5, .int v6), (0, .ref a0), (1, .int a1), (2, .int a2), (3, .int a3), (4, .int a4)]) dX0_cornerOf_25 (Nat.le_of_ble_eq_true rfl) rfl ?_
    refine eg_iload 0 dX0_cornerOf_27 rfl ?_
    refine eg_iconst dX0_cornerOf_29 kc_1 ?_
    refine eg_icmp_eq dX0_cornerOf_30 (fun c29 => ?_) (fun c29 => ?_)
    · replace h := h.1 c29
      refine eg_aload_n 1 dX0_cornerOf_36 rfl rfl ?_
      obtain ⟨fs, v10, he, hv, h⟩ := h
      refine eg_get 0 in_X0 he rfl (Nat.le_of_ble_eq_true rfl) q159 rfl hv dX0_cornerOf_37 ?_
      refine eg_iload_n 2 dX0_cornerOf_40 rfl rfl ?_
      obtain ⟨p11, rfl, h⟩ := h
      obtain ⟨nA, fA, he, hb, h⟩ := h
      refine eg_aald (t := 7) (ty := .object "EvenBodies$Body") rfl rfl he hb dX0_cornerOf_41 (fun v12 ev12 => ?_)
      replace h := h v12 ev12
      refine eg_iconst dX0_cornerOf_42 kc_0 ?_
      refine eg_iload_n 3 dX0_cornerOf_43 rfl rfl ?_
      refine eg_iload_n 4 dX0_cornerOf_44 rfl rfl ?_
      obtain ⟨p13, rfl, h⟩ := h
      obtain ⟨hcs, h⟩ := h
      obtain ⟨c16, s17, hca, h⟩ := h
      have hM0 := h
      clear h
      refine ec_VRa (rest := []) (ctX1_meets hM0) (lw_V q547 q548 q549 q75 q550) rfl rfl hcs nX1_meets ⟨Nat.le_of_ble_eq_true rfl, Nat.le_of_ble_eq_true rfl⟩ ⟨rfl, rfl⟩ hca rfl rfl (Nat.le_of_ble_eq_true rfl) dX0_cornerOf_45 (fun v14 g15 h => ?_)
      clear hM0
      replace hu := hca
      refine eh_astore (i := 6) (v := v14) (lv' := [(6, va_rf v14), (5, .int v6), (0, .ref a0), (1, .int a1), (2, .int a2), (3, .int a3), (4, .int a4)]) dX0_cornerOf_48 (Nat.le_of_ble_eq_true rfl) rfl ?_
      refine eg_iconst dX0_cornerOf_50 kc_0 ?_
      refine eg_istore (i := 7) (lv' := [(7, .int 0), (6, va_rf v14), (5, .int v6), (0, .ref a0), (1, .int a1), (2, .int a2), (3, .int a3), (4, .int a4)]) dX0_cornerOf_51 (Nat.le_of_ble_eq_true rfl) (by simp [List.filter_cons, eb_rfc]) ?_
      refine eg_iconst dX0_cornerOf_53 kc_0 ?_
      refine eg_istore (lv' := [(8, .int 0), (7, .int 0), (6, va_rf v14), (5, .int v6), (0, .ref a0), (1, .int a1), (2, .int a2), (3, .int a3), (4, .int a4)]) dX0_cornerOf_54 (Nat.le_of_ble_eq_true rfl) rfl ?_
      refine eg_sub [8, 2, 1, 0] rfl ?_
      refine eb_loop2_e (J := fun (x7_18 : Int32) (x8_19 : Int32) => ((((0 + c3) + c8) + c16) ≤ bc ∧ (((0 + s4) + s9) + s17) ≤ bs) → eb_G l Γ P X cX0_cornerOf RX0 9 (some .int) (rmX0_cornerOf bc bs) 56 [(4, .int a4), (6, va_rf v14), (7, .int x7_18), (8, .int x8_19)] [] g15 (((0 + c3) + c8) + c16) (((0 + s4) + s9) + s17)) h ?_ hu
      clear h
      clear hu
      intro r20 hr20 x7_18 x8_19 h hu
      refine eg_iload 3 dX0_cornerOf_56 rfl ?_
      refine eh_aload (v := v14) 1 dX0_cornerOf_58 rfl ?_
      obtain ⟨p21, rfl, h⟩ := h
      obtain ⟨xA, he, h⟩ := h
      refine eh_alen (t := 1) (ty := .boolean) he rfl dX0_cornerOf_60 ?_
      generalize Int32.ofNat xA.1 = v22 at h ⊢
      refine eg_icmp_ge dX0_cornerOf_61 (fun c28 => ?_) (fun c28 => ?_)
      · replace h := h.1 c28
        refine eg_iconst dX0_cornerOf_91 kc_m1 ?_
        exact eg_iret dX0_cornerOf_92 hu.1 hu.2 (hP _ _ ⟨_, rfl, h⟩)
      · replace h := h.2 c28
        refine eg_aload 1 dX0_cornerOf_64 rfl ?_
        refine eg_iload 3 dX0_cornerOf_66 rfl ?_
        obtain ⟨nA, fA, he, hb, h⟩ := h
        refine eh_zald he hb dX0_cornerOf_68 (fun v23 ev23 => ?_)
        replace h := h v23 ev23
        refine eb_jp1_e (J := fun (x7_24 : Int32) => ((((0 + c3) + c8) + c16) ≤ bc ∧ (((0 + s4) + s9) + s17) ≤ bs) → eb_G l Γ P X cX0_cornerOf RX0 9 (some .int) (rmX0_cornerOf bc bs) 85 [(4, .int a4), (6, .ref p21), (7, .int x7_24), (8, .int x8_19)] [] g15 (((0 + c3) + c8) + c16) (((0 + s4) + s9) + s17)) h ?_ ?_
        · clear h
          intro x7_24 h hu
          refine eg_iinc (j := 3) (lv' := [(8, .int (x8_19 + 1)), (4, .int a4), (6, .ref p21), (7, .int x7_24)]) dX0_cornerOf_85 rfl (by rw [kc_1]) (Nat.le_of_ble_eq_true rfl) rfl ?_
          refine eg_goto dX0_cornerOf_88 ?_
          exact eg_sub [1, 2, 3, 0] rfl (hr20 x7_24 (x8_19 + 1) h hu)
        · clear h
          intro k25 hk25 h
          refine eg_if_eq dX0_cornerOf_69 (fun c27 => ?_) (fun c27 => ?_)
          · replace h := h.1 c27
            exact hk25 x7_18 h hu
          · replace h := h.2 c27
            refine eg_iload 2 dX0_cornerOf_72 rfl ?_
            refine eg_iload 0 dX0_cornerOf_74 rfl ?_
            refine eg_icmp_ne dX0_cornerOf_76 (fun c26 => ?_) (fun c26 => ?_)
            · replace h := h.2 c26
              refine eg_iinc (j := 2) (lv' := [(7, .int (x7_18 + 1)), (4, .int a4), (6, .ref p21), (8, .int x8_19)]) dX0_cornerOf_82 rfl (by rw [kc_1]) (Nat.le_of_ble_eq_true rfl) rfl ?_
              exact eg_sub [1, 2, 0, 3] rfl (hk25 (x7_18 + 1) h hu)
            · replace h := h.1 c26
              refine eg_iload 3 dX0_cornerOf_79 rfl ?_
              exact eg_iret dX0_cornerOf_81 hu.1 hu.2 (hP _ _ ⟨_, rfl, h⟩)
    · replace h := h.2 c29
      refine eg_iload 0 dX0_cornerOf_33 rfl ?_
      exact eg_iret dX0_cornerOf_35 hu.1 hu.2 (hP _ _ ⟨_, rfl, h⟩)
  · clear h
    intro k30 hk30 h
    refine eg_if_eq dX0_cornerOf_9 (fun c32 => ?_) (fun c32 => ?_)
    · replace h := h.1 c32
      refine eg_iconst dX0_cornerOf_21 kc_0 ?_
      exact hk30 0 h hu
    · replace h := h.2 c32
      refine eg_iload 4 dX0_cornerOf_12 rfl ?_
      refine eg_if_lt dX0_cornerOf_14 (fun c31 => ?_) (fun c31 => ?_)
      · replace h := h.1 c31
        refine eg_iconst dX0_cornerOf_21 kc_0 ?_
        exact hk30 0 h hu
      · replace h := h.2 c31
        refine eg_iconst dX0_cornerOf_17 kc_1 ?_
        refine eg_goto dX0_cornerOf_18 ?_
        exact hk30 1 h hu
def MX0_isWithin (a0 : Int32) (a1 : Int32) (K : Int32 → Prop) : Prop :=
  eb_br (a0 = a1) (K 0) (eb_br ((a0 &&& (a1 ^^^ (-1))) = 0) (K 1) (K 0))
abbrev rmX0_isWithin : Room := { frames := 1, cells := 0, slots := 0, locals := 12 }
theorem nX0_isWithin : eb_ar yX0_isWithin 2 := by decide +kernel
theorem dX0_isWithin_0 : eb_dc cX0_isWithin 0 (.iload_n 0) 1 1 := by decide +kernel
theorem dX0_isWithin_1 : eb_dc cX0_isWithin 1 (.iload_n 1) 1 2 := by decide +kernel
theorem dX0_isWithin_2 : eb_dj cX0_isWithin 2 (.if_icmp .eq 15) 15 5 17 := by decide +kernel
theorem dX0_isWithin_5 : eb_dc cX0_isWithin 5 (.iload_n 0) 1 6 := by decide +kernel
theorem dX0_isWithin_6 : eb_dc cX0_isWithin 6 (.iload_n 1) 1 7 := by decide +kernel
theorem dX0_isWithin_7 : eb_dc cX0_isWithin 7 (.iconst (-1)) 1 8 := by decide +kernel
theorem dX0_isWithin_8 : eb_dc cX0_isWithin 8 (.ixor) 1 9 := by decide +kernel
theorem dX0_isWithin_9 : eb_dc cX0_isWithin 9 (.iand) 1 10 := by decide +kernel
theorem dX0_isWithin_10 : eb_dj cX0_isWithin 10 (.ifCond .ne 7) 7 13 17 := by decide +kernel
theorem dX0_isWithin_13 : eb_dc cX0_isWithin 13 (.iconst 1) 1 14 := by decide +kernel
theorem dX0_isWithin_14 : eb_dj cX0_isWithin 14 (.goto 4) 4 17 18 := by decide +kernel
theorem dX0_isWithin_17 : eb_dc cX0_isWithin 17 (.iconst 0) 1 18 := by decide +kernel
theorem dX0_isWithin_18 : eb_dc cX0_isWithin 18 (.ireturn) 1 19 := by decide +kernel
theorem ctX0_isWithin {l : Launch} {Γ : eb_C} {st : eb_S} {a0 : Int32} {a1 : Int32} {K : Int32 → Prop} (h : MX0_isWithin a0 a1 K) : eb_Ct l Γ yX0_isWithin cX0_isWithin 2 (some .boolean) rmX0_isWithin [.int a0, .int a1] st (eb_pI st K) := by
  refine eb_of (by decide) (Nat.le_of_ble_eq_true rfl) (fun X P hP hX0 => ?_)
  show eb_G l Γ P X cX0_isWithin RX0 2 (some .boolean) rmX0_isWithin 0 [(0, .int a0), (1, .int a1)] [] st 0 0
  refine eg_iload_n 0 dX0_isWithin_0 rfl rfl ?_
  refine eg_iload_n 1 dX0_isWithin_1 rfl rfl ?_
  refine eg_icmp_eq dX0_isWithin_2 (fun c2 => ?_) (fun c2 => ?_)
  · replace h := h.1 c2
    refine eg_iconst dX0_isWithin_17 kc_0 ?_
    exact eg_zret dX0_isWithin_18 rfl (Nat.zero_le _) (Nat.zero_le _) (hP _ _ ⟨_, rfl, rfl, h⟩)
  · replace h := h.2 c2
    refine eg_iload_n 0 dX0_isWithin_5 rfl rfl ?_
    refine eg_iload_n 1 dX0_isWithin_6 rfl rfl ?_
    refine eg_iconst dX0_isWithin_7 kc_m1 ?_
    refine eg_ixor dX0_isWithin_8 ?_
    refine eg_iand dX0_isWithin_9 ?_
    refine eg_if_ne dX0_isWithin_10 (fun c1 => ?_) (fun c1 => ?_)
    · replace h := h.2 c1
      refine eg_iconst dX0_isWithin_17 kc_0 ?_
      exact eg_zret dX0_isWithin_18 rfl (Nat.zero_le _) (Nat.zero_le _) (hP _ _ ⟨_, rfl, rfl, h⟩)
    · replace h := h.1 c1
      refine eg_iconst dX0_isWithin_13 kc_1 ?_
      refine eg_goto dX0_isWithin_14 ?_
      exact eg_zret dX0_isWithin_18 rfl (Nat.zero_le _) (Nat.zero_le _) (hP _ _ ⟨_, rfl, rfl, h⟩)
def MX0_liesIn (Γ : eb_C) (bc bs : Nat) (st : eb_S) (a0 : Nat) (a1 : Int32) (a2 : Int32) (a3 : Int32) (a4 : Int32) (a5 : Int32) (K : Int32 → eb_S → Prop) : Prop :=
  eb_cs st a0 [0] ∧ ∃ c3 s4 : Nat, (0 + c3 ≤ bc ∧ 0 + s4 ≤ bs) ∧ MX0_isPart Γ c3 s4 st a0 a1 a2 a3 (fun v1 g2 => eb_jp4 (fun (s5 : Int32) (g6 : eb_S) (u7 : Nat) (w8 : Nat) => eb_cs g6 a0 [0] ∧ ∃ c11 s12 : Nat, (u7 + c11 ≤ bc ∧ w8 + s12 ≤ bs) ∧ MX0_why Γ c11 s12 g6 a0 a1 s5 (fun v9 g10 => eb_br (v9 = 1) (MX0_isWithin a2 a4 (fun v13 => eb_br (v13 = 0) (K 0 g10) (eb_gr g10 a0 0 0 (fun v17 => eb_nn v17 (fun p18 => eb_lr Γ g10 p18 7 a1 (fun v19 => eb_nn v19 (fun p20 => eb_cs g10 p20 [1] ∧ ∃ c23 s24 : Nat, ((u7 + c11) + c23 ≤ bc ∧ (w8 + s12) + s24 ≤ bs) ∧ MX1_meets Γ c23 s24 g10 p20 a2 a4 a5 (fun v21 g22 => eb_nn v21 (fun p25 => eb_li Γ g22 p25 1 a3 (fun v26 => eb_br (v26 = 0) (K 0 g22) (K 1 g22))))))))))) (K v9 g10))) (fun k30 => eb_br (v1 = 0) (k30 0 g2 (0 + c3) (0 + s4)) (eb_cs g2 a0 [0] ∧ ∃ c33 s34 : Nat, ((0 + c3) + c33 ≤ bc ∧ (0 + s4) + s34 ≤ bs) ∧ MX0_isPart Γ c33 s34 g2 a0 a1 a4 a5 (fun v31 g32 => eb_br (v31 = 0) (k30 0 g32 (((0 + c3) + c33)) (((0 + s4) + s34))) (k30 1 g32 (((0 + c3) + c33)) (((0 + s4) + s34)))))))
abbrev rmX0_liesIn (bc bs : Nat) : Room := { frames := 14, cells := bc, slots := bs, locals := 307 }
theorem nX0_liesIn : eb_ar yX0_liesIn 5 := by decide +kernel
theorem dX0_liesIn_0 : eb_dc cX0_liesIn 0 (.aload_n 0) 1 1 := by decide +kernel
theorem dX0_liesIn_1 : eb_dc cX0_liesIn 1 (.iload_n 1) 1 2 := by decide +kernel
theorem dX0_liesIn_2 : eb_dc cX0_liesIn 2 (.aload_n 0) 1 3 := by decide +kernel
theorem dX0_liesIn_3 : eb_dc cX0_liesIn 3 (.iload_n 1) 1 4 := by decide +kernel
theorem dX0_liesIn_4 : eb_dc cX0_liesIn 4 (.iload_n 2) 1 5 := by decide +kernel
theorem dX0_liesIn_5 : eb_dc cX0_liesIn 5 (.iload_n 3) 1 6 := by decide +kernel
theorem dX0_liesIn_6 : eb_dc cX0_liesIn 6 (.invokevirtual 128) 3 9 := by decide +kernel
theorem dX0_liesIn_9 : eb_dj cX0_liesIn 9 (.ifCond .eq 19) 19 12 28 := by decide +kernel
theorem dX0_liesIn_12 : eb_dc cX0_liesIn 12 (.aload_n 0) 1 13 := by decide +kernel
theorem dX0_liesIn_13 : eb_dc cX0_liesIn 13 (.iload_n 1) 1 14 := by decide +kernel
theorem dX0_liesIn_14 : eb_dc cX0_liesIn 14 (.iload 4) 2 16 := by decide +kernel
theorem dX0_liesIn_16 : eb_dc cX0_liesIn 16 (.iload 5) 2 18 := by decide +kernel
theorem dX0_liesIn_18 : eb_dc cX0_liesIn 18 (.invokevirtual 128) 3 21 := by decide +kernel
theorem dX0_liesIn_21 : eb_dj cX0_liesIn 21 (.ifCond .eq 7) 7 24 28 := by decide +kernel
theorem dX0_liesIn_24 : eb_dc cX0_liesIn 24 (.iconst 1) 1 25 := by decide +kernel
theorem dX0_liesIn_25 : eb_dj cX0_liesIn 25 (.goto 4) 4 28 29 := by decide +kernel
theorem dX0_liesIn_28 : eb_dc cX0_liesIn 28 (.iconst 0) 1 29 := by decide +kernel
theorem dX0_liesIn_29 : eb_dc cX0_liesIn 29 (.invokevirtual 75) 3 32 := by decide +kernel
theorem dX0_liesIn_32 : eb_dc cX0_liesIn 32 (.istore 6) 2 34 := by decide +kernel
theorem dX0_liesIn_34 : eb_dc cX0_liesIn 34 (.iload 6) 2 36 := by decide +kernel
theorem dX0_liesIn_36 : eb_dc cX0_liesIn 36 (.iconst 1) 1 37 := by decide +kernel
theorem dX0_liesIn_37 : eb_dj cX0_liesIn 37 (.if_icmp .eq 8) 8 40 45 := by decide +kernel
theorem dX0_liesIn_40 : eb_dc cX0_liesIn 40 (.iload 6) 2 42 := by decide +kernel
theorem dX0_liesIn_42 : eb_dj cX0_liesIn 42 (.goto 36) 36 45 78 := by decide +kernel
theorem dX0_liesIn_45 : eb_dc cX0_liesIn 45 (.iload_n 2) 1 46 := by decide +kernel
theorem dX0_liesIn_46 : eb_dc cX0_liesIn 46 (.iload 4) 2 48 := by decide +kernel
theorem dX0_liesIn_48 : eb_dc cX0_liesIn 48 (.invokestatic 138) 3 51 := by decide +kernel
theorem dX0_liesIn_51 : eb_dj cX0_liesIn 51 (.ifCond .eq 26) 26 54 77 := by decide +kernel
theorem dX0_liesIn_54 : eb_dc cX0_liesIn 54 (.aload_n 0) 1 55 := by decide +kernel
theorem dX0_liesIn_55 : eb_dc cX0_liesIn 55 (.getfield 15) 3 58 := by decide +kernel
theorem dX0_liesIn_58 : eb_dc cX0_liesIn 58 (.iload_n 1) 1 59 := by decide +kernel
theorem dX0_liesIn_59 : eb_dc cX0_liesIn 59 (.aaload) 1 60 := by decide +kernel
theorem dX0_liesIn_60 : eb_dc cX0_liesIn 60 (.iload_n 2) 1 61 := by decide +kernel
theorem dX0_liesIn_61 : eb_dc cX0_liesIn 61 (.iload 4) 2 63 := by decide +kernel
theorem dX0_liesIn_63 : eb_dc cX0_liesIn 63 (.iload 5) 2 65 := by decide +kernel
theorem dX0_liesIn_65 : eb_dc cX0_liesIn 65 (.invokevirtual 134) 3 68 := by decide +kernel
theorem dX0_liesIn_68 : eb_dc cX0_liesIn 68 (.iload_n 3) 1 69 := by decide +kernel
theorem dX0_liesIn_69 : eb_dc cX0_liesIn 69 (.baload) 1 70 := by decide +kernel
theorem dX0_liesIn_70 : eb_dj cX0_liesIn 70 (.ifCond .eq 7) 7 73 77 := by decide +kernel
theorem dX0_liesIn_73 : eb_dc cX0_liesIn 73 (.iconst 1) 1 74 := by decide +kernel
theorem dX0_liesIn_74 : eb_dj cX0_liesIn 74 (.goto 4) 4 77 78 := by decide +kernel
theorem dX0_liesIn_77 : eb_dc cX0_liesIn 77 (.iconst 0) 1 78 := by decide +kernel
theorem dX0_liesIn_78 : eb_dc cX0_liesIn 78 (.ireturn) 1 79 := by decide +kernel
theorem ctX0_liesIn {l : Launch} {Γ : eb_C} {bc bs : Nat} {st : eb_S} {a0 : Nat} {a1 : Int32} {a2 : Int32} {a3 : Int32} {a4 : Int32} {a5 : Int32} {K : Int32 → eb_S → Prop} (h : MX0_liesIn Γ bc bs st a0 a1 a2 a3 a4 a5 K) : eb_Ct l Γ yX0_liesIn cX0_liesIn 7 (some .int) (rmX0_liesIn bc bs) [.ref a0, .int a1, .int a2, .int a3, .int a4, .int a5] st (eb_oI K) := by
  refine eb_of (by decide) (Nat.le_of_ble_eq_true rfl) (fun X P hP hX0 => ?_)
  suffices hgo : (0 ≤ bc ∧ 0 ≤ bs) → eb_G l Γ P X cX0_liesIn RX0 7 (some .int) (rmX0_liesIn bc bs) 0 [(0, .ref a0), (1, .int a1), (2, .int a2), (3, .int a3), (4, .int a4), (5, .int a5)] [] st 0 0 from hgo ⟨Nat.zero_le _, Nat.zero_le _⟩
  intro hu
  refine eg_aload_n 0 dX0_liesIn_0 rfl rfl ?_
  refine eg_iload_n 1 dX0_liesIn_1 rfl rfl ?_
  refine eg_aload_n 0 dX0_liesIn_2 rfl rfl ?_
  refine eg_iload_n 1 dX0_liesIn_3 rfl rfl ?_
  refine eg_iload_n 2 dX0_liesIn_4 rfl rfl ?_
  refine eg_iload_n 3 dX0_liesIn_5 rfl rfl ?_
  obtain ⟨hcs, h⟩ := h
  obtain ⟨c3, s4, hca, h⟩ := h
  have hM0 := h
  clear h
  refine ec_VIa (rest := [.int a1, .ref a0]) (ctX0_isPart hM0) (lw_V q535 q537 qs9 q74 q538) rfl rfl hcs nX0_isPart ⟨Nat.le_of_ble_eq_true rfl, Nat.le_of_ble_eq_true rfl⟩ ⟨rfl, rfl⟩ hca rfl rfl (Nat.le_of_ble_eq_true rfl) dX0_liesIn_6 (fun v1 g2 h => ?_)
  clear hM0
  replace hu := hca
  refine eb_jp4_e (J := fun (s5 : Int32) (g6 : eb_S) (u7 : Nat) (w8 : Nat) => (u7 ≤ bc ∧ w8 ≤ bs) → eb_G l Γ P X cX0_liesIn RX0 7 (some .int) (rmX0_liesIn bc bs) 29 [(0, .ref a0), (1, .int a1), (2, .int a2), (3, .int a3), (4, .int a4), (5, .int a5)] [.int s5, .int a1, .ref a0] g6 u7 w8) h ?_ ?_
  · clear h
    intro s5 g6 u7 w8 h hu
    obtain ⟨hcs, h⟩ := h
    obtain ⟨c11, s12, hca, h⟩ := h
    have hM0 := h
    clear h
    refine ec_VIa (rest := []) (ctX0_why hM0) (lw_V q237 q239 qs1 q74 q240) rfl rfl hcs nX0_why ⟨Nat.le_of_ble_eq_true rfl, Nat.le_of_ble_eq_true rfl⟩ ⟨rfl, rfl⟩ hca rfl rfl (Nat.le_of_ble_eq_true rfl) dX0_liesIn_29 (fun v9 g10 h => ?_)
    clear hM0
    replace hu := hca
    refine eg_istore (lv' := [(6, .int v9), (0, .ref a0), (1, .int a1), (2, .int a2), (3, .int a3), (4, .int a4), (5, .int a5)]) dX0_liesIn_32 (Nat.le_of_ble_eq_true rfl) rfl ?_
    refine eg_iload 0 dX0_liesIn_34 rfl ?_
    refine eg_iconst dX0_liesIn_36 kc_1 ?_
    refine eg_icmp_eq dX0_liesIn_37 (fun c29 => ?_) (fun c29 => ?_)
    · replace h := h.1 c29
      refine eg_iload_n 3 dX0_liesIn_45 rfl rfl ?_
      refine eg_iload 5 dX0_liesIn_46 rfl ?_
      have hM0 := h
      clear h
      refine ec_SIp (rest := []) (ctX0_isWithin hM0) (lw_S q560 q561 q74 q562) nX0_isWithin ⟨Nat.le_of_ble_eq_true rfl, Nat.le_of_ble_eq_true rfl⟩ ⟨rfl, rfl⟩ hu rfl rfl (Nat.le_of_ble_eq_true rfl) dX0_liesIn_48 (fun v13 h => ?_)
      clear hM0
      refine eg_if_eq dX0_liesIn_51 (fun c28 => ?_) (fun c28 => ?_)
      · replace h := h.1 c28
        refine eg_iconst dX0_liesIn_77 kc_0 ?_
        exact eg_iret dX0_liesIn_78 hu.1 hu.2 (hP _ _ ⟨_, rfl, h⟩)
      · replace h := h.2 c28
        refine eg_aload_n 1 dX0_liesIn_54 rfl rfl ?_
        obtain ⟨fs, v17, he, hv, h⟩ := h
        refine eg_get 0 in_X0 he rfl (Nat.le_of_ble_eq_true rfl) q159 rfl hv dX0_liesIn_55 ?_
        refine eg_iload_n 2 dX0_liesIn_58 rfl rfl ?_
        obtain ⟨p18, rfl, h⟩ := h
        obtain ⟨nA, fA, he, hb, h⟩ := h
        refine eg_aald (t := 7) (ty := .object "EvenBodies$Body") rfl rfl he hb dX0_liesIn_59 (fun v19 ev19 => ?_)
        replace h := h v19 ev19
        refine eg_iload_n 3 dX0_liesIn_60 rfl rfl ?_
        refine eg_iload 5 dX0_liesIn_61 rfl ?_
        refine eg_iload 6 dX0_liesIn_63 rfl ?_
        obtain ⟨p20, rfl, h⟩ := h
        obtain ⟨hcs, h⟩ := h
        obtain ⟨c23, s24, hca, h⟩ := h
        have hM0 := h
        clear h
        refine ec_VRa (rest := []) (ctX1_meets hM0) (lw_V q547 q548 q549 q75 q550) rfl rfl hcs nX1_meets ⟨Nat.le_of_ble_eq_true rfl, Nat.le_of_ble_eq_true rfl⟩ ⟨rfl, rfl⟩ hca rfl rfl (Nat.le_of_ble_eq_true rfl) dX0_liesIn_65 (fun v21 g22 h => ?_)
        clear hM0
        replace hu := hca
        refine eg_iload_n 4 dX0_liesIn_68 rfl rfl ?_
        obtain ⟨p25, rfl, h⟩ := h
        obtain ⟨nA, fA, he, hb, h⟩ := h
        refine eh_zald he hb dX0_liesIn_69 (fun v26 ev26 => ?_)
        replace h := h v26 ev26
        refine eg_if_eq dX0_liesIn_70 (fun c27 => ?_) (fun c27 => ?_)
        · replace h := h.1 c27
          refine eg_iconst dX0_liesIn_77 kc_0 ?_
          exact eg_iret dX0_liesIn_78 hu.1 hu.2 (hP _ _ ⟨_, rfl, h⟩)
        · replace h := h.2 c27
          refine eg_iconst dX0_liesIn_73 kc_1 ?_
          refine eg_goto dX0_liesIn_74 ?_
          exact eg_iret dX0_liesIn_78 hu.1 hu.2 (hP _ _ ⟨_, rfl, h⟩)
    · replace h := h.2 c29
      refine eg_iload 0 dX0_liesIn_40 rfl ?_
      refine eg_goto dX0_liesIn_42 ?_
      exact eg_iret dX0_liesIn_78 hu.1 hu.2 (hP _ _ ⟨_, rfl, h⟩)
  · clear h
    intro k30 hk30 h
    refine eg_if_eq dX0_liesIn_9 (fun c36 => ?_) (fun c36 => ?_)
    · replace h := h.1 c36
      refine eg_iconst dX0_liesIn_28 kc_0 ?_
      exact hk30 0 g2 (0 + c3) (0 + s4) h hu
    · replace h := h.2 c36
      refine eg_aload_n 0 dX0_liesIn_12 rfl rfl ?_
      refine eg_iload_n 1 dX0_liesIn_13 rfl rfl ?_
      refine eg_iload 4 dX0_liesIn_14 rfl ?_
      refine eg_iload 5 dX0_liesIn_16 rfl ?_
      obtain ⟨hcs, h⟩ := h
      obtain ⟨c33, s34, hca, h⟩ := h
      have hM0 := h
      clear h
      refine ec_VIa (rest := [.int a1, .ref a0]) (ctX0_isPart hM0) (lw_V q535 q537 qs9 q74 q538) rfl rfl hcs nX0_isPart ⟨Nat.le_of_ble_eq_true rfl, Nat.le_of_ble_eq_true rfl⟩ ⟨rfl, rfl⟩ hca rfl rfl (Nat.le_of_ble_eq_true rfl) dX0_liesIn_18 (fun v31 g32 h => ?_)
      clear hM0
      replace hu := hca
      refine eg_if_eq dX0_liesIn_21 (fun c35 => ?_) (fun c35 => ?_)
      · replace h := h.1 c35
        refine eg_iconst dX0_liesIn_28 kc_0 ?_
        exact hk30 0 g32 (((0 + c3) + c33)) (((0 + s4) + s34)) h hu
      · replace h := h.2 c35
        refine eg_iconst dX0_liesIn_24 kc_1 ?_
        refine eg_goto dX0_liesIn_25 ?_
        exact hk30 1 g32 (((0 + c3) + c33)) (((0 + s4) + s34)) h hu

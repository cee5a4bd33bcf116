set_option maxRecDepth 100000
set_option maxHeartbeats 4000000
def MX1_joined (Γ : eb_C) (st : eb_S) (a0 : Nat) (a1 : Int32) (K : Int32 → Prop) : Prop :=
  eb_loop2 (fun r3 (x2_1 : Int32) (x3_2 : Int32) => eb_gi st a0 1 0 (fun v4 => eb_br (v4 ≤ x3_2) (K x2_1) (eb_jp1 (fun (s5 : Int32) => r3 (x2_1 ||| s5) (x3_2 + 1)) (fun k6 => eb_br (x3_2 = a1) (k6 0) (eb_cs st a0 [1] ∧ MX1_angle Γ st a0 a1 x3_2 (fun v7 => eb_br (v7 ≤ 2) (k6 0) (k6 (eb_shl 1 x3_2)))))))) 0 0
abbrev rmX1_joined : Room := { frames := 2, cells := 0, slots := 0, locals := 34 }
theorem nX1_joined : eb_ar yX1_joined 1 := by decide +kernel
theorem dX1_joined_0 : eb_dc cX1_joined 0 (.iconst 0) 1 1 := by decide +kernel
theorem dX1_joined_1 : eb_dc cX1_joined 1 (.istore_n 2) 1 2 := by decide +kernel
theorem dX1_joined_2 : eb_dc cX1_joined 2 (.iconst 0) 1 3 := by decide +kernel
theorem dX1_joined_3 : eb_dc cX1_joined 3 (.istore_n 3) 1 4 := by decide +kernel
theorem dX1_joined_4 : eb_dc cX1_joined 4 (.iload_n 3) 1 5 := by decide +kernel
theorem dX1_joined_5 : eb_dc cX1_joined 5 (.aload_n 0) 1 6 := by decide +kernel
theorem dX1_joined_6 : eb_dc cX1_joined 6 (.getfield 28) 3 9 := by decide +kernel
theorem dX1_joined_9 : eb_dj cX1_joined 9 (.if_icmp .ge 34) 34 12 43 := by decide +kernel
theorem dX1_joined_12 : eb_dc cX1_joined 12 (.iload_n 2) 1 13 := by decide +kernel
theorem dX1_joined_13 : eb_dc cX1_joined 13 (.iload_n 3) 1 14 := by decide +kernel
theorem dX1_joined_14 : eb_dc cX1_joined 14 (.iload_n 1) 1 15 := by decide +kernel
theorem dX1_joined_15 : eb_dj cX1_joined 15 (.if_icmp .eq 19) 19 18 34 := by decide +kernel
theorem dX1_joined_18 : eb_dc cX1_joined 18 (.aload_n 0) 1 19 := by decide +kernel
theorem dX1_joined_19 : eb_dc cX1_joined 19 (.iload_n 1) 1 20 := by decide +kernel
theorem dX1_joined_20 : eb_dc cX1_joined 20 (.iload_n 3) 1 21 := by decide +kernel
theorem dX1_joined_21 : eb_dc cX1_joined 21 (.invokevirtual 37) 3 24 := by decide +kernel
theorem dX1_joined_24 : eb_dc cX1_joined 24 (.iconst 2) 1 25 := by decide +kernel
theorem dX1_joined_25 : eb_dj cX1_joined 25 (.if_icmp .le 9) 9 28 34 := by decide +kernel
theorem dX1_joined_28 : eb_dc cX1_joined 28 (.iconst 1) 1 29 := by decide +kernel
theorem dX1_joined_29 : eb_dc cX1_joined 29 (.iload_n 3) 1 30 := by decide +kernel
theorem dX1_joined_30 : eb_dc cX1_joined 30 (.ishl) 1 31 := by decide +kernel
theorem dX1_joined_31 : eb_dj cX1_joined 31 (.goto 4) 4 34 35 := by decide +kernel
theorem dX1_joined_34 : eb_dc cX1_joined 34 (.iconst 0) 1 35 := by decide +kernel
theorem dX1_joined_35 : eb_dc cX1_joined 35 (.ior) 1 36 := by decide +kernel
theorem dX1_joined_36 : eb_dc cX1_joined 36 (.istore_n 2) 1 37 := by decide +kernel
theorem dX1_joined_37 : eb_dc cX1_joined 37 (.iinc 3 1) 3 40 := by decide +kernel
theorem dX1_joined_40 : eb_dj cX1_joined 40 (.goto (-36)) (-36) 43 4 := by decide +kernel
theorem dX1_joined_43 : eb_dc cX1_joined 43 (.iload_n 2) 1 44 := by decide +kernel
theorem dX1_joined_44 : eb_dc cX1_joined 44 (.ireturn) 1 45 := by decide +kernel
theorem ctX1_joined {l : Launch} {Γ : eb_C} {st : eb_S} {a0 : Nat} {a1 : Int32} {K : Int32 → Prop} (h : MX1_joined Γ st a0 a1 K) : eb_Ct l Γ yX1_joined cX1_joined 4 (some .int) rmX1_joined [.ref a0, .int a1] st (eb_pI st K) := by
  refine eb_of (by decide) (Nat.le_of_ble_eq_true rfl) (fun X P hP hX0 => ?_)
  show eb_G l Γ P X cX1_joined RX1 4 (some .int) rmX1_joined 0 [(0, .ref a0), (1, .int a1)] [] st 0 0
  refine eg_iconst dX1_joined_0 kc_0 ?_
  refine eg_istore_n (lv' := [(2, .int 0), (0, .ref a0), (1, .int a1)]) dX1_joined_1 rfl (Nat.le_of_ble_eq_true rfl) rfl ?_
  refine eg_iconst dX1_joined_2 kc_0 ?_
  refine eg_istore_n (lv' := [(3, .int 0), (2, .int 0), (0, .ref a0), (1, .int a1)]) dX1_joined_3 rfl (Nat.le_of_ble_eq_true rfl) rfl ?_
  refine eg_sub [2, 3, 1, 0] rfl ?_
  refine eb_loop2_e (J := fun (x2_1 : Int32) (x3_2 : Int32) => eb_G l Γ P X cX1_joined RX1 4 (some .int) rmX1_joined 4 [(0, .ref a0), (1, .int a1), (2, .int x2_1), (3, .int x3_2)] [] st 0 0) h ?_
  clear h
  intro r3 hr3 x2_1 x3_2 h
  refine eg_iload_n 3 dX1_joined_4 rfl rfl ?_
  refine eg_aload_n 0 dX1_joined_5 rfl rfl ?_
  obtain ⟨fs, v4, he, hv, h⟩ := h
  refine eg_get 0 in_X1 he rfl (Nat.le_of_ble_eq_true rfl) q120 rfl hv dX1_joined_6 ?_
  refine eg_icmp_ge dX1_joined_9 (fun c13 => ?_) (fun c13 => ?_)
  · replace h := h.1 c13
    refine eg_iload_n 2 dX1_joined_43 rfl rfl ?_
    exact eg_iret dX1_joined_44 (Nat.zero_le _) (Nat.zero_le _) (hP _ _ ⟨_, rfl, rfl, h⟩)
  · replace h := h.2 c13
    refine eg_iload_n 2 dX1_joined_12 rfl rfl ?_
    refine eg_iload_n 3 dX1_joined_13 rfl rfl ?_
    refine eg_iload_n 1 dX1_joined_14 rfl rfl ?_
    refine eb_jp1_e (J := fun (s5 : Int32) => eb_G l Γ P X cX1_joined RX1 4 (some .int) rmX1_joined 35 [(0, .ref a0), (1, .int a1), (3, .int x3_2)] [.int s5, .int x2_1] st 0 0) h ?_ ?_
    · clear h
      intro s5 h
      refine eg_ior dX1_joined_35 ?_
      refine eg_istore_n (lv' := [(2, .int (x2_1 ||| s5)), (0, .ref a0), (1, .int a1), (3, .int x3_2)]) dX1_joined_36 rfl (Nat.le_of_ble_eq_true rfl) rfl ?_
      refine eg_iinc (j := 3) (lv' := [(3, .int (x3_2 + 1)), (2, .int (x2_1 ||| s5)), (0, .ref a0), (1, .int a1)]) dX1_joined_37 rfl (by rw [kc_1]) (Nat.le_of_ble_eq_true rfl) rfl ?_
      refine eg_goto dX1_joined_40 ?_
      exact eg_sub [2, 3, 1, 0] rfl (hr3 (x2_1 ||| s5) (x3_2 + 1) h)
    · clear h
      intro k6 hk6 h
      refine eg_icmp_eq dX1_joined_15 (fun c12 => ?_) (fun c12 => ?_)
      · replace h := h.1 c12
        refine eg_iconst dX1_joined_34 kc_0 ?_
        exact eg_sub [0, 1, 3] rfl (hk6 0 h)
      · replace h := h.2 c12
        refine eg_aload_n 0 dX1_joined_18 rfl rfl ?_
        refine eg_iload_n 1 dX1_joined_19 rfl rfl ?_
        refine eg_iload_n 3 dX1_joined_20 rfl rfl ?_
        obtain ⟨hcs, h⟩ := h
        have hM0 := h
        clear h
        refine ec_VIp (rest := [.int x2_1]) (ctX1_angle hM0) (lw_V q200 q201 q202 q75 q203) rfl rfl hcs nX1_angle ⟨Nat.le_of_ble_eq_true rfl, Nat.le_of_ble_eq_true rfl⟩ ⟨rfl, rfl⟩ ⟨Nat.zero_le _, Nat.zero_le _⟩ rfl rfl (Nat.le_of_ble_eq_true rfl) dX1_joined_21 (fun v7 h => ?_)
        clear hM0
        refine eg_iconst dX1_joined_24 kc_2 ?_
        refine eg_icmp_le dX1_joined_25 (fun c11 => ?_) (fun c11 => ?_)
        · replace h := h.1 c11
          refine eg_iconst dX1_joined_34 kc_0 ?_
          exact eg_sub [0, 1, 3] rfl (hk6 0 h)
        · replace h := h.2 c11
          refine eg_iconst dX1_joined_28 kc_1 ?_
          refine eg_iload_n 3 dX1_joined_29 rfl rfl ?_
          refine eg_ishl dX1_joined_30 ?_
          refine eg_goto dX1_joined_31 ?_
          exact eg_sub [0, 1, 3] rfl (hk6 (eb_shl 1 x3_2) h)
def MX0_about (Γ : eb_C) (st : eb_S) (a0 : Nat) (a1 : Int32) (a2 : Int32) (a3 : Int32) (K : Int32 → Prop) : Prop :=
  MX0_isBody a1 (fun v1 => eb_br (v1 = 0) (K (-2)) (MX0_in a2 0 2 (fun v5 => eb_br (v5 = 0) (K (-2)) (eb_jp0 (eb_br (a2 = 0) (eb_gr st a0 0 0 (fun v23 => eb_nn v23 (fun p24 => eb_lr Γ st p24 7 a1 (fun v25 => eb_nn v25 (fun p26 => eb_gi st p26 1 0 (fun v27 => K v27)))))) (eb_br (a2 = 1) (eb_gr st a0 0 0 (fun v17 => eb_nn v17 (fun p18 => eb_lr Γ st p18 7 a1 (fun v19 => eb_nn v19 (fun p20 => eb_gi st p20 1 2 (fun v21 => K v21)))))) (eb_gr st a0 0 0 (fun v9 => eb_nn v9 (fun p10 => eb_lr Γ st p10 7 a1 (fun v11 => eb_nn v11 (fun p12 => eb_cs st p12 [1] ∧ MX1_joined Γ st p12 a3 (fun v13 => K v13)))))))) (fun k29 => eb_br (a2 = 2) (eb_cs st a0 [0] ∧ MX0_isMirror Γ st a0 a1 a3 (fun v30 => eb_br (v30 = 0) (K (-2)) (k29))) (k29))))))
abbrev rmX0_about : Room := { frames := 4, cells := 0, slots := 0, locals := 76 }
theorem nX0_about : eb_ar yX0_about 3 := by decide +kernel
theorem dX0_about_0 : eb_dc cX0_about 0 (.iload_n 1) 1 1 := by decide +kernel
theorem dX0_about_1 : eb_dc cX0_about 1 (.invokestatic 30) 3 4 := by decide +kernel
theorem dX0_about_4 : eb_dj cX0_about 4 (.ifCond .eq 26) 26 7 30 := by decide +kernel
theorem dX0_about_7 : eb_dc cX0_about 7 (.iload_n 2) 1 8 := by decide +kernel
theorem dX0_about_8 : eb_dc cX0_about 8 (.iconst 0) 1 9 := by decide +kernel
theorem dX0_about_9 : eb_dc cX0_about 9 (.iconst 2) 1 10 := by decide +kernel
theorem dX0_about_10 : eb_dc cX0_about 10 (.invokestatic 26) 3 13 := by decide +kernel
theorem dX0_about_13 : eb_dj cX0_about 13 (.ifCond .eq 17) 17 16 30 := by decide +kernel
theorem dX0_about_16 : eb_dc cX0_about 16 (.iload_n 2) 1 17 := by decide +kernel
theorem dX0_about_17 : eb_dc cX0_about 17 (.iconst 2) 1 18 := by decide +kernel
theorem dX0_about_18 : eb_dj cX0_about 18 (.if_icmp .ne 15) 15 21 33 := by decide +kernel
theorem dX0_about_21 : eb_dc cX0_about 21 (.aload_n 0) 1 22 := by decide +kernel
theorem dX0_about_22 : eb_dc cX0_about 22 (.iload_n 1) 1 23 := by decide +kernel
theorem dX0_about_23 : eb_dc cX0_about 23 (.iload_n 3) 1 24 := by decide +kernel
theorem dX0_about_24 : eb_dc cX0_about 24 (.invokevirtual 38) 3 27 := by decide +kernel
theorem dX0_about_27 : eb_dj cX0_about 27 (.ifCond .ne 6) 6 30 33 := by decide +kernel
theorem dX0_about_30 : eb_dc cX0_about 30 (.bipush (-2)) 2 32 := by decide +kernel
theorem dX0_about_32 : eb_dc cX0_about 32 (.ireturn) 1 33 := by decide +kernel
theorem dX0_about_33 : eb_dc cX0_about 33 (.iload_n 2) 1 34 := by decide +kernel
theorem dX0_about_34 : eb_dj cX0_about 34 (.ifCond .ne 15) 15 37 49 := by decide +kernel
theorem dX0_about_37 : eb_dc cX0_about 37 (.aload_n 0) 1 38 := by decide +kernel
theorem dX0_about_38 : eb_dc cX0_about 38 (.getfield 15) 3 41 := by decide +kernel
theorem dX0_about_41 : eb_dc cX0_about 41 (.iload_n 1) 1 42 := by decide +kernel
theorem dX0_about_42 : eb_dc cX0_about 42 (.aaload) 1 43 := by decide +kernel
theorem dX0_about_43 : eb_dc cX0_about 43 (.getfield 34) 3 46 := by decide +kernel
theorem dX0_about_46 : eb_dj cX0_about 46 (.goto 30) 30 49 76 := by decide +kernel
theorem dX0_about_49 : eb_dc cX0_about 49 (.iload_n 2) 1 50 := by decide +kernel
theorem dX0_about_50 : eb_dc cX0_about 50 (.iconst 1) 1 51 := by decide +kernel
theorem dX0_about_51 : eb_dj cX0_about 51 (.if_icmp .ne 15) 15 54 66 := by decide +kernel
theorem dX0_about_54 : eb_dc cX0_about 54 (.aload_n 0) 1 55 := by decide +kernel
theorem dX0_about_55 : eb_dc cX0_about 55 (.getfield 15) 3 58 := by decide +kernel
theorem dX0_about_58 : eb_dc cX0_about 58 (.iload_n 1) 1 59 := by decide +kernel
theorem dX0_about_59 : eb_dc cX0_about 59 (.aaload) 1 60 := by decide +kernel
theorem dX0_about_60 : eb_dc cX0_about 60 (.getfield 50) 3 63 := by decide +kernel
theorem dX0_about_63 : eb_dj cX0_about 63 (.goto 13) 13 66 76 := by decide +kernel
theorem dX0_about_66 : eb_dc cX0_about 66 (.aload_n 0) 1 67 := by decide +kernel
theorem dX0_about_67 : eb_dc cX0_about 67 (.getfield 15) 3 70 := by decide +kernel
theorem dX0_about_70 : eb_dc cX0_about 70 (.iload_n 1) 1 71 := by decide +kernel
theorem dX0_about_71 : eb_dc cX0_about 71 (.aaload) 1 72 := by decide +kernel
theorem dX0_about_72 : eb_dc cX0_about 72 (.iload_n 3) 1 73 := by decide +kernel
theorem dX0_about_73 : eb_dc cX0_about 73 (.invokevirtual 63) 3 76 := by decide +kernel
theorem dX0_about_76 : eb_dc cX0_about 76 (.ireturn) 1 77 := by decide +kernel
theorem ctX0_about {l : Launch} {Γ : eb_C} {st : eb_S} {a0 : Nat} {a1 : Int32} {a2 : Int32} {a3 : Int32} {K : Int32 → Prop} (h : MX0_about Γ st a0 a1 a2 a3 K) : eb_Ct l Γ yX0_about cX0_about 4 (some .int) rmX0_about [.ref a0, .int a1, .int a2, .int a3] st (eb_pI st K) := by
  refine eb_of (by decide) (Nat.le_of_ble_eq_true rfl) (fun X P hP hX0 => ?_)
  show eb_G l Γ P X cX0_about RX0 4 (some .int) rmX0_about 0 [(0, .ref a0), (1, .int a1), (2, .int a2), (3, .int a3)] [] st 0 0
  refine eg_iload_n 1 dX0_about_0 rfl rfl ?_
  have hM0 := h
  clear h
  refine ec_SIp (rest := []) (ctX0_isBody hM0) (lw_S q182 q183 q74 q184) nX0_isBody ⟨Nat.le_of_ble_eq_true rfl, Nat.le_of_ble_eq_true rfl⟩ ⟨rfl, rfl⟩ ⟨Nat.zero_le _, Nat.zero_le _⟩ rfl rfl (Nat.le_of_ble_eq_true rfl) dX0_about_1 (fun v1 h => ?_)
  clear hM0
  refine eg_if_eq dX0_about_4 (fun c37 => ?_) (fun c37 => ?_)
  · replace h := h.1 c37
    refine eg_bipush dX0_about_30 kb_m2 ?_
    exact eg_iret dX0_about_32 (Nat.zero_le _) (Nat.zero_le _) (hP _ _ ⟨_, rfl, rfl, h⟩)
  · replace h := h.2 c37
    refine eg_iload_n 2 dX0_about_7 rfl rfl ?_
    refine eg_iconst dX0_about_8 kc_0 ?_
    refine eg_iconst dX0_about_9 kc_2 ?_
    have hM0 := h
    clear h
    refine ec_SIp (rest := []) (ctX0_in hM0) (lw_S q185 q186 q74 q187) nX0_in ⟨Nat.le_of_ble_eq_true rfl, Nat.le_of_ble_eq_true rfl⟩ ⟨rfl, rfl⟩ ⟨Nat.zero_le _, Nat.zero_le _⟩ rfl rfl (Nat.le_of_ble_eq_true rfl) dX0_about_10 (fun v5 h => ?_)
    clear hM0
    refine eg_if_eq dX0_about_13 (fun c36 => ?_) (fun c36 => ?_)
    · replace h := h.1 c36
      refine eg_bipush dX0_about_30 kb_m2 ?_
      exact eg_iret dX0_about_32 (Nat.zero_le _) (Nat.zero_le _) (hP _ _ ⟨_, rfl, rfl, h⟩)
    · replace h := h.2 c36
      refine eg_iload_n 2 dX0_about_16 rfl rfl ?_
      refine eg_iconst dX0_about_17 kc_2 ?_
      refine eb_jp0_e (J := eb_G l Γ P X cX0_about RX0 4 (some .int) rmX0_about 33 [(0, .ref a0), (1, .int a1), (2, .int a2), (3, .int a3)] [] st 0 0) h ?_ ?_
      · clear h
        intro  h
        refine eg_iload_n 2 dX0_about_33 rfl rfl ?_
        refine eg_if_ne dX0_about_34 (fun c28 => ?_) (fun c28 => ?_)
        · replace h := h.2 c28
          refine eg_iload_n 2 dX0_about_49 rfl rfl ?_
          refine eg_iconst dX0_about_50 kc_1 ?_
          refine eg_icmp_ne dX0_about_51 (fun c22 => ?_) (fun c22 => ?_)
          · replace h := h.2 c22
            refine eg_aload_n 0 dX0_about_66 rfl rfl ?_
            obtain ⟨fs, v9, he, hv, h⟩ := h
            refine eg_get 0 in_X0 he rfl (Nat.le_of_ble_eq_true rfl) q159 rfl hv dX0_about_67 ?_
            refine eg_iload_n 1 dX0_about_70 rfl rfl ?_
            obtain ⟨p10, rfl, h⟩ := h
            obtain ⟨nA, fA, he, hb, h⟩ := h
            refine eg_aald (t := 7) (ty := .object "EvenBodies$Body") rfl rfl he hb dX0_about_71 (fun v11 ev11 => ?_)
            replace h := h v11 ev11
            refine eg_iload_n 3 dX0_about_72 rfl rfl ?_
            obtain ⟨p12, rfl, h⟩ := h
            obtain ⟨hcs, h⟩ := h
            have hM0 := h
            clear h
            refine ec_VIp (rest := []) (ctX1_joined hM0) (lw_V q229 q230 q231 q75 q232) rfl rfl hcs nX1_joined ⟨Nat.le_of_ble_eq_true rfl, Nat.le_of_ble_eq_true rfl⟩ ⟨rfl, rfl⟩ ⟨Nat.zero_le _, Nat.zero_le _⟩ rfl rfl (Nat.le_of_ble_eq_true rfl) dX0_about_73 (fun v13 h => ?_)
            clear hM0
            exact eg_iret dX0_about_76 (Nat.zero_le _) (Nat.zero_le _) (hP _ _ ⟨_, rfl, rfl, h⟩)
          · replace h := h.1 c22
            refine eg_aload_n 0 dX0_about_54 rfl rfl ?_
            obtain ⟨fs, v17, he, hv, h⟩ := h
            refine eg_get 0 in_X0 he rfl (Nat.le_of_ble_eq_true rfl) q159 rfl hv dX0_about_55 ?_
            refine eg_iload_n 1 dX0_about_58 rfl rfl ?_
            obtain ⟨p18, rfl, h⟩ := h
            obtain ⟨nA, fA, he, hb, h⟩ := h
            refine eg_aald (t := 7) (ty := .object "EvenBodies$Body") rfl rfl he hb dX0_about_59 (fun v19 ev19 => ?_)
            replace h := h v19 ev19
            obtain ⟨p20, rfl, h⟩ := h
            obtain ⟨fs, v21, he, hv, h⟩ := h
            refine eg_getN 2 in_X1 he rfl (Nat.le_of_ble_eq_true rfl) (List.mem_of_getElem? (i := 3) rfl) rfl hv dX0_about_60 ?_
            refine eg_goto dX0_about_63 ?_
            exact eg_iret dX0_about_76 (Nat.zero_le _) (Nat.zero_le _) (hP _ _ ⟨_, rfl, rfl, h⟩)
        · replace h := h.1 c28
          refine eg_aload_n 0 dX0_about_37 rfl rfl ?_
          obtain ⟨fs, v23, he, hv, h⟩ := h
          refine eg_get 0 in_X0 he rfl (Nat.le_of_ble_eq_true rfl) q159 rfl hv dX0_about_38 ?_
          refine eg_iload_n 1 dX0_about_41 rfl rfl ?_
          obtain ⟨p24, rfl, h⟩ := h
          obtain ⟨nA, fA, he, hb, h⟩ := h
          refine eg_aald (t := 7) (ty := .object "EvenBodies$Body") rfl rfl he hb dX0_about_42 (fun v25 ev25 => ?_)
          replace h := h v25 ev25
          obtain ⟨p26, rfl, h⟩ := h
          obtain ⟨fs, v27, he, hv, h⟩ := h
          refine eg_getN 0 in_X1 he rfl (Nat.le_of_ble_eq_true rfl) (List.mem_of_getElem? (i := 1) rfl) rfl hv dX0_about_43 ?_
          refine eg_goto dX0_about_46 ?_
          exact eg_iret dX0_about_76 (Nat.zero_le _) (Nat.zero_le _) (hP _ _ ⟨_, rfl, rfl, h⟩)
      · clear h
        intro k29 hk29 h
        refine eg_icmp_ne dX0_about_18 (fun c35 => ?_) (fun c35 => ?_)
        · replace h := h.2 c35
          exact hk29 h
        · replace h := h.1 c35
          refine eg_aload_n 0 dX0_about_21 rfl rfl ?_
          refine eg_iload_n 1 dX0_about_22 rfl rfl ?_
          refine eg_iload_n 3 dX0_about_23 rfl rfl ?_
          obtain ⟨hcs, h⟩ := h
          have hM0 := h
          clear h
          refine ec_VIp (rest := []) (ctX0_isMirror hM0) (lw_V q192 q194 qs0 q74 q195) rfl rfl hcs nX0_isMirror ⟨Nat.le_of_ble_eq_true rfl, Nat.le_of_ble_eq_true rfl⟩ ⟨rfl, rfl⟩ ⟨Nat.zero_le _, Nat.zero_le _⟩ rfl rfl (Nat.le_of_ble_eq_true rfl) dX0_about_24 (fun v30 h => ?_)
          clear hM0
          refine eg_if_ne dX0_about_27 (fun c34 => ?_) (fun c34 => ?_)
          · replace h := h.2 c34
            exact hk29 h
          · replace h := h.1 c34
            refine eg_bipush dX0_about_30 kb_m2 ?_
            exact eg_iret dX0_about_32 (Nat.zero_le _) (Nat.zero_le _) (hP _ _ ⟨_, rfl, rfl, h⟩)
def MX1_reached (Γ : eb_C) (st : eb_S) (a0 : Nat) (a1 : Int32) (a2 : Int32) (K : Int32 → Prop) : Prop :=
  eb_loop2 (fun r3 (x3_1 : Int32) (x4_2 : Int32) => eb_br (x3_1 = x4_2) (K x3_1) (eb_jp1 (fun (x3_4 : Int32) => r3 x3_4 x3_1) (fun k5 => eb_loop2 (fun r8 (x3_6 : Int32) (x5_7 : Int32) => eb_gi st a0 1 0 (fun v9 => eb_br (v9 ≤ x5_7) (k5 x3_6) (eb_jp1 (fun (s10 : Int32) => r8 (x3_6 ||| s10) (x5_7 + 1)) (fun k11 => eb_br (((eb_shr x3_1 x5_7) &&& 1) = 1) (eb_cs st a0 [1] ∧ MX1_joined Γ st a0 x5_7 (fun v12 => k11 (v12 &&& a2))) (k11 0))))) x3_1 0))) (a1 &&& a2) (-1)
abbrev rmX1_reached : Room := { frames := 3, cells := 0, slots := 0, locals := 57 }
theorem nX1_reached : eb_ar yX1_reached 2 := by decide +kernel
theorem dX1_reached_0 : eb_dc cX1_reached 0 (.iload_n 1) 1 1 := by decide +kernel
theorem dX1_reached_1 : eb_dc cX1_reached 1 (.iload_n 2) 1 2 := by decide +kernel
theorem dX1_reached_2 : eb_dc cX1_reached 2 (.iand) 1 3 := by decide +kernel
theorem dX1_reached_3 : eb_dc cX1_reached 3 (.istore_n 3) 1 4 := by decide +kernel
theorem dX1_reached_4 : eb_dc cX1_reached 4 (.iconst (-1)) 1 5 := by decide +kernel
theorem dX1_reached_5 : eb_dc cX1_reached 5 (.istore 4) 2 7 := by decide +kernel
theorem dX1_reached_7 : eb_dc cX1_reached 7 (.iload_n 3) 1 8 := by decide +kernel
theorem dX1_reached_8 : eb_dc cX1_reached 8 (.iload 4) 2 10 := by decide +kernel
theorem dX1_reached_10 : eb_dj cX1_reached 10 (.if_icmp .eq 53) 53 13 63 := by decide +kernel
theorem dX1_reached_13 : eb_dc cX1_reached 13 (.iload_n 3) 1 14 := by decide +kernel
theorem dX1_reached_14 : eb_dc cX1_reached 14 (.istore 4) 2 16 := by decide +kernel
theorem dX1_reached_16 : eb_dc cX1_reached 16 (.iconst 0) 1 17 := by decide +kernel
theorem dX1_reached_17 : eb_dc cX1_reached 17 (.istore 5) 2 19 := by decide +kernel
theorem dX1_reached_19 : eb_dc cX1_reached 19 (.iload 5) 2 21 := by decide +kernel
theorem dX1_reached_21 : eb_dc cX1_reached 21 (.aload_n 0) 1 22 := by decide +kernel
theorem dX1_reached_22 : eb_dc cX1_reached 22 (.getfield 28) 3 25 := by decide +kernel
theorem dX1_reached_25 : eb_dj cX1_reached 25 (.if_icmp .ge 35) 35 28 60 := by decide +kernel
theorem dX1_reached_28 : eb_dc cX1_reached 28 (.iload_n 3) 1 29 := by decide +kernel
theorem dX1_reached_29 : eb_dc cX1_reached 29 (.iload 4) 2 31 := by decide +kernel
theorem dX1_reached_31 : eb_dc cX1_reached 31 (.iload 5) 2 33 := by decide +kernel
theorem dX1_reached_33 : eb_dc cX1_reached 33 (.ishr) 1 34 := by decide +kernel
theorem dX1_reached_34 : eb_dc cX1_reached 34 (.iconst 1) 1 35 := by decide +kernel
theorem dX1_reached_35 : eb_dc cX1_reached 35 (.iand) 1 36 := by decide +kernel
theorem dX1_reached_36 : eb_dc cX1_reached 36 (.iconst 1) 1 37 := by decide +kernel
theorem dX1_reached_37 : eb_dj cX1_reached 37 (.if_icmp .ne 14) 14 40 51 := by decide +kernel
theorem dX1_reached_40 : eb_dc cX1_reached 40 (.aload_n 0) 1 41 := by decide +kernel
theorem dX1_reached_41 : eb_dc cX1_reached 41 (.iload 5) 2 43 := by decide +kernel
theorem dX1_reached_43 : eb_dc cX1_reached 43 (.invokevirtual 68) 3 46 := by decide +kernel
theorem dX1_reached_46 : eb_dc cX1_reached 46 (.iload_n 2) 1 47 := by decide +kernel
theorem dX1_reached_47 : eb_dc cX1_reached 47 (.iand) 1 48 := by decide +kernel
theorem dX1_reached_48 : eb_dj cX1_reached 48 (.goto 4) 4 51 52 := by decide +kernel
theorem dX1_reached_51 : eb_dc cX1_reached 51 (.iconst 0) 1 52 := by decide +kernel
theorem dX1_reached_52 : eb_dc cX1_reached 52 (.ior) 1 53 := by decide +kernel
theorem dX1_reached_53 : eb_dc cX1_reached 53 (.istore_n 3) 1 54 := by decide +kernel
theorem dX1_reached_54 : eb_dc cX1_reached 54 (.iinc 5 1) 3 57 := by decide +kernel
theorem dX1_reached_57 : eb_dj cX1_reached 57 (.goto (-38)) (-38) 60 19 := by decide +kernel
theorem dX1_reached_60 : eb_dj cX1_reached 60 (.goto (-53)) (-53) 63 7 := by decide +kernel
theorem dX1_reached_63 : eb_dc cX1_reached 63 (.iload_n 3) 1 64 := by decide +kernel
theorem dX1_reached_64 : eb_dc cX1_reached 64 (.ireturn) 1 65 := by decide +kernel
theorem ctX1_reached {l : Launch} {Γ : eb_C} {st : eb_S} {a0 : Nat} {a1 : Int32} {a2 : Int32} {K : Int32 → Prop} (h : MX1_reached Γ st a0 a1 a2 K) : eb_Ct l Γ yX1_reached cX1_reached 6 (some .int) rmX1_reached [.ref a0, .int a1, .int a2] st (eb_pI st K) := by
  refine eb_of (by decide) (Nat.le_of_ble_eq_true rfl) (fun X P hP hX0 => ?_)
  show eb_G l Γ P X cX1_reached RX1 6 (some .int) rmX1_reached 0 [(0, .ref a0), (1, .int a1), (2, .int a2)] [] st 0 0
  refine eg_iload_n 1 dX1_reached_0 rfl rfl ?_
  refine eg_iload_n 2 dX1_reached_1 rfl rfl ?_
  refine eg_iand dX1_reached_2 ?_
  refine eg_istore_n (lv' := [(3, .int (a1 &&& a2)), (0, .ref a0), (1, .int a1), (2, .int a2)]) dX1_reached_3 rfl (Nat.le_of_ble_eq_true rfl) rfl ?_
  refine eg_iconst dX1_reached_4 kc_m1 ?_
  refine eg_istore (lv' := [(4, .int (-1)), (3, .int (a1 &&& a2)), (0, .ref a0), (1, .int a1), (2, .int a2)]) dX1_reached_5 (Nat.le_of_ble_eq_true rfl) rfl ?_
  refine eg_sub [2, 4, 1, 0] rfl ?_
  refine eb_loop2_e (J := fun (x3_1 : Int32) (x4_2 : Int32) => eb_G l Γ P X cX1_reached RX1 6 (some .int) rmX1_reached 7 [(0, .ref a0), (2, .int a2), (3, .int x3_1), (4, .int x4_2)] [] st 0 0) h ?_
  clear h
  intro r3 hr3 x3_1 x4_2 h
  refine eg_iload_n 2 dX1_reached_7 rfl rfl ?_
  refine eg_iload 3 dX1_reached_8 rfl ?_
  refine eg_icmp_eq dX1_reached_10 (fun c18 => ?_) (fun c18 => ?_)
  · replace h := h.1 c18
    refine eg_iload_n 2 dX1_reached_63 rfl rfl ?_
    exact eg_iret dX1_reached_64 (Nat.zero_le _) (Nat.zero_le _) (hP _ _ ⟨_, rfl, rfl, h⟩)
  · replace h := h.2 c18
    refine eg_iload_n 2 dX1_reached_13 rfl rfl ?_
    refine eg_istore (lv' := [(4, .int x3_1), (0, .ref a0), (2, .int a2), (3, .int x3_1)]) dX1_reached_14 (Nat.le_of_ble_eq_true rfl) rfl ?_
    refine eg_iconst dX1_reached_16 kc_0 ?_
    refine eg_istore (lv' := [(5, .int 0), (4, .int x3_1), (0, .ref a0), (2, .int a2), (3, .int x3_1)]) dX1_reached_17 (Nat.le_of_ble_eq_true rfl) rfl ?_
    refine eb_jp1_e (J := fun (x3_4 : Int32) => eb_G l Γ P X cX1_reached RX1 6 (some .int) rmX1_reached 60 [(0, .ref a0), (2, .int a2), (3, .int x3_4), (4, .int x3_1)] [] st 0 0) h ?_ ?_
    · clear h
      intro x3_4 h
      refine eg_goto dX1_reached_60 ?_
      exact hr3 x3_4 x3_1 h
    · clear h
      intro k5 hk5 h
      refine eg_sub [2, 3, 4, 1, 0] rfl ?_
      refine eb_loop2_e (J := fun (x3_6 : Int32) (x5_7 : Int32) => eb_G l Γ P X cX1_reached RX1 6 (some .int) rmX1_reached 19 [(0, .ref a0), (2, .int a2), (3, .int x3_6), (4, .int x3_1), (5, .int x5_7)] [] st 0 0) h ?_
      clear h
      intro r8 hr8 x3_6 x5_7 h
      refine eg_iload 4 dX1_reached_19 rfl ?_
      refine eg_aload_n 0 dX1_reached_21 rfl rfl ?_
      obtain ⟨fs, v9, he, hv, h⟩ := h
      refine eg_get 0 in_X1 he rfl (Nat.le_of_ble_eq_true rfl) q120 rfl hv dX1_reached_22 ?_
      refine eg_icmp_ge dX1_reached_25 (fun c17 => ?_) (fun c17 => ?_)
      · replace h := h.1 c17
        exact eg_sub [0, 1, 2, 3] rfl (hk5 x3_6 h)
      · replace h := h.2 c17
        refine eg_iload_n 2 dX1_reached_28 rfl rfl ?_
        refine eg_iload 3 dX1_reached_29 rfl ?_
        refine eg_iload 4 dX1_reached_31 rfl ?_
        refine eg_ishr dX1_reached_33 ?_
        refine eg_iconst dX1_reached_34 kc_1 ?_
        refine eg_iand dX1_reached_35 ?_
        refine eg_iconst dX1_reached_36 kc_1 ?_
        refine eb_jp1_e (J := fun (s10 : Int32) => eb_G l Γ P X cX1_reached RX1 6 (some .int) rmX1_reached 52 [(0, .ref a0), (2, .int a2), (4, .int x3_1), (5, .int x5_7)] [.int s10, .int x3_6] st 0 0) h ?_ ?_
        · clear h
          intro s10 h
          refine eg_ior dX1_reached_52 ?_
          refine eg_istore_n (lv' := [(3, .int (x3_6 ||| s10)), (0, .ref a0), (2, .int a2), (4, .int x3_1), (5, .int x5_7)]) dX1_reached_53 rfl (Nat.le_of_ble_eq_true rfl) rfl ?_
          refine eg_iinc (j := 4) (lv' := [(5, .int (x5_7 + 1)), (3, .int (x3_6 ||| s10)), (0, .ref a0), (2, .int a2), (4, .int x3_1)]) dX1_reached_54 rfl (by rw [kc_1]) (Nat.le_of_ble_eq_true rfl) rfl ?_
          refine eg_goto dX1_reached_57 ?_
          exact eg_sub [2, 3, 1, 4, 0] rfl (hr8 (x3_6 ||| s10) (x5_7 + 1) h)
        · clear h
          intro k11 hk11 h
          refine eg_icmp_ne dX1_reached_37 (fun c16 => ?_) (fun c16 => ?_)
          · replace h := h.2 c16
            refine eg_iconst dX1_reached_51 kc_0 ?_
            exact eg_sub [0, 1, 3, 4] rfl (hk11 0 h)
          · replace h := h.1 c16
            refine eg_aload_n 0 dX1_reached_40 rfl rfl ?_
            refine eg_iload 4 dX1_reached_41 rfl ?_
            obtain ⟨hcs, h⟩ := h
            have hM0 := h
            clear h
            refine ec_VIp (rest := [.int x3_6]) (ctX1_joined hM0) (lw_V q253 q230 q231 q75 q232) rfl rfl hcs nX1_joined ⟨Nat.le_of_ble_eq_true rfl, Nat.le_of_ble_eq_true rfl⟩ ⟨rfl, rfl⟩ ⟨Nat.zero_le _, Nat.zero_le _⟩ rfl rfl (Nat.le_of_ble_eq_true rfl) dX1_reached_43 (fun v12 h => ?_)
            clear hM0
            refine eg_iload_n 1 dX1_reached_46 rfl rfl ?_
            refine eg_iand dX1_reached_47 ?_
            refine eg_goto dX1_reached_48 ?_
            exact eg_sub [0, 1, 3, 4] rfl (hk11 (v12 &&& a2) h)
def MX3_of (Γ : eb_C) (bc bs : Nat) (st : eb_S) (a0 : Nat) (a1 : Int32) (K : Option Nat → eb_S → Prop) : Prop :=
  MJ1_bitCount a1 (fun v1 => eb_br (v1 = 1) (eb_mk st (.inr (3, [.int 0])) 1 bc bs 0 0 (fun p88 g89 => MX4_init Γ g89 p88 1 (fun g91 => K (some p88) g91))) (eb_jp3 (fun (x3_5 : Int32) (x5_6 : Int32) (x6_7 : Int32) => eb_br (x5_6 = (2 * (v1 - 1))) (eb_br (x6_7 = (-1)) (eb_ok1 (v1 - 1) ∧ (eb_mk st (eb_ia Γ 0 ((v1 - 1).toNatClampNeg) (fun _ => 0)) ((v1 - 1).toNatClampNeg) bc bs 0 0 (fun p8 g9 => eb_jp1 (fun (g10 : eb_S) => eb_br (v1 = 2) (eb_mk g10 (.inr (3, [.int 0])) 1 bc bs (0 + 1) ((0 + ((v1 - 1).toNatClampNeg))) (fun p17 g18 => eb_li Γ g18 p8 0 0 (fun v19 => MX4_init Γ g18 p17 v19 (fun g21 => K (some p17) g21)))) (eb_mk g10 (.inr (6, [.null])) 1 bc bs (0 + 1) ((0 + ((v1 - 1).toNatClampNeg))) (fun p11 g12 => MX7_init Γ g12 p11 p8 (fun g14 => K (some p11) g14)))) (fun k25 => eb_loop4 (fun r30 (x8_26 : Int32) (x9_27 : Int32) (x10_28 : Int32) (g29 : eb_S) => eb_br ((v1 - 1) ≤ x10_28) (k25 g29) (eb_cs g29 a0 [1] ∧ MX1_joined Γ g29 a0 x8_26 (fun v31 => MJ1_numberOfTrailingZeros (((v31 &&& a1) &&& ((x9_27 ||| (eb_shl 1 x8_26)) ^^^ (-1)))) (fun v35 => eb_cs g29 a0 [1] ∧ MX1_angle Γ g29 a0 x8_26 v35 (fun v39 => eb_wi Γ g29 p8 0 x10_28 v39 (fun g43 => r30 v35 ((x9_27 ||| (eb_shl 1 x8_26))) (x10_28 + 1) g43)))))) x3_5 0 0 g9)))) (eb_mk st (.inr (5, [.int 0])) 1 bc bs 0 0 (fun p45 g46 => MX6_init Γ g46 p45 a0 x6_7 (fun g48 => K (some p45) g48)))) (eb_mk st (.inr (4, [])) 0 bc bs 0 0 (fun p52 g53 => MX5_init Γ g53 p52 (fun g55 => K (some p52) g55)))) (fun k59 => eb_loop5 (fun r65 (x3_60 : Int32) (x4_61 : Int32) (x5_62 : Int32) (x6_63 : Int32) (x7_64 : Int32) => eb_br (4 ≤ x7_64) (k59 x3_60 x5_62 x6_63) (eb_jp4 (fun (x3_66 : Int32) (x4_67 : Int32) (x5_68 : Int32) (x6_69 : Int32) => r65 x3_66 x4_67 x5_68 x6_69 (x7_64 + 1)) (fun k70 => eb_br (((eb_shr a1 x7_64) &&& 1) = 1) (eb_cs st a0 [1] ∧ MX1_joined Γ st a0 x7_64 (fun v71 => MJ1_bitCount (v71 &&& a1) (fun v75 => eb_jp1 (fun (s79 : Int32) => eb_br (v75 = 1) (eb_jp1 (fun (s80 : Int32) => k70 s80 (x4_61 + 1) (x5_62 + v75) s79) (fun k81 => eb_br (x3_60 = (-1)) (k81 x7_64) (k81 x3_60))) (k70 x3_60 x4_61 (x5_62 + v75) s79)) (fun k84 => eb_br (v75 = 3) (k84 x7_64) (k84 x6_63))))) (k70 x3_60 x4_61 x5_62 x6_63)))) (-1) 0 0 (-1) 0)))
abbrev rmX3_of (bc bs : Nat) : Room := { frames := 4, cells := bc, slots := bs, locals := 84 }
theorem nX3_of : eb_ar yX3_of 2 := by decide +kernel
theorem dX3_of_0 : eb_dc cX3_of 0 (.iload_n 1) 1 1 := by decide +kernel
theorem dX3_of_1 : eb_dc cX3_of 1 (.invokestatic 9) 3 4 := by decide +kernel
theorem dX3_of_4 : eb_dc cX3_of 4 (.istore_n 2) 1 5 := by decide +kernel
theorem dX3_of_5 : eb_dc cX3_of 5 (.iload_n 2) 1 6 := by decide +kernel
theorem dX3_of_6 : eb_dc cX3_of 6 (.iconst 1) 1 7 := by decide +kernel
theorem dX3_of_7 : eb_dj cX3_of 7 (.if_icmp .ne 12) 12 10 19 := by decide +kernel
theorem dX3_of_10 : eb_dc cX3_of 10 (.new 15) 3 13 := by decide +kernel
theorem dX3_of_13 : eb_dc cX3_of 13 (.dup) 1 14 := by decide +kernel
theorem dX3_of_14 : eb_dc cX3_of 14 (.iconst 1) 1 15 := by decide +kernel
theorem dX3_of_15 : eb_dc cX3_of 15 (.invokespecial 17) 3 18 := by decide +kernel
theorem dX3_of_18 : eb_dc cX3_of 18 (.areturn) 1 19 := by decide +kernel
theorem dX3_of_19 : eb_dc cX3_of 19 (.iconst (-1)) 1 20 := by decide +kernel
theorem dX3_of_20 : eb_dc cX3_of 20 (.istore_n 3) 1 21 := by decide +kernel
theorem dX3_of_21 : eb_dc cX3_of 21 (.iconst 0) 1 22 := by decide +kernel
theorem dX3_of_22 : eb_dc cX3_of 22 (.istore 4) 2 24 := by decide +kernel
theorem dX3_of_24 : eb_dc cX3_of 24 (.iconst 0) 1 25 := by decide +kernel
theorem dX3_of_25 : eb_dc cX3_of 25 (.istore 5) 2 27 := by decide +kernel
theorem dX3_of_27 : eb_dc cX3_of 27 (.iconst (-1)) 1 28 := by decide +kernel
theorem dX3_of_28 : eb_dc cX3_of 28 (.istore 6) 2 30 := by decide +kernel
theorem dX3_of_30 : eb_dc cX3_of 30 (.iconst 0) 1 31 := by decide +kernel
theorem dX3_of_31 : eb_dc cX3_of 31 (.istore 7) 2 33 := by decide +kernel
theorem dX3_of_33 : eb_dc cX3_of 33 (.iload 7) 2 35 := by decide +kernel
theorem dX3_of_35 : eb_dc cX3_of 35 (.iconst 4) 1 36 := by decide +kernel
theorem dX3_of_36 : eb_dj cX3_of 36 (.if_icmp .ge 75) 75 39 111 := by decide +kernel
theorem dX3_of_39 : eb_dc cX3_of 39 (.iload_n 1) 1 40 := by decide +kernel
theorem dX3_of_40 : eb_dc cX3_of 40 (.iload 7) 2 42 := by decide +kernel
theorem dX3_of_42 : eb_dc cX3_of 42 (.ishr) 1 43 := by decide +kernel
theorem dX3_of_43 : eb_dc cX3_of 43 (.iconst 1) 1 44 := by decide +kernel
theorem dX3_of_44 : eb_dc cX3_of 44 (.iand) 1 45 := by decide +kernel
theorem dX3_of_45 : eb_dc cX3_of 45 (.iconst 1) 1 46 := by decide +kernel
theorem dX3_of_46 : eb_dj cX3_of 46 (.if_icmp .ne 59) 59 49 105 := by decide +kernel
theorem dX3_of_49 : eb_dc cX3_of 49 (.aload_n 0) 1 50 := by decide +kernel
theorem dX3_of_50 : eb_dc cX3_of 50 (.iload 7) 2 52 := by decide +kernel
theorem dX3_of_52 : eb_dc cX3_of 52 (.invokevirtual 20) 3 55 := by decide +kernel
theorem dX3_of_55 : eb_dc cX3_of 55 (.iload_n 1) 1 56 := by decide +kernel
theorem dX3_of_56 : eb_dc cX3_of 56 (.iand) 1 57 := by decide +kernel
theorem dX3_of_57 : eb_dc cX3_of 57 (.invokestatic 9) 3 60 := by decide +kernel
theorem dX3_of_60 : eb_dc cX3_of 60 (.istore 8) 2 62 := by decide +kernel
theorem dX3_of_62 : eb_dc cX3_of 62 (.iload 5) 2 64 := by decide +kernel
theorem dX3_of_64 : eb_dc cX3_of 64 (.iload 8) 2 66 := by decide +kernel
theorem dX3_of_66 : eb_dc cX3_of 66 (.iadd) 1 67 := by decide +kernel
theorem dX3_of_67 : eb_dc cX3_of 67 (.istore 5) 2 69 := by decide +kernel
theorem dX3_of_69 : eb_dc cX3_of 69 (.iload 8) 2 71 := by decide +kernel
theorem dX3_of_71 : eb_dc cX3_of 71 (.iconst 3) 1 72 := by decide +kernel
theorem dX3_of_72 : eb_dj cX3_of 72 (.if_icmp .ne 8) 8 75 80 := by decide +kernel
theorem dX3_of_75 : eb_dc cX3_of 75 (.iload 7) 2 77 := by decide +kernel
theorem dX3_of_77 : eb_dj cX3_of 77 (.goto 5) 5 80 82 := by decide +kernel
theorem dX3_of_80 : eb_dc cX3_of 80 (.iload 6) 2 82 := by decide +kernel
theorem dX3_of_82 : eb_dc cX3_of 82 (.istore 6) 2 84 := by decide +kernel
theorem dX3_of_84 : eb_dc cX3_of 84 (.iload 8) 2 86 := by decide +kernel
theorem dX3_of_86 : eb_dc cX3_of 86 (.iconst 1) 1 87 := by decide +kernel
theorem dX3_of_87 : eb_dj cX3_of 87 (.if_icmp .ne 18) 18 90 105 := by decide +kernel
theorem dX3_of_90 : eb_dc cX3_of 90 (.iload_n 3) 1 91 := by decide +kernel
theorem dX3_of_91 : eb_dc cX3_of 91 (.iconst (-1)) 1 92 := by decide +kernel
theorem dX3_of_92 : eb_dj cX3_of 92 (.if_icmp .ne 8) 8 95 100 := by decide +kernel
theorem dX3_of_95 : eb_dc cX3_of 95 (.iload 7) 2 97 := by decide +kernel
theorem dX3_of_97 : eb_dj cX3_of 97 (.goto 4) 4 100 101 := by decide +kernel
theorem dX3_of_100 : eb_dc cX3_of 100 (.iload_n 3) 1 101 := by decide +kernel
theorem dX3_of_101 : eb_dc cX3_of 101 (.istore_n 3) 1 102 := by decide +kernel
theorem dX3_of_102 : eb_dc cX3_of 102 (.iinc 4 1) 3 105 := by decide +kernel
theorem dX3_of_105 : eb_dc cX3_of 105 (.iinc 7 1) 3 108 := by decide +kernel
theorem dX3_of_108 : eb_dj cX3_of 108 (.goto (-75)) (-75) 111 33 := by decide +kernel
theorem dX3_of_111 : eb_dc cX3_of 111 (.iload 5) 2 113 := by decide +kernel
theorem dX3_of_113 : eb_dc cX3_of 113 (.iconst 2) 1 114 := by decide +kernel
theorem dX3_of_114 : eb_dc cX3_of 114 (.iload_n 2) 1 115 := by decide +kernel
theorem dX3_of_115 : eb_dc cX3_of 115 (.iconst 1) 1 116 := by decide +kernel
theorem dX3_of_116 : eb_dc cX3_of 116 (.isub) 1 117 := by decide +kernel
theorem dX3_of_117 : eb_dc cX3_of 117 (.imul) 1 118 := by decide +kernel
theorem dX3_of_118 : eb_dj cX3_of 118 (.if_icmp .eq 11) 11 121 129 := by decide +kernel
theorem dX3_of_121 : eb_dc cX3_of 121 (.new 25) 3 124 := by decide +kernel
theorem dX3_of_124 : eb_dc cX3_of 124 (.dup) 1 125 := by decide +kernel
theorem dX3_of_125 : eb_dc cX3_of 125 (.invokespecial 27) 3 128 := by decide +kernel
theorem dX3_of_128 : eb_dc cX3_of 128 (.areturn) 1 129 := by decide +kernel
theorem dX3_of_129 : eb_dc cX3_of 129 (.iload 6) 2 131 := by decide +kernel
theorem dX3_of_131 : eb_dc cX3_of 131 (.iconst (-1)) 1 132 := by decide +kernel
theorem dX3_of_132 : eb_dj cX3_of 132 (.if_icmp .eq 14) 14 135 146 := by decide +kernel
theorem dX3_of_135 : eb_dc cX3_of 135 (.new 28) 3 138 := by decide +kernel
theorem dX3_of_138 : eb_dc cX3_of 138 (.dup) 1 139 := by decide +kernel
theorem dX3_of_139 : eb_dc cX3_of 139 (.aload_n 0) 1 140 := by decide +kernel
theorem dX3_of_140 : eb_dc cX3_of 140 (.iload 6) 2 142 := by decide +kernel
theorem dX3_of_142 : eb_dc cX3_of 142 (.invokespecial 30) 3 145 := by decide +kernel
theorem dX3_of_145 : eb_dc cX3_of 145 (.areturn) 1 146 := by decide +kernel
theorem dX3_of_146 : eb_dc cX3_of 146 (.iload_n 2) 1 147 := by decide +kernel
theorem dX3_of_147 : eb_dc cX3_of 147 (.iconst 1) 1 148 := by decide +kernel
theorem dX3_of_148 : eb_dc cX3_of 148 (.isub) 1 149 := by decide +kernel
theorem dX3_of_149 : eb_dc cX3_of 149 (.newarray .int) 2 151 := by decide +kernel
theorem dX3_of_151 : eb_dc cX3_of 151 (.astore 7) 2 153 := by decide +kernel
theorem dX3_of_153 : eb_dc cX3_of 153 (.iload_n 3) 1 154 := by decide +kernel
theorem dX3_of_154 : eb_dc cX3_of 154 (.istore 8) 2 156 := by decide +kernel
theorem dX3_of_156 : eb_dc cX3_of 156 (.iconst 0) 1 157 := by decide +kernel
theorem dX3_of_157 : eb_dc cX3_of 157 (.istore 9) 2 159 := by decide +kernel
theorem dX3_of_159 : eb_dc cX3_of 159 (.iconst 0) 1 160 := by decide +kernel
theorem dX3_of_160 : eb_dc cX3_of 160 (.istore 10) 2 162 := by decide +kernel
theorem dX3_of_162 : eb_dc cX3_of 162 (.iload 10) 2 164 := by decide +kernel
theorem dX3_of_164 : eb_dc cX3_of 164 (.iload_n 2) 1 165 := by decide +kernel
theorem dX3_of_165 : eb_dc cX3_of 165 (.iconst 1) 1 166 := by decide +kernel
theorem dX3_of_166 : eb_dc cX3_of 166 (.isub) 1 167 := by decide +kernel
theorem dX3_of_167 : eb_dj cX3_of 167 (.if_icmp .ge 53) 53 170 220 := by decide +kernel
theorem dX3_of_170 : eb_dc cX3_of 170 (.iload 9) 2 172 := by decide +kernel
theorem dX3_of_172 : eb_dc cX3_of 172 (.iconst 1) 1 173 := by decide +kernel
theorem dX3_of_173 : eb_dc cX3_of 173 (.iload 8) 2 175 := by decide +kernel
theorem dX3_of_175 : eb_dc cX3_of 175 (.ishl) 1 176 := by decide +kernel
theorem dX3_of_176 : eb_dc cX3_of 176 (.ior) 1 177 := by decide +kernel
theorem dX3_of_177 : eb_dc cX3_of 177 (.istore 9) 2 179 := by decide +kernel
theorem dX3_of_179 : eb_dc cX3_of 179 (.aload_n 0) 1 180 := by decide +kernel
theorem dX3_of_180 : eb_dc cX3_of 180 (.iload 8) 2 182 := by decide +kernel
theorem dX3_of_182 : eb_dc cX3_of 182 (.invokevirtual 20) 3 185 := by decide +kernel
theorem dX3_of_185 : eb_dc cX3_of 185 (.iload_n 1) 1 186 := by decide +kernel
theorem dX3_of_186 : eb_dc cX3_of 186 (.iand) 1 187 := by decide +kernel
theorem dX3_of_187 : eb_dc cX3_of 187 (.iload 9) 2 189 := by decide +kernel
theorem dX3_of_189 : eb_dc cX3_of 189 (.iconst (-1)) 1 190 := by decide +kernel
theorem dX3_of_190 : eb_dc cX3_of 190 (.ixor) 1 191 := by decide +kernel
theorem dX3_of_191 : eb_dc cX3_of 191 (.iand) 1 192 := by decide +kernel
theorem dX3_of_192 : eb_dc cX3_of 192 (.invokestatic 33) 3 195 := by decide +kernel
theorem dX3_of_195 : eb_dc cX3_of 195 (.istore 11) 2 197 := by decide +kernel
theorem dX3_of_197 : eb_dc cX3_of 197 (.aload 7) 2 199 := by decide +kernel
theorem dX3_of_199 : eb_dc cX3_of 199 (.iload 10) 2 201 := by decide +kernel
theorem dX3_of_201 : eb_dc cX3_of 201 (.aload_n 0) 1 202 := by decide +kernel
theorem dX3_of_202 : eb_dc cX3_of 202 (.iload 8) 2 204 := by decide +kernel
theorem dX3_of_204 : eb_dc cX3_of 204 (.iload 11) 2 206 := by decide +kernel
theorem dX3_of_206 : eb_dc cX3_of 206 (.invokevirtual 36) 3 209 := by decide +kernel
theorem dX3_of_209 : eb_dc cX3_of 209 (.iastore) 1 210 := by decide +kernel
theorem dX3_of_210 : eb_dc cX3_of 210 (.iload 11) 2 212 := by decide +kernel
theorem dX3_of_212 : eb_dc cX3_of 212 (.istore 8) 2 214 := by decide +kernel
theorem dX3_of_214 : eb_dc cX3_of 214 (.iinc 10 1) 3 217 := by decide +kernel
theorem dX3_of_217 : eb_dj cX3_of 217 (.goto (-55)) (-55) 220 162 := by decide +kernel
theorem dX3_of_220 : eb_dc cX3_of 220 (.iload_n 2) 1 221 := by decide +kernel
theorem dX3_of_221 : eb_dc cX3_of 221 (.iconst 2) 1 222 := by decide +kernel
theorem dX3_of_222 : eb_dj cX3_of 222 (.if_icmp .ne 17) 17 225 239 := by decide +kernel
theorem dX3_of_225 : eb_dc cX3_of 225 (.new 15) 3 228 := by decide +kernel
theorem dX3_of_228 : eb_dc cX3_of 228 (.dup) 1 229 := by decide +kernel
theorem dX3_of_229 : eb_dc cX3_of 229 (.aload 7) 2 231 := by decide +kernel
theorem dX3_of_231 : eb_dc cX3_of 231 (.iconst 0) 1 232 := by decide +kernel
theorem dX3_of_232 : eb_dc cX3_of 232 (.iaload) 1 233 := by decide +kernel
theorem dX3_of_233 : eb_dc cX3_of 233 (.invokespecial 17) 3 236 := by decide +kernel
theorem dX3_of_236 : eb_dj cX3_of 236 (.goto 12) 12 239 248 := by decide +kernel
theorem dX3_of_239 : eb_dc cX3_of 239 (.new 40) 3 242 := by decide +kernel
theorem dX3_of_242 : eb_dc cX3_of 242 (.dup) 1 243 := by decide +kernel
theorem dX3_of_243 : eb_dc cX3_of 243 (.aload 7) 2 245 := by decide +kernel
theorem dX3_of_245 : eb_dc cX3_of 245 (.invokespecial 42) 3 248 := by decide +kernel
theorem dX3_of_248 : eb_dc cX3_of 248 (.areturn) 1 249 := by decide +kernel
theorem ctX3_of {l : Launch} {Γ : eb_C} {bc bs : Nat} {st : eb_S} {a0 : Nat} {a1 : Int32} {K : Option Nat → eb_S → Prop} (h : MX3_of Γ bc bs st a0 a1 K) : eb_Ct l Γ yX3_of cX3_of 12 (some (.object "EvenBodies$Piece")) (rmX3_of bc bs) [.ref a0, .int a1] st (eb_oR K) := by
  refine eb_of (by decide) (Nat.le_of_ble_eq_true rfl) (fun X P hP hX0 => ?_)
  suffices hgo : (0 ≤ bc ∧ 0 ≤ bs) → eb_G l Γ P X cX3_of RX3 12 (some (.object "EvenBodies$Piece")) (rmX3_of bc bs) 0 [(0, .ref a0), (1, .int a1)] [] st 0 0 from hgo ⟨Nat.zero_le _, Nat.zero_le _⟩
  intro hu
  refine eg_iload_n 1 dX3_of_0 rfl rfl ?_
  have hM0 := h
  clear h
  refine ec_SIp (rest := []) (ctJ1_bitCount hM0) (lw_S q257 q258 q78 q259) nJ1_bitCount ⟨Nat.le_of_ble_eq_true rfl, Nat.le_of_ble_eq_true rfl⟩ ⟨rfl, rfl⟩ hu rfl rfl (Nat.le_of_ble_eq_true rfl) dX3_of_1 (fun v1 h => ?_)
  clear hM0
  refine eg_istore_n (lv' := [(2, .int v1), (0, .ref a0), (1, .int a1)]) dX3_of_4 rfl (Nat.le_of_ble_eq_true rfl) rfl ?_
  refine eg_iload_n 0 dX3_of_5 rfl rfl ?_
  refine eg_iconst dX3_of_6 kc_1 ?_
  refine eg_icmp_ne dX3_of_7 (fun c94 => ?_) (fun c94 => ?_)
  · replace h := h.2 c94
    refine eg_iconst dX3_of_19 kc_m1 ?_
    refine eg_istore_n (lv' := [(3, .int (-1)), (2, .int v1), (0, .ref a0), (1, .int a1)]) dX3_of_20 rfl (Nat.le_of_ble_eq_true rfl) rfl ?_
    refine eg_iconst dX3_of_21 kc_0 ?_
    refine eg_istore (lv' := [(4, .int 0), (3, .int (-1)), (2, .int v1), (0, .ref a0), (1, .int a1)]) dX3_of_22 (Nat.le_of_ble_eq_true rfl) rfl ?_
    refine eg_iconst dX3_of_24 kc_0 ?_
    refine eg_istore (lv' := [(5, .int 0), (4, .int 0), (3, .int (-1)), (2, .int v1), (0, .ref a0), (1, .int a1)]) dX3_of_25 (Nat.le_of_ble_eq_true rfl) rfl ?_
    refine eg_iconst dX3_of_27 kc_m1 ?_
    refine eg_istore (lv' := [(6, .int (-1)), (5, .int 0), (4, .int 0), (3, .int (-1)), (2, .int v1), (0, .ref a0), (1, .int a1)]) dX3_of_28 (Nat.le_of_ble_eq_true rfl) rfl ?_
    refine eg_iconst dX3_of_30 kc_0 ?_
    refine eg_istore (lv' := [(7, .int 0), (6, .int (-1)), (5, .int 0), (4, .int 0), (3, .int (-1)), (2, .int v1), (0, .ref a0), (1, .int a1)]) dX3_of_31 (Nat.le_of_ble_eq_true rfl) rfl ?_
    refine eb_jp3_e (J := fun (x3_5 : Int32) (x5_6 : Int32) (x6_7 : Int32) => (0 ≤ bc ∧ 0 ≤ bs) → eb_G l Γ P X cX3_of RX3 12 (some (.object "EvenBodies$Piece")) (rmX3_of bc bs) 111 [(0, .ref a0), (1, .int a1), (2, .int v1), (3, .int x3_5), (5, .int x5_6), (6, .int x6_7)] [] st 0 0) h ?_ ?_
    · clear h
      intro x3_5 x5_6 x6_7 h hu
      refine eg_iload 4 dX3_of_111 rfl ?_
      refine eg_iconst dX3_of_113 kc_2 ?_
      refine eg_iload_n 2 dX3_of_114 rfl rfl ?_
      refine eg_iconst dX3_of_115 kc_1 ?_
      refine eg_isub dX3_of_116 ?_
      refine eg_imul dX3_of_117 ?_
      refine eg_icmp_eq dX3_of_118 (fun c58 => ?_) (fun c58 => ?_)
      · replace h := h.1 c58
        refine eg_iload 5 dX3_of_129 rfl ?_
        refine eg_iconst dX3_of_131 kc_m1 ?_
        refine eg_icmp_eq dX3_of_132 (fun c51 => ?_) (fun c51 => ?_)
        · replace h := h.1 c51
          refine eg_iload_n 2 dX3_of_146 rfl rfl ?_
          refine eg_iconst dX3_of_147 kc_1 ?_
          refine eg_isub dX3_of_148 ?_
          obtain ⟨hok, h⟩ := h
          obtain ⟨hc1, hs1, h⟩ := h
          refine eh_new_i q158 rfl hok hc1 hs1 dX3_of_149 (fun p8 qp8 g9 eg9 => ?_)
          replace h := h p8 qp8 g9 eg9
          replace hu := And.intro hc1 hs1
          refine eg_astore (i := 7) (lv' := [(7, .ref p8), (0, .ref a0), (1, .int a1), (2, .int v1), (3, .int x3_5), (5, .int x5_6), (6, .int x6_7)]) dX3_of_151 (Nat.le_of_ble_eq_true rfl) rfl ?_
          refine eg_iload_n 4 dX3_of_153 rfl rfl ?_
          refine eg_istore (lv' := [(8, .int x3_5), (7, .ref p8), (0, .ref a0), (1, .int a1), (2, .int v1), (3, .int x3_5), (5, .int x5_6), (6, .int x6_7)]) dX3_of_154 (Nat.le_of_ble_eq_true rfl) rfl ?_
          refine eg_iconst dX3_of_156 kc_0 ?_
          refine eg_istore (lv' := [(9, .int 0), (8, .int x3_5), (7, .ref p8), (0, .ref a0), (1, .int a1), (2, .int v1), (3, .int x3_5), (5, .int x5_6), (6, .int x6_7)]) dX3_of_157 (Nat.le_of_ble_eq_true rfl) rfl ?_
          refine eg_iconst dX3_of_159 kc_0 ?_
          refine eg_istore (lv' := [(10, .int 0), (9, .int 0), (8, .int x3_5), (7, .ref p8), (0, .ref a0), (1, .int a1), (2, .int v1), (3, .int x3_5), (5, .int x5_6), (6, .int x6_7)]) dX3_of_160 (Nat.le_of_ble_eq_true rfl) rfl ?_
          refine eb_jp1_e (J := fun (g10 : eb_S) => ((0 + 1) ≤ bc ∧ (0 + ((v1 - 1).toNatClampNeg)) ≤ bs) → eb_G l Γ P X cX3_of RX3 12 (some (.object "EvenBodies$Piece")) (rmX3_of bc bs) 220 [(2, .int v1), (7, .ref p8)] [] g10 (0 + 1) (0 + ((v1 - 1).toNatClampNeg))) h ?_ ?_
          · clear h
            intro g10 h hu
            refine eg_iload_n 0 dX3_of_220 rfl rfl ?_
            refine eg_iconst dX3_of_221 kc_2 ?_
            refine eg_icmp_ne dX3_of_222 (fun c24 => ?_) (fun c24 => ?_)
            · replace h := h.2 c24
              obtain ⟨hc1, hs1, h⟩ := h
              refine eh_new (ci := 6) (fs := [.null]) in_X7 tyX7 tyX7_ok q300 q301 q83 rfl (by decide +kernel) hc1 hs1 dX3_of_239 (fun p11 qp11 g12 eg12 => ?_)
              replace h := h p11 qp11 g12 eg12
              replace hu := And.intro hc1 hs1
              refine eg_dup dX3_of_242 rfl ?_
              refine eg_aload 1 dX3_of_243 rfl ?_
              have hM0 := h
              clear h
              refine ec_IVw (rest := [.ref p11]) (ctX7_init hM0) q304 q83 q302 q303 rfl nX7_init ⟨Nat.le_of_ble_eq_true rfl, Nat.le_of_ble_eq_true rfl⟩ ⟨rfl, rfl⟩ hu rfl rfl (Nat.le_of_ble_eq_true rfl) dX3_of_245 (fun g14 h => ?_)
              clear hM0
              exact eg_aret dX3_of_248 (Or.inl ⟨_, rfl⟩) (Or.inr ⟨_, rfl⟩) hu.1 hu.2 (hP _ _ ⟨(some p11), rfl, h⟩)
            · replace h := h.1 c24
              obtain ⟨hc1, hs1, h⟩ := h
              refine eh_new (ci := 3) (fs := [.int 0]) in_X4 tyX4 tyX4_ok q263 q264 q80 rfl (by decide +kernel) hc1 hs1 dX3_of_225 (fun p17 qp17 g18 eg18 => ?_)
              replace h := h p17 qp17 g18 eg18
              replace hu := And.intro hc1 hs1
              refine eg_dup dX3_of_228 rfl ?_
              refine eg_aload 1 dX3_of_229 rfl ?_
              refine eg_iconst dX3_of_231 kc_0 ?_
              obtain ⟨nA, fA, he, hb, h⟩ := h
              refine eh_iald he hb dX3_of_232 (fun v19 ev19 => ?_)
              replace h := h v19 ev19
              have hM0 := h
              clear h
              refine ec_IVw (rest := [.ref p17]) (ctX4_init hM0) q267 q80 q265 q266 rfl nX4_init ⟨Nat.le_of_ble_eq_true rfl, Nat.le_of_ble_eq_true rfl⟩ ⟨rfl, rfl⟩ hu rfl rfl (Nat.le_of_ble_eq_true rfl) dX3_of_233 (fun g21 h => ?_)
              clear hM0
              refine eg_goto dX3_of_236 ?_
              exact eg_aret dX3_of_248 (Or.inl ⟨_, rfl⟩) (Or.inr ⟨_, rfl⟩) hu.1 hu.2 (hP _ _ ⟨(some p17), rfl, h⟩)
          · clear h
            intro k25 hk25 h
            refine eg_sub [4, 5, 6, 3, 2, 1, 0] rfl ?_
            refine eb_loop4_e (J := fun (x8_26 : Int32) (x9_27 : Int32) (x10_28 : Int32) (g29 : eb_S) => ((0 + 1) ≤ bc ∧ (0 + ((v1 - 1).toNatClampNeg)) ≤ bs) → eb_G l Γ P X cX3_of RX3 12 (some (.object "EvenBodies$Piece")) (rmX3_of bc bs) 162 [(0, .ref a0), (1, .int a1), (2, .int v1), (7, .ref p8), (8, .int x8_26), (9, .int x9_27), (10, .int x10_28)] [] g29 (0 + 1) (0 + ((v1 - 1).toNatClampNeg))) h ?_ hu
            clear h
            clear hu
            intro r30 hr30 x8_26 x9_27 x10_28 g29 h hu
            refine eg_iload 6 dX3_of_162 rfl ?_
            refine eg_iload_n 2 dX3_of_164 rfl rfl ?_
            refine eg_iconst dX3_of_165 kc_1 ?_
            refine eg_isub dX3_of_166 ?_
            refine eg_icmp_ge dX3_of_167 (fun c44 => ?_) (fun c44 => ?_)
            · replace h := h.1 c44
              exact eg_sub [2, 3] rfl (hk25 g29 h hu)
            · replace h := h.2 c44
              refine eg_iload 5 dX3_of_170 rfl ?_
              refine eg_iconst dX3_of_172 kc_1 ?_
              refine eg_iload 4 dX3_of_173 rfl ?_
              refine eg_ishl dX3_of_175 ?_
              refine eg_ior dX3_of_176 ?_
              refine eg_istore (lv' := [(9, .int (x9_27 ||| (eb_shl 1 x8_26))), (0, .ref a0), (1, .int a1), (2, .int v1), (7, .ref p8), (8, .int x8_26), (10, .int x10_28)]) dX3_of_177 (Nat.le_of_ble_eq_true rfl) rfl ?_
              refine eg_aload_n 1 dX3_of_179 rfl rfl ?_
              refine eg_iload 5 dX3_of_180 rfl ?_
              obtain ⟨hcs, h⟩ := h
              have hM0 := h
              clear h
              refine ec_VIp (rest := []) (ctX1_joined hM0) (lw_V q276 q230 q231 q75 q232) rfl rfl hcs nX1_joined ⟨Nat.le_of_ble_eq_true rfl, Nat.le_of_ble_eq_true rfl⟩ ⟨rfl, rfl⟩ hu rfl rfl (Nat.le_of_ble_eq_true rfl) dX3_of_182 (fun v31 h => ?_)
              clear hM0
              refine eg_iload_n 2 dX3_of_185 rfl rfl ?_
              refine eg_iand dX3_of_186 ?_
              refine eg_iload 0 dX3_of_187 rfl ?_
              refine eg_iconst dX3_of_189 kc_m1 ?_
              refine eg_ixor dX3_of_190 ?_
              refine eg_iand dX3_of_191 ?_
              have hM0 := h
              clear h
              refine ec_SIp (rest := []) (ctJ1_numberOfTrailingZeros hM0) (lw_S q295 q296 q78 q297) nJ1_numberOfTrailingZeros ⟨Nat.le_of_ble_eq_true rfl, Nat.le_of_ble_eq_true rfl⟩ ⟨rfl, rfl⟩ hu rfl rfl (Nat.le_of_ble_eq_true rfl) dX3_of_192 (fun v35 h => ?_)
              clear hM0
              refine eg_istore (lv' := [(11, .int v35), (9, .int (x9_27 ||| (eb_shl 1 x8_26))), (0, .ref a0), (1, .int a1), (2, .int v1), (7, .ref p8), (8, .int x8_26), (10, .int x10_28)]) dX3_of_195 (Nat.le_of_ble_eq_true rfl) rfl ?_
              refine eg_aload 5 dX3_of_197 rfl ?_
              refine eg_iload 7 dX3_of_199 rfl ?_
              refine eg_aload_n 2 dX3_of_201 rfl rfl ?_
              refine eg_iload 6 dX3_of_202 rfl ?_
              refine eg_iload 0 dX3_of_204 rfl ?_
              obtain ⟨hcs, h⟩ := h
              have hM0 := h
              clear h
              refine ec_VIp (rest := [.int x10_28, .ref p8]) (ctX1_angle hM0) (lw_V q299 q201 q202 q75 q203) rfl rfl hcs nX1_angle ⟨Nat.le_of_ble_eq_true rfl, Nat.le_of_ble_eq_true rfl⟩ ⟨rfl, rfl⟩ hu rfl rfl (Nat.le_of_ble_eq_true rfl) dX3_of_206 (fun v39 h => ?_)
              clear hM0
              obtain ⟨nA, fA, he, hb, h⟩ := h
              refine eh_iast he hb dX3_of_209 (fun g43 eg43 => ?_)
              replace h := h g43 eg43
              refine eg_iload 0 dX3_of_210 rfl ?_
              refine eg_istore (lv' := [(8, .int v35), (11, .int v35), (9, .int (x9_27 ||| (eb_shl 1 x8_26))), (0, .ref a0), (1, .int a1), (2, .int v1), (7, .ref p8), (10, .int x10_28)]) dX3_of_212 (Nat.le_of_ble_eq_true rfl) rfl ?_
              refine eg_iinc (j := 7) (lv' := [(10, .int (x10_28 + 1)), (8, .int v35), (11, .int v35), (9, .int (x9_27 ||| (eb_shl 1 x8_26))), (0, .ref a0), (1, .int a1), (2, .int v1), (7, .ref p8)]) dX3_of_214 rfl (by rw [kc_1]) (Nat.le_of_ble_eq_true rfl) rfl ?_
              refine eg_goto dX3_of_217 ?_
              exact eg_sub [4, 5, 6, 7, 1, 3, 0] rfl (hr30 v35 ((x9_27 ||| (eb_shl 1 x8_26))) (x10_28 + 1) g43 h hu)
        · replace h := h.2 c51
          obtain ⟨hc1, hs1, h⟩ := h
          refine eh_new (ci := 5) (fs := [.int 0]) in_X6 tyX6 tyX6_ok q284 q285 q82 rfl (by decide +kernel) hc1 hs1 dX3_of_135 (fun p45 qp45 g46 eg46 => ?_)
          replace h := h p45 qp45 g46 eg46
          replace hu := And.intro hc1 hs1
          refine eg_dup dX3_of_138 rfl ?_
          refine eg_aload_n 0 dX3_of_139 rfl rfl ?_
          refine eg_iload 5 dX3_of_140 rfl ?_
          have hM0 := h
          clear h
          refine ec_IVw (rest := [.ref p45]) (ctX6_init hM0) q288 q82 q286 q287 rfl nX6_init ⟨Nat.le_of_ble_eq_true rfl, Nat.le_of_ble_eq_true rfl⟩ ⟨rfl, rfl⟩ hu rfl rfl (Nat.le_of_ble_eq_true rfl) dX3_of_142 (fun g48 h => ?_)
          clear hM0
          exact eg_aret dX3_of_145 (Or.inl ⟨_, rfl⟩) (Or.inr ⟨_, rfl⟩) hu.1 hu.2 (hP _ _ ⟨(some p45), rfl, h⟩)
      · replace h := h.2 c58
        obtain ⟨hc1, hs1, h⟩ := h
        refine eh_new (ci := 4) (fs := []) in_X5 (fun _ => .int) (fun k h => absurd h (Nat.not_lt_zero k)) q277 q278 q81 rfl (by decide +kernel) hc1 hs1 dX3_of_121 (fun p52 qp52 g53 eg53 => ?_)
        replace h := h p52 qp52 g53 eg53
        replace hu := And.intro hc1 hs1
        refine eg_dup dX3_of_124 rfl ?_
        have hM0 := h
        clear h
        refine ec_INVw (rest := [.ref p52]) (ctX5_init hM0) q281 (List.mem_of_getElem? (i := 4) rfl) q81 q280 rfl nX5_init ⟨Nat.le_of_ble_eq_true rfl, Nat.le_of_ble_eq_true rfl⟩ ⟨rfl, rfl⟩ hu rfl rfl (Nat.le_of_ble_eq_true rfl) dX3_of_125 (fun g55 h => ?_)
        clear hM0
        exact eg_aret dX3_of_128 (Or.inl ⟨_, rfl⟩) (Or.inr ⟨_, rfl⟩) hu.1 hu.2 (hP _ _ ⟨(some p52), rfl, h⟩)
    · clear h
      intro k59 hk59 h
      refine eg_sub [6, 7, 5, 4, 3, 2, 1, 0] rfl ?_
      refine eb_loop5_e (J := fun (x3_60 : Int32) (x4_61 : Int32) (x5_62 : Int32) (x6_63 : Int32) (x7_64 : Int32) => (0 ≤ bc ∧ 0 ≤ bs) → eb_G l Γ P X cX3_of RX3 12 (some (.object "EvenBodies$Piece")) (rmX3_of bc bs) 33 [(0, .ref a0), (1, .int a1), (2, .int v1), (3, .int x3_60), (4, .int x4_61), (5, .int x5_62), (6, .int x6_63), (7, .int x7_64)] [] st 0 0) h ?_ hu
      clear h
      clear hu
      intro r65 hr65 x3_60 x4_61 x5_62 x6_63 x7_64 h hu
      refine eg_iload 7 dX3_of_33 rfl ?_
      refine eg_iconst dX3_of_35 kc_4 ?_
      refine eg_icmp_ge dX3_of_36 (fun c87 => ?_) (fun c87 => ?_)
      · replace h := h.1 c87
        exact eg_sub [0, 1, 2, 3, 5, 6] rfl (hk59 x3_60 x5_62 x6_63 h hu)
      · replace h := h.2 c87
        refine eg_iload_n 1 dX3_of_39 rfl rfl ?_
        refine eg_iload 7 dX3_of_40 rfl ?_
        refine eg_ishr dX3_of_42 ?_
        refine eg_iconst dX3_of_43 kc_1 ?_
        refine eg_iand dX3_of_44 ?_
        refine eg_iconst dX3_of_45 kc_1 ?_
        refine eb_jp4_e (J := fun (x3_66 : Int32) (x4_67 : Int32) (x5_68 : Int32) (x6_69 : Int32) => (0 ≤ bc ∧ 0 ≤ bs) → eb_G l Γ P X cX3_of RX3 12 (some (.object "EvenBodies$Piece")) (rmX3_of bc bs) 105 [(0, .ref a0), (1, .int a1), (2, .int v1), (3, .int x3_66), (4, .int x4_67), (5, .int x5_68), (6, .int x6_69), (7, .int x7_64)] [] st 0 0) h ?_ ?_
        · clear h
          intro x3_66 x4_67 x5_68 x6_69 h hu
          refine eg_iinc (j := 7) (lv' := [(7, .int (x7_64 + 1)), (0, .ref a0), (1, .int a1), (2, .int v1), (3, .int x3_66), (4, .int x4_67), (5, .int x5_68), (6, .int x6_69)]) dX3_of_105 rfl (by rw [kc_1]) (Nat.le_of_ble_eq_true rfl) rfl ?_
          refine eg_goto dX3_of_108 ?_
          exact eg_sub [1, 2, 3, 4, 5, 6, 7, 0] rfl (hr65 x3_66 x4_67 x5_68 x6_69 (x7_64 + 1) h hu)
        · clear h
          intro k70 hk70 h
          refine eg_icmp_ne dX3_of_46 (fun c86 => ?_) (fun c86 => ?_)
          · replace h := h.2 c86
            exact hk70 x3_60 x4_61 x5_62 x6_63 h hu
          · replace h := h.1 c86
            refine eg_aload_n 0 dX3_of_49 rfl rfl ?_
            refine eg_iload 7 dX3_of_50 rfl ?_
            obtain ⟨hcs, h⟩ := h
            have hM0 := h
            clear h
            refine ec_VIp (rest := []) (ctX1_joined hM0) (lw_V q276 q230 q231 q75 q232) rfl rfl hcs nX1_joined ⟨Nat.le_of_ble_eq_true rfl, Nat.le_of_ble_eq_true rfl⟩ ⟨rfl, rfl⟩ hu rfl rfl (Nat.le_of_ble_eq_true rfl) dX3_of_52 (fun v71 h => ?_)
            clear hM0
            refine eg_iload_n 1 dX3_of_55 rfl rfl ?_
            refine eg_iand dX3_of_56 ?_
            have hM0 := h
            clear h
            refine ec_SIp (rest := []) (ctJ1_bitCount hM0) (lw_S q257 q258 q78 q259) nJ1_bitCount ⟨Nat.le_of_ble_eq_true rfl, Nat.le_of_ble_eq_true rfl⟩ ⟨rfl, rfl⟩ hu rfl rfl (Nat.le_of_ble_eq_true rfl) dX3_of_57 (fun v75 h => ?_)
            clear hM0
            refine eg_istore (lv' := [(8, .int v75), (0, .ref a0), (1, .int a1), (2, .int v1), (3, .int x3_60), (4, .int x4_61), (5, .int x5_62), (6, .int x6_63), (7, .int x7_64)]) dX3_of_60 (Nat.le_of_ble_eq_true rfl) rfl ?_
            refine eg_iload 6 dX3_of_62 rfl ?_
            refine eg_iload 0 dX3_of_64 rfl ?_
            refine eg_iadd dX3_of_66 ?_
            refine eg_istore (lv' := [(5, .int (x5_62 + v75)), (8, .int v75), (0, .ref a0), (1, .int a1), (2, .int v1), (3, .int x3_60), (4, .int x4_61), (6, .int x6_63), (7, .int x7_64)]) dX3_of_67 (Nat.le_of_ble_eq_true rfl) rfl ?_
            refine eg_iload 1 dX3_of_69 rfl ?_
            refine eg_iconst dX3_of_71 kc_3 ?_
            refine eb_jp1_e (J := fun (s79 : Int32) => (0 ≤ bc ∧ 0 ≤ bs) → eb_G l Γ P X cX3_of RX3 12 (some (.object "EvenBodies$Piece")) (rmX3_of bc bs) 82 [(0, .ref a0), (1, .int a1), (2, .int v1), (3, .int x3_60), (4, .int x4_61), (5, .int (x5_62 + v75)), (7, .int x7_64), (8, .int v75)] [.int s79] st 0 0) h ?_ ?_
            · clear h
              intro s79 h hu
              refine eg_istore (lv' := [(6, .int s79), (0, .ref a0), (1, .int a1), (2, .int v1), (3, .int x3_60), (4, .int x4_61), (5, .int (x5_62 + v75)), (7, .int x7_64), (8, .int v75)]) dX3_of_82 (Nat.le_of_ble_eq_true rfl) rfl ?_
              refine eg_iload 8 dX3_of_84 rfl ?_
              refine eg_iconst dX3_of_86 kc_1 ?_
              refine eg_icmp_ne dX3_of_87 (fun c83 => ?_) (fun c83 => ?_)
              · replace h := h.2 c83
                exact eg_sub [1, 2, 3, 4, 5, 6, 0, 7] rfl (hk70 x3_60 x4_61 (x5_62 + v75) s79 h hu)
              · replace h := h.1 c83
                refine eg_iload_n 4 dX3_of_90 rfl rfl ?_
                refine eg_iconst dX3_of_91 kc_m1 ?_
                refine eb_jp1_e (J := fun (s80 : Int32) => (0 ≤ bc ∧ 0 ≤ bs) → eb_G l Γ P X cX3_of RX3 12 (some (.object "EvenBodies$Piece")) (rmX3_of bc bs) 101 [(0, .ref a0), (1, .int a1), (2, .int v1), (4, .int x4_61), (5, .int (x5_62 + v75)), (6, .int s79), (7, .int x7_64)] [.int s80] st 0 0) h ?_ ?_
                · clear h
                  intro s80 h hu
                  refine eg_istore_n (lv' := [(3, .int s80), (0, .ref a0), (1, .int a1), (2, .int v1), (4, .int x4_61), (5, .int (x5_62 + v75)), (6, .int s79), (7, .int x7_64)]) dX3_of_101 rfl (Nat.le_of_ble_eq_true rfl) rfl ?_
                  refine eg_iinc (j := 4) (lv' := [(4, .int (x4_61 + 1)), (3, .int s80), (0, .ref a0), (1, .int a1), (2, .int v1), (5, .int (x5_62 + v75)), (6, .int s79), (7, .int x7_64)]) dX3_of_102 rfl (by rw [kc_1]) (Nat.le_of_ble_eq_true rfl) rfl ?_
                  exact eg_sub [2, 3, 4, 1, 0, 5, 6, 7] rfl (hk70 s80 (x4_61 + 1) (x5_62 + v75) s79 h hu)
                · clear h
                  intro k81 hk81 h
                  refine eg_icmp_ne dX3_of_92 (fun c82 => ?_) (fun c82 => ?_)
                  · replace h := h.2 c82
                    refine eg_iload_n 4 dX3_of_100 rfl rfl ?_
                    exact eg_sub [1, 2, 3, 5, 6, 0, 7] rfl (hk81 x3_60 h hu)
                  · replace h := h.1 c82
                    refine eg_iload 7 dX3_of_95 rfl ?_
                    refine eg_goto dX3_of_97 ?_
                    exact eg_sub [1, 2, 3, 5, 6, 0, 7] rfl (hk81 x7_64 h hu)
            · clear h
              intro k84 hk84 h
              refine eg_icmp_ne dX3_of_72 (fun c85 => ?_) (fun c85 => ?_)
              · replace h := h.2 c85
                refine eg_iload 7 dX3_of_80 rfl ?_
                exact eg_sub [2, 3, 4, 5, 6, 0, 8, 1] rfl (hk84 x6_63 h hu)
              · replace h := h.1 c85
                refine eg_iload 8 dX3_of_75 rfl ?_
                refine eg_goto dX3_of_77 ?_
                exact eg_sub [2, 3, 4, 5, 6, 0, 8, 1] rfl (hk84 x7_64 h hu)
  · replace h := h.1 c94
    obtain ⟨hc1, hs1, h⟩ := h
    refine eh_new (ci := 3) (fs := [.int 0]) in_X4 tyX4 tyX4_ok q263 q264 q80 rfl (by decide +kernel) hc1 hs1 dX3_of_10 (fun p88 qp88 g89 eg89 => ?_)
    replace h := h p88 qp88 g89 eg89
    replace hu := And.intro hc1 hs1
    refine eg_dup dX3_of_13 rfl ?_
    refine eg_iconst dX3_of_14 kc_1 ?_
    have hM0 := h
    clear h
    refine ec_IVw (rest := [.ref p88]) (ctX4_init hM0) q267 q80 q265 q266 rfl nX4_init ⟨Nat.le_of_ble_eq_true rfl, Nat.le_of_ble_eq_true rfl⟩ ⟨rfl, rfl⟩ hu rfl rfl (Nat.le_of_ble_eq_true rfl) dX3_of_15 (fun g91 h => ?_)
    clear hM0
    exact eg_aret dX3_of_18 (Or.inl ⟨_, rfl⟩) (Or.inr ⟨_, rfl⟩) hu.1 hu.2 (hP _ _ ⟨(some p88), rfl, h⟩)
def MX1_group (Γ : eb_C) (bc bs : Nat) (st : eb_S) (a0 : Nat) (K : Option Nat → eb_S → Prop) : Prop :=
  eb_gi st a0 1 4 (fun v1 => eb_jp3 (fun (g2 : eb_S) (u3 : Nat) (w4 : Nat) => eb_gr g2 a0 1 3 (fun v5 => K v5 g2)) (fun k6 => eb_br (v1 = 0) (eb_pt st a0 1 4 (.int 1) (fun g7 => eb_cs g7 a0 [1] ∧ MX1_all Γ g7 a0 (fun v8 => eb_jp4 (fun (x1_12 : Int64) (g13 : eb_S) (u14 : Nat) (w15 : Nat) => eb_jp4 (fun (s16 : Option Nat) (g17 : eb_S) (u18 : Nat) (w19 : Nat) => eb_pt g17 a0 1 3 (va_rf s16) (fun g20 => k6 g20 u18 w19)) (fun k21 => eb_jp0 (k21 none g13 u14 w15) (fun k22 => eb_br ((lg_cmp x1_12 0) ≤ 0) (k22) (eb_br (0 < (lg_cmp x1_12 500)) (k22) (eb_mk g13 (.inr (7, [.int 0, .int 0, .null, .null, .null, .null])) 6 bc bs u14 w15 (fun p23 g24 => ∃ c27 s28 : Nat, ((u14 + 1) + c27 ≤ bc ∧ (w15 + 6) + s28 ≤ bs) ∧ MX8_init Γ c27 s28 g24 p23 a0 (x1_12.toInt32) (fun g26 => k21 (some p23) g26 (((u14 + 1) + c27)) (((w15 + 6) + s28))))))))) (fun k31 => eb_loop5 (fun r37 (x1_32 : Int64) (x3_33 : Int32) (g34 : eb_S) (u35 : Nat) (w36 : Nat) => eb_br (x3_33 = 0) (k31 x1_32 g34 u35 w36) (MJ1_lowestOneBit x3_33 (fun v38 => eb_cs g34 a0 [1] ∧ MX1_reached Γ g34 a0 v38 x3_33 (fun v42 => ∃ c48 s49 : Nat, (u35 + c48 ≤ bc ∧ w36 + s49 ≤ bs) ∧ MX3_of Γ c48 s49 g34 a0 v42 (fun v46 g47 => eb_nn v46 (fun p50 => eb_ps Γ g47 p50 (fun v51 => r37 ((x1_32 * (Int32.toInt64 v51))) ((x3_33 &&& (v42 ^^^ (-1)))) g47 (u35 + c48) (w36 + s49)))))))) 1 v8 g7 0 0)))) (k6 st 0 0)))
abbrev rmX1_group (bc bs : Nat) : Room := { frames := 12, cells := bc, slots := bs, locals := 260 }
theorem nX1_group : eb_ar yX1_group 0 := by decide +kernel
theorem dX1_group_0 : eb_dc cX1_group 0 (.aload_n 0) 1 1 := by decide +kernel
theorem dX1_group_1 : eb_dc cX1_group 1 (.getfield 41) 3 4 := by decide +kernel
theorem dX1_group_4 : eb_dj cX1_group 4 (.ifCond .ne 85) 85 7 89 := by decide +kernel
theorem dX1_group_7 : eb_dc cX1_group 7 (.aload_n 0) 1 8 := by decide +kernel
theorem dX1_group_8 : eb_dc cX1_group 8 (.iconst 1) 1 9 := by decide +kernel
theorem dX1_group_9 : eb_dc cX1_group 9 (.putfield 41) 3 12 := by decide +kernel
theorem dX1_group_12 : eb_dc cX1_group 12 (.lconst 1) 1 13 := by decide +kernel
theorem dX1_group_13 : eb_dc cX1_group 13 (.lstore_n 1) 1 14 := by decide +kernel
theorem dX1_group_14 : eb_dc cX1_group 14 (.aload_n 0) 1 15 := by decide +kernel
theorem dX1_group_15 : eb_dc cX1_group 15 (.invokevirtual 72) 3 18 := by decide +kernel
theorem dX1_group_18 : eb_dc cX1_group 18 (.istore_n 3) 1 19 := by decide +kernel
theorem dX1_group_19 : eb_dc cX1_group 19 (.iload_n 3) 1 20 := by decide +kernel
theorem dX1_group_20 : eb_dj cX1_group 20 (.ifCond .eq 37) 37 23 57 := by decide +kernel
theorem dX1_group_23 : eb_dc cX1_group 23 (.aload_n 0) 1 24 := by decide +kernel
theorem dX1_group_24 : eb_dc cX1_group 24 (.iload_n 3) 1 25 := by decide +kernel
theorem dX1_group_25 : eb_dc cX1_group 25 (.invokestatic 76) 3 28 := by decide +kernel
theorem dX1_group_28 : eb_dc cX1_group 28 (.iload_n 3) 1 29 := by decide +kernel
theorem dX1_group_29 : eb_dc cX1_group 29 (.invokevirtual 81) 3 32 := by decide +kernel
theorem dX1_group_32 : eb_dc cX1_group 32 (.istore 4) 2 34 := by decide +kernel
theorem dX1_group_34 : eb_dc cX1_group 34 (.lload_n 1) 1 35 := by decide +kernel
theorem dX1_group_35 : eb_dc cX1_group 35 (.aload_n 0) 1 36 := by decide +kernel
theorem dX1_group_36 : eb_dc cX1_group 36 (.iload 4) 2 38 := by decide +kernel
theorem dX1_group_38 : eb_dc cX1_group 38 (.invokestatic 84) 3 41 := by decide +kernel
theorem dX1_group_41 : eb_dc cX1_group 41 (.invokevirtual 90) 3 44 := by decide +kernel
theorem dX1_group_44 : eb_dc cX1_group 44 (.i2l) 1 45 := by decide +kernel
theorem dX1_group_45 : eb_dc cX1_group 45 (.lmul) 1 46 := by decide +kernel
theorem dX1_group_46 : eb_dc cX1_group 46 (.lstore_n 1) 1 47 := by decide +kernel
theorem dX1_group_47 : eb_dc cX1_group 47 (.iload_n 3) 1 48 := by decide +kernel
theorem dX1_group_48 : eb_dc cX1_group 48 (.iload 4) 2 50 := by decide +kernel
theorem dX1_group_50 : eb_dc cX1_group 50 (.iconst (-1)) 1 51 := by decide +kernel
theorem dX1_group_51 : eb_dc cX1_group 51 (.ixor) 1 52 := by decide +kernel
theorem dX1_group_52 : eb_dc cX1_group 52 (.iand) 1 53 := by decide +kernel
theorem dX1_group_53 : eb_dc cX1_group 53 (.istore_n 3) 1 54 := by decide +kernel
theorem dX1_group_54 : eb_dj cX1_group 54 (.goto (-35)) (-35) 57 19 := by decide +kernel
theorem dX1_group_57 : eb_dc cX1_group 57 (.aload_n 0) 1 58 := by decide +kernel
theorem dX1_group_58 : eb_dc cX1_group 58 (.lload_n 1) 1 59 := by decide +kernel
theorem dX1_group_59 : eb_dc cX1_group 59 (.lconst 0) 1 60 := by decide +kernel
theorem dX1_group_60 : eb_dc cX1_group 60 (.lcmp) 1 61 := by decide +kernel
theorem dX1_group_61 : eb_dj cX1_group 61 (.ifCond .le 24) 24 64 85 := by decide +kernel
theorem dX1_group_64 : eb_dc cX1_group 64 (.lload_n 1) 1 65 := by decide +kernel
theorem dX1_group_65 : eb_dc cX1_group 65 (.ldc2_w 93) 3 68 := by decide +kernel
theorem dX1_group_68 : eb_dc cX1_group 68 (.lcmp) 1 69 := by decide +kernel
theorem dX1_group_69 : eb_dj cX1_group 69 (.ifCond .gt 16) 16 72 85 := by decide +kernel
theorem dX1_group_72 : eb_dc cX1_group 72 (.new 95) 3 75 := by decide +kernel
theorem dX1_group_75 : eb_dc cX1_group 75 (.dup) 1 76 := by decide +kernel
theorem dX1_group_76 : eb_dc cX1_group 76 (.aload_n 0) 1 77 := by decide +kernel
theorem dX1_group_77 : eb_dc cX1_group 77 (.lload_n 1) 1 78 := by decide +kernel
theorem dX1_group_78 : eb_dc cX1_group 78 (.l2i) 1 79 := by decide +kernel
theorem dX1_group_79 : eb_dc cX1_group 79 (.invokespecial 97) 3 82 := by decide +kernel
theorem dX1_group_82 : eb_dj cX1_group 82 (.goto 4) 4 85 86 := by decide +kernel
theorem dX1_group_85 : eb_dc cX1_group 85 (.aconst_null) 1 86 := by decide +kernel
theorem dX1_group_86 : eb_dc cX1_group 86 (.putfield 45) 3 89 := by decide +kernel
theorem dX1_group_89 : eb_dc cX1_group 89 (.aload_n 0) 1 90 := by decide +kernel
theorem dX1_group_90 : eb_dc cX1_group 90 (.getfield 45) 3 93 := by decide +kernel
theorem dX1_group_93 : eb_dc cX1_group 93 (.areturn) 1 94 := by decide +kernel
theorem ctX1_group {l : Launch} {Γ : eb_C} {bc bs : Nat} {st : eb_S} {a0 : Nat} {K : Option Nat → eb_S → Prop} (h : MX1_group Γ bc bs st a0 K) : eb_Ct l Γ yX1_group cX1_group 5 (some (.object "EvenBodies$Group")) (rmX1_group bc bs) [.ref a0] st (eb_oR K) := by
  refine eb_of (by decide) (Nat.le_of_ble_eq_true rfl) (fun X P hP hX0 => ?_)
  suffices hgo : (0 ≤ bc ∧ 0 ≤ bs) → eb_G l Γ P X cX1_group RX1 5 (some (.object "EvenBodies$Group")) (rmX1_group bc bs) 0 [(0, .ref a0)] [] st 0 0 from hgo ⟨Nat.zero_le _, Nat.zero_le _⟩
  intro hu
  refine eg_aload_n 0 dX1_group_0 rfl rfl ?_
  obtain ⟨fs, v1, he, hv, h⟩ := h
  refine eg_get 4 in_X1 he rfl (Nat.le_of_ble_eq_true rfl) q133 rfl hv dX1_group_1 ?_
  refine eb_jp3_e (J := fun (g2 : eb_S) (u3 : Nat) (w4 : Nat) => (u3 ≤ bc ∧ w4 ≤ bs) → eb_G l Γ P X cX1_group RX1 5 (some (.object "EvenBodies$Group")) (rmX1_group bc bs) 89 [(0, .ref a0)] [] g2 u3 w4) h ?_ ?_
  · clear h
    intro g2 u3 w4 h hu
    refine eg_aload_n 0 dX1_group_89 rfl rfl ?_
    obtain ⟨fs, v5, he, hv, h⟩ := h
    refine eg_get 3 in_X1 he rfl (Nat.le_of_ble_eq_true rfl) q131 rfl hv dX1_group_90 ?_
    exact eg_aret dX1_group_93 (Or.inl ⟨_, rfl⟩) (eb_rfz v5) hu.1 hu.2 (hP _ _ ⟨v5, rfl, h⟩)
  · clear h
    intro k6 hk6 h
    refine eg_if_ne dX1_group_4 (fun c53 => ?_) (fun c53 => ?_)
    · replace h := h.2 c53
      exact hk6 st 0 0 h hu
    · replace h := h.1 c53
      refine eg_aload_n 0 dX1_group_7 rfl rfl ?_
      refine eg_iconst dX1_group_8 kc_1 ?_
      obtain ⟨fs, he, hlen, h⟩ := h
      refine eh_put 4 in_X1 he rfl (Nat.le_of_ble_eq_true rfl) tyX1 tyX1_ok nmX1 q133 rfl rfl rfl rfl hlen dX1_group_9 (fun g7 eg7 => ?_)
      replace h := h g7 eg7
      refine eg_lconst (v := 1) dX1_group_12 rfl ?_
      refine eg_lstore_n (lv' := [(1, .long 1), (0, .ref a0)]) dX1_group_13 rfl (Nat.le_of_ble_eq_true rfl) rfl ?_
      refine eg_aload_n 1 dX1_group_14 rfl rfl ?_
      obtain ⟨hcs, h⟩ := h
      have hM0 := h
      clear h
      refine ec_VIp (rest := []) (ctX1_all hM0) (lw_V q245 q216 q217 q75 q218) rfl rfl hcs nX1_all ⟨Nat.le_of_ble_eq_true rfl, Nat.le_of_ble_eq_true rfl⟩ ⟨rfl, rfl⟩ hu rfl rfl (Nat.le_of_ble_eq_true rfl) dX1_group_15 (fun v8 h => ?_)
      clear hM0
      refine eg_istore_n (lv' := [(3, .int v8), (1, .long 1), (0, .ref a0)]) dX1_group_18 rfl (Nat.le_of_ble_eq_true rfl) rfl ?_
      refine eb_jp4_e (J := fun (x1_12 : Int64) (g13 : eb_S) (u14 : Nat) (w15 : Nat) => (u14 ≤ bc ∧ w15 ≤ bs) → eb_G l Γ P X cX1_group RX1 5 (some (.object "EvenBodies$Group")) (rmX1_group bc bs) 57 [(0, .ref a0), (1, .long x1_12)] [] g13 u14 w15) h ?_ ?_
      · clear h
        intro x1_12 g13 u14 w15 h hu
        refine eg_aload_n 0 dX1_group_57 rfl rfl ?_
        refine eg_lload_n 1 dX1_group_58 rfl rfl ?_
        refine eg_lconst (v := 0) dX1_group_59 rfl ?_
        refine eg_lcmp dX1_group_60 ?_
        refine eb_jp4_e (J := fun (s16 : Option Nat) (g17 : eb_S) (u18 : Nat) (w19 : Nat) => (u18 ≤ bc ∧ w19 ≤ bs) → eb_G l Γ P X cX1_group RX1 5 (some (.object "EvenBodies$Group")) (rmX1_group bc bs) 86 [(0, .ref a0)] [va_rf s16, .ref a0] g17 u18 w19) h ?_ ?_
        · clear h
          intro s16 g17 u18 w19 h hu
          obtain ⟨fs, he, hlen, h⟩ := h
          refine eh_put 3 in_X1 he rfl (Nat.le_of_ble_eq_true rfl) tyX1 tyX1_ok nmX1 q131 rfl rfl (eb_rfN s16 (Or.inl ⟨_, rfl⟩)) (eb_rfF s16 (Or.inl ⟨_, rfl⟩)) hlen dX1_group_86 (fun g20 eg20 => ?_)
          replace h := h g20 eg20
          exact hk6 g20 u18 w19 h hu
        · clear h
          intro k21 hk21 h
          refine eb_jp0_e (J := (u14 ≤ bc ∧ w15 ≤ bs) → eb_G l Γ P X cX1_group RX1 5 (some (.object "EvenBodies$Group")) (rmX1_group bc bs) 85 [(0, .ref a0)] [.ref a0] g13 u14 w15) h ?_ ?_
          · clear h
            intro  h hu
            refine eg_null dX1_group_85 ?_
            exact hk21 none g13 u14 w15 h hu
          · clear h
            intro k22 hk22 h
            refine eg_if_le dX1_group_61 (fun c30 => ?_) (fun c30 => ?_)
            · replace h := h.1 c30
              exact eg_sub [0] rfl (hk22 h hu)
            · replace h := h.2 c30
              refine eg_lload_n 1 dX1_group_64 rfl rfl ?_
              refine eg_ldc2 dX1_group_65 q329 ?_
              refine eg_lcmp dX1_group_68 ?_
              refine eg_if_gt dX1_group_69 (fun c29 => ?_) (fun c29 => ?_)
              · replace h := h.1 c29
                exact eg_sub [0] rfl (hk22 h hu)
              · replace h := h.2 c29
                obtain ⟨hc1, hs1, h⟩ := h
                refine eh_new (ci := 7) (fs := [.int 0, .int 0, .null, .null, .null, .null]) in_X8 tyX8 tyX8_ok q330 q331 q84 rfl (by decide +kernel) hc1 hs1 dX1_group_72 (fun p23 qp23 g24 eg24 => ?_)
                replace h := h p23 qp23 g24 eg24
                replace hu := And.intro hc1 hs1
                refine eg_dup dX1_group_75 rfl ?_
                refine eg_aload_n 0 dX1_group_76 rfl rfl ?_
                refine eg_lload_n 1 dX1_group_77 rfl rfl ?_
                refine eg_l2i dX1_group_78 ?_
                obtain ⟨c27, s28, hca, h⟩ := h
                have hM0 := h
                clear h
                refine ec_IVa (rest := [.ref p23, .ref a0]) (ctX8_init hM0) q334 q84 q332 q333 rfl nX8_init ⟨Nat.le_of_ble_eq_true rfl, Nat.le_of_ble_eq_true rfl⟩ ⟨rfl, rfl⟩ hca rfl rfl (Nat.le_of_ble_eq_true rfl) dX1_group_79 (fun g26 h => ?_)
                clear hM0
                replace hu := hca
                refine eg_goto dX1_group_82 ?_
                exact eg_sub [0] rfl (hk21 (some p23) g26 (((u14 + 1) + c27)) (((w15 + 6) + s28)) h hu)
      · clear h
        intro k31 hk31 h
        refine eg_sub [2, 1, 0] rfl ?_
        refine eb_loop5_e (J := fun (x1_32 : Int64) (x3_33 : Int32) (g34 : eb_S) (u35 : Nat) (w36 : Nat) => (u35 ≤ bc ∧ w36 ≤ bs) → eb_G l Γ P X cX1_group RX1 5 (some (.object "EvenBodies$Group")) (rmX1_group bc bs) 19 [(0, .ref a0), (1, .long x1_32), (3, .int x3_33)] [] g34 u35 w36) h ?_ hu
        clear h
        clear hu
        intro r37 hr37 x1_32 x3_33 g34 u35 w36 h hu
        refine eg_iload_n 2 dX1_group_19 rfl rfl ?_
        refine eg_if_eq dX1_group_20 (fun c52 => ?_) (fun c52 => ?_)
        · replace h := h.1 c52
          exact eg_sub [0, 1] rfl (hk31 x1_32 g34 u35 w36 h hu)
        · replace h := h.2 c52
          refine eg_aload_n 0 dX1_group_23 rfl rfl ?_
          refine eg_iload_n 2 dX1_group_24 rfl rfl ?_
          have hM0 := h
          clear h
          refine ec_SIp (rest := [.ref a0]) (ctJ1_lowestOneBit hM0) (lw_S q246 q247 q78 q248) nJ1_lowestOneBit ⟨Nat.le_of_ble_eq_true rfl, Nat.le_of_ble_eq_true rfl⟩ ⟨rfl, rfl⟩ hu rfl rfl (Nat.le_of_ble_eq_true rfl) dX1_group_25 (fun v38 h => ?_)
          clear hM0
          refine eg_iload_n 2 dX1_group_28 rfl rfl ?_
          obtain ⟨hcs, h⟩ := h
          have hM0 := h
          clear h
          refine ec_VIp (rest := []) (ctX1_reached hM0) (lw_V q249 q250 q251 q75 q252) rfl rfl hcs nX1_reached ⟨Nat.le_of_ble_eq_true rfl, Nat.le_of_ble_eq_true rfl⟩ ⟨rfl, rfl⟩ hu rfl rfl (Nat.le_of_ble_eq_true rfl) dX1_group_29 (fun v42 h => ?_)
          clear hM0
          refine eg_istore (lv' := [(4, .int v42), (0, .ref a0), (1, .long x1_32), (3, .int x3_33)]) dX1_group_32 (Nat.le_of_ble_eq_true rfl) rfl ?_
          refine eg_lload_n 2 dX1_group_34 rfl rfl ?_
          refine eg_aload_n 1 dX1_group_35 rfl rfl ?_
          refine eg_iload 0 dX1_group_36 rfl ?_
          obtain ⟨c48, s49, hca, h⟩ := h
          have hM0 := h
          clear h
          refine ec_SRa (rest := [.long x1_32]) (ctX3_of hM0) (lw_S q254 q255 q79 q256) nX3_of ⟨Nat.le_of_ble_eq_true rfl, Nat.le_of_ble_eq_true rfl⟩ ⟨rfl, rfl⟩ hca rfl rfl (Nat.le_of_ble_eq_true rfl) dX1_group_38 (fun v46 g47 h => ?_)
          clear hM0
          replace hu := hca
          obtain ⟨p50, rfl, h⟩ := h
          have hM0 := h
          clear h
          refine eg_psize (rest := [.long x1_32]) q310 hM0 hu ⟨Nat.le_of_ble_eq_true rfl, Nat.le_of_ble_eq_true rfl⟩ rfl (Nat.le_of_ble_eq_true rfl) dX1_group_41 (fun v51 h => ?_)
          clear hM0
          refine eg_i2l dX1_group_44 ?_
          refine eg_lmul dX1_group_45 ?_
          refine eg_lstore_n (lv' := [(1, .long (x1_32 * (Int32.toInt64 v51))), (4, .int v42), (0, .ref a0), (3, .int x3_33)]) dX1_group_46 rfl (Nat.le_of_ble_eq_true rfl) rfl ?_
          refine eg_iload_n 3 dX1_group_47 rfl rfl ?_
          refine eg_iload 1 dX1_group_48 rfl ?_
          refine eg_iconst dX1_group_50 kc_m1 ?_
          refine eg_ixor dX1_group_51 ?_
          refine eg_iand dX1_group_52 ?_
          refine eg_istore_n (lv' := [(3, .int (x3_33 &&& (v42 ^^^ (-1)))), (1, .long (x1_32 * (Int32.toInt64 v51))), (4, .int v42), (0, .ref a0)]) dX1_group_53 rfl (Nat.le_of_ble_eq_true rfl) rfl ?_
          refine eg_goto dX1_group_54 ?_
          exact eg_sub [3, 1, 0] rfl (hr37 ((x1_32 * (Int32.toInt64 v51))) ((x3_33 &&& (v42 ^^^ (-1)))) g47 (u35 + c48) (w36 + s49) h hu)
def MX0_why (Γ : eb_C) (bc bs : Nat) (st : eb_S) (a0 : Nat) (a1 : Int32) (a2 : Int32) (K : Int32 → eb_S → Prop) : Prop :=
  MX0_isBody a1 (fun v1 => eb_jp0 (K (-2) st) (fun k5 => eb_br (v1 = 0) (k5) (eb_br (a2 = 0) (k5) (eb_gr st a0 0 0 (fun v6 => eb_nn v6 (fun p7 => eb_lr Γ st p7 7 a1 (fun v8 => eb_nn v8 (fun p9 => eb_cs st p9 [1] ∧ ∃ c12 s13 : Nat, (0 + c12 ≤ bc ∧ 0 + s13 ≤ bs) ∧ MX1_group Γ c12 s13 st p9 (fun v10 g11 => eb_nb v10 (K (-5) g11) (fun p14 => K 1 g11))))))))))
abbrev rmX0_why (bc bs : Nat) : Room := { frames := 13, cells := bc, slots := bs, locals := 284 }
theorem nX0_why : eb_ar yX0_why 2 := by decide +kernel
theorem dX0_why_0 : eb_dc cX0_why 0 (.iload_n 1) 1 1 := by decide +kernel
theorem dX0_why_1 : eb_dc cX0_why 1 (.invokestatic 30) 3 4 := by decide +kernel
theorem dX0_why_4 : eb_dj cX0_why 4 (.ifCond .eq 7) 7 7 11 := by decide +kernel
theorem dX0_why_7 : eb_dc cX0_why 7 (.iload_n 2) 1 8 := by decide +kernel
theorem dX0_why_8 : eb_dj cX0_why 8 (.ifCond .ne 8) 8 11 16 := by decide +kernel
theorem dX0_why_11 : eb_dc cX0_why 11 (.bipush (-2)) 2 13 := by decide +kernel
theorem dX0_why_13 : eb_dj cX0_why 13 (.goto 21) 21 16 34 := by decide +kernel
theorem dX0_why_16 : eb_dc cX0_why 16 (.aload_n 0) 1 17 := by decide +kernel
theorem dX0_why_17 : eb_dc cX0_why 17 (.getfield 15) 3 20 := by decide +kernel
theorem dX0_why_20 : eb_dc cX0_why 20 (.iload_n 1) 1 21 := by decide +kernel
theorem dX0_why_21 : eb_dc cX0_why 21 (.aaload) 1 22 := by decide +kernel
theorem dX0_why_22 : eb_dc cX0_why 22 (.invokevirtual 66) 3 25 := by decide +kernel
theorem dX0_why_25 : eb_dj cX0_why 25 (.ifnonnull 8) 8 28 33 := by decide +kernel
theorem dX0_why_28 : eb_dc cX0_why 28 (.bipush (-5)) 2 30 := by decide +kernel
theorem dX0_why_30 : eb_dj cX0_why 30 (.goto 4) 4 33 34 := by decide +kernel
theorem dX0_why_33 : eb_dc cX0_why 33 (.iconst 1) 1 34 := by decide +kernel
theorem dX0_why_34 : eb_dc cX0_why 34 (.ireturn) 1 35 := by decide +kernel
theorem ctX0_why {l : Launch} {Γ : eb_C} {bc bs : Nat} {st : eb_S} {a0 : Nat} {a1 : Int32} {a2 : Int32} {K : Int32 → eb_S → Prop} (h : MX0_why Γ bc bs st a0 a1 a2 K) : eb_Ct l Γ yX0_why cX0_why 3 (some .int) (rmX0_why bc bs) [.ref a0, .int a1, .int a2] st (eb_oI K) := by
  refine eb_of (by decide) (Nat.le_of_ble_eq_true rfl) (fun X P hP hX0 => ?_)
  suffices hgo : (0 ≤ bc ∧ 0 ≤ bs) → eb_G l Γ P X cX0_why RX0 3 (some .int) (rmX0_why bc bs) 0 [(0, .ref a0), (1, .int a1), (2, .int a2)] [] st 0 0 from hgo ⟨Nat.zero_le _, Nat.zero_le _⟩
  intro hu
  refine eg_iload_n 1 dX0_why_0 rfl rfl ?_
  have hM0 := h
  clear h
  refine ec_SIp (rest := []) (ctX0_isBody hM0) (lw_S q182 q183 q74 q184) nX0_isBody ⟨Nat.le_of_ble_eq_true rfl, Nat.le_of_ble_eq_true rfl⟩ ⟨rfl, rfl⟩ hu rfl rfl (Nat.le_of_ble_eq_true rfl) dX0_why_1 (fun v1 h => ?_)
  clear hM0
  refine eb_jp0_e (J := (0 ≤ bc ∧ 0 ≤ bs) → eb_G l Γ P X cX0_why RX0 3 (some .int) (rmX0_why bc bs) 11 [] [] st 0 0) h ?_ ?_
  · clear h
    intro  h hu
    refine eg_bipush dX0_why_11 kb_m2 ?_
    refine eg_goto dX0_why_13 ?_
    exact eg_iret dX0_why_34 hu.1 hu.2 (hP _ _ ⟨_, rfl, h⟩)
  · clear h
    intro k5 hk5 h
    refine eg_if_eq dX0_why_4 (fun c16 => ?_) (fun c16 => ?_)
    · replace h := h.1 c16
      exact eg_sub [] rfl (hk5 h hu)
    · replace h := h.2 c16
      refine eg_iload_n 2 dX0_why_7 rfl rfl ?_
      refine eg_if_ne dX0_why_8 (fun c15 => ?_) (fun c15 => ?_)
      · replace h := h.2 c15
        refine eg_aload_n 0 dX0_why_16 rfl rfl ?_
        obtain ⟨fs, v6, he, hv, h⟩ := h
        refine eg_get 0 in_X0 he rfl (Nat.le_of_ble_eq_true rfl) q159 rfl hv dX0_why_17 ?_
        refine eg_iload_n 1 dX0_why_20 rfl rfl ?_
        obtain ⟨p7, rfl, h⟩ := h
        obtain ⟨nA, fA, he, hb, h⟩ := h
        refine eg_aald (t := 7) (ty := .object "EvenBodies$Body") rfl rfl he hb dX0_why_21 (fun v8 ev8 => ?_)
        replace h := h v8 ev8
        obtain ⟨p9, rfl, h⟩ := h
        obtain ⟨hcs, h⟩ := h
        obtain ⟨c12, s13, hca, h⟩ := h
        have hM0 := h
        clear h
        refine ec_VRa (rest := []) (ctX1_group hM0) (lw_V q241 q242 q243 q75 q244) rfl rfl hcs nX1_group ⟨Nat.le_of_ble_eq_true rfl, Nat.le_of_ble_eq_true rfl⟩ ⟨rfl, rfl⟩ hca rfl rfl (Nat.le_of_ble_eq_true rfl) dX0_why_22 (fun v10 g11 h => ?_)
        clear hM0
        replace hu := hca
        refine eg_ifnonnull (v := v10) dX0_why_25 (fun p14 hnon => ?_) (fun hnul => ?_)
        · subst hnon
          replace h := h.2 p14 rfl
          refine eg_iconst dX0_why_33 kc_1 ?_
          exact eg_iret dX0_why_34 hu.1 hu.2 (hP _ _ ⟨_, rfl, h⟩)
        · subst hnul
          replace h := h.1 rfl
          refine eg_bipush dX0_why_28 kb_m5 ?_
          refine eg_goto dX0_why_30 ?_
          exact eg_iret dX0_why_34 hu.1 hu.2 (hP _ _ ⟨_, rfl, h⟩)
      · replace h := h.1 c15
        exact eg_sub [] rfl (hk5 h hu)
def MX0_size (Γ : eb_C) (bc bs : Nat) (st : eb_S) (a0 : Nat) (a1 : Int32) (K : Int32 → eb_S → Prop) : Prop :=
  eb_cs st a0 [0] ∧ ∃ c3 s4 : Nat, (0 + c3 ≤ bc ∧ 0 + s4 ≤ bs) ∧ MX0_why Γ c3 s4 st a0 a1 1 (fun v1 g2 => eb_br (v1 = 1) (eb_gr g2 a0 0 0 (fun v5 => eb_nn v5 (fun p6 => eb_lr Γ g2 p6 7 a1 (fun v7 => eb_nn v7 (fun p8 => eb_cs g2 p8 [1] ∧ ∃ c11 s12 : Nat, ((0 + c3) + c11 ≤ bc ∧ (0 + s4) + s12 ≤ bs) ∧ MX1_group Γ c11 s12 g2 p8 (fun v9 g10 => eb_nn v9 (fun p13 => eb_gi g10 p13 7 1 (fun v14 => K v14 g10)))))))) (K v1 g2))
abbrev rmX0_size (bc bs : Nat) : Room := { frames := 14, cells := bc, slots := bs, locals := 306 }
theorem nX0_size : eb_ar yX0_size 1 := by decide +kernel
theorem dX0_size_0 : eb_dc cX0_size 0 (.aload_n 0) 1 1 := by decide +kernel
theorem dX0_size_1 : eb_dc cX0_size 1 (.iload_n 1) 1 2 := by decide +kernel
theorem dX0_size_2 : eb_dc cX0_size 2 (.iconst 1) 1 3 := by decide +kernel
theorem dX0_size_3 : eb_dc cX0_size 3 (.invokevirtual 75) 3 6 := by decide +kernel
theorem dX0_size_6 : eb_dc cX0_size 6 (.istore_n 2) 1 7 := by decide +kernel
theorem dX0_size_7 : eb_dc cX0_size 7 (.iload_n 2) 1 8 := by decide +kernel
theorem dX0_size_8 : eb_dc cX0_size 8 (.iconst 1) 1 9 := by decide +kernel
theorem dX0_size_9 : eb_dj cX0_size 9 (.if_icmp .eq 7) 7 12 16 := by decide +kernel
theorem dX0_size_12 : eb_dc cX0_size 12 (.iload_n 2) 1 13 := by decide +kernel
theorem dX0_size_13 : eb_dj cX0_size 13 (.goto 15) 15 16 28 := by decide +kernel
theorem dX0_size_16 : eb_dc cX0_size 16 (.aload_n 0) 1 17 := by decide +kernel
theorem dX0_size_17 : eb_dc cX0_size 17 (.getfield 15) 3 20 := by decide +kernel
theorem dX0_size_20 : eb_dc cX0_size 20 (.iload_n 1) 1 21 := by decide +kernel
theorem dX0_size_21 : eb_dc cX0_size 21 (.aaload) 1 22 := by decide +kernel
theorem dX0_size_22 : eb_dc cX0_size 22 (.invokevirtual 66) 3 25 := by decide +kernel
theorem dX0_size_25 : eb_dc cX0_size 25 (.getfield 70) 3 28 := by decide +kernel
theorem dX0_size_28 : eb_dc cX0_size 28 (.ireturn) 1 29 := by decide +kernel
theorem ctX0_size {l : Launch} {Γ : eb_C} {bc bs : Nat} {st : eb_S} {a0 : Nat} {a1 : Int32} {K : Int32 → eb_S → Prop} (h : MX0_size Γ bc bs st a0 a1 K) : eb_Ct l Γ yX0_size cX0_size 3 (some .int) (rmX0_size bc bs) [.ref a0, .int a1] st (eb_oI K) := by
  refine eb_of (by decide) (Nat.le_of_ble_eq_true rfl) (fun X P hP hX0 => ?_)
  suffices hgo : (0 ≤ bc ∧ 0 ≤ bs) → eb_G l Γ P X cX0_size RX0 3 (some .int) (rmX0_size bc bs) 0 [(0, .ref a0), (1, .int a1)] [] st 0 0 from hgo ⟨Nat.zero_le _, Nat.zero_le _⟩
  intro hu
  refine eg_aload_n 0 dX0_size_0 rfl rfl ?_
  refine eg_iload_n 1 dX0_size_1 rfl rfl ?_
  refine eg_iconst dX0_size_2 kc_1 ?_
  obtain ⟨hcs, h⟩ := h
  obtain ⟨c3, s4, hca, h⟩ := h
  have hM0 := h
  clear h
  refine ec_VIa (rest := []) (ctX0_why hM0) (lw_V q237 q239 qs1 q74 q240) rfl rfl hcs nX0_why ⟨Nat.le_of_ble_eq_true rfl, Nat.le_of_ble_eq_true rfl⟩ ⟨rfl, rfl⟩ hca rfl rfl (Nat.le_of_ble_eq_true rfl) dX0_size_3 (fun v1 g2 h => ?_)
  clear hM0
  replace hu := hca
  refine eg_istore_n (lv' := [(2, .int v1), (0, .ref a0), (1, .int a1)]) dX0_size_6 rfl (Nat.le_of_ble_eq_true rfl) rfl ?_
  refine eg_iload_n 0 dX0_size_7 rfl rfl ?_
  refine eg_iconst dX0_size_8 kc_1 ?_
  refine eg_icmp_eq dX0_size_9 (fun c15 => ?_) (fun c15 => ?_)
  · replace h := h.1 c15
    refine eg_aload_n 1 dX0_size_16 rfl rfl ?_
    obtain ⟨fs, v5, he, hv, h⟩ := h
    refine eg_get 0 in_X0 he rfl (Nat.le_of_ble_eq_true rfl) q159 rfl hv dX0_size_17 ?_
    refine eg_iload_n 2 dX0_size_20 rfl rfl ?_
    obtain ⟨p6, rfl, h⟩ := h
    obtain ⟨nA, fA, he, hb, h⟩ := h
    refine eg_aald (t := 7) (ty := .object "EvenBodies$Body") rfl rfl he hb dX0_size_21 (fun v7 ev7 => ?_)
    replace h := h v7 ev7
    obtain ⟨p8, rfl, h⟩ := h
    obtain ⟨hcs, h⟩ := h
    obtain ⟨c11, s12, hca, h⟩ := h
    have hM0 := h
    clear h
    refine ec_VRa (rest := []) (ctX1_group hM0) (lw_V q241 q242 q243 q75 q244) rfl rfl hcs nX1_group ⟨Nat.le_of_ble_eq_true rfl, Nat.le_of_ble_eq_true rfl⟩ ⟨rfl, rfl⟩ hca rfl rfl (Nat.le_of_ble_eq_true rfl) dX0_size_22 (fun v9 g10 h => ?_)
    clear hM0
    replace hu := hca
    obtain ⟨p13, rfl, h⟩ := h
    obtain ⟨fs, v14, he, hv, h⟩ := h
    refine eg_getN 1 in_X8 he rfl (Nat.le_of_ble_eq_true rfl) (List.mem_of_getElem? (i := 7) rfl) rfl hv dX0_size_25 ?_
    exact eg_iret dX0_size_28 hu.1 hu.2 (hP _ _ ⟨_, rfl, h⟩)
  · replace h := h.2 c15
    refine eg_iload_n 0 dX0_size_12 rfl rfl ?_
    refine eg_goto dX0_size_13 ?_
    exact eg_iret dX0_size_28 hu.1 hu.2 (hP _ _ ⟨_, rfl, h⟩)
def MX0_isElement (Γ : eb_C) (bc bs : Nat) (st : eb_S) (a0 : Nat) (a1 : Int32) (a2 : Int32) (K : Int32 → eb_S → Prop) : Prop :=
  MX0_isBody a1 (fun v1 => eb_br (v1 = 0) (K 0 st) (eb_br (a2 < 0) (K 0 st) (eb_gr st a0 0 0 (fun v5 => eb_nn v5 (fun p6 => eb_lr Γ st p6 7 a1 (fun v7 => eb_nn v7 (fun p8 => eb_cs st p8 [1] ∧ ∃ c11 s12 : Nat, (0 + c11 ≤ bc ∧ 0 + s12 ≤ bs) ∧ MX1_group Γ c11 s12 st p8 (fun v9 g10 => eb_nb v9 (K 1 g10) (fun p13 => eb_gr g10 a0 0 0 (fun v14 => eb_nn v14 (fun p15 => eb_lr Γ g10 p15 7 a1 (fun v16 => eb_nn v16 (fun p17 => eb_cs g10 p17 [1] ∧ ∃ c20 s21 : Nat, ((0 + c11) + c20 ≤ bc ∧ (0 + s12) + s21 ≤ bs) ∧ MX1_group Γ c20 s21 g10 p17 (fun v18 g19 => eb_nn v18 (fun p22 => eb_gi g19 p22 7 1 (fun v23 => eb_br (v23 ≤ a2) (K 0 g19) (K 1 g19)))))))))))))))))
abbrev rmX0_isElement (bc bs : Nat) : Room := { frames := 13, cells := bc, slots := bs, locals := 284 }
theorem nX0_isElement : eb_ar yX0_isElement 2 := by decide +kernel
theorem dX0_isElement_0 : eb_dc cX0_isElement 0 (.iload_n 1) 1 1 := by decide +kernel
theorem dX0_isElement_1 : eb_dc cX0_isElement 1 (.invokestatic 30) 3 4 := by decide +kernel
theorem dX0_isElement_4 : eb_dj cX0_isElement 4 (.ifCond .eq 39) 39 7 43 := by decide +kernel
theorem dX0_isElement_7 : eb_dc cX0_isElement 7 (.iload_n 2) 1 8 := by decide +kernel
theorem dX0_isElement_8 : eb_dj cX0_isElement 8 (.ifCond .lt 35) 35 11 43 := by decide +kernel
theorem dX0_isElement_11 : eb_dc cX0_isElement 11 (.aload_n 0) 1 12 := by decide +kernel
theorem dX0_isElement_12 : eb_dc cX0_isElement 12 (.getfield 15) 3 15 := by decide +kernel
theorem dX0_isElement_15 : eb_dc cX0_isElement 15 (.iload_n 1) 1 16 := by decide +kernel
theorem dX0_isElement_16 : eb_dc cX0_isElement 16 (.aaload) 1 17 := by decide +kernel
theorem dX0_isElement_17 : eb_dc cX0_isElement 17 (.invokevirtual 66) 3 20 := by decide +kernel
theorem dX0_isElement_20 : eb_dj cX0_isElement 20 (.ifnull 19) 19 23 39 := by decide +kernel
theorem dX0_isElement_23 : eb_dc cX0_isElement 23 (.iload_n 2) 1 24 := by decide +kernel
theorem dX0_isElement_24 : eb_dc cX0_isElement 24 (.aload_n 0) 1 25 := by decide +kernel
theorem dX0_isElement_25 : eb_dc cX0_isElement 25 (.getfield 15) 3 28 := by decide +kernel
theorem dX0_isElement_28 : eb_dc cX0_isElement 28 (.iload_n 1) 1 29 := by decide +kernel
theorem dX0_isElement_29 : eb_dc cX0_isElement 29 (.aaload) 1 30 := by decide +kernel
theorem dX0_isElement_30 : eb_dc cX0_isElement 30 (.invokevirtual 66) 3 33 := by decide +kernel
theorem dX0_isElement_33 : eb_dc cX0_isElement 33 (.getfield 70) 3 36 := by decide +kernel
theorem dX0_isElement_36 : eb_dj cX0_isElement 36 (.if_icmp .ge 7) 7 39 43 := by decide +kernel
theorem dX0_isElement_39 : eb_dc cX0_isElement 39 (.iconst 1) 1 40 := by decide +kernel
theorem dX0_isElement_40 : eb_dj cX0_isElement 40 (.goto 4) 4 43 44 := by decide +kernel
theorem dX0_isElement_43 : eb_dc cX0_isElement 43 (.iconst 0) 1 44 := by decide +kernel
theorem dX0_isElement_44 : eb_dc cX0_isElement 44 (.ireturn) 1 45 := by decide +kernel
theorem ctX0_isElement {l : Launch} {Γ : eb_C} {bc bs : Nat} {st : eb_S} {a0 : Nat} {a1 : Int32} {a2 : Int32} {K : Int32 → eb_S → Prop} (h : MX0_isElement Γ bc bs st a0 a1 a2 K) : eb_Ct l Γ yX0_isElement cX0_isElement 3 (some .boolean) (rmX0_isElement bc bs) [.ref a0, .int a1, .int a2] st (eb_oI K) := by
  refine eb_of (by decide) (Nat.le_of_ble_eq_true rfl) (fun X P hP hX0 => ?_)
  suffices hgo : (0 ≤ bc ∧ 0 ≤ bs) → eb_G l Γ P X cX0_isElement RX0 3 (some .boolean) (rmX0_isElement bc bs) 0 [(0, .ref a0), (1, .int a1), (2, .int a2)] [] st 0 0 from hgo ⟨Nat.zero_le _, Nat.zero_le _⟩
  intro hu
  refine eg_iload_n 1 dX0_isElement_0 rfl rfl ?_
  have hM0 := h
  clear h
  refine ec_SIp (rest := []) (ctX0_isBody hM0) (lw_S q182 q183 q74 q184) nX0_isBody ⟨Nat.le_of_ble_eq_true rfl, Nat.le_of_ble_eq_true rfl⟩ ⟨rfl, rfl⟩ hu rfl rfl (Nat.le_of_ble_eq_true rfl) dX0_isElement_1 (fun v1 h => ?_)
  clear hM0
  refine eg_if_eq dX0_isElement_4 (fun c26 => ?_) (fun c26 => ?_)
  · replace h := h.1 c26
    refine eg_iconst dX0_isElement_43 kc_0 ?_
    exact eg_zret dX0_isElement_44 rfl hu.1 hu.2 (hP _ _ ⟨_, rfl, h⟩)
  · replace h := h.2 c26
    refine eg_iload_n 2 dX0_isElement_7 rfl rfl ?_
    refine eg_if_lt dX0_isElement_8 (fun c25 => ?_) (fun c25 => ?_)
    · replace h := h.1 c25
      refine eg_iconst dX0_isElement_43 kc_0 ?_
      exact eg_zret dX0_isElement_44 rfl hu.1 hu.2 (hP _ _ ⟨_, rfl, h⟩)
    · replace h := h.2 c25
      refine eg_aload_n 0 dX0_isElement_11 rfl rfl ?_
      obtain ⟨fs, v5, he, hv, h⟩ := h
      refine eg_get 0 in_X0 he rfl (Nat.le_of_ble_eq_true rfl) q159 rfl hv dX0_isElement_12 ?_
      refine eg_iload_n 1 dX0_isElement_15 rfl rfl ?_
      obtain ⟨p6, rfl, h⟩ := h
      obtain ⟨nA, fA, he, hb, h⟩ := h
      refine eg_aald (t := 7) (ty := .object "EvenBodies$Body") rfl rfl he hb dX0_isElement_16 (fun v7 ev7 => ?_)
      replace h := h v7 ev7
      obtain ⟨p8, rfl, h⟩ := h
      obtain ⟨hcs, h⟩ := h
      obtain ⟨c11, s12, hca, h⟩ := h
      have hM0 := h
      clear h
      refine ec_VRa (rest := []) (ctX1_group hM0) (lw_V q241 q242 q243 q75 q244) rfl rfl hcs nX1_group ⟨Nat.le_of_ble_eq_true rfl, Nat.le_of_ble_eq_true rfl⟩ ⟨rfl, rfl⟩ hca rfl rfl (Nat.le_of_ble_eq_true rfl) dX0_isElement_17 (fun v9 g10 h => ?_)
      clear hM0
      replace hu := hca
      refine eg_ifnull (v := v9) dX0_isElement_20 (fun hnul => ?_) (fun p13 hnon => ?_)
      · subst hnul
        replace h := h.1 rfl
        refine eg_iconst dX0_isElement_39 kc_1 ?_
        refine eg_goto dX0_isElement_40 ?_
        exact eg_zret dX0_isElement_44 rfl hu.1 hu.2 (hP _ _ ⟨_, rfl, h⟩)
      · subst hnon
        replace h := h.2 p13 rfl
        refine eg_iload_n 2 dX0_isElement_23 rfl rfl ?_
        refine eg_aload_n 0 dX0_isElement_24 rfl rfl ?_
        obtain ⟨fs, v14, he, hv, h⟩ := h
        refine eg_get 0 in_X0 he rfl (Nat.le_of_ble_eq_true rfl) q159 rfl hv dX0_isElement_25 ?_
        refine eg_iload_n 1 dX0_isElement_28 rfl rfl ?_
        obtain ⟨p15, rfl, h⟩ := h
        obtain ⟨nA, fA, he, hb, h⟩ := h
        refine eg_aald (t := 7) (ty := .object "EvenBodies$Body") rfl rfl he hb dX0_isElement_29 (fun v16 ev16 => ?_)
        replace h := h v16 ev16
        obtain ⟨p17, rfl, h⟩ := h
        obtain ⟨hcs, h⟩ := h
        obtain ⟨c20, s21, hca, h⟩ := h
        have hM0 := h
        clear h
        refine ec_VRa (rest := [.int a2]) (ctX1_group hM0) (lw_V q241 q242 q243 q75 q244) rfl rfl hcs nX1_group ⟨Nat.le_of_ble_eq_true rfl, Nat.le_of_ble_eq_true rfl⟩ ⟨rfl, rfl⟩ hca rfl rfl (Nat.le_of_ble_eq_true rfl) dX0_isElement_30 (fun v18 g19 h => ?_)
        clear hM0
        replace hu := hca
        obtain ⟨p22, rfl, h⟩ := h
        obtain ⟨fs, v23, he, hv, h⟩ := h
        refine eg_getN 1 in_X8 he rfl (Nat.le_of_ble_eq_true rfl) (List.mem_of_getElem? (i := 7) rfl) rfl hv dX0_isElement_33 ?_
        refine eg_icmp_ge dX0_isElement_36 (fun c24 => ?_) (fun c24 => ?_)
        · replace h := h.1 c24
          refine eg_iconst dX0_isElement_43 kc_0 ?_
          exact eg_zret dX0_isElement_44 rfl hu.1 hu.2 (hP _ _ ⟨_, rfl, h⟩)
        · replace h := h.2 c24
          refine eg_iconst dX0_isElement_39 kc_1 ?_
          refine eg_goto dX0_isElement_40 ?_
          exact eg_zret dX0_isElement_44 rfl hu.1 hu.2 (hP _ _ ⟨_, rfl, h⟩)
def MX0_length (Γ : eb_C) (bc bs : Nat) (st : eb_S) (a0 : Nat) (a1 : Int32) (a2 : Int32) (K : Int32 → eb_S → Prop) : Prop :=
  eb_cs st a0 [0] ∧ ∃ c3 s4 : Nat, (0 + c3 ≤ bc ∧ 0 + s4 ≤ bs) ∧ MX0_isElement Γ c3 s4 st a0 a1 a2 (fun v1 g2 => eb_cs g2 a0 [0] ∧ ∃ c7 s8 : Nat, ((0 + c3) + c7 ≤ bc ∧ (0 + s4) + s8 ≤ bs) ∧ MX0_why Γ c7 s8 g2 a0 a1 v1 (fun v5 g6 => eb_br (v5 = 1) (eb_gr g6 a0 0 0 (fun v9 => eb_nn v9 (fun p10 => eb_lr Γ g6 p10 7 a1 (fun v11 => eb_nn v11 (fun p12 => eb_cs g6 p12 [1] ∧ ∃ c15 s16 : Nat, ((((0 + c3) + c7)) + c15 ≤ bc ∧ (((0 + s4) + s8)) + s16 ≤ bs) ∧ MX1_group Γ c15 s16 g6 p12 (fun v13 g14 => eb_nn v13 (fun p17 => eb_gr g14 p17 7 5 (fun v18 => eb_nn v18 (fun p19 => eb_li Γ g14 p19 4 a2 (fun v20 => K v20 g14)))))))))) (K v5 g6)))
abbrev rmX0_length (bc bs : Nat) : Room := { frames := 14, cells := bc, slots := bs, locals := 306 }
theorem nX0_length : eb_ar yX0_length 2 := by decide +kernel
theorem dX0_length_0 : eb_dc cX0_length 0 (.aload_n 0) 1 1 := by decide +kernel
theorem dX0_length_1 : eb_dc cX0_length 1 (.iload_n 1) 1 2 := by decide +kernel
theorem dX0_length_2 : eb_dc cX0_length 2 (.aload_n 0) 1 3 := by decide +kernel
theorem dX0_length_3 : eb_dc cX0_length 3 (.iload_n 1) 1 4 := by decide +kernel
theorem dX0_length_4 : eb_dc cX0_length 4 (.iload_n 2) 1 5 := by decide +kernel
theorem dX0_length_5 : eb_dc cX0_length 5 (.invokevirtual 79) 3 8 := by decide +kernel
theorem dX0_length_8 : eb_dc cX0_length 8 (.invokevirtual 75) 3 11 := by decide +kernel
theorem dX0_length_11 : eb_dc cX0_length 11 (.istore_n 3) 1 12 := by decide +kernel
theorem dX0_length_12 : eb_dc cX0_length 12 (.iload_n 3) 1 13 := by decide +kernel
theorem dX0_length_13 : eb_dc cX0_length 13 (.iconst 1) 1 14 := by decide +kernel
theorem dX0_length_14 : eb_dj cX0_length 14 (.if_icmp .eq 7) 7 17 21 := by decide +kernel
theorem dX0_length_17 : eb_dc cX0_length 17 (.iload_n 3) 1 18 := by decide +kernel
theorem dX0_length_18 : eb_dj cX0_length 18 (.goto 17) 17 21 35 := by decide +kernel
theorem dX0_length_21 : eb_dc cX0_length 21 (.aload_n 0) 1 22 := by decide +kernel
theorem dX0_length_22 : eb_dc cX0_length 22 (.getfield 15) 3 25 := by decide +kernel
theorem dX0_length_25 : eb_dc cX0_length 25 (.iload_n 1) 1 26 := by decide +kernel
theorem dX0_length_26 : eb_dc cX0_length 26 (.aaload) 1 27 := by decide +kernel
theorem dX0_length_27 : eb_dc cX0_length 27 (.invokevirtual 66) 3 30 := by decide +kernel
theorem dX0_length_30 : eb_dc cX0_length 30 (.getfield 82) 3 33 := by decide +kernel
theorem dX0_length_33 : eb_dc cX0_length 33 (.iload_n 2) 1 34 := by decide +kernel
theorem dX0_length_34 : eb_dc cX0_length 34 (.baload) 1 35 := by decide +kernel
theorem dX0_length_35 : eb_dc cX0_length 35 (.ireturn) 1 36 := by decide +kernel
theorem ctX0_length {l : Launch} {Γ : eb_C} {bc bs : Nat} {st : eb_S} {a0 : Nat} {a1 : Int32} {a2 : Int32} {K : Int32 → eb_S → Prop} (h : MX0_length Γ bc bs st a0 a1 a2 K) : eb_Ct l Γ yX0_length cX0_length 4 (some .int) (rmX0_length bc bs) [.ref a0, .int a1, .int a2] st (eb_oI K) := by
  refine eb_of (by decide) (Nat.le_of_ble_eq_true rfl) (fun X P hP hX0 => ?_)
  suffices hgo : (0 ≤ bc ∧ 0 ≤ bs) → eb_G l Γ P X cX0_length RX0 4 (some .int) (rmX0_length bc bs) 0 [(0, .ref a0), (1, .int a1), (2, .int a2)] [] st 0 0 from hgo ⟨Nat.zero_le _, Nat.zero_le _⟩
  intro hu
  refine eg_aload_n 0 dX0_length_0 rfl rfl ?_
  refine eg_iload_n 1 dX0_length_1 rfl rfl ?_
  refine eg_aload_n 0 dX0_length_2 rfl rfl ?_
  refine eg_iload_n 1 dX0_length_3 rfl rfl ?_
  refine eg_iload_n 2 dX0_length_4 rfl rfl ?_
  obtain ⟨hcs, h⟩ := h
  obtain ⟨c3, s4, hca, h⟩ := h
  have hM0 := h
  clear h
  refine ec_VIa (rest := [.int a1, .ref a0]) (ctX0_isElement hM0) (lw_V q419 q421 qs5 q74 q422) rfl rfl hcs nX0_isElement ⟨Nat.le_of_ble_eq_true rfl, Nat.le_of_ble_eq_true rfl⟩ ⟨rfl, rfl⟩ hca rfl rfl (Nat.le_of_ble_eq_true rfl) dX0_length_5 (fun v1 g2 h => ?_)
  clear hM0
  replace hu := hca
  obtain ⟨hcs, h⟩ := h
  obtain ⟨c7, s8, hca, h⟩ := h
  have hM0 := h
  clear h
  refine ec_VIa (rest := []) (ctX0_why hM0) (lw_V q237 q239 qs1 q74 q240) rfl rfl hcs nX0_why ⟨Nat.le_of_ble_eq_true rfl, Nat.le_of_ble_eq_true rfl⟩ ⟨rfl, rfl⟩ hca rfl rfl (Nat.le_of_ble_eq_true rfl) dX0_length_8 (fun v5 g6 h => ?_)
  clear hM0
  replace hu := hca
  refine eg_istore_n (lv' := [(3, .int v5), (0, .ref a0), (1, .int a1), (2, .int a2)]) dX0_length_11 rfl (Nat.le_of_ble_eq_true rfl) rfl ?_
  refine eg_iload_n 0 dX0_length_12 rfl rfl ?_
  refine eg_iconst dX0_length_13 kc_1 ?_
  refine eg_icmp_eq dX0_length_14 (fun c21 => ?_) (fun c21 => ?_)
  · replace h := h.1 c21
    refine eg_aload_n 1 dX0_length_21 rfl rfl ?_
    obtain ⟨fs, v9, he, hv, h⟩ := h
    refine eg_get 0 in_X0 he rfl (Nat.le_of_ble_eq_true rfl) q159 rfl hv dX0_length_22 ?_
    refine eg_iload_n 2 dX0_length_25 rfl rfl ?_
    obtain ⟨p10, rfl, h⟩ := h
    obtain ⟨nA, fA, he, hb, h⟩ := h
    refine eg_aald (t := 7) (ty := .object "EvenBodies$Body") rfl rfl he hb dX0_length_26 (fun v11 ev11 => ?_)
    replace h := h v11 ev11
    obtain ⟨p12, rfl, h⟩ := h
    obtain ⟨hcs, h⟩ := h
    obtain ⟨c15, s16, hca, h⟩ := h
    have hM0 := h
    clear h
    refine ec_VRa (rest := []) (ctX1_group hM0) (lw_V q241 q242 q243 q75 q244) rfl rfl hcs nX1_group ⟨Nat.le_of_ble_eq_true rfl, Nat.le_of_ble_eq_true rfl⟩ ⟨rfl, rfl⟩ hca rfl rfl (Nat.le_of_ble_eq_true rfl) dX0_length_27 (fun v13 g14 h => ?_)
    clear hM0
    replace hu := hca
    obtain ⟨p17, rfl, h⟩ := h
    obtain ⟨fs, v18, he, hv, h⟩ := h
    refine eg_getN 5 in_X8 he rfl (Nat.le_of_ble_eq_true rfl) (List.mem_of_getElem? (i := 8) rfl) rfl hv dX0_length_30 ?_
    refine eg_iload_n 3 dX0_length_33 rfl rfl ?_
    obtain ⟨p19, rfl, h⟩ := h
    obtain ⟨nA, fA, he, hb, h⟩ := h
    refine eh_bald he hb dX0_length_34 (fun v20 ev20 => ?_)
    replace h := h v20 ev20
    exact eg_iret dX0_length_35 hu.1 hu.2 (hP _ _ ⟨_, rfl, h⟩)
  · replace h := h.2 c21
    refine eg_iload_n 0 dX0_length_17 rfl rfl ?_
    refine eg_goto dX0_length_18 ?_
    exact eg_iret dX0_length_35 hu.1 hu.2 (hP _ _ ⟨_, rfl, h⟩)
def MX0_letter (Γ : eb_C) (bc bs : Nat) (st : eb_S) (a0 : Nat) (a1 : Int32) (a2 : Int32) (a3 : Int32) (K : Int32 → eb_S → Prop) : Prop :=
  eb_cs st a0 [0] ∧ ∃ c3 s4 : Nat, (0 + c3 ≤ bc ∧ 0 + s4 ≤ bs) ∧ MX0_isElement Γ c3 s4 st a0 a1 a2 (fun v1 g2 => eb_jp1 (fun (s5 : Int32) => eb_cs g2 a0 [0] ∧ ∃ c8 s9 : Nat, ((0 + c3) + c8 ≤ bc ∧ (0 + s4) + s9 ≤ bs) ∧ MX0_why Γ c8 s9 g2 a0 a1 s5 (fun v6 g7 => eb_br (v6 = 1) (eb_gr g7 a0 0 0 (fun v10 => eb_nn v10 (fun p11 => eb_lr Γ g7 p11 7 a1 (fun v12 => eb_nn v12 (fun p13 => eb_cs g7 p13 [1] ∧ ∃ c16 s17 : Nat, ((((0 + c3) + c8)) + c16 ≤ bc ∧ (((0 + s4) + s9)) + s17 ≤ bs) ∧ MX1_group Γ c16 s17 g7 p13 (fun v14 g15 => eb_nn v14 (fun p18 => eb_gr g15 p18 7 5 (fun v19 => eb_nn v19 (fun p20 => eb_li Γ g15 p20 4 a2 (fun v21 => eb_br (v21 ≤ a3) (K (-1) g15) (eb_cs g15 p18 [7] ∧ MX8_letter Γ g15 p18 a2 a3 (fun v22 => K v22 g15)))))))))))) (K v6 g7))) (fun k28 => eb_br (v1 = 0) (k28 0) (eb_br (a3 < 0) (k28 0) (k28 1))))
abbrev rmX0_letter (bc bs : Nat) : Room := { frames := 14, cells := bc, slots := bs, locals := 306 }
theorem nX0_letter : eb_ar yX0_letter 3 := by decide +kernel
theorem dX0_letter_0 : eb_dc cX0_letter 0 (.aload_n 0) 1 1 := by decide +kernel
theorem dX0_letter_1 : eb_dc cX0_letter 1 (.iload_n 1) 1 2 := by decide +kernel
theorem dX0_letter_2 : eb_dc cX0_letter 2 (.aload_n 0) 1 3 := by decide +kernel
theorem dX0_letter_3 : eb_dc cX0_letter 3 (.iload_n 1) 1 4 := by decide +kernel
theorem dX0_letter_4 : eb_dc cX0_letter 4 (.iload_n 2) 1 5 := by decide +kernel
theorem dX0_letter_5 : eb_dc cX0_letter 5 (.invokevirtual 79) 3 8 := by decide +kernel
theorem dX0_letter_8 : eb_dj cX0_letter 8 (.ifCond .eq 11) 11 11 19 := by decide +kernel
theorem dX0_letter_11 : eb_dc cX0_letter 11 (.iload_n 3) 1 12 := by decide +kernel
theorem dX0_letter_12 : eb_dj cX0_letter 12 (.ifCond .lt 7) 7 15 19 := by decide +kernel
theorem dX0_letter_15 : eb_dc cX0_letter 15 (.iconst 1) 1 16 := by decide +kernel
theorem dX0_letter_16 : eb_dj cX0_letter 16 (.goto 4) 4 19 20 := by decide +kernel
theorem dX0_letter_19 : eb_dc cX0_letter 19 (.iconst 0) 1 20 := by decide +kernel
theorem dX0_letter_20 : eb_dc cX0_letter 20 (.invokevirtual 75) 3 23 := by decide +kernel
theorem dX0_letter_23 : eb_dc cX0_letter 23 (.istore 4) 2 25 := by decide +kernel
theorem dX0_letter_25 : eb_dc cX0_letter 25 (.iload 4) 2 27 := by decide +kernel
theorem dX0_letter_27 : eb_dc cX0_letter 27 (.iconst 1) 1 28 := by decide +kernel
theorem dX0_letter_28 : eb_dj cX0_letter 28 (.if_icmp .eq 6) 6 31 34 := by decide +kernel
theorem dX0_letter_31 : eb_dc cX0_letter 31 (.iload 4) 2 33 := by decide +kernel
theorem dX0_letter_33 : eb_dc cX0_letter 33 (.ireturn) 1 34 := by decide +kernel
theorem dX0_letter_34 : eb_dc cX0_letter 34 (.aload_n 0) 1 35 := by decide +kernel
theorem dX0_letter_35 : eb_dc cX0_letter 35 (.getfield 15) 3 38 := by decide +kernel
theorem dX0_letter_38 : eb_dc cX0_letter 38 (.iload_n 1) 1 39 := by decide +kernel
theorem dX0_letter_39 : eb_dc cX0_letter 39 (.aaload) 1 40 := by decide +kernel
theorem dX0_letter_40 : eb_dc cX0_letter 40 (.invokevirtual 66) 3 43 := by decide +kernel
theorem dX0_letter_43 : eb_dc cX0_letter 43 (.astore 5) 2 45 := by decide +kernel
theorem dX0_letter_45 : eb_dc cX0_letter 45 (.iload_n 3) 1 46 := by decide +kernel
theorem dX0_letter_46 : eb_dc cX0_letter 46 (.aload 5) 2 48 := by decide +kernel
theorem dX0_letter_48 : eb_dc cX0_letter 48 (.getfield 82) 3 51 := by decide +kernel
theorem dX0_letter_51 : eb_dc cX0_letter 51 (.iload_n 2) 1 52 := by decide +kernel
theorem dX0_letter_52 : eb_dc cX0_letter 52 (.baload) 1 53 := by decide +kernel
theorem dX0_letter_53 : eb_dj cX0_letter 53 (.if_icmp .ge 13) 13 56 66 := by decide +kernel
theorem dX0_letter_56 : eb_dc cX0_letter 56 (.aload 5) 2 58 := by decide +kernel
theorem dX0_letter_58 : eb_dc cX0_letter 58 (.iload_n 2) 1 59 := by decide +kernel
theorem dX0_letter_59 : eb_dc cX0_letter 59 (.iload_n 3) 1 60 := by decide +kernel
theorem dX0_letter_60 : eb_dc cX0_letter 60 (.invokevirtual 86) 3 63 := by decide +kernel
theorem dX0_letter_63 : eb_dj cX0_letter 63 (.goto 4) 4 66 67 := by decide +kernel
theorem dX0_letter_66 : eb_dc cX0_letter 66 (.iconst (-1)) 1 67 := by decide +kernel
theorem dX0_letter_67 : eb_dc cX0_letter 67 (.ireturn) 1 68 := by decide +kernel
theorem ctX0_letter {l : Launch} {Γ : eb_C} {bc bs : Nat} {st : eb_S} {a0 : Nat} {a1 : Int32} {a2 : Int32} {a3 : Int32} {K : Int32 → eb_S → Prop} (h : MX0_letter Γ bc bs st a0 a1 a2 a3 K) : eb_Ct l Γ yX0_letter cX0_letter 6 (some .int) (rmX0_letter bc bs) [.ref a0, .int a1, .int a2, .int a3] st (eb_oI K) := by
  refine eb_of (by decide) (Nat.le_of_ble_eq_true rfl) (fun X P hP hX0 => ?_)
  suffices hgo : (0 ≤ bc ∧ 0 ≤ bs) → eb_G l Γ P X cX0_letter RX0 6 (some .int) (rmX0_letter bc bs) 0 [(0, .ref a0), (1, .int a1), (2, .int a2), (3, .int a3)] [] st 0 0 from hgo ⟨Nat.zero_le _, Nat.zero_le _⟩
  intro hu
  refine eg_aload_n 0 dX0_letter_0 rfl rfl ?_
  refine eg_iload_n 1 dX0_letter_1 rfl rfl ?_
  refine eg_aload_n 0 dX0_letter_2 rfl rfl ?_
  refine eg_iload_n 1 dX0_letter_3 rfl rfl ?_
  refine eg_iload_n 2 dX0_letter_4 rfl rfl ?_
  obtain ⟨hcs, h⟩ := h
  obtain ⟨c3, s4, hca, h⟩ := h
  have hM0 := h
  clear h
  refine ec_VIa (rest := [.int a1, .ref a0]) (ctX0_isElement hM0) (lw_V q419 q421 qs5 q74 q422) rfl rfl hcs nX0_isElement ⟨Nat.le_of_ble_eq_true rfl, Nat.le_of_ble_eq_true rfl⟩ ⟨rfl, rfl⟩ hca rfl rfl (Nat.le_of_ble_eq_true rfl) dX0_letter_5 (fun v1 g2 h => ?_)
  clear hM0
  replace hu := hca
  refine eb_jp1_e (J := fun (s5 : Int32) => ((0 + c3) ≤ bc ∧ (0 + s4) ≤ bs) → eb_G l Γ P X cX0_letter RX0 6 (some .int) (rmX0_letter bc bs) 20 [(0, .ref a0), (1, .int a1), (2, .int a2), (3, .int a3)] [.int s5, .int a1, .ref a0] g2 (0 + c3) (0 + s4)) h ?_ ?_
  · clear h
    intro s5 h hu
    obtain ⟨hcs, h⟩ := h
    obtain ⟨c8, s9, hca, h⟩ := h
    have hM0 := h
    clear h
    refine ec_VIa (rest := []) (ctX0_why hM0) (lw_V q237 q239 qs1 q74 q240) rfl rfl hcs nX0_why ⟨Nat.le_of_ble_eq_true rfl, Nat.le_of_ble_eq_true rfl⟩ ⟨rfl, rfl⟩ hca rfl rfl (Nat.le_of_ble_eq_true rfl) dX0_letter_20 (fun v6 g7 h => ?_)
    clear hM0
    replace hu := hca
    refine eg_istore (lv' := [(4, .int v6), (0, .ref a0), (1, .int a1), (2, .int a2), (3, .int a3)]) dX0_letter_23 (Nat.le_of_ble_eq_true rfl) rfl ?_
    refine eg_iload 0 dX0_letter_25 rfl ?_
    refine eg_iconst dX0_letter_27 kc_1 ?_
    refine eg_icmp_eq dX0_letter_28 (fun c27 => ?_) (fun c27 => ?_)
    · replace h := h.1 c27
      refine eg_aload_n 1 dX0_letter_34 rfl rfl ?_
      obtain ⟨fs, v10, he, hv, h⟩ := h
      refine eg_get 0 in_X0 he rfl (Nat.le_of_ble_eq_true rfl) q159 rfl hv dX0_letter_35 ?_
      refine eg_iload_n 2 dX0_letter_38 rfl rfl ?_
      obtain ⟨p11, rfl, h⟩ := h
      obtain ⟨nA, fA, he, hb, h⟩ := h
      refine eg_aald (t := 7) (ty := .object "EvenBodies$Body") rfl rfl he hb dX0_letter_39 (fun v12 ev12 => ?_)
      replace h := h v12 ev12
      obtain ⟨p13, rfl, h⟩ := h
      obtain ⟨hcs, h⟩ := h
      obtain ⟨c16, s17, hca, h⟩ := h
      have hM0 := h
      clear h
      refine ec_VRa (rest := []) (ctX1_group hM0) (lw_V q241 q242 q243 q75 q244) rfl rfl hcs nX1_group ⟨Nat.le_of_ble_eq_true rfl, Nat.le_of_ble_eq_true rfl⟩ ⟨rfl, rfl⟩ hca rfl rfl (Nat.le_of_ble_eq_true rfl) dX0_letter_40 (fun v14 g15 h => ?_)
      clear hM0
      replace hu := hca
      refine eh_astore (i := 5) (v := v14) (lv' := [(5, va_rf v14), (4, .int v6), (0, .ref a0), (1, .int a1), (2, .int a2), (3, .int a3)]) dX0_letter_43 (Nat.le_of_ble_eq_true rfl) rfl ?_
      refine eg_iload_n 5 dX0_letter_45 rfl rfl ?_
      refine eh_aload (v := v14) 0 dX0_letter_46 rfl ?_
      obtain ⟨p18, rfl, h⟩ := h
      obtain ⟨fs, v19, he, hv, h⟩ := h
      refine eg_getN 5 in_X8 he rfl (Nat.le_of_ble_eq_true rfl) (List.mem_of_getElem? (i := 8) rfl) rfl hv dX0_letter_48 ?_
      refine eg_iload_n 4 dX0_letter_51 rfl rfl ?_
      obtain ⟨p20, rfl, h⟩ := h
      obtain ⟨nA, fA, he, hb, h⟩ := h
      refine eh_bald he hb dX0_letter_52 (fun v21 ev21 => ?_)
      replace h := h v21 ev21
      refine eg_icmp_ge dX0_letter_53 (fun c26 => ?_) (fun c26 => ?_)
      · replace h := h.1 c26
        refine eg_iconst dX0_letter_66 kc_m1 ?_
        exact eg_iret dX0_letter_67 hu.1 hu.2 (hP _ _ ⟨_, rfl, h⟩)
      · replace h := h.2 c26
        refine eg_aload 0 dX0_letter_56 rfl ?_
        refine eg_iload_n 4 dX0_letter_58 rfl rfl ?_
        refine eg_iload_n 5 dX0_letter_59 rfl rfl ?_
        obtain ⟨hcs, h⟩ := h
        have hM0 := h
        clear h
        refine ec_VIp (rest := []) (ctX8_letter hM0) (lw_V q427 q428 q429 q84 q430) rfl rfl hcs nX8_letter ⟨Nat.le_of_ble_eq_true rfl, Nat.le_of_ble_eq_true rfl⟩ ⟨rfl, rfl⟩ hu rfl rfl (Nat.le_of_ble_eq_true rfl) dX0_letter_60 (fun v22 h => ?_)
        clear hM0
        refine eg_goto dX0_letter_63 ?_
        exact eg_iret dX0_letter_67 hu.1 hu.2 (hP _ _ ⟨_, rfl, h⟩)
    · replace h := h.2 c27
      refine eg_iload 0 dX0_letter_31 rfl ?_
      exact eg_iret dX0_letter_33 hu.1 hu.2 (hP _ _ ⟨_, rfl, h⟩)
  · clear h
    intro k28 hk28 h
    refine eg_if_eq dX0_letter_8 (fun c30 => ?_) (fun c30 => ?_)
    · replace h := h.1 c30
      refine eg_iconst dX0_letter_19 kc_0 ?_
      exact hk28 0 h hu
    · replace h := h.2 c30
      refine eg_iload_n 3 dX0_letter_11 rfl rfl ?_
      refine eg_if_lt dX0_letter_12 (fun c29 => ?_) (fun c29 => ?_)
      · replace h := h.1 c29
        refine eg_iconst dX0_letter_19 kc_0 ?_
        exact hk28 0 h hu
      · replace h := h.2 c29
        refine eg_iconst dX0_letter_15 kc_1 ?_
        refine eg_goto dX0_letter_16 ?_
        exact hk28 1 h hu

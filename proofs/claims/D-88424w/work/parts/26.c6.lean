set_option maxRecDepth 100000
set_option maxHeartbeats 4000000
def MX0_within (Γ : eb_C) (bc bs : Nat) (st : eb_S) (a0 : Nat) (a1 : Int32) (a2 : Int32) (a3 : Int32) (a4 : Int32) (K : Int32 → eb_S → Prop) : Prop :=
  eb_cs st a0 [0] ∧ MX0_isKind Γ st a0 a1 a2 (fun v1 => eb_jp4 (fun (s5 : Int32) (g6 : eb_S) (u7 : Nat) (w8 : Nat) => eb_cs g6 a0 [0] ∧ ∃ c11 s12 : Nat, (u7 + c11 ≤ bc ∧ w8 + s12 ≤ bs) ∧ MX0_why Γ c11 s12 g6 a0 a1 s5 (fun v9 g10 => eb_br (v9 = 1) (MX0_isWithin a2 a3 (fun v13 => eb_br (v13 = 0) (K 0 g10) (eb_gr g10 a0 0 0 (fun v17 => eb_nn v17 (fun p18 => eb_lr Γ g10 p18 7 a1 (fun v19 => eb_nn v19 (fun p20 => eb_cs g10 p20 [1] ∧ ∃ c23 s24 : Nat, ((u7 + c11) + c23 ≤ bc ∧ (w8 + s12) + s24 ≤ bs) ∧ MX1_meets Γ c23 s24 g10 p20 a2 a3 a4 (fun v21 g22 => eb_nn v21 (fun p25 => MX0_many Γ g22 p25 (fun v26 => K v26 g22)))))))))) (K v9 g10))) (fun k32 => eb_br (v1 = 0) (k32 0 st 0 0) (eb_cs st a0 [0] ∧ ∃ c35 s36 : Nat, (0 + c35 ≤ bc ∧ 0 + s36 ≤ bs) ∧ MX0_isPart Γ c35 s36 st a0 a1 a3 a4 (fun v33 g34 => eb_br (v33 = 0) (k32 0 g34 (0 + c35) (0 + s36)) (k32 1 g34 (0 + c35) (0 + s36))))))
abbrev rmX0_within (bc bs : Nat) : Room := { frames := 14, cells := bc, slots := bs, locals := 307 }
theorem nX0_within : eb_ar yX0_within 4 := by decide +kernel
theorem dX0_within_0 : eb_dc cX0_within 0 (.aload_n 0) 1 1 := by decide +kernel
theorem dX0_within_1 : eb_dc cX0_within 1 (.iload_n 1) 1 2 := by decide +kernel
theorem dX0_within_2 : eb_dc cX0_within 2 (.aload_n 0) 1 3 := by decide +kernel
theorem dX0_within_3 : eb_dc cX0_within 3 (.iload_n 1) 1 4 := by decide +kernel
theorem dX0_within_4 : eb_dc cX0_within 4 (.iload_n 2) 1 5 := by decide +kernel
theorem dX0_within_5 : eb_dc cX0_within 5 (.invokevirtual 120) 3 8 := by decide +kernel
theorem dX0_within_8 : eb_dj cX0_within 8 (.ifCond .eq 18) 18 11 26 := by decide +kernel
theorem dX0_within_11 : eb_dc cX0_within 11 (.aload_n 0) 1 12 := by decide +kernel
theorem dX0_within_12 : eb_dc cX0_within 12 (.iload_n 1) 1 13 := by decide +kernel
theorem dX0_within_13 : eb_dc cX0_within 13 (.iload_n 3) 1 14 := by decide +kernel
theorem dX0_within_14 : eb_dc cX0_within 14 (.iload 4) 2 16 := by decide +kernel
theorem dX0_within_16 : eb_dc cX0_within 16 (.invokevirtual 128) 3 19 := by decide +kernel
theorem dX0_within_19 : eb_dj cX0_within 19 (.ifCond .eq 7) 7 22 26 := by decide +kernel
theorem dX0_within_22 : eb_dc cX0_within 22 (.iconst 1) 1 23 := by decide +kernel
theorem dX0_within_23 : eb_dj cX0_within 23 (.goto 4) 4 26 27 := by decide +kernel
theorem dX0_within_26 : eb_dc cX0_within 26 (.iconst 0) 1 27 := by decide +kernel
theorem dX0_within_27 : eb_dc cX0_within 27 (.invokevirtual 75) 3 30 := by decide +kernel
theorem dX0_within_30 : eb_dc cX0_within 30 (.istore 5) 2 32 := by decide +kernel
theorem dX0_within_32 : eb_dc cX0_within 32 (.iload 5) 2 34 := by decide +kernel
theorem dX0_within_34 : eb_dc cX0_within 34 (.iconst 1) 1 35 := by decide +kernel
theorem dX0_within_35 : eb_dj cX0_within 35 (.if_icmp .eq 8) 8 38 43 := by decide +kernel
theorem dX0_within_38 : eb_dc cX0_within 38 (.iload 5) 2 40 := by decide +kernel
theorem dX0_within_40 : eb_dj cX0_within 40 (.goto 31) 31 43 71 := by decide +kernel
theorem dX0_within_43 : eb_dc cX0_within 43 (.iload_n 2) 1 44 := by decide +kernel
theorem dX0_within_44 : eb_dc cX0_within 44 (.iload_n 3) 1 45 := by decide +kernel
theorem dX0_within_45 : eb_dc cX0_within 45 (.invokestatic 138) 3 48 := by decide +kernel
theorem dX0_within_48 : eb_dj cX0_within 48 (.ifCond .eq 22) 22 51 70 := by decide +kernel
theorem dX0_within_51 : eb_dc cX0_within 51 (.aload_n 0) 1 52 := by decide +kernel
theorem dX0_within_52 : eb_dc cX0_within 52 (.getfield 15) 3 55 := by decide +kernel
theorem dX0_within_55 : eb_dc cX0_within 55 (.iload_n 1) 1 56 := by decide +kernel
theorem dX0_within_56 : eb_dc cX0_within 56 (.aaload) 1 57 := by decide +kernel
theorem dX0_within_57 : eb_dc cX0_within 57 (.iload_n 2) 1 58 := by decide +kernel
theorem dX0_within_58 : eb_dc cX0_within 58 (.iload_n 3) 1 59 := by decide +kernel
theorem dX0_within_59 : eb_dc cX0_within 59 (.iload 4) 2 61 := by decide +kernel
theorem dX0_within_61 : eb_dc cX0_within 61 (.invokevirtual 134) 3 64 := by decide +kernel
theorem dX0_within_64 : eb_dc cX0_within 64 (.invokestatic 100) 3 67 := by decide +kernel
theorem dX0_within_67 : eb_dj cX0_within 67 (.goto 4) 4 70 71 := by decide +kernel
theorem dX0_within_70 : eb_dc cX0_within 70 (.iconst 0) 1 71 := by decide +kernel
theorem dX0_within_71 : eb_dc cX0_within 71 (.ireturn) 1 72 := by decide +kernel
theorem ctX0_within {l : Launch} {Γ : eb_C} {bc bs : Nat} {st : eb_S} {a0 : Nat} {a1 : Int32} {a2 : Int32} {a3 : Int32} {a4 : Int32} {K : Int32 → eb_S → Prop} (h : MX0_within Γ bc bs st a0 a1 a2 a3 a4 K) : eb_Ct l Γ yX0_within cX0_within 6 (some .int) (rmX0_within bc bs) [.ref a0, .int a1, .int a2, .int a3, .int a4] st (eb_oI K) := by
  refine eb_of (by decide) (Nat.le_of_ble_eq_true rfl) (fun X P hP hX0 => ?_)
  suffices hgo : (0 ≤ bc ∧ 0 ≤ bs) → eb_G l Γ P X cX0_within RX0 6 (some .int) (rmX0_within bc bs) 0 [(0, .ref a0), (1, .int a1), (2, .int a2), (3, .int a3), (4, .int a4)] [] st 0 0 from hgo ⟨Nat.zero_le _, Nat.zero_le _⟩
  intro hu
  refine eg_aload_n 0 dX0_within_0 rfl rfl ?_
  refine eg_iload_n 1 dX0_within_1 rfl rfl ?_
  refine eg_aload_n 0 dX0_within_2 rfl rfl ?_
  refine eg_iload_n 1 dX0_within_3 rfl rfl ?_
  refine eg_iload_n 2 dX0_within_4 rfl rfl ?_
  obtain ⟨hcs, h⟩ := h
  have hM0 := h
  clear h
  refine ec_VIp (rest := [.int a1, .ref a0]) (ctX0_isKind hM0) (lw_V q506 q508 qs8 q74 q509) rfl rfl hcs nX0_isKind ⟨Nat.le_of_ble_eq_true rfl, Nat.le_of_ble_eq_true rfl⟩ ⟨rfl, rfl⟩ hu rfl rfl (Nat.le_of_ble_eq_true rfl) dX0_within_5 (fun v1 h => ?_)
  clear hM0
  refine eb_jp4_e (J := fun (s5 : Int32) (g6 : eb_S) (u7 : Nat) (w8 : Nat) => (u7 ≤ bc ∧ w8 ≤ bs) → eb_G l Γ P X cX0_within RX0 6 (some .int) (rmX0_within bc bs) 27 [(0, .ref a0), (1, .int a1), (2, .int a2), (3, .int a3), (4, .int a4)] [.int s5, .int a1, .ref a0] g6 u7 w8) h ?_ ?_
  · clear h
    intro s5 g6 u7 w8 h hu
    obtain ⟨hcs, h⟩ := h
    obtain ⟨c11, s12, hca, h⟩ := h
    have hM0 := h
    clear h
    refine ec_VIa (rest := []) (ctX0_why hM0) (lw_V q237 q239 qs1 q74 q240) rfl rfl hcs nX0_why ⟨Nat.le_of_ble_eq_true rfl, Nat.le_of_ble_eq_true rfl⟩ ⟨rfl, rfl⟩ hca rfl rfl (Nat.le_of_ble_eq_true rfl) dX0_within_27 (fun v9 g10 h => ?_)
    clear hM0
    replace hu := hca
    refine eg_istore (lv' := [(5, .int v9), (0, .ref a0), (1, .int a1), (2, .int a2), (3, .int a3), (4, .int a4)]) dX0_within_30 (Nat.le_of_ble_eq_true rfl) rfl ?_
    refine eg_iload 0 dX0_within_32 rfl ?_
    refine eg_iconst dX0_within_34 kc_1 ?_
    refine eg_icmp_eq dX0_within_35 (fun c31 => ?_) (fun c31 => ?_)
    · replace h := h.1 c31
      refine eg_iload_n 3 dX0_within_43 rfl rfl ?_
      refine eg_iload_n 4 dX0_within_44 rfl rfl ?_
      have hM0 := h
      clear h
      refine ec_SIp (rest := []) (ctX0_isWithin hM0) (lw_S q560 q561 q74 q562) nX0_isWithin ⟨Nat.le_of_ble_eq_true rfl, Nat.le_of_ble_eq_true rfl⟩ ⟨rfl, rfl⟩ hu rfl rfl (Nat.le_of_ble_eq_true rfl) dX0_within_45 (fun v13 h => ?_)
      clear hM0
      refine eg_if_eq dX0_within_48 (fun c30 => ?_) (fun c30 => ?_)
      · replace h := h.1 c30
        refine eg_iconst dX0_within_70 kc_0 ?_
        exact eg_iret dX0_within_71 hu.1 hu.2 (hP _ _ ⟨_, rfl, h⟩)
      · replace h := h.2 c30
        refine eg_aload_n 1 dX0_within_51 rfl rfl ?_
        obtain ⟨fs, v17, he, hv, h⟩ := h
        refine eg_get 0 in_X0 he rfl (Nat.le_of_ble_eq_true rfl) q159 rfl hv dX0_within_52 ?_
        refine eg_iload_n 2 dX0_within_55 rfl rfl ?_
        obtain ⟨p18, rfl, h⟩ := h
        obtain ⟨nA, fA, he, hb, h⟩ := h
        refine eg_aald (t := 7) (ty := .object "EvenBodies$Body") rfl rfl he hb dX0_within_56 (fun v19 ev19 => ?_)
        replace h := h v19 ev19
        refine eg_iload_n 3 dX0_within_57 rfl rfl ?_
        refine eg_iload_n 4 dX0_within_58 rfl rfl ?_
        refine eg_iload 5 dX0_within_59 rfl ?_
        obtain ⟨p20, rfl, h⟩ := h
        obtain ⟨hcs, h⟩ := h
        obtain ⟨c23, s24, hca, h⟩ := h
        have hM0 := h
        clear h
        refine ec_VRa (rest := []) (ctX1_meets hM0) (lw_V q547 q548 q549 q75 q550) rfl rfl hcs nX1_meets ⟨Nat.le_of_ble_eq_true rfl, Nat.le_of_ble_eq_true rfl⟩ ⟨rfl, rfl⟩ hca rfl rfl (Nat.le_of_ble_eq_true rfl) dX0_within_61 (fun v21 g22 h => ?_)
        clear hM0
        replace hu := hca
        obtain ⟨p25, rfl, h⟩ := h
        have hM0 := h
        clear h
        refine ec_SIp (rest := []) (ctX0_many hM0) (lw_S q469 q470 q74 q471) nX0_many ⟨Nat.le_of_ble_eq_true rfl, Nat.le_of_ble_eq_true rfl⟩ ⟨rfl, rfl⟩ hu rfl rfl (Nat.le_of_ble_eq_true rfl) dX0_within_64 (fun v26 h => ?_)
        clear hM0
        refine eg_goto dX0_within_67 ?_
        exact eg_iret dX0_within_71 hu.1 hu.2 (hP _ _ ⟨_, rfl, h⟩)
    · replace h := h.2 c31
      refine eg_iload 0 dX0_within_38 rfl ?_
      refine eg_goto dX0_within_40 ?_
      exact eg_iret dX0_within_71 hu.1 hu.2 (hP _ _ ⟨_, rfl, h⟩)
  · clear h
    intro k32 hk32 h
    refine eg_if_eq dX0_within_8 (fun c38 => ?_) (fun c38 => ?_)
    · replace h := h.1 c38
      refine eg_iconst dX0_within_26 kc_0 ?_
      exact hk32 0 st 0 0 h hu
    · replace h := h.2 c38
      refine eg_aload_n 0 dX0_within_11 rfl rfl ?_
      refine eg_iload_n 1 dX0_within_12 rfl rfl ?_
      refine eg_iload_n 3 dX0_within_13 rfl rfl ?_
      refine eg_iload 4 dX0_within_14 rfl ?_
      obtain ⟨hcs, h⟩ := h
      obtain ⟨c35, s36, hca, h⟩ := h
      have hM0 := h
      clear h
      refine ec_VIa (rest := [.int a1, .ref a0]) (ctX0_isPart hM0) (lw_V q535 q537 qs9 q74 q538) rfl rfl hcs nX0_isPart ⟨Nat.le_of_ble_eq_true rfl, Nat.le_of_ble_eq_true rfl⟩ ⟨rfl, rfl⟩ hca rfl rfl (Nat.le_of_ble_eq_true rfl) dX0_within_16 (fun v33 g34 h => ?_)
      clear hM0
      replace hu := hca
      refine eg_if_eq dX0_within_19 (fun c37 => ?_) (fun c37 => ?_)
      · replace h := h.1 c37
        refine eg_iconst dX0_within_26 kc_0 ?_
        exact hk32 0 g34 (0 + c35) (0 + s36) h hu
      · replace h := h.2 c37
        refine eg_iconst dX0_within_22 kc_1 ?_
        refine eg_goto dX0_within_23 ?_
        exact hk32 1 g34 (0 + c35) (0 + s36) h hu
def MX0_countOf (Γ : eb_C) (bc bs : Nat) (st : eb_S) (a0 : Nat) (a1 : Nat) (a2 : Int32) (K : Int32 → eb_S → Prop) : Prop :=
  eb_loop5 (fun r6 (x3_1 : Int32) (x4_2 : Int32) (g3 : eb_S) (u4 : Nat) (w5 : Nat) => eb_cs g3 a1 [1] ∧ MX1_all Γ g3 a1 (fun v7 => eb_br (v7 < x4_2) (K x3_1 g3) (MJ1_bitCount x4_2 (fun v11 => eb_jp4 (fun (s15 : Int32) (g16 : eb_S) (u17 : Nat) (w18 : Nat) => r6 (x3_1 + s15) (x4_2 + 1) g16 u17 w18) (fun k19 => eb_br (v11 = a2) (eb_cs g3 a1 [1] ∧ MX1_isKind Γ g3 a1 x4_2 (fun v20 => eb_br (v20 = 0) (k19 0 g3 u4 w5) (eb_cs g3 a1 [1] ∧ ∃ c26 s27 : Nat, (u4 + c26 ≤ bc ∧ w5 + s27 ≤ bs) ∧ MX1_many Γ c26 s27 g3 a1 x4_2 (fun v24 g25 => k19 v24 g25 (u4 + c26) (w5 + s27))))) (k19 0 g3 u4 w5)))))) 0 0 st 0 0
abbrev rmX0_countOf (bc bs : Nat) : Room := { frames := 6, cells := bc, slots := bs, locals := 131 }
theorem nX0_countOf : eb_ar yX0_countOf 2 := by decide +kernel
theorem dX0_countOf_0 : eb_dc cX0_countOf 0 (.iconst 0) 1 1 := by decide +kernel
theorem dX0_countOf_1 : eb_dc cX0_countOf 1 (.istore_n 3) 1 2 := by decide +kernel
theorem dX0_countOf_2 : eb_dc cX0_countOf 2 (.iconst 0) 1 3 := by decide +kernel
theorem dX0_countOf_3 : eb_dc cX0_countOf 3 (.istore 4) 2 5 := by decide +kernel
theorem dX0_countOf_5 : eb_dc cX0_countOf 5 (.iload 4) 2 7 := by decide +kernel
theorem dX0_countOf_7 : eb_dc cX0_countOf 7 (.aload_n 1) 1 8 := by decide +kernel
theorem dX0_countOf_8 : eb_dc cX0_countOf 8 (.invokevirtual 46) 3 11 := by decide +kernel
theorem dX0_countOf_11 : eb_dj cX0_countOf 11 (.if_icmp .gt 40) 40 14 51 := by decide +kernel
theorem dX0_countOf_14 : eb_dc cX0_countOf 14 (.iload_n 3) 1 15 := by decide +kernel
theorem dX0_countOf_15 : eb_dc cX0_countOf 15 (.iload 4) 2 17 := by decide +kernel
theorem dX0_countOf_17 : eb_dc cX0_countOf 17 (.invokestatic 105) 3 20 := by decide +kernel
theorem dX0_countOf_20 : eb_dc cX0_countOf 20 (.iload_n 2) 1 21 := by decide +kernel
theorem dX0_countOf_21 : eb_dj cX0_countOf 21 (.if_icmp .ne 21) 21 24 42 := by decide +kernel
theorem dX0_countOf_24 : eb_dc cX0_countOf 24 (.aload_n 1) 1 25 := by decide +kernel
theorem dX0_countOf_25 : eb_dc cX0_countOf 25 (.iload 4) 2 27 := by decide +kernel
theorem dX0_countOf_27 : eb_dc cX0_countOf 27 (.invokevirtual 110) 3 30 := by decide +kernel
theorem dX0_countOf_30 : eb_dj cX0_countOf 30 (.ifCond .eq 12) 12 33 42 := by decide +kernel
theorem dX0_countOf_33 : eb_dc cX0_countOf 33 (.aload_n 1) 1 34 := by decide +kernel
theorem dX0_countOf_34 : eb_dc cX0_countOf 34 (.iload 4) 2 36 := by decide +kernel
theorem dX0_countOf_36 : eb_dc cX0_countOf 36 (.invokevirtual 122) 3 39 := by decide +kernel
theorem dX0_countOf_39 : eb_dj cX0_countOf 39 (.goto 4) 4 42 43 := by decide +kernel
theorem dX0_countOf_42 : eb_dc cX0_countOf 42 (.iconst 0) 1 43 := by decide +kernel
theorem dX0_countOf_43 : eb_dc cX0_countOf 43 (.iadd) 1 44 := by decide +kernel
theorem dX0_countOf_44 : eb_dc cX0_countOf 44 (.istore_n 3) 1 45 := by decide +kernel
theorem dX0_countOf_45 : eb_dc cX0_countOf 45 (.iinc 4 1) 3 48 := by decide +kernel
theorem dX0_countOf_48 : eb_dj cX0_countOf 48 (.goto (-43)) (-43) 51 5 := by decide +kernel
theorem dX0_countOf_51 : eb_dc cX0_countOf 51 (.iload_n 3) 1 52 := by decide +kernel
theorem dX0_countOf_52 : eb_dc cX0_countOf 52 (.ireturn) 1 53 := by decide +kernel
theorem ctX0_countOf {l : Launch} {Γ : eb_C} {bc bs : Nat} {st : eb_S} {a0 : Nat} {a1 : Nat} {a2 : Int32} {K : Int32 → eb_S → Prop} (h : MX0_countOf Γ bc bs st a0 a1 a2 K) : eb_Ct l Γ yX0_countOf cX0_countOf 5 (some .int) (rmX0_countOf bc bs) [.ref a0, .ref a1, .int a2] st (eb_oI K) := by
  refine eb_of (by decide) (Nat.le_of_ble_eq_true rfl) (fun X P hP hX0 => ?_)
  suffices hgo : (0 ≤ bc ∧ 0 ≤ bs) → eb_G l Γ P X cX0_countOf RX0 5 (some .int) (rmX0_countOf bc bs) 0 [(0, .ref a0), (1, .ref a1), (2, .int a2)] [] st 0 0 from hgo ⟨Nat.zero_le _, Nat.zero_le _⟩
  intro hu
  refine eg_iconst dX0_countOf_0 kc_0 ?_
  refine eg_istore_n (lv' := [(3, .int 0), (0, .ref a0), (1, .ref a1), (2, .int a2)]) dX0_countOf_1 rfl (Nat.le_of_ble_eq_true rfl) rfl ?_
  refine eg_iconst dX0_countOf_2 kc_0 ?_
  refine eg_istore (lv' := [(4, .int 0), (3, .int 0), (0, .ref a0), (1, .ref a1), (2, .int a2)]) dX0_countOf_3 (Nat.le_of_ble_eq_true rfl) rfl ?_
  refine eg_sub [3, 4, 1, 0] rfl ?_
  refine eb_loop5_e (J := fun (x3_1 : Int32) (x4_2 : Int32) (g3 : eb_S) (u4 : Nat) (w5 : Nat) => (u4 ≤ bc ∧ w5 ≤ bs) → eb_G l Γ P X cX0_countOf RX0 5 (some .int) (rmX0_countOf bc bs) 5 [(1, .ref a1), (2, .int a2), (3, .int x3_1), (4, .int x4_2)] [] g3 u4 w5) h ?_ hu
  clear h
  clear hu
  intro r6 hr6 x3_1 x4_2 g3 u4 w5 h hu
  refine eg_iload 3 dX0_countOf_5 rfl ?_
  refine eg_aload_n 0 dX0_countOf_7 rfl rfl ?_
  obtain ⟨hcs, h⟩ := h
  have hM0 := h
  clear h
  refine ec_VIp (rest := [.int x4_2]) (ctX1_all hM0) (lw_V q215 q216 q217 q75 q218) rfl rfl hcs nX1_all ⟨Nat.le_of_ble_eq_true rfl, Nat.le_of_ble_eq_true rfl⟩ ⟨rfl, rfl⟩ hu rfl rfl (Nat.le_of_ble_eq_true rfl) dX0_countOf_8 (fun v7 h => ?_)
  clear hM0
  refine eg_icmp_gt dX0_countOf_11 (fun c30 => ?_) (fun c30 => ?_)
  · replace h := h.1 c30
    refine eg_iload_n 2 dX0_countOf_51 rfl rfl ?_
    exact eg_iret dX0_countOf_52 hu.1 hu.2 (hP _ _ ⟨_, rfl, h⟩)
  · replace h := h.2 c30
    refine eg_iload_n 2 dX0_countOf_14 rfl rfl ?_
    refine eg_iload 3 dX0_countOf_15 rfl ?_
    have hM0 := h
    clear h
    refine ec_SIp (rest := [.int x3_1]) (ctJ1_bitCount hM0) (lw_S q493 q258 q78 q259) nJ1_bitCount ⟨Nat.le_of_ble_eq_true rfl, Nat.le_of_ble_eq_true rfl⟩ ⟨rfl, rfl⟩ hu rfl rfl (Nat.le_of_ble_eq_true rfl) dX0_countOf_17 (fun v11 h => ?_)
    clear hM0
    refine eg_iload_n 1 dX0_countOf_20 rfl rfl ?_
    refine eb_jp4_e (J := fun (s15 : Int32) (g16 : eb_S) (u17 : Nat) (w18 : Nat) => (u17 ≤ bc ∧ w18 ≤ bs) → eb_G l Γ P X cX0_countOf RX0 5 (some .int) (rmX0_countOf bc bs) 43 [(1, .ref a1), (2, .int a2), (4, .int x4_2)] [.int s15, .int x3_1] g16 u17 w18) h ?_ ?_
    · clear h
      intro s15 g16 u17 w18 h hu
      refine eg_iadd dX0_countOf_43 ?_
      refine eg_istore_n (lv' := [(3, .int (x3_1 + s15)), (1, .ref a1), (2, .int a2), (4, .int x4_2)]) dX0_countOf_44 rfl (Nat.le_of_ble_eq_true rfl) rfl ?_
      refine eg_iinc (j := 3) (lv' := [(4, .int (x4_2 + 1)), (3, .int (x3_1 + s15)), (1, .ref a1), (2, .int a2)]) dX0_countOf_45 rfl (by rw [kc_1]) (Nat.le_of_ble_eq_true rfl) rfl ?_
      refine eg_goto dX0_countOf_48 ?_
      exact eg_sub [2, 3, 1, 0] rfl (hr6 (x3_1 + s15) (x4_2 + 1) g16 u17 w18 h hu)
    · clear h
      intro k19 hk19 h
      refine eg_icmp_ne dX0_countOf_21 (fun c29 => ?_) (fun c29 => ?_)
      · replace h := h.2 c29
        refine eg_iconst dX0_countOf_42 kc_0 ?_
        exact eg_sub [0, 1, 3] rfl (hk19 0 g3 u4 w5 h hu)
      · replace h := h.1 c29
        refine eg_aload_n 0 dX0_countOf_24 rfl rfl ?_
        refine eg_iload 3 dX0_countOf_25 rfl ?_
        obtain ⟨hcs, h⟩ := h
        have hM0 := h
        clear h
        refine ec_VIp (rest := [.int x3_1]) (ctX1_isKind hM0) (lw_V q494 q495 q496 q75 q497) rfl rfl hcs nX1_isKind ⟨Nat.le_of_ble_eq_true rfl, Nat.le_of_ble_eq_true rfl⟩ ⟨rfl, rfl⟩ hu rfl rfl (Nat.le_of_ble_eq_true rfl) dX0_countOf_27 (fun v20 h => ?_)
        clear hM0
        refine eg_if_eq dX0_countOf_30 (fun c28 => ?_) (fun c28 => ?_)
        · replace h := h.1 c28
          refine eg_iconst dX0_countOf_42 kc_0 ?_
          exact eg_sub [0, 1, 3] rfl (hk19 0 g3 u4 w5 h hu)
        · replace h := h.2 c28
          refine eg_aload_n 0 dX0_countOf_33 rfl rfl ?_
          refine eg_iload 3 dX0_countOf_34 rfl ?_
          obtain ⟨hcs, h⟩ := h
          obtain ⟨c26, s27, hca, h⟩ := h
          have hM0 := h
          clear h
          refine ec_VIa (rest := [.int x3_1]) (ctX1_many hM0) (lw_V q510 q511 q512 q75 q513) rfl rfl hcs nX1_many ⟨Nat.le_of_ble_eq_true rfl, Nat.le_of_ble_eq_true rfl⟩ ⟨rfl, rfl⟩ hca rfl rfl (Nat.le_of_ble_eq_true rfl) dX0_countOf_36 (fun v24 g25 h => ?_)
          clear hM0
          replace hu := hca
          refine eg_goto dX0_countOf_39 ?_
          exact eg_sub [0, 1, 3] rfl (hk19 v24 g25 (u4 + c26) (w5 + s27) h hu)
def MX0_count (Γ : eb_C) (bc bs : Nat) (st : eb_S) (a0 : Nat) (a1 : Int32) (a2 : Int32) (K : Int32 → eb_S → Prop) : Prop :=
  eb_cs st a0 [0] ∧ MX0_isWidth Γ st a0 a1 a2 (fun v1 => eb_cs st a0 [0] ∧ ∃ c7 s8 : Nat, (0 + c7 ≤ bc ∧ 0 + s8 ≤ bs) ∧ MX0_why Γ c7 s8 st a0 a1 v1 (fun v5 g6 => eb_br (v5 = 1) (eb_gr g6 a0 0 0 (fun v9 => eb_nn v9 (fun p10 => eb_lr Γ g6 p10 7 a1 (fun v11 => eb_nn v11 (fun p12 => eb_cs g6 a0 [0] ∧ ∃ c15 s16 : Nat, ((0 + c7) + c15 ≤ bc ∧ (0 + s8) + s16 ≤ bs) ∧ MX0_countOf Γ c15 s16 g6 a0 p12 a2 (fun v13 g14 => K v13 g14)))))) (K v5 g6)))
abbrev rmX0_count (bc bs : Nat) : Room := { frames := 14, cells := bc, slots := bs, locals := 306 }
theorem nX0_count : eb_ar yX0_count 2 := by decide +kernel
theorem dX0_count_0 : eb_dc cX0_count 0 (.aload_n 0) 1 1 := by decide +kernel
theorem dX0_count_1 : eb_dc cX0_count 1 (.iload_n 1) 1 2 := by decide +kernel
theorem dX0_count_2 : eb_dc cX0_count 2 (.aload_n 0) 1 3 := by decide +kernel
theorem dX0_count_3 : eb_dc cX0_count 3 (.iload_n 1) 1 4 := by decide +kernel
theorem dX0_count_4 : eb_dc cX0_count 4 (.iload_n 2) 1 5 := by decide +kernel
theorem dX0_count_5 : eb_dc cX0_count 5 (.invokevirtual 113) 3 8 := by decide +kernel
theorem dX0_count_8 : eb_dc cX0_count 8 (.invokevirtual 75) 3 11 := by decide +kernel
theorem dX0_count_11 : eb_dc cX0_count 11 (.istore_n 3) 1 12 := by decide +kernel
theorem dX0_count_12 : eb_dc cX0_count 12 (.iload_n 3) 1 13 := by decide +kernel
theorem dX0_count_13 : eb_dc cX0_count 13 (.iconst 1) 1 14 := by decide +kernel
theorem dX0_count_14 : eb_dj cX0_count 14 (.if_icmp .eq 7) 7 17 21 := by decide +kernel
theorem dX0_count_17 : eb_dc cX0_count 17 (.iload_n 3) 1 18 := by decide +kernel
theorem dX0_count_18 : eb_dj cX0_count 18 (.goto 14) 14 21 32 := by decide +kernel
theorem dX0_count_21 : eb_dc cX0_count 21 (.aload_n 0) 1 22 := by decide +kernel
theorem dX0_count_22 : eb_dc cX0_count 22 (.aload_n 0) 1 23 := by decide +kernel
theorem dX0_count_23 : eb_dc cX0_count 23 (.getfield 15) 3 26 := by decide +kernel
theorem dX0_count_26 : eb_dc cX0_count 26 (.iload_n 1) 1 27 := by decide +kernel
theorem dX0_count_27 : eb_dc cX0_count 27 (.aaload) 1 28 := by decide +kernel
theorem dX0_count_28 : eb_dc cX0_count 28 (.iload_n 2) 1 29 := by decide +kernel
theorem dX0_count_29 : eb_dc cX0_count 29 (.invokevirtual 141) 3 32 := by decide +kernel
theorem dX0_count_32 : eb_dc cX0_count 32 (.ireturn) 1 33 := by decide +kernel
theorem ctX0_count {l : Launch} {Γ : eb_C} {bc bs : Nat} {st : eb_S} {a0 : Nat} {a1 : Int32} {a2 : Int32} {K : Int32 → eb_S → Prop} (h : MX0_count Γ bc bs st a0 a1 a2 K) : eb_Ct l Γ yX0_count cX0_count 4 (some .int) (rmX0_count bc bs) [.ref a0, .int a1, .int a2] st (eb_oI K) := by
  refine eb_of (by decide) (Nat.le_of_ble_eq_true rfl) (fun X P hP hX0 => ?_)
  suffices hgo : (0 ≤ bc ∧ 0 ≤ bs) → eb_G l Γ P X cX0_count RX0 4 (some .int) (rmX0_count bc bs) 0 [(0, .ref a0), (1, .int a1), (2, .int a2)] [] st 0 0 from hgo ⟨Nat.zero_le _, Nat.zero_le _⟩
  intro hu
  refine eg_aload_n 0 dX0_count_0 rfl rfl ?_
  refine eg_iload_n 1 dX0_count_1 rfl rfl ?_
  refine eg_aload_n 0 dX0_count_2 rfl rfl ?_
  refine eg_iload_n 1 dX0_count_3 rfl rfl ?_
  refine eg_iload_n 2 dX0_count_4 rfl rfl ?_
  obtain ⟨hcs, h⟩ := h
  have hM0 := h
  clear h
  refine ec_VIp (rest := [.int a1, .ref a0]) (ctX0_isWidth hM0) (lw_V q485 q487 qs6 q74 q488) rfl rfl hcs nX0_isWidth ⟨Nat.le_of_ble_eq_true rfl, Nat.le_of_ble_eq_true rfl⟩ ⟨rfl, rfl⟩ hu rfl rfl (Nat.le_of_ble_eq_true rfl) dX0_count_5 (fun v1 h => ?_)
  clear hM0
  obtain ⟨hcs, h⟩ := h
  obtain ⟨c7, s8, hca, h⟩ := h
  have hM0 := h
  clear h
  refine ec_VIa (rest := []) (ctX0_why hM0) (lw_V q237 q239 qs1 q74 q240) rfl rfl hcs nX0_why ⟨Nat.le_of_ble_eq_true rfl, Nat.le_of_ble_eq_true rfl⟩ ⟨rfl, rfl⟩ hca rfl rfl (Nat.le_of_ble_eq_true rfl) dX0_count_8 (fun v5 g6 h => ?_)
  clear hM0
  replace hu := hca
  refine eg_istore_n (lv' := [(3, .int v5), (0, .ref a0), (1, .int a1), (2, .int a2)]) dX0_count_11 rfl (Nat.le_of_ble_eq_true rfl) rfl ?_
  refine eg_iload_n 0 dX0_count_12 rfl rfl ?_
  refine eg_iconst dX0_count_13 kc_1 ?_
  refine eg_icmp_eq dX0_count_14 (fun c17 => ?_) (fun c17 => ?_)
  · replace h := h.1 c17
    refine eg_aload_n 1 dX0_count_21 rfl rfl ?_
    refine eg_aload_n 1 dX0_count_22 rfl rfl ?_
    obtain ⟨fs, v9, he, hv, h⟩ := h
    refine eg_get 0 in_X0 he rfl (Nat.le_of_ble_eq_true rfl) q159 rfl hv dX0_count_23 ?_
    refine eg_iload_n 2 dX0_count_26 rfl rfl ?_
    obtain ⟨p10, rfl, h⟩ := h
    obtain ⟨nA, fA, he, hb, h⟩ := h
    refine eg_aald (t := 7) (ty := .object "EvenBodies$Body") rfl rfl he hb dX0_count_27 (fun v11 ev11 => ?_)
    replace h := h v11 ev11
    refine eg_iload_n 3 dX0_count_28 rfl rfl ?_
    obtain ⟨p12, rfl, h⟩ := h
    obtain ⟨hcs, h⟩ := h
    obtain ⟨c15, s16, hca, h⟩ := h
    have hM0 := h
    clear h
    refine ec_VIa (rest := []) (ctX0_countOf hM0) (lw_V q571 q573 qs10 q74 q574) rfl rfl hcs nX0_countOf ⟨Nat.le_of_ble_eq_true rfl, Nat.le_of_ble_eq_true rfl⟩ ⟨rfl, rfl⟩ hca rfl rfl (Nat.le_of_ble_eq_true rfl) dX0_count_29 (fun v13 g14 h => ?_)
    clear hM0
    replace hu := hca
    exact eg_iret dX0_count_32 hu.1 hu.2 (hP _ _ ⟨_, rfl, h⟩)
  · replace h := h.2 c17
    refine eg_iload_n 0 dX0_count_17 rfl rfl ?_
    refine eg_goto dX0_count_18 ?_
    exact eg_iret dX0_count_32 hu.1 hu.2 (hP _ _ ⟨_, rfl, h⟩)
def MX0_law (Γ : eb_C) (bc bs : Nat) (st : eb_S) (a0 : Nat) (a1 : Int32) (K : Int32 → eb_S → Prop) : Prop :=
  eb_cs st a0 [0] ∧ ∃ c3 s4 : Nat, (0 + c3 ≤ bc ∧ 0 + s4 ≤ bs) ∧ MX0_why Γ c3 s4 st a0 a1 1 (fun v1 g2 => eb_br (v1 = 1) (eb_loop5 (fun r10 (x3_5 : Int32) (x4_6 : Int32) (g7 : eb_S) (u8 : Nat) (w9 : Nat) => eb_gr g7 a0 0 0 (fun v11 => eb_nn v11 (fun p12 => eb_lr Γ g7 p12 7 a1 (fun v13 => eb_nn v13 (fun p14 => eb_gi g7 p14 1 0 (fun v15 => eb_br (v15 ≤ x4_6) (K x3_5 g7) (eb_jp4 (fun (s16 : Int32) (g17 : eb_S) (u18 : Nat) (w19 : Nat) => r10 (x3_5 + s16) (x4_6 + 1) g17 u18 w19) (fun k20 => eb_br ((eb_rem x4_6 2) = 0) (eb_gr g7 a0 0 0 (fun v29 => eb_nn v29 (fun p30 => eb_lr Γ g7 p30 7 a1 (fun v31 => eb_nn v31 (fun p32 => eb_cs g7 a0 [0] ∧ ∃ c35 s36 : Nat, (u8 + c35 ≤ bc ∧ w9 + s36 ≤ bs) ∧ MX0_countOf Γ c35 s36 g7 a0 p32 x4_6 (fun v33 g34 => k20 v33 g34 (u8 + c35) (w9 + s36))))))) (eb_gr g7 a0 0 0 (fun v21 => eb_nn v21 (fun p22 => eb_lr Γ g7 p22 7 a1 (fun v23 => eb_nn v23 (fun p24 => eb_cs g7 a0 [0] ∧ ∃ c27 s28 : Nat, (u8 + c27 ≤ bc ∧ w9 + s28 ≤ bs) ∧ MX0_countOf Γ c27 s28 g7 a0 p24 x4_6 (fun v25 g26 => k20 (-v25) g26 (u8 + c27) (w9 + s28))))))))))))))) 0 0 g2 (0 + c3) (0 + s4)) (K v1 g2))
abbrev rmX0_law (bc bs : Nat) : Room := { frames := 14, cells := bc, slots := bs, locals := 306 }
theorem nX0_law : eb_ar yX0_law 1 := by decide +kernel
theorem dX0_law_0 : eb_dc cX0_law 0 (.aload_n 0) 1 1 := by decide +kernel
theorem dX0_law_1 : eb_dc cX0_law 1 (.iload_n 1) 1 2 := by decide +kernel
theorem dX0_law_2 : eb_dc cX0_law 2 (.iconst 1) 1 3 := by decide +kernel
theorem dX0_law_3 : eb_dc cX0_law 3 (.invokevirtual 75) 3 6 := by decide +kernel
theorem dX0_law_6 : eb_dc cX0_law 6 (.istore_n 2) 1 7 := by decide +kernel
theorem dX0_law_7 : eb_dc cX0_law 7 (.iload_n 2) 1 8 := by decide +kernel
theorem dX0_law_8 : eb_dc cX0_law 8 (.iconst 1) 1 9 := by decide +kernel
theorem dX0_law_9 : eb_dj cX0_law 9 (.if_icmp .eq 5) 5 12 14 := by decide +kernel
theorem dX0_law_12 : eb_dc cX0_law 12 (.iload_n 2) 1 13 := by decide +kernel
theorem dX0_law_13 : eb_dc cX0_law 13 (.ireturn) 1 14 := by decide +kernel
theorem dX0_law_14 : eb_dc cX0_law 14 (.iconst 0) 1 15 := by decide +kernel
theorem dX0_law_15 : eb_dc cX0_law 15 (.istore_n 3) 1 16 := by decide +kernel
theorem dX0_law_16 : eb_dc cX0_law 16 (.iconst 0) 1 17 := by decide +kernel
theorem dX0_law_17 : eb_dc cX0_law 17 (.istore 4) 2 19 := by decide +kernel
theorem dX0_law_19 : eb_dc cX0_law 19 (.iload 4) 2 21 := by decide +kernel
theorem dX0_law_21 : eb_dc cX0_law 21 (.aload_n 0) 1 22 := by decide +kernel
theorem dX0_law_22 : eb_dc cX0_law 22 (.getfield 15) 3 25 := by decide +kernel
theorem dX0_law_25 : eb_dc cX0_law 25 (.iload_n 1) 1 26 := by decide +kernel
theorem dX0_law_26 : eb_dc cX0_law 26 (.aaload) 1 27 := by decide +kernel
theorem dX0_law_27 : eb_dc cX0_law 27 (.getfield 34) 3 30 := by decide +kernel
theorem dX0_law_30 : eb_dj cX0_law 30 (.if_icmp .ge 47) 47 33 77 := by decide +kernel
theorem dX0_law_33 : eb_dc cX0_law 33 (.iload_n 3) 1 34 := by decide +kernel
theorem dX0_law_34 : eb_dc cX0_law 34 (.iload 4) 2 36 := by decide +kernel
theorem dX0_law_36 : eb_dc cX0_law 36 (.iconst 2) 1 37 := by decide +kernel
theorem dX0_law_37 : eb_dc cX0_law 37 (.irem) 1 38 := by decide +kernel
theorem dX0_law_38 : eb_dj cX0_law 38 (.ifCond .ne 18) 18 41 56 := by decide +kernel
theorem dX0_law_41 : eb_dc cX0_law 41 (.aload_n 0) 1 42 := by decide +kernel
theorem dX0_law_42 : eb_dc cX0_law 42 (.aload_n 0) 1 43 := by decide +kernel
theorem dX0_law_43 : eb_dc cX0_law 43 (.getfield 15) 3 46 := by decide +kernel
theorem dX0_law_46 : eb_dc cX0_law 46 (.iload_n 1) 1 47 := by decide +kernel
theorem dX0_law_47 : eb_dc cX0_law 47 (.aaload) 1 48 := by decide +kernel
theorem dX0_law_48 : eb_dc cX0_law 48 (.iload 4) 2 50 := by decide +kernel
theorem dX0_law_50 : eb_dc cX0_law 50 (.invokevirtual 141) 3 53 := by decide +kernel
theorem dX0_law_53 : eb_dj cX0_law 53 (.goto 16) 16 56 69 := by decide +kernel
theorem dX0_law_56 : eb_dc cX0_law 56 (.aload_n 0) 1 57 := by decide +kernel
theorem dX0_law_57 : eb_dc cX0_law 57 (.aload_n 0) 1 58 := by decide +kernel
theorem dX0_law_58 : eb_dc cX0_law 58 (.getfield 15) 3 61 := by decide +kernel
theorem dX0_law_61 : eb_dc cX0_law 61 (.iload_n 1) 1 62 := by decide +kernel
theorem dX0_law_62 : eb_dc cX0_law 62 (.aaload) 1 63 := by decide +kernel
theorem dX0_law_63 : eb_dc cX0_law 63 (.iload 4) 2 65 := by decide +kernel
theorem dX0_law_65 : eb_dc cX0_law 65 (.invokevirtual 141) 3 68 := by decide +kernel
theorem dX0_law_68 : eb_dc cX0_law 68 (.ineg) 1 69 := by decide +kernel
theorem dX0_law_69 : eb_dc cX0_law 69 (.iadd) 1 70 := by decide +kernel
theorem dX0_law_70 : eb_dc cX0_law 70 (.istore_n 3) 1 71 := by decide +kernel
theorem dX0_law_71 : eb_dc cX0_law 71 (.iinc 4 1) 3 74 := by decide +kernel
theorem dX0_law_74 : eb_dj cX0_law 74 (.goto (-55)) (-55) 77 19 := by decide +kernel
theorem dX0_law_77 : eb_dc cX0_law 77 (.iload_n 3) 1 78 := by decide +kernel
theorem dX0_law_78 : eb_dc cX0_law 78 (.ireturn) 1 79 := by decide +kernel
theorem ctX0_law {l : Launch} {Γ : eb_C} {bc bs : Nat} {st : eb_S} {a0 : Nat} {a1 : Int32} {K : Int32 → eb_S → Prop} (h : MX0_law Γ bc bs st a0 a1 K) : eb_Ct l Γ yX0_law cX0_law 5 (some .int) (rmX0_law bc bs) [.ref a0, .int a1] st (eb_oI K) := by
  refine eb_of (by decide) (Nat.le_of_ble_eq_true rfl) (fun X P hP hX0 => ?_)
  suffices hgo : (0 ≤ bc ∧ 0 ≤ bs) → eb_G l Γ P X cX0_law RX0 5 (some .int) (rmX0_law bc bs) 0 [(0, .ref a0), (1, .int a1)] [] st 0 0 from hgo ⟨Nat.zero_le _, Nat.zero_le _⟩
  intro hu
  refine eg_aload_n 0 dX0_law_0 rfl rfl ?_
  refine eg_iload_n 1 dX0_law_1 rfl rfl ?_
  refine eg_iconst dX0_law_2 kc_1 ?_
  obtain ⟨hcs, h⟩ := h
  obtain ⟨c3, s4, hca, h⟩ := h
  have hM0 := h
  clear h
  refine ec_VIa (rest := []) (ctX0_why hM0) (lw_V q237 q239 qs1 q74 q240) rfl rfl hcs nX0_why ⟨Nat.le_of_ble_eq_true rfl, Nat.le_of_ble_eq_true rfl⟩ ⟨rfl, rfl⟩ hca rfl rfl (Nat.le_of_ble_eq_true rfl) dX0_law_3 (fun v1 g2 h => ?_)
  clear hM0
  replace hu := hca
  refine eg_istore_n (lv' := [(2, .int v1), (0, .ref a0), (1, .int a1)]) dX0_law_6 rfl (Nat.le_of_ble_eq_true rfl) rfl ?_
  refine eg_iload_n 0 dX0_law_7 rfl rfl ?_
  refine eg_iconst dX0_law_8 kc_1 ?_
  refine eg_icmp_eq dX0_law_9 (fun c39 => ?_) (fun c39 => ?_)
  · replace h := h.1 c39
    refine eg_iconst dX0_law_14 kc_0 ?_
    refine eg_istore_n (lv' := [(3, .int 0), (2, .int v1), (0, .ref a0), (1, .int a1)]) dX0_law_15 rfl (Nat.le_of_ble_eq_true rfl) rfl ?_
    refine eg_iconst dX0_law_16 kc_0 ?_
    refine eg_istore (lv' := [(4, .int 0), (3, .int 0), (2, .int v1), (0, .ref a0), (1, .int a1)]) dX0_law_17 (Nat.le_of_ble_eq_true rfl) rfl ?_
    refine eg_sub [3, 4, 1, 0] rfl ?_
    refine eb_loop5_e (J := fun (x3_5 : Int32) (x4_6 : Int32) (g7 : eb_S) (u8 : Nat) (w9 : Nat) => (u8 ≤ bc ∧ w9 ≤ bs) → eb_G l Γ P X cX0_law RX0 5 (some .int) (rmX0_law bc bs) 19 [(0, .ref a0), (1, .int a1), (3, .int x3_5), (4, .int x4_6)] [] g7 u8 w9) h ?_ hu
    clear h
    clear hu
    intro r10 hr10 x3_5 x4_6 g7 u8 w9 h hu
    refine eg_iload 3 dX0_law_19 rfl ?_
    refine eg_aload_n 0 dX0_law_21 rfl rfl ?_
    obtain ⟨fs, v11, he, hv, h⟩ := h
    refine eg_get 0 in_X0 he rfl (Nat.le_of_ble_eq_true rfl) q159 rfl hv dX0_law_22 ?_
    refine eg_iload_n 1 dX0_law_25 rfl rfl ?_
    obtain ⟨p12, rfl, h⟩ := h
    obtain ⟨nA, fA, he, hb, h⟩ := h
    refine eg_aald (t := 7) (ty := .object "EvenBodies$Body") rfl rfl he hb dX0_law_26 (fun v13 ev13 => ?_)
    replace h := h v13 ev13
    obtain ⟨p14, rfl, h⟩ := h
    obtain ⟨fs, v15, he, hv, h⟩ := h
    refine eg_getN 0 in_X1 he rfl (Nat.le_of_ble_eq_true rfl) (List.mem_of_getElem? (i := 1) rfl) rfl hv dX0_law_27 ?_
    refine eg_icmp_ge dX0_law_30 (fun c38 => ?_) (fun c38 => ?_)
    · replace h := h.1 c38
      refine eg_iload_n 2 dX0_law_77 rfl rfl ?_
      exact eg_iret dX0_law_78 hu.1 hu.2 (hP _ _ ⟨_, rfl, h⟩)
    · replace h := h.2 c38
      refine eg_iload_n 2 dX0_law_33 rfl rfl ?_
      refine eg_iload 3 dX0_law_34 rfl ?_
      refine eg_iconst dX0_law_36 kc_2 ?_
      refine eg_irem dX0_law_37 (by decide) ?_
      refine eb_jp4_e (J := fun (s16 : Int32) (g17 : eb_S) (u18 : Nat) (w19 : Nat) => (u18 ≤ bc ∧ w19 ≤ bs) → eb_G l Γ P X cX0_law RX0 5 (some .int) (rmX0_law bc bs) 69 [(0, .ref a0), (1, .int a1), (4, .int x4_6)] [.int s16, .int x3_5] g17 u18 w19) h ?_ ?_
      · clear h
        intro s16 g17 u18 w19 h hu
        refine eg_iadd dX0_law_69 ?_
        refine eg_istore_n (lv' := [(3, .int (x3_5 + s16)), (0, .ref a0), (1, .int a1), (4, .int x4_6)]) dX0_law_70 rfl (Nat.le_of_ble_eq_true rfl) rfl ?_
        refine eg_iinc (j := 3) (lv' := [(4, .int (x4_6 + 1)), (3, .int (x3_5 + s16)), (0, .ref a0), (1, .int a1)]) dX0_law_71 rfl (by rw [kc_1]) (Nat.le_of_ble_eq_true rfl) rfl ?_
        refine eg_goto dX0_law_74 ?_
        exact eg_sub [2, 3, 1, 0] rfl (hr10 (x3_5 + s16) (x4_6 + 1) g17 u18 w19 h hu)
      · clear h
        intro k20 hk20 h
        refine eg_if_ne dX0_law_38 (fun c37 => ?_) (fun c37 => ?_)
        · replace h := h.2 c37
          refine eg_aload_n 0 dX0_law_56 rfl rfl ?_
          refine eg_aload_n 0 dX0_law_57 rfl rfl ?_
          obtain ⟨fs, v21, he, hv, h⟩ := h
          refine eg_get 0 in_X0 he rfl (Nat.le_of_ble_eq_true rfl) q159 rfl hv dX0_law_58 ?_
          refine eg_iload_n 1 dX0_law_61 rfl rfl ?_
          obtain ⟨p22, rfl, h⟩ := h
          obtain ⟨nA, fA, he, hb, h⟩ := h
          refine eg_aald (t := 7) (ty := .object "EvenBodies$Body") rfl rfl he hb dX0_law_62 (fun v23 ev23 => ?_)
          replace h := h v23 ev23
          refine eg_iload 3 dX0_law_63 rfl ?_
          obtain ⟨p24, rfl, h⟩ := h
          obtain ⟨hcs, h⟩ := h
          obtain ⟨c27, s28, hca, h⟩ := h
          have hM0 := h
          clear h
          refine ec_VIa (rest := [.int x3_5]) (ctX0_countOf hM0) (lw_V q571 q573 qs10 q74 q574) rfl rfl hcs nX0_countOf ⟨Nat.le_of_ble_eq_true rfl, Nat.le_of_ble_eq_true rfl⟩ ⟨rfl, rfl⟩ hca rfl rfl (Nat.le_of_ble_eq_true rfl) dX0_law_65 (fun v25 g26 h => ?_)
          clear hM0
          replace hu := hca
          refine eg_ineg dX0_law_68 ?_
          exact eg_sub [0, 1, 3] rfl (hk20 (-v25) g26 (u8 + c27) (w9 + s28) h hu)
        · replace h := h.1 c37
          refine eg_aload_n 0 dX0_law_41 rfl rfl ?_
          refine eg_aload_n 0 dX0_law_42 rfl rfl ?_
          obtain ⟨fs, v29, he, hv, h⟩ := h
          refine eg_get 0 in_X0 he rfl (Nat.le_of_ble_eq_true rfl) q159 rfl hv dX0_law_43 ?_
          refine eg_iload_n 1 dX0_law_46 rfl rfl ?_
          obtain ⟨p30, rfl, h⟩ := h
          obtain ⟨nA, fA, he, hb, h⟩ := h
          refine eg_aald (t := 7) (ty := .object "EvenBodies$Body") rfl rfl he hb dX0_law_47 (fun v31 ev31 => ?_)
          replace h := h v31 ev31
          refine eg_iload 3 dX0_law_48 rfl ?_
          obtain ⟨p32, rfl, h⟩ := h
          obtain ⟨hcs, h⟩ := h
          obtain ⟨c35, s36, hca, h⟩ := h
          have hM0 := h
          clear h
          refine ec_VIa (rest := [.int x3_5]) (ctX0_countOf hM0) (lw_V q571 q573 qs10 q74 q574) rfl rfl hcs nX0_countOf ⟨Nat.le_of_ble_eq_true rfl, Nat.le_of_ble_eq_true rfl⟩ ⟨rfl, rfl⟩ hca rfl rfl (Nat.le_of_ble_eq_true rfl) dX0_law_50 (fun v33 g34 h => ?_)
          clear hM0
          replace hu := hca
          refine eg_goto dX0_law_53 ?_
          exact eg_sub [0, 1, 3] rfl (hk20 v33 g34 (u8 + c35) (w9 + s36) h hu)
  · replace h := h.2 c39
    refine eg_iload_n 0 dX0_law_12 rfl rfl ?_
    exact eg_iret dX0_law_13 hu.1 hu.2 (hP _ _ ⟨_, rfl, h⟩)
def MX0_isCorner (Γ : eb_C) (bc bs : Nat) (st : eb_S) (a0 : Nat) (a1 : Int32) (a2 : Int32) (K : Int32 → eb_S → Prop) : Prop :=
  eb_cs st a0 [0] ∧ ∃ c3 s4 : Nat, (0 + c3 ≤ bc ∧ 0 + s4 ≤ bs) ∧ MX0_isPart Γ c3 s4 st a0 a1 0 a2 (fun v1 g2 => eb_zb v1 ∧ K v1 g2)
abbrev rmX0_isCorner (bc bs : Nat) : Room := { frames := 14, cells := bc, slots := bs, locals := 307 }
theorem nX0_isCorner : eb_ar yX0_isCorner 2 := by decide +kernel
theorem dX0_isCorner_0 : eb_dc cX0_isCorner 0 (.aload_n 0) 1 1 := by decide +kernel
theorem dX0_isCorner_1 : eb_dc cX0_isCorner 1 (.iload_n 1) 1 2 := by decide +kernel
theorem dX0_isCorner_2 : eb_dc cX0_isCorner 2 (.iconst 0) 1 3 := by decide +kernel
theorem dX0_isCorner_3 : eb_dc cX0_isCorner 3 (.iload_n 2) 1 4 := by decide +kernel
theorem dX0_isCorner_4 : eb_dc cX0_isCorner 4 (.invokevirtual 128) 3 7 := by decide +kernel
theorem dX0_isCorner_7 : eb_dc cX0_isCorner 7 (.ireturn) 1 8 := by decide +kernel
theorem ctX0_isCorner {l : Launch} {Γ : eb_C} {bc bs : Nat} {st : eb_S} {a0 : Nat} {a1 : Int32} {a2 : Int32} {K : Int32 → eb_S → Prop} (h : MX0_isCorner Γ bc bs st a0 a1 a2 K) : eb_Ct l Γ yX0_isCorner cX0_isCorner 3 (some .boolean) (rmX0_isCorner bc bs) [.ref a0, .int a1, .int a2] st (eb_oI K) := by
  refine eb_of (by decide) (Nat.le_of_ble_eq_true rfl) (fun X P hP hX0 => ?_)
  suffices hgo : (0 ≤ bc ∧ 0 ≤ bs) → eb_G l Γ P X cX0_isCorner RX0 3 (some .boolean) (rmX0_isCorner bc bs) 0 [(0, .ref a0), (1, .int a1), (2, .int a2)] [] st 0 0 from hgo ⟨Nat.zero_le _, Nat.zero_le _⟩
  intro hu
  refine eg_aload_n 0 dX0_isCorner_0 rfl rfl ?_
  refine eg_iload_n 1 dX0_isCorner_1 rfl rfl ?_
  refine eg_iconst dX0_isCorner_2 kc_0 ?_
  refine eg_iload_n 2 dX0_isCorner_3 rfl rfl ?_
  obtain ⟨hcs, h⟩ := h
  obtain ⟨c3, s4, hca, h⟩ := h
  have hM0 := h
  clear h
  refine ec_VIa (rest := []) (ctX0_isPart hM0) (lw_V q535 q537 qs9 q74 q538) rfl rfl hcs nX0_isPart ⟨Nat.le_of_ble_eq_true rfl, Nat.le_of_ble_eq_true rfl⟩ ⟨rfl, rfl⟩ hca rfl rfl (Nat.le_of_ble_eq_true rfl) dX0_isCorner_4 (fun v1 g2 h => ?_)
  clear hM0
  replace hu := hca
  exact eg_zret dX0_isCorner_7 h.1.nar hu.1 hu.2 (hP _ _ ⟨_, rfl, h.2⟩)
def MX0_moves (Γ : eb_C) (bc bs : Nat) (st : eb_S) (a0 : Nat) (a1 : Int32) (a2 : Int32) (a3 : Int32) (K : Int32 → eb_S → Prop) : Prop :=
  eb_cs st a0 [0] ∧ ∃ c3 s4 : Nat, (0 + c3 ≤ bc ∧ 0 + s4 ≤ bs) ∧ MX0_isElement Γ c3 s4 st a0 a1 a2 (fun v1 g2 => eb_jp4 (fun (s5 : Int32) (g6 : eb_S) (u7 : Nat) (w8 : Nat) => eb_cs g6 a0 [0] ∧ ∃ c11 s12 : Nat, (u7 + c11 ≤ bc ∧ w8 + s12 ≤ bs) ∧ MX0_why Γ c11 s12 g6 a0 a1 s5 (fun v9 g10 => eb_br (v9 = 1) (eb_gr g10 a0 0 0 (fun v13 => eb_nn v13 (fun p14 => eb_lr Γ g10 p14 7 a1 (fun v15 => eb_nn v15 (fun p16 => eb_cs g10 p16 [1] ∧ ∃ c19 s20 : Nat, ((u7 + c11) + c19 ≤ bc ∧ (w8 + s12) + s20 ≤ bs) ∧ MX1_parts Γ c19 s20 g10 p16 0 (fun v17 g18 => eb_gr g18 p16 1 3 (fun v21 => eb_cs g18 p16 [1] ∧ ∃ c24 s25 : Nat, ((((u7 + c11) + c19)) + c24 ≤ bc ∧ (((w8 + s12) + s20)) + s25 ≤ bs) ∧ MX1_least Γ c24 s25 g18 p16 0 a3 (fun v22 g23 => eb_nn v21 (fun p26 => eb_cs g23 p26 [7] ∧ MX8_product Γ 20 g23 p26 a2 v22 (fun v27 => eb_nn v17 (fun p31 => eb_li Γ g23 p31 3 v27 (fun v32 => K v32 g23)))))))))))) (K v9 g10))) (fun k34 => eb_br (v1 = 0) (k34 0 g2 (0 + c3) (0 + s4)) (eb_cs g2 a0 [0] ∧ ∃ c37 s38 : Nat, ((0 + c3) + c37 ≤ bc ∧ (0 + s4) + s38 ≤ bs) ∧ MX0_isCorner Γ c37 s38 g2 a0 a1 a3 (fun v35 g36 => eb_br (v35 = 0) (k34 0 g36 (((0 + c3) + c37)) (((0 + s4) + s38))) (k34 1 g36 (((0 + c3) + c37)) (((0 + s4) + s38)))))))
abbrev rmX0_moves (bc bs : Nat) : Room := { frames := 23, cells := bc, slots := bs, locals := 496 }
theorem nX0_moves : eb_ar yX0_moves 3 := by decide +kernel
theorem dX0_moves_0 : eb_dc cX0_moves 0 (.aload_n 0) 1 1 := by decide +kernel
theorem dX0_moves_1 : eb_dc cX0_moves 1 (.iload_n 1) 1 2 := by decide +kernel
theorem dX0_moves_2 : eb_dc cX0_moves 2 (.aload_n 0) 1 3 := by decide +kernel
theorem dX0_moves_3 : eb_dc cX0_moves 3 (.iload_n 1) 1 4 := by decide +kernel
theorem dX0_moves_4 : eb_dc cX0_moves 4 (.iload_n 2) 1 5 := by decide +kernel
theorem dX0_moves_5 : eb_dc cX0_moves 5 (.invokevirtual 79) 3 8 := by decide +kernel
theorem dX0_moves_8 : eb_dj cX0_moves 8 (.ifCond .eq 16) 16 11 24 := by decide +kernel
theorem dX0_moves_11 : eb_dc cX0_moves 11 (.aload_n 0) 1 12 := by decide +kernel
theorem dX0_moves_12 : eb_dc cX0_moves 12 (.iload_n 1) 1 13 := by decide +kernel
theorem dX0_moves_13 : eb_dc cX0_moves 13 (.iload_n 3) 1 14 := by decide +kernel
theorem dX0_moves_14 : eb_dc cX0_moves 14 (.invokevirtual 145) 3 17 := by decide +kernel
theorem dX0_moves_17 : eb_dj cX0_moves 17 (.ifCond .eq 7) 7 20 24 := by decide +kernel
theorem dX0_moves_20 : eb_dc cX0_moves 20 (.iconst 1) 1 21 := by decide +kernel
theorem dX0_moves_21 : eb_dj cX0_moves 21 (.goto 4) 4 24 25 := by decide +kernel
theorem dX0_moves_24 : eb_dc cX0_moves 24 (.iconst 0) 1 25 := by decide +kernel
theorem dX0_moves_25 : eb_dc cX0_moves 25 (.invokevirtual 75) 3 28 := by decide +kernel
theorem dX0_moves_28 : eb_dc cX0_moves 28 (.istore 4) 2 30 := by decide +kernel
theorem dX0_moves_30 : eb_dc cX0_moves 30 (.iload 4) 2 32 := by decide +kernel
theorem dX0_moves_32 : eb_dc cX0_moves 32 (.iconst 1) 1 33 := by decide +kernel
theorem dX0_moves_33 : eb_dj cX0_moves 33 (.if_icmp .eq 6) 6 36 39 := by decide +kernel
theorem dX0_moves_36 : eb_dc cX0_moves 36 (.iload 4) 2 38 := by decide +kernel
theorem dX0_moves_38 : eb_dc cX0_moves 38 (.ireturn) 1 39 := by decide +kernel
theorem dX0_moves_39 : eb_dc cX0_moves 39 (.aload_n 0) 1 40 := by decide +kernel
theorem dX0_moves_40 : eb_dc cX0_moves 40 (.getfield 15) 3 43 := by decide +kernel
theorem dX0_moves_43 : eb_dc cX0_moves 43 (.iload_n 1) 1 44 := by decide +kernel
theorem dX0_moves_44 : eb_dc cX0_moves 44 (.aaload) 1 45 := by decide +kernel
theorem dX0_moves_45 : eb_dc cX0_moves 45 (.astore 5) 2 47 := by decide +kernel
theorem dX0_moves_47 : eb_dc cX0_moves 47 (.aload 5) 2 49 := by decide +kernel
theorem dX0_moves_49 : eb_dc cX0_moves 49 (.iconst 0) 1 50 := by decide +kernel
theorem dX0_moves_50 : eb_dc cX0_moves 50 (.invokevirtual 124) 3 53 := by decide +kernel
theorem dX0_moves_53 : eb_dc cX0_moves 53 (.aload 5) 2 55 := by decide +kernel
theorem dX0_moves_55 : eb_dc cX0_moves 55 (.getfield 148) 3 58 := by decide +kernel
theorem dX0_moves_58 : eb_dc cX0_moves 58 (.iload_n 2) 1 59 := by decide +kernel
theorem dX0_moves_59 : eb_dc cX0_moves 59 (.aload 5) 2 61 := by decide +kernel
theorem dX0_moves_61 : eb_dc cX0_moves 61 (.iconst 0) 1 62 := by decide +kernel
theorem dX0_moves_62 : eb_dc cX0_moves 62 (.iload_n 3) 1 63 := by decide +kernel
theorem dX0_moves_63 : eb_dc cX0_moves 63 (.invokevirtual 131) 3 66 := by decide +kernel
theorem dX0_moves_66 : eb_dc cX0_moves 66 (.invokevirtual 92) 3 69 := by decide +kernel
theorem dX0_moves_69 : eb_dc cX0_moves 69 (.saload) 1 70 := by decide +kernel
theorem dX0_moves_70 : eb_dc cX0_moves 70 (.ireturn) 1 71 := by decide +kernel
theorem ctX0_moves {l : Launch} {Γ : eb_C} {bc bs : Nat} {st : eb_S} {a0 : Nat} {a1 : Int32} {a2 : Int32} {a3 : Int32} {K : Int32 → eb_S → Prop} (h : MX0_moves Γ bc bs st a0 a1 a2 a3 K) : eb_Ct l Γ yX0_moves cX0_moves 6 (some .int) (rmX0_moves bc bs) [.ref a0, .int a1, .int a2, .int a3] st (eb_oI K) := by
  refine eb_of (by decide) (Nat.le_of_ble_eq_true rfl) (fun X P hP hX0 => ?_)
  suffices hgo : (0 ≤ bc ∧ 0 ≤ bs) → eb_G l Γ P X cX0_moves RX0 6 (some .int) (rmX0_moves bc bs) 0 [(0, .ref a0), (1, .int a1), (2, .int a2), (3, .int a3)] [] st 0 0 from hgo ⟨Nat.zero_le _, Nat.zero_le _⟩
  intro hu
  refine eg_aload_n 0 dX0_moves_0 rfl rfl ?_
  refine eg_iload_n 1 dX0_moves_1 rfl rfl ?_
  refine eg_aload_n 0 dX0_moves_2 rfl rfl ?_
  refine eg_iload_n 1 dX0_moves_3 rfl rfl ?_
  refine eg_iload_n 2 dX0_moves_4 rfl rfl ?_
  obtain ⟨hcs, h⟩ := h
  obtain ⟨c3, s4, hca, h⟩ := h
  have hM0 := h
  clear h
  refine ec_VIa (rest := [.int a1, .ref a0]) (ctX0_isElement hM0) (lw_V q419 q421 qs5 q74 q422) rfl rfl hcs nX0_isElement ⟨Nat.le_of_ble_eq_true rfl, Nat.le_of_ble_eq_true rfl⟩ ⟨rfl, rfl⟩ hca rfl rfl (Nat.le_of_ble_eq_true rfl) dX0_moves_5 (fun v1 g2 h => ?_)
  clear hM0
  replace hu := hca
  refine eb_jp4_e (J := fun (s5 : Int32) (g6 : eb_S) (u7 : Nat) (w8 : Nat) => (u7 ≤ bc ∧ w8 ≤ bs) → eb_G l Γ P X cX0_moves RX0 6 (some .int) (rmX0_moves bc bs) 25 [(0, .ref a0), (1, .int a1), (2, .int a2), (3, .int a3)] [.int s5, .int a1, .ref a0] g6 u7 w8) h ?_ ?_
  · clear h
    intro s5 g6 u7 w8 h hu
    obtain ⟨hcs, h⟩ := h
    obtain ⟨c11, s12, hca, h⟩ := h
    have hM0 := h
    clear h
    refine ec_VIa (rest := []) (ctX0_why hM0) (lw_V q237 q239 qs1 q74 q240) rfl rfl hcs nX0_why ⟨Nat.le_of_ble_eq_true rfl, Nat.le_of_ble_eq_true rfl⟩ ⟨rfl, rfl⟩ hca rfl rfl (Nat.le_of_ble_eq_true rfl) dX0_moves_25 (fun v9 g10 h => ?_)
    clear hM0
    replace hu := hca
    refine eg_istore (lv' := [(4, .int v9), (0, .ref a0), (1, .int a1), (2, .int a2), (3, .int a3)]) dX0_moves_28 (Nat.le_of_ble_eq_true rfl) rfl ?_
    refine eg_iload 0 dX0_moves_30 rfl ?_
    refine eg_iconst dX0_moves_32 kc_1 ?_
    refine eg_icmp_eq dX0_moves_33 (fun c33 => ?_) (fun c33 => ?_)
    · replace h := h.1 c33
      refine eg_aload_n 1 dX0_moves_39 rfl rfl ?_
      obtain ⟨fs, v13, he, hv, h⟩ := h
      refine eg_get 0 in_X0 he rfl (Nat.le_of_ble_eq_true rfl) q159 rfl hv dX0_moves_40 ?_
      refine eg_iload_n 2 dX0_moves_43 rfl rfl ?_
      obtain ⟨p14, rfl, h⟩ := h
      obtain ⟨nA, fA, he, hb, h⟩ := h
      refine eg_aald (t := 7) (ty := .object "EvenBodies$Body") rfl rfl he hb dX0_moves_44 (fun v15 ev15 => ?_)
      replace h := h v15 ev15
      refine eh_astore (i := 5) (v := v15) (lv' := [(5, va_rf v15), (4, .int v9), (0, .ref a0), (1, .int a1), (2, .int a2), (3, .int a3)]) dX0_moves_45 (Nat.le_of_ble_eq_true rfl) rfl ?_
      refine eh_aload (v := v15) 0 dX0_moves_47 rfl ?_
      refine eg_iconst dX0_moves_49 kc_0 ?_
      obtain ⟨p16, rfl, h⟩ := h
      obtain ⟨hcs, h⟩ := h
      obtain ⟨c19, s20, hca, h⟩ := h
      have hM0 := h
      clear h
      refine ec_VRa (rest := []) (ctX1_parts hM0) (lw_V q530 q515 q516 q75 q517) rfl rfl hcs nX1_parts ⟨Nat.le_of_ble_eq_true rfl, Nat.le_of_ble_eq_true rfl⟩ ⟨rfl, rfl⟩ hca rfl rfl (Nat.le_of_ble_eq_true rfl) dX0_moves_50 (fun v17 g18 h => ?_)
      clear hM0
      replace hu := hca
      refine eg_aload 0 dX0_moves_53 rfl ?_
      obtain ⟨fs, v21, he, hv, h⟩ := h
      refine eg_getN 3 in_X1 he rfl (Nat.le_of_ble_eq_true rfl) (List.mem_of_getElem? (i := 4) rfl) rfl hv dX0_moves_55 ?_
      refine eg_iload_n 4 dX0_moves_58 rfl rfl ?_
      refine eg_aload 0 dX0_moves_59 rfl ?_
      refine eg_iconst dX0_moves_61 kc_0 ?_
      refine eg_iload_n 5 dX0_moves_62 rfl rfl ?_
      obtain ⟨hcs, h⟩ := h
      obtain ⟨c24, s25, hca, h⟩ := h
      have hM0 := h
      clear h
      refine ec_VIa (rest := [.int a2, va_rf v21, va_rf v17]) (ctX1_least hM0) (lw_V q539 q540 q541 q75 q542) rfl rfl hcs nX1_least ⟨Nat.le_of_ble_eq_true rfl, Nat.le_of_ble_eq_true rfl⟩ ⟨rfl, rfl⟩ hca rfl rfl (by simp only [List.map_cons, List.map_nil, eb_rfc]; exact Nat.le_of_ble_eq_true rfl) dX0_moves_63 (fun v22 g23 h => ?_)
      clear hM0
      replace hu := hca
      obtain ⟨p26, rfl, h⟩ := h
      obtain ⟨hcs, h⟩ := h
      have hM0 := h
      clear h
      refine ec_VIp (rest := [va_rf v17]) (ctX8_product 20 hM0) (lw_V q443 q444 q445 q84 q446) rfl rfl hcs nX8_product ⟨by show _ ≤ _; simp [rmX8_product]; try omega, by show _ ≤ _; simp [rmX8_product]; try omega⟩ ⟨rfl, rfl⟩ hu rfl rfl (by simp only [List.map_cons, List.map_nil, eb_rfc]; exact Nat.le_of_ble_eq_true rfl) dX0_moves_66 (fun v27 h => ?_)
      clear hM0
      obtain ⟨p31, rfl, h⟩ := h
      obtain ⟨nA, fA, he, hb, h⟩ := h
      refine eh_sald he hb dX0_moves_69 (fun v32 ev32 => ?_)
      replace h := h v32 ev32
      exact eg_iret dX0_moves_70 hu.1 hu.2 (hP _ _ ⟨_, rfl, h⟩)
    · replace h := h.2 c33
      refine eg_iload 0 dX0_moves_36 rfl ?_
      exact eg_iret dX0_moves_38 hu.1 hu.2 (hP _ _ ⟨_, rfl, h⟩)
  · clear h
    intro k34 hk34 h
    refine eg_if_eq dX0_moves_8 (fun c40 => ?_) (fun c40 => ?_)
    · replace h := h.1 c40
      refine eg_iconst dX0_moves_24 kc_0 ?_
      exact hk34 0 g2 (0 + c3) (0 + s4) h hu
    · replace h := h.2 c40
      refine eg_aload_n 0 dX0_moves_11 rfl rfl ?_
      refine eg_iload_n 1 dX0_moves_12 rfl rfl ?_
      refine eg_iload_n 3 dX0_moves_13 rfl rfl ?_
      obtain ⟨hcs, h⟩ := h
      obtain ⟨c37, s38, hca, h⟩ := h
      have hM0 := h
      clear h
      refine ec_VIa (rest := [.int a1, .ref a0]) (ctX0_isCorner hM0) (lw_V q583 q585 qs11 q74 q586) rfl rfl hcs nX0_isCorner ⟨Nat.le_of_ble_eq_true rfl, Nat.le_of_ble_eq_true rfl⟩ ⟨rfl, rfl⟩ hca rfl rfl (Nat.le_of_ble_eq_true rfl) dX0_moves_14 (fun v35 g36 h => ?_)
      clear hM0
      replace hu := hca
      refine eg_if_eq dX0_moves_17 (fun c39 => ?_) (fun c39 => ?_)
      · replace h := h.1 c39
        refine eg_iconst dX0_moves_24 kc_0 ?_
        exact hk34 0 g36 (((0 + c3) + c37)) (((0 + s4) + s38)) h hu
      · replace h := h.2 c39
        refine eg_iconst dX0_moves_20 kc_1 ?_
        refine eg_goto dX0_moves_21 ?_
        exact hk34 1 g36 (((0 + c3) + c37)) (((0 + s4) + s38)) h hu
def MX10_init (Γ : eb_C) (bc bs : Nat) (st : eb_S) (a0 : Nat) (a1 : Int32) (a2 : Int32) (K : eb_S → Prop) : Prop :=
  eb_np st a0 0 (.int a1) (fun g1 => eb_np g1 a0 1 (.int a2) (fun g2 => eb_ok1 (a1 * a2) ∧ (eb_mk g2 (eb_ia Γ 0 ((a1 * a2).toNatClampNeg) (fun _ => 0)) ((a1 * a2).toNatClampNeg) bc bs 0 0 (fun p3 g4 => eb_np g4 a0 2 (.ref p3) (fun g5 => eb_ok1 a1 ∧ (eb_mk g5 (eb_ia Γ 0 (a1.toNatClampNeg) (fun _ => 0)) (a1.toNatClampNeg) bc bs (0 + 1) ((0 + ((a1 * a2).toNatClampNeg))) (fun p6 g7 => eb_np g7 a0 3 (.ref p6) (fun g8 => K g8))))))))
abbrev rmX10_init (bc bs : Nat) : Room := { frames := 2, cells := bc, slots := bs, locals := 40 }
theorem nX10_init : eb_ar yX10_init 2 := by decide +kernel
theorem dX10_init_0 : eb_dc cX10_init 0 (.aload_n 0) 1 1 := by decide +kernel
theorem dX10_init_1 : eb_dc cX10_init 1 (.invokespecial 3) 3 4 := by decide +kernel
theorem dX10_init_4 : eb_dc cX10_init 4 (.aload_n 0) 1 5 := by decide +kernel
theorem dX10_init_5 : eb_dc cX10_init 5 (.iload_n 1) 1 6 := by decide +kernel
theorem dX10_init_6 : eb_dc cX10_init 6 (.putfield 9) 3 9 := by decide +kernel
theorem dX10_init_9 : eb_dc cX10_init 9 (.aload_n 0) 1 10 := by decide +kernel
theorem dX10_init_10 : eb_dc cX10_init 10 (.iload_n 2) 1 11 := by decide +kernel
theorem dX10_init_11 : eb_dc cX10_init 11 (.putfield 15) 3 14 := by decide +kernel
theorem dX10_init_14 : eb_dc cX10_init 14 (.aload_n 0) 1 15 := by decide +kernel
theorem dX10_init_15 : eb_dc cX10_init 15 (.iload_n 1) 1 16 := by decide +kernel
theorem dX10_init_16 : eb_dc cX10_init 16 (.iload_n 2) 1 17 := by decide +kernel
theorem dX10_init_17 : eb_dc cX10_init 17 (.imul) 1 18 := by decide +kernel
theorem dX10_init_18 : eb_dc cX10_init 18 (.newarray .int) 2 20 := by decide +kernel
theorem dX10_init_20 : eb_dc cX10_init 20 (.putfield 18) 3 23 := by decide +kernel
theorem dX10_init_23 : eb_dc cX10_init 23 (.aload_n 0) 1 24 := by decide +kernel
theorem dX10_init_24 : eb_dc cX10_init 24 (.iload_n 1) 1 25 := by decide +kernel
theorem dX10_init_25 : eb_dc cX10_init 25 (.newarray .int) 2 27 := by decide +kernel
theorem dX10_init_27 : eb_dc cX10_init 27 (.putfield 22) 3 30 := by decide +kernel
theorem dX10_init_30 : eb_dc cX10_init 30 (.return_) 1 31 := by decide +kernel
theorem ctX10_init {l : Launch} {Γ : eb_C} {bc bs : Nat} {st : eb_S} {a0 : Nat} {a1 : Int32} {a2 : Int32} {K : eb_S → Prop} (h : MX10_init Γ bc bs st a0 a1 a2 K) : eb_Ct l Γ yX10_init cX10_init 3 (none) (rmX10_init bc bs) [.ref a0, .int a1, .int a2] st (eb_oV K) := by
  refine eb_of (by decide) (Nat.le_of_ble_eq_true rfl) (fun X P hP hX0 => ?_)
  replace hX0 := hX0 rfl
  suffices hgo : (0 ≤ bc ∧ 0 ≤ bs) → eb_G l Γ P X cX10_init RX10 3 (none) (rmX10_init bc bs) 0 [(0, .ref a0), (1, .int a1), (2, .int a2)] [] st 0 0 from hgo ⟨Nat.zero_le _, Nat.zero_le _⟩
  intro hu
  refine eg_aload_n 0 dX10_init_0 rfl rfl ?_
  refine eg_objInit q604 q104 q105 dX10_init_1 (Nat.le_of_ble_eq_true rfl) (Nat.le_of_ble_eq_true rfl) ?_
  refine eg_aload_n 0 dX10_init_4 rfl rfl ?_
  refine eg_iload_n 1 dX10_init_5 rfl rfl ?_
  obtain ⟨c0, fs, hc0, he, hlen, h⟩ := h
  refine en_putF 0 (Nat.le_of_ble_eq_true rfl) hc0 he q629 hX0 rfl rfl hlen dX10_init_6 (fun g1 eg1 => ?_)
  replace h := h g1 eg1
  refine eg_aload_n 0 dX10_init_9 rfl rfl ?_
  refine eg_iload_n 2 dX10_init_10 rfl rfl ?_
  obtain ⟨c0, fs, hc0, he, hlen, h⟩ := h
  refine en_putF 1 (Nat.le_of_ble_eq_true rfl) hc0 he q636 hX0 rfl rfl hlen dX10_init_11 (fun g2 eg2 => ?_)
  replace h := h g2 eg2
  refine eg_aload_n 0 dX10_init_14 rfl rfl ?_
  refine eg_iload_n 1 dX10_init_15 rfl rfl ?_
  refine eg_iload_n 2 dX10_init_16 rfl rfl ?_
  refine eg_imul dX10_init_17 ?_
  obtain ⟨hok, h⟩ := h
  obtain ⟨hc1, hs1, h⟩ := h
  refine eh_new_i q158 rfl hok hc1 hs1 dX10_init_18 (fun p3 qp3 g4 eg4 => ?_)
  replace h := h p3 qp3 g4 eg4
  replace hu := And.intro hc1 hs1
  obtain ⟨c0, fs, hc0, he, hlen, h⟩ := h
  refine en_putF 2 (Nat.le_of_ble_eq_true rfl) hc0 he q637 hX0 rfl rfl hlen dX10_init_20 (fun g5 eg5 => ?_)
  replace h := h g5 eg5
  refine eg_aload_n 0 dX10_init_23 rfl rfl ?_
  refine eg_iload_n 1 dX10_init_24 rfl rfl ?_
  obtain ⟨hok, h⟩ := h
  obtain ⟨hc1, hs1, h⟩ := h
  refine eh_new_i q158 rfl hok hc1 hs1 dX10_init_25 (fun p6 qp6 g7 eg7 => ?_)
  replace h := h p6 qp6 g7 eg7
  replace hu := And.intro hc1 hs1
  obtain ⟨c0, fs, hc0, he, hlen, h⟩ := h
  refine en_putF 3 (Nat.le_of_ble_eq_true rfl) hc0 he q638 hX0 rfl rfl hlen dX10_init_27 (fun g8 eg8 => ?_)
  replace h := h g8 eg8
  exact eg_vret dX10_init_30 hu.1 hu.2 (hP _ _ ⟨rfl, h⟩)
def MX10_at (Γ : eb_C) (st : eb_S) (a0 : Nat) (a1 : Int32) (a2 : Int32) (K : Int32 → Prop) : Prop :=
  eb_nr st a0 2 (fun v1 => eb_ni st a0 1 (fun v2 => eb_nn v1 (fun p3 => eb_li Γ st p3 0 (((v2 * a1) + a2)) (fun v4 => K v4))))
abbrev rmX10_at : Room := { frames := 1, cells := 0, slots := 0, locals := 12 }
theorem nX10_at : eb_ar yX10_at 2 := by decide +kernel
theorem dX10_at_0 : eb_dc cX10_at 0 (.aload_n 0) 1 1 := by decide +kernel
theorem dX10_at_1 : eb_dc cX10_at 1 (.getfield 18) 3 4 := by decide +kernel
theorem dX10_at_4 : eb_dc cX10_at 4 (.aload_n 0) 1 5 := by decide +kernel
theorem dX10_at_5 : eb_dc cX10_at 5 (.getfield 15) 3 8 := by decide +kernel
theorem dX10_at_8 : eb_dc cX10_at 8 (.iload_n 1) 1 9 := by decide +kernel
theorem dX10_at_9 : eb_dc cX10_at 9 (.imul) 1 10 := by decide +kernel
theorem dX10_at_10 : eb_dc cX10_at 10 (.iload_n 2) 1 11 := by decide +kernel
theorem dX10_at_11 : eb_dc cX10_at 11 (.iadd) 1 12 := by decide +kernel
theorem dX10_at_12 : eb_dc cX10_at 12 (.iaload) 1 13 := by decide +kernel
theorem dX10_at_13 : eb_dc cX10_at 13 (.ireturn) 1 14 := by decide +kernel
theorem ctX10_at {l : Launch} {Γ : eb_C} {st : eb_S} {a0 : Nat} {a1 : Int32} {a2 : Int32} {K : Int32 → Prop} (h : MX10_at Γ st a0 a1 a2 K) : eb_Ct l Γ yX10_at cX10_at 3 (some .int) rmX10_at [.ref a0, .int a1, .int a2] st (eb_pI st K) := by
  refine eb_of (by decide) (Nat.le_of_ble_eq_true rfl) (fun X P hP hX0 => ?_)
  show eb_G l Γ P X cX10_at RX10 3 (some .int) rmX10_at 0 [(0, .ref a0), (1, .int a1), (2, .int a2)] [] st 0 0
  refine eg_aload_n 0 dX10_at_0 rfl rfl ?_
  obtain ⟨c0, fs, v1, hc0, he, hv, h⟩ := h
  refine en_get 2 (Nat.le_of_ble_eq_true rfl) hc0 he q637 hv dX10_at_1 ?_
  refine eg_aload_n 0 dX10_at_4 rfl rfl ?_
  obtain ⟨c0, fs, v2, hc0, he, hv, h⟩ := h
  refine en_get 1 (Nat.le_of_ble_eq_true rfl) hc0 he q636 hv dX10_at_5 ?_
  refine eg_iload_n 1 dX10_at_8 rfl rfl ?_
  refine eg_imul dX10_at_9 ?_
  refine eg_iload_n 2 dX10_at_10 rfl rfl ?_
  refine eg_iadd dX10_at_11 ?_
  obtain ⟨p3, rfl, h⟩ := h
  obtain ⟨nA, fA, he, hb, h⟩ := h
  refine eh_iald he hb dX10_at_12 (fun v4 ev4 => ?_)
  replace h := h v4 ev4
  exact eg_iret dX10_at_13 (Nat.zero_le _) (Nat.zero_le _) (hP _ _ ⟨_, rfl, rfl, h⟩)
theorem gUX10_25 : ∀ c ∈ [9, 10, 13], ∃ (C : String) (T : u_T) (N : Nat), eb_cl[c]? = some (C, T, N) ∧ GoodIn lw_all (va_wsU "EvenBodies$Net" 25 C "EvenBodies$Net" ⟨"EvenBodies$Net", "at", "(II)I"⟩ yX10_at (ws_ yX10_at cX10_at 3 (some .int))) := by
  intro c hc
  simp only [List.mem_cons, List.not_mem_nil, or_false] at hc
  rcases hc with rfl | rfl | rfl
  · exact ⟨_, _, _, rfl, lw_U q618 q621 q620 q619 q87 q624⟩
  · exact ⟨_, _, _, rfl, lw_U q618 q621 q622 q619 q87 q624⟩
  · exact ⟨_, _, _, rfl, lw_U q618 q621 q623 q619 q87 q624⟩
def MX10_isJoined (Γ : eb_C) (st : eb_S) (a0 : Nat) (a1 : Int32) (a2 : Int32) (K : Int32 → Prop) : Prop :=
  eb_loop1 (fun r2 (x3_1 : Int32) => eb_nr st a0 3 (fun v3 => eb_nn v3 (fun p4 => eb_li Γ st p4 0 a1 (fun v5 => eb_br (v5 ≤ x3_1) (K 0) (eb_cs st a0 [9, 10, 13] ∧ MX10_at Γ st a0 a1 x3_1 (fun v6 => eb_br (v6 = a2) (K 1) (r2 (x3_1 + 1)))))))) 0
abbrev rmX10_isJoined : Room := { frames := 2, cells := 0, slots := 0, locals := 34 }
theorem nX10_isJoined : eb_ar yX10_isJoined 2 := by decide +kernel
theorem dX10_isJoined_0 : eb_dc cX10_isJoined 0 (.iconst 0) 1 1 := by decide +kernel
theorem dX10_isJoined_1 : eb_dc cX10_isJoined 1 (.istore_n 3) 1 2 := by decide +kernel
theorem dX10_isJoined_2 : eb_dc cX10_isJoined 2 (.iload_n 3) 1 3 := by decide +kernel
theorem dX10_isJoined_3 : eb_dc cX10_isJoined 3 (.aload_n 0) 1 4 := by decide +kernel
theorem dX10_isJoined_4 : eb_dc cX10_isJoined 4 (.getfield 22) 3 7 := by decide +kernel
theorem dX10_isJoined_7 : eb_dc cX10_isJoined 7 (.iload_n 1) 1 8 := by decide +kernel
theorem dX10_isJoined_8 : eb_dc cX10_isJoined 8 (.iaload) 1 9 := by decide +kernel
theorem dX10_isJoined_9 : eb_dj cX10_isJoined 9 (.if_icmp .ge 21) 21 12 30 := by decide +kernel
theorem dX10_isJoined_12 : eb_dc cX10_isJoined 12 (.aload_n 0) 1 13 := by decide +kernel
theorem dX10_isJoined_13 : eb_dc cX10_isJoined 13 (.iload_n 1) 1 14 := by decide +kernel
theorem dX10_isJoined_14 : eb_dc cX10_isJoined 14 (.iload_n 3) 1 15 := by decide +kernel
theorem dX10_isJoined_15 : eb_dc cX10_isJoined 15 (.invokevirtual 25) 3 18 := by decide +kernel
theorem dX10_isJoined_18 : eb_dc cX10_isJoined 18 (.iload_n 2) 1 19 := by decide +kernel
theorem dX10_isJoined_19 : eb_dj cX10_isJoined 19 (.if_icmp .ne 5) 5 22 24 := by decide +kernel
theorem dX10_isJoined_22 : eb_dc cX10_isJoined 22 (.iconst 1) 1 23 := by decide +kernel
theorem dX10_isJoined_23 : eb_dc cX10_isJoined 23 (.ireturn) 1 24 := by decide +kernel
theorem dX10_isJoined_24 : eb_dc cX10_isJoined 24 (.iinc 3 1) 3 27 := by decide +kernel
theorem dX10_isJoined_27 : eb_dj cX10_isJoined 27 (.goto (-25)) (-25) 30 2 := by decide +kernel
theorem dX10_isJoined_30 : eb_dc cX10_isJoined 30 (.iconst 0) 1 31 := by decide +kernel
theorem dX10_isJoined_31 : eb_dc cX10_isJoined 31 (.ireturn) 1 32 := by decide +kernel
theorem ctX10_isJoined {l : Launch} {Γ : eb_C} {st : eb_S} {a0 : Nat} {a1 : Int32} {a2 : Int32} {K : Int32 → Prop} (h : MX10_isJoined Γ st a0 a1 a2 K) : eb_Ct l Γ yX10_isJoined cX10_isJoined 4 (some .boolean) rmX10_isJoined [.ref a0, .int a1, .int a2] st (eb_pI st K) := by
  refine eb_of (by decide) (Nat.le_of_ble_eq_true rfl) (fun X P hP hX0 => ?_)
  show eb_G l Γ P X cX10_isJoined RX10 4 (some .boolean) rmX10_isJoined 0 [(0, .ref a0), (1, .int a1), (2, .int a2)] [] st 0 0
  refine eg_iconst dX10_isJoined_0 kc_0 ?_
  refine eg_istore_n (lv' := [(3, .int 0), (0, .ref a0), (1, .int a1), (2, .int a2)]) dX10_isJoined_1 rfl (Nat.le_of_ble_eq_true rfl) rfl ?_
  refine eg_sub [1, 2, 3, 0] rfl ?_
  refine eb_loop1_e (J := fun (x3_1 : Int32) => eb_G l Γ P X cX10_isJoined RX10 4 (some .boolean) rmX10_isJoined 2 [(0, .ref a0), (1, .int a1), (2, .int a2), (3, .int x3_1)] [] st 0 0) h ?_
  clear h
  intro r2 hr2 x3_1 h
  refine eg_iload_n 3 dX10_isJoined_2 rfl rfl ?_
  refine eg_aload_n 0 dX10_isJoined_3 rfl rfl ?_
  obtain ⟨c0, fs, v3, hc0, he, hv, h⟩ := h
  refine en_get 3 (Nat.le_of_ble_eq_true rfl) hc0 he q638 hv dX10_isJoined_4 ?_
  refine eg_iload_n 1 dX10_isJoined_7 rfl rfl ?_
  obtain ⟨p4, rfl, h⟩ := h
  obtain ⟨nA, fA, he, hb, h⟩ := h
  refine eh_iald he hb dX10_isJoined_8 (fun v5 ev5 => ?_)
  replace h := h v5 ev5
  refine eg_icmp_ge dX10_isJoined_9 (fun c11 => ?_) (fun c11 => ?_)
  · replace h := h.1 c11
    refine eg_iconst dX10_isJoined_30 kc_0 ?_
    exact eg_zret dX10_isJoined_31 rfl (Nat.zero_le _) (Nat.zero_le _) (hP _ _ ⟨_, rfl, rfl, h⟩)
  · replace h := h.2 c11
    refine eg_aload_n 0 dX10_isJoined_12 rfl rfl ?_
    refine eg_iload_n 1 dX10_isJoined_13 rfl rfl ?_
    refine eg_iload_n 3 dX10_isJoined_14 rfl rfl ?_
    obtain ⟨hcs, h⟩ := h
    have hM0 := h
    clear h
    refine ec_UIp (rest := []) (ctX10_at hM0) gUX10_25 rfl hcs nX10_at ⟨Nat.le_of_ble_eq_true rfl, Nat.le_of_ble_eq_true rfl⟩ ⟨rfl, rfl⟩ ⟨Nat.zero_le _, Nat.zero_le _⟩ rfl rfl (Nat.le_of_ble_eq_true rfl) dX10_isJoined_15 (fun v6 h => ?_)
    clear hM0
    refine eg_iload_n 2 dX10_isJoined_18 rfl rfl ?_
    refine eg_icmp_ne dX10_isJoined_19 (fun c10 => ?_) (fun c10 => ?_)
    · replace h := h.2 c10
      refine eg_iinc (j := 3) (lv' := [(3, .int (x3_1 + 1)), (0, .ref a0), (1, .int a1), (2, .int a2)]) dX10_isJoined_24 rfl (by rw [kc_1]) (Nat.le_of_ble_eq_true rfl) rfl ?_
      refine eg_goto dX10_isJoined_27 ?_
      exact eg_sub [1, 2, 3, 0] rfl (hr2 (x3_1 + 1) h)
    · replace h := h.1 c10
      refine eg_iconst dX10_isJoined_22 kc_1 ?_
      exact eg_zret dX10_isJoined_23 rfl (Nat.zero_le _) (Nat.zero_le _) (hP _ _ ⟨_, rfl, rfl, h⟩)
def MX10_to (Γ : eb_C) (st : eb_S) (a0 : Nat) (a1 : Int32) (a2 : Int32) (K : eb_S → Prop) : Prop :=
  eb_nr st a0 2 (fun v1 => eb_ni st a0 1 (fun v2 => eb_nr st a0 3 (fun v3 => eb_nn v3 (fun p4 => eb_li Γ st p4 0 a1 (fun v5 => eb_nn v1 (fun p6 => eb_wi Γ st p6 0 (((v2 * a1) + v5)) a2 (fun g7 => eb_nr g7 a0 3 (fun v8 => eb_nn v8 (fun p9 => eb_li Γ g7 p9 0 a1 (fun v10 => eb_wi Γ g7 p9 0 a1 (v10 + 1) (fun g11 => K g11)))))))))))
abbrev rmX10_to : Room := { frames := 1, cells := 0, slots := 0, locals := 12 }
theorem nX10_to : eb_ar yX10_to 2 := by decide +kernel
theorem dX10_to_0 : eb_dc cX10_to 0 (.aload_n 0) 1 1 := by decide +kernel
theorem dX10_to_1 : eb_dc cX10_to 1 (.getfield 18) 3 4 := by decide +kernel
theorem dX10_to_4 : eb_dc cX10_to 4 (.aload_n 0) 1 5 := by decide +kernel
theorem dX10_to_5 : eb_dc cX10_to 5 (.getfield 15) 3 8 := by decide +kernel
theorem dX10_to_8 : eb_dc cX10_to 8 (.iload_n 1) 1 9 := by decide +kernel
theorem dX10_to_9 : eb_dc cX10_to 9 (.imul) 1 10 := by decide +kernel
theorem dX10_to_10 : eb_dc cX10_to 10 (.aload_n 0) 1 11 := by decide +kernel
theorem dX10_to_11 : eb_dc cX10_to 11 (.getfield 22) 3 14 := by decide +kernel
theorem dX10_to_14 : eb_dc cX10_to 14 (.iload_n 1) 1 15 := by decide +kernel
theorem dX10_to_15 : eb_dc cX10_to 15 (.iaload) 1 16 := by decide +kernel
theorem dX10_to_16 : eb_dc cX10_to 16 (.iadd) 1 17 := by decide +kernel
theorem dX10_to_17 : eb_dc cX10_to 17 (.iload_n 2) 1 18 := by decide +kernel
theorem dX10_to_18 : eb_dc cX10_to 18 (.iastore) 1 19 := by decide +kernel
theorem dX10_to_19 : eb_dc cX10_to 19 (.aload_n 0) 1 20 := by decide +kernel
theorem dX10_to_20 : eb_dc cX10_to 20 (.getfield 22) 3 23 := by decide +kernel
theorem dX10_to_23 : eb_dc cX10_to 23 (.iload_n 1) 1 24 := by decide +kernel
theorem dX10_to_24 : eb_dc cX10_to 24 (.dup2) 1 25 := by decide +kernel
theorem dX10_to_25 : eb_dc cX10_to 25 (.iaload) 1 26 := by decide +kernel
theorem dX10_to_26 : eb_dc cX10_to 26 (.iconst 1) 1 27 := by decide +kernel
theorem dX10_to_27 : eb_dc cX10_to 27 (.iadd) 1 28 := by decide +kernel
theorem dX10_to_28 : eb_dc cX10_to 28 (.iastore) 1 29 := by decide +kernel
theorem dX10_to_29 : eb_dc cX10_to 29 (.return_) 1 30 := by decide +kernel
theorem ctX10_to {l : Launch} {Γ : eb_C} {st : eb_S} {a0 : Nat} {a1 : Int32} {a2 : Int32} {K : eb_S → Prop} (h : MX10_to Γ st a0 a1 a2 K) : eb_Ct l Γ yX10_to cX10_to 3 (none) rmX10_to [.ref a0, .int a1, .int a2] st (eb_oV K) := by
  refine eb_of (by decide) (Nat.le_of_ble_eq_true rfl) (fun X P hP hX0 => ?_)
  show eb_G l Γ P X cX10_to RX10 3 (none) rmX10_to 0 [(0, .ref a0), (1, .int a1), (2, .int a2)] [] st 0 0
  refine eg_aload_n 0 dX10_to_0 rfl rfl ?_
  obtain ⟨c0, fs, v1, hc0, he, hv, h⟩ := h
  refine en_get 2 (Nat.le_of_ble_eq_true rfl) hc0 he q637 hv dX10_to_1 ?_
  refine eg_aload_n 0 dX10_to_4 rfl rfl ?_
  obtain ⟨c0, fs, v2, hc0, he, hv, h⟩ := h
  refine en_get 1 (Nat.le_of_ble_eq_true rfl) hc0 he q636 hv dX10_to_5 ?_
  refine eg_iload_n 1 dX10_to_8 rfl rfl ?_
  refine eg_imul dX10_to_9 ?_
  refine eg_aload_n 0 dX10_to_10 rfl rfl ?_
  obtain ⟨c0, fs, v3, hc0, he, hv, h⟩ := h
  refine en_get 3 (Nat.le_of_ble_eq_true rfl) hc0 he q638 hv dX10_to_11 ?_
  refine eg_iload_n 1 dX10_to_14 rfl rfl ?_
  obtain ⟨p4, rfl, h⟩ := h
  obtain ⟨nA, fA, he, hb, h⟩ := h
  refine eh_iald he hb dX10_to_15 (fun v5 ev5 => ?_)
  replace h := h v5 ev5
  refine eg_iadd dX10_to_16 ?_
  refine eg_iload_n 2 dX10_to_17 rfl rfl ?_
  obtain ⟨p6, rfl, h⟩ := h
  obtain ⟨nA, fA, he, hb, h⟩ := h
  refine eh_iast he hb dX10_to_18 (fun g7 eg7 => ?_)
  replace h := h g7 eg7
  refine eg_aload_n 0 dX10_to_19 rfl rfl ?_
  obtain ⟨c0, fs, v8, hc0, he, hv, h⟩ := h
  refine en_get 3 (Nat.le_of_ble_eq_true rfl) hc0 he q638 hv dX10_to_20 ?_
  refine eg_iload_n 1 dX10_to_23 rfl rfl ?_
  refine eg_dup2 dX10_to_24 rfl (eb_rfc v8) ?_
  obtain ⟨p9, rfl, h⟩ := h
  obtain ⟨nA, fA, he, hb, h⟩ := h
  refine eh_iald he hb dX10_to_25 (fun v10 ev10 => ?_)
  replace h := h v10 ev10
  refine eg_iconst dX10_to_26 kc_1 ?_
  refine eg_iadd dX10_to_27 ?_
  obtain ⟨nA, fA, he, hb, h⟩ := h
  refine eh_iast he hb dX10_to_28 (fun g11 eg11 => ?_)
  replace h := h g11 eg11
  exact eg_vret dX10_to_29 (Nat.zero_le _) (Nat.zero_le _) (hP _ _ ⟨rfl, h⟩)
theorem gUX10_29 : ∀ c ∈ [9, 10, 13], ∃ (C : String) (T : u_T) (N : Nat), eb_cl[c]? = some (C, T, N) ∧ GoodIn lw_all (va_wsU "EvenBodies$Net" 29 C "EvenBodies$Net" ⟨"EvenBodies$Net", "isJoined", "(II)Z"⟩ yX10_isJoined (ws_ yX10_isJoined cX10_isJoined 4 (some .boolean))) := by
  intro c hc
  simp only [List.mem_cons, List.not_mem_nil, or_false] at hc
  rcases hc with rfl | rfl | rfl
  · exact ⟨_, _, _, rfl, lw_U q613 q1587 qs13 q615 q87 q617⟩
  · exact ⟨_, _, _, rfl, lw_U q613 q1587 qu0 q615 q87 q617⟩
  · exact ⟨_, _, _, rfl, lw_U q613 q1587 qu2 q615 q87 q617⟩
theorem gUX10_33 : ∀ c ∈ [9, 10, 13], ∃ (C : String) (T : u_T) (N : Nat), eb_cl[c]? = some (C, T, N) ∧ GoodIn lw_all (va_wsU "EvenBodies$Net" 33 C "EvenBodies$Net" ⟨"EvenBodies$Net", "to", "(II)V"⟩ yX10_to (ws_ yX10_to cX10_to 3 (none))) := by
  intro c hc
  simp only [List.mem_cons, List.not_mem_nil, or_false] at hc
  rcases hc with rfl | rfl | rfl
  · exact ⟨_, _, _, rfl, lw_U q625 q1588 qs14 q627 q87 q628⟩
  · exact ⟨_, _, _, rfl, lw_U q625 q1588 qu1 q627 q87 q628⟩
  · exact ⟨_, _, _, rfl, lw_U q625 q1588 qu3 q627 q87 q628⟩
def MX10_joins (Γ : eb_C) (st : eb_S) (a0 : Nat) (a1 : Int32) (a2 : Int32) (K : eb_S → Prop) : Prop :=
  eb_br (a1 = a2) (K st) (eb_cs st a0 [9, 10, 13] ∧ MX10_isJoined Γ st a0 a1 a2 (fun v1 => eb_br (v1 = 0) (eb_cs st a0 [9, 10, 13] ∧ MX10_to Γ st a0 a1 a2 (fun g6 => eb_cs g6 a0 [9, 10, 13] ∧ MX10_to Γ g6 a0 a2 a1 (fun g10 => K g10))) (K st)))
abbrev rmX10_joins : Room := { frames := 3, cells := 0, slots := 0, locals := 57 }
theorem nX10_joins : eb_ar yX10_joins 2 := by decide +kernel
theorem dX10_joins_0 : eb_dc cX10_joins 0 (.iload_n 1) 1 1 := by decide +kernel
theorem dX10_joins_1 : eb_dc cX10_joins 1 (.iload_n 2) 1 2 := by decide +kernel
theorem dX10_joins_2 : eb_dj cX10_joins 2 (.if_icmp .eq 24) 24 5 26 := by decide +kernel
theorem dX10_joins_5 : eb_dc cX10_joins 5 (.aload_n 0) 1 6 := by decide +kernel
theorem dX10_joins_6 : eb_dc cX10_joins 6 (.iload_n 1) 1 7 := by decide +kernel
theorem dX10_joins_7 : eb_dc cX10_joins 7 (.iload_n 2) 1 8 := by decide +kernel
theorem dX10_joins_8 : eb_dc cX10_joins 8 (.invokevirtual 29) 3 11 := by decide +kernel
theorem dX10_joins_11 : eb_dj cX10_joins 11 (.ifCond .ne 15) 15 14 26 := by decide +kernel
theorem dX10_joins_14 : eb_dc cX10_joins 14 (.aload_n 0) 1 15 := by decide +kernel
theorem dX10_joins_15 : eb_dc cX10_joins 15 (.iload_n 1) 1 16 := by decide +kernel
theorem dX10_joins_16 : eb_dc cX10_joins 16 (.iload_n 2) 1 17 := by decide +kernel
theorem dX10_joins_17 : eb_dc cX10_joins 17 (.invokevirtual 33) 3 20 := by decide +kernel
theorem dX10_joins_20 : eb_dc cX10_joins 20 (.aload_n 0) 1 21 := by decide +kernel
theorem dX10_joins_21 : eb_dc cX10_joins 21 (.iload_n 2) 1 22 := by decide +kernel
theorem dX10_joins_22 : eb_dc cX10_joins 22 (.iload_n 1) 1 23 := by decide +kernel
theorem dX10_joins_23 : eb_dc cX10_joins 23 (.invokevirtual 33) 3 26 := by decide +kernel
theorem dX10_joins_26 : eb_dc cX10_joins 26 (.return_) 1 27 := by decide +kernel
theorem ctX10_joins {l : Launch} {Γ : eb_C} {st : eb_S} {a0 : Nat} {a1 : Int32} {a2 : Int32} {K : eb_S → Prop} (h : MX10_joins Γ st a0 a1 a2 K) : eb_Ct l Γ yX10_joins cX10_joins 3 (none) rmX10_joins [.ref a0, .int a1, .int a2] st (eb_oV K) := by
  refine eb_of (by decide) (Nat.le_of_ble_eq_true rfl) (fun X P hP hX0 => ?_)
  show eb_G l Γ P X cX10_joins RX10 3 (none) rmX10_joins 0 [(0, .ref a0), (1, .int a1), (2, .int a2)] [] st 0 0
  refine eg_iload_n 1 dX10_joins_0 rfl rfl ?_
  refine eg_iload_n 2 dX10_joins_1 rfl rfl ?_
  refine eg_icmp_eq dX10_joins_2 (fun c14 => ?_) (fun c14 => ?_)
  · replace h := h.1 c14
    exact eg_vret dX10_joins_26 (Nat.zero_le _) (Nat.zero_le _) (hP _ _ ⟨rfl, h⟩)
  · replace h := h.2 c14
    refine eg_aload_n 0 dX10_joins_5 rfl rfl ?_
    refine eg_iload_n 1 dX10_joins_6 rfl rfl ?_
    refine eg_iload_n 2 dX10_joins_7 rfl rfl ?_
    obtain ⟨hcs, h⟩ := h
    have hM0 := h
    clear h
    refine ec_UIp (rest := []) (ctX10_isJoined hM0) gUX10_29 rfl hcs nX10_isJoined ⟨Nat.le_of_ble_eq_true rfl, Nat.le_of_ble_eq_true rfl⟩ ⟨rfl, rfl⟩ ⟨Nat.zero_le _, Nat.zero_le _⟩ rfl rfl (Nat.le_of_ble_eq_true rfl) dX10_joins_8 (fun v1 h => ?_)
    clear hM0
    refine eg_if_ne dX10_joins_11 (fun c13 => ?_) (fun c13 => ?_)
    · replace h := h.2 c13
      exact eg_vret dX10_joins_26 (Nat.zero_le _) (Nat.zero_le _) (hP _ _ ⟨rfl, h⟩)
    · replace h := h.1 c13
      refine eg_aload_n 0 dX10_joins_14 rfl rfl ?_
      refine eg_iload_n 1 dX10_joins_15 rfl rfl ?_
      refine eg_iload_n 2 dX10_joins_16 rfl rfl ?_
      obtain ⟨hcs, h⟩ := h
      have hM0 := h
      clear h
      refine ec_UVw (rest := []) (ctX10_to hM0) gUX10_33 rfl hcs nX10_to ⟨Nat.le_of_ble_eq_true rfl, Nat.le_of_ble_eq_true rfl⟩ ⟨rfl, rfl⟩ ⟨Nat.zero_le _, Nat.zero_le _⟩ rfl rfl (Nat.le_of_ble_eq_true rfl) dX10_joins_17 (fun g6 h => ?_)
      clear hM0
      refine eg_aload_n 0 dX10_joins_20 rfl rfl ?_
      refine eg_iload_n 2 dX10_joins_21 rfl rfl ?_
      refine eg_iload_n 1 dX10_joins_22 rfl rfl ?_
      obtain ⟨hcs, h⟩ := h
      have hM0 := h
      clear h
      refine ec_UVw (rest := []) (ctX10_to hM0) gUX10_33 rfl hcs nX10_to ⟨Nat.le_of_ble_eq_true rfl, Nat.le_of_ble_eq_true rfl⟩ ⟨rfl, rfl⟩ ⟨Nat.zero_le _, Nat.zero_le _⟩ rfl rfl (Nat.le_of_ble_eq_true rfl) dX10_joins_23 (fun g10 h => ?_)
      clear hM0
      exact eg_vret dX10_joins_26 (Nat.zero_le _) (Nat.zero_le _) (hP _ _ ⟨rfl, h⟩)
theorem gUX11_37 : ∀ c ∈ [10], ∃ (C : String) (T : u_T) (N : Nat), eb_cl[c]? = some (C, T, N) ∧ GoodIn lw_all (va_wsU "EvenBodies$Corners" 37 C "EvenBodies$Net" ⟨"EvenBodies$Corners", "joins", "(II)V"⟩ yX10_joins (ws_ yX10_joins cX10_joins 3 (none))) := by
  intro c hc
  simp only [List.mem_cons, List.not_mem_nil, or_false] at hc
  rcases hc with rfl
  · exact ⟨_, _, _, rfl, lw_U q607 q608 q610 q611 q87 q612⟩
def MX11_init (Γ : eb_C) (bc bs : Nat) (st : eb_S) (a0 : Nat) (a1 : Nat) (K : eb_S → Prop) : Prop :=
  eb_cs st a1 [1] ∧ ∃ c3 s4 : Nat, (0 + c3 ≤ bc ∧ 0 + s4 ≤ bs) ∧ MX1_many Γ c3 s4 st a1 0 (fun v1 g2 => ∃ c7 s8 : Nat, ((0 + c3) + c7 ≤ bc ∧ (0 + s4) + s8 ≤ bs) ∧ MX10_init Γ c7 s8 g2 a0 v1 24 (fun g6 => eb_cs g6 a1 [1] ∧ ∃ c11 s12 : Nat, ((((0 + c3) + c7)) + c11 ≤ bc ∧ (((0 + s4) + s8)) + s12 ≤ bs) ∧ MX1_parts Γ c11 s12 g6 a1 0 (fun v9 g10 => eb_loop2 (fun r15 (x3_13 : Int32) (g14 : eb_S) => eb_gr g14 a1 1 3 (fun v16 => eb_nn v16 (fun p17 => eb_gi g14 p17 7 1 (fun v18 => eb_br (v18 ≤ x3_13) (K g14) (eb_jp1 (fun (g19 : eb_S) => r15 (x3_13 + 1) g19) (fun k20 => eb_loop2 (fun r23 (x4_21 : Int32) (g22 : eb_S) => eb_gi g22 a1 1 0 (fun v24 => eb_br (v24 ≤ x4_21) (k20 g22) (eb_gi g22 a1 1 2 (fun v25 => eb_jp1 (fun (g26 : eb_S) => r23 (x4_21 + 1) g26) (fun k27 => eb_br (((eb_shr v25 x4_21) &&& 1) = 1) (eb_nn v9 (fun p28 => eb_li Γ g22 p28 3 x3_13 (fun v29 => eb_gr g22 a1 1 3 (fun v30 => eb_nn v30 (fun p31 => eb_cs g22 p31 [7] ∧ MX8_by Γ g22 p31 x3_13 x4_21 (fun v32 => eb_li Γ g22 p28 3 v32 (fun v36 => eb_cs g22 a0 [10] ∧ MX10_joins Γ g22 a0 v29 v36 (fun g38 => k27 g38)))))))) (k27 g22)))))) 0 g14)))))) 0 g10)))
abbrev rmX11_init (bc bs : Nat) : Room := { frames := 6, cells := bc, slots := bs, locals := 131 }
theorem nX11_init : eb_ar yX11_init 1 := by decide +kernel
theorem dX11_init_0 : eb_dc cX11_init 0 (.aload_n 0) 1 1 := by decide +kernel
theorem dX11_init_1 : eb_dc cX11_init 1 (.aload_n 1) 1 2 := by decide +kernel
theorem dX11_init_2 : eb_dc cX11_init 2 (.iconst 0) 1 3 := by decide +kernel
theorem dX11_init_3 : eb_dc cX11_init 3 (.invokevirtual 1) 3 6 := by decide +kernel
theorem dX11_init_6 : eb_dc cX11_init 6 (.bipush 24) 2 8 := by decide +kernel
theorem dX11_init_8 : eb_dc cX11_init 8 (.invokespecial 7) 3 11 := by decide +kernel
theorem dX11_init_11 : eb_dc cX11_init 11 (.aload_n 1) 1 12 := by decide +kernel
theorem dX11_init_12 : eb_dc cX11_init 12 (.iconst 0) 1 13 := by decide +kernel
theorem dX11_init_13 : eb_dc cX11_init 13 (.invokevirtual 13) 3 16 := by decide +kernel
theorem dX11_init_16 : eb_dc cX11_init 16 (.astore_n 2) 1 17 := by decide +kernel
theorem dX11_init_17 : eb_dc cX11_init 17 (.iconst 0) 1 18 := by decide +kernel
theorem dX11_init_18 : eb_dc cX11_init 18 (.istore_n 3) 1 19 := by decide +kernel
theorem dX11_init_19 : eb_dc cX11_init 19 (.iload_n 3) 1 20 := by decide +kernel
theorem dX11_init_20 : eb_dc cX11_init 20 (.aload_n 1) 1 21 := by decide +kernel
theorem dX11_init_21 : eb_dc cX11_init 21 (.getfield 17) 3 24 := by decide +kernel
theorem dX11_init_24 : eb_dc cX11_init 24 (.getfield 21) 3 27 := by decide +kernel
theorem dX11_init_27 : eb_dj cX11_init 27 (.if_icmp .ge 59) 59 30 86 := by decide +kernel
theorem dX11_init_30 : eb_dc cX11_init 30 (.iconst 0) 1 31 := by decide +kernel
theorem dX11_init_31 : eb_dc cX11_init 31 (.istore 4) 2 33 := by decide +kernel
theorem dX11_init_33 : eb_dc cX11_init 33 (.iload 4) 2 35 := by decide +kernel
theorem dX11_init_35 : eb_dc cX11_init 35 (.aload_n 1) 1 36 := by decide +kernel
theorem dX11_init_36 : eb_dc cX11_init 36 (.getfield 27) 3 39 := by decide +kernel
theorem dX11_init_39 : eb_dj cX11_init 39 (.if_icmp .ge 41) 41 42 80 := by decide +kernel
theorem dX11_init_42 : eb_dc cX11_init 42 (.aload_n 1) 1 43 := by decide +kernel
theorem dX11_init_43 : eb_dc cX11_init 43 (.getfield 30) 3 46 := by decide +kernel
theorem dX11_init_46 : eb_dc cX11_init 46 (.iload 4) 2 48 := by decide +kernel
theorem dX11_init_48 : eb_dc cX11_init 48 (.ishr) 1 49 := by decide +kernel
theorem dX11_init_49 : eb_dc cX11_init 49 (.iconst 1) 1 50 := by decide +kernel
theorem dX11_init_50 : eb_dc cX11_init 50 (.iand) 1 51 := by decide +kernel
theorem dX11_init_51 : eb_dc cX11_init 51 (.iconst 1) 1 52 := by decide +kernel
theorem dX11_init_52 : eb_dj cX11_init 52 (.if_icmp .ne 22) 22 55 74 := by decide +kernel
theorem dX11_init_55 : eb_dc cX11_init 55 (.aload_n 0) 1 56 := by decide +kernel
theorem dX11_init_56 : eb_dc cX11_init 56 (.aload_n 2) 1 57 := by decide +kernel
theorem dX11_init_57 : eb_dc cX11_init 57 (.iload_n 3) 1 58 := by decide +kernel
theorem dX11_init_58 : eb_dc cX11_init 58 (.saload) 1 59 := by decide +kernel
theorem dX11_init_59 : eb_dc cX11_init 59 (.aload_n 2) 1 60 := by decide +kernel
theorem dX11_init_60 : eb_dc cX11_init 60 (.aload_n 1) 1 61 := by decide +kernel
theorem dX11_init_61 : eb_dc cX11_init 61 (.getfield 17) 3 64 := by decide +kernel
theorem dX11_init_64 : eb_dc cX11_init 64 (.iload_n 3) 1 65 := by decide +kernel
theorem dX11_init_65 : eb_dc cX11_init 65 (.iload 4) 2 67 := by decide +kernel
theorem dX11_init_67 : eb_dc cX11_init 67 (.invokevirtual 33) 3 70 := by decide +kernel
theorem dX11_init_70 : eb_dc cX11_init 70 (.saload) 1 71 := by decide +kernel
theorem dX11_init_71 : eb_dc cX11_init 71 (.invokevirtual 37) 3 74 := by decide +kernel
theorem dX11_init_74 : eb_dc cX11_init 74 (.iinc 4 1) 3 77 := by decide +kernel
theorem dX11_init_77 : eb_dj cX11_init 77 (.goto (-44)) (-44) 80 33 := by decide +kernel
theorem dX11_init_80 : eb_dc cX11_init 80 (.iinc 3 1) 3 83 := by decide +kernel
theorem dX11_init_83 : eb_dj cX11_init 83 (.goto (-64)) (-64) 86 19 := by decide +kernel
theorem dX11_init_86 : eb_dc cX11_init 86 (.return_) 1 87 := by decide +kernel
theorem ctX11_init {l : Launch} {Γ : eb_C} {bc bs : Nat} {st : eb_S} {a0 : Nat} {a1 : Nat} {K : eb_S → Prop} (h : MX11_init Γ bc bs st a0 a1 K) : eb_Ct l Γ yX11_init cX11_init 5 (none) (rmX11_init bc bs) [.ref a0, .ref a1] st (eb_oV K) := by
  refine eb_of (by decide) (Nat.le_of_ble_eq_true rfl) (fun X P hP hX0 => ?_)
  replace hX0 := hX0 rfl
  suffices hgo : (0 ≤ bc ∧ 0 ≤ bs) → eb_G l Γ P X cX11_init RX11 5 (none) (rmX11_init bc bs) 0 [(0, .ref a0), (1, .ref a1)] [] st 0 0 from hgo ⟨Nat.zero_le _, Nat.zero_le _⟩
  intro hu
  refine eg_aload_n 0 dX11_init_0 rfl rfl ?_
  refine eg_aload_n 1 dX11_init_1 rfl rfl ?_
  refine eg_iconst dX11_init_2 kc_0 ?_
  obtain ⟨hcs, h⟩ := h
  obtain ⟨c3, s4, hca, h⟩ := h
  have hM0 := h
  clear h
  refine ec_VIa (rest := [.ref a0]) (ctX1_many hM0) (lw_V q600 q511 q512 q75 q513) rfl rfl hcs nX1_many ⟨Nat.le_of_ble_eq_true rfl, Nat.le_of_ble_eq_true rfl⟩ ⟨rfl, rfl⟩ hca rfl rfl (Nat.le_of_ble_eq_true rfl) dX11_init_3 (fun v1 g2 h => ?_)
  clear hM0
  replace hu := hca
  refine eg_bipush dX11_init_6 kb_24 ?_
  obtain ⟨c7, s8, hca, h⟩ := h
  have hM0 := h
  clear h
  refine ec_IVa (rest := []) (ctX10_init hM0) q603 q87 q601 q602 rfl nX10_init ⟨Nat.le_of_ble_eq_true rfl, Nat.le_of_ble_eq_true rfl⟩ ⟨rfl, rfl⟩ hca rfl rfl (Nat.le_of_ble_eq_true rfl) dX11_init_8 (fun g6 h => ?_)
  clear hM0
  replace hu := hca
  refine eg_aload_n 1 dX11_init_11 rfl rfl ?_
  refine eg_iconst dX11_init_12 kc_0 ?_
  obtain ⟨hcs, h⟩ := h
  obtain ⟨c11, s12, hca, h⟩ := h
  have hM0 := h
  clear h
  refine ec_VRa (rest := []) (ctX1_parts hM0) (lw_V q605 q515 q516 q75 q517) rfl rfl hcs nX1_parts ⟨Nat.le_of_ble_eq_true rfl, Nat.le_of_ble_eq_true rfl⟩ ⟨rfl, rfl⟩ hca rfl rfl (Nat.le_of_ble_eq_true rfl) dX11_init_13 (fun v9 g10 h => ?_)
  clear hM0
  replace hu := hca
  refine eh_astore_n (i := 2) (v := v9) (lv' := [(2, va_rf v9), (0, .ref a0), (1, .ref a1)]) dX11_init_16 rfl (Nat.le_of_ble_eq_true rfl) rfl ?_
  refine eg_iconst dX11_init_17 kc_0 ?_
  refine eg_istore_n (i := 3) (lv' := [(3, .int 0), (2, va_rf v9), (0, .ref a0), (1, .ref a1)]) dX11_init_18 rfl (Nat.le_of_ble_eq_true rfl) (by simp [List.filter_cons, eb_rfc]) ?_
  refine eg_sub [2, 3, 1, 0] rfl ?_
  refine eb_loop2_e (J := fun (x3_13 : Int32) (g14 : eb_S) => ((((0 + c3) + c7) + c11) ≤ bc ∧ (((0 + s4) + s8) + s12) ≤ bs) → eb_G l Γ P X cX11_init RX11 5 (none) (rmX11_init bc bs) 19 [(0, .ref a0), (1, .ref a1), (2, va_rf v9), (3, .int x3_13)] [] g14 (((0 + c3) + c7) + c11) (((0 + s4) + s8) + s12)) h ?_ hu
  clear h
  clear hu
  intro r15 hr15 x3_13 g14 h hu
  refine eg_iload_n 3 dX11_init_19 rfl rfl ?_
  refine eg_aload_n 1 dX11_init_20 rfl rfl ?_
  obtain ⟨fs, v16, he, hv, h⟩ := h
  refine eg_getN 3 in_X1 he rfl (Nat.le_of_ble_eq_true rfl) (List.mem_of_getElem? (i := 14) rfl) rfl hv dX11_init_21 ?_
  obtain ⟨p17, rfl, h⟩ := h
  obtain ⟨fs, v18, he, hv, h⟩ := h
  refine eg_getN 1 in_X8 he rfl (Nat.le_of_ble_eq_true rfl) (List.mem_of_getElem? (i := 15) rfl) rfl hv dX11_init_24 ?_
  refine eg_icmp_ge dX11_init_27 (fun c43 => ?_) (fun c43 => ?_)
  · replace h := h.1 c43
    exact eg_vret dX11_init_86 hu.1 hu.2 (hP _ _ ⟨rfl, h⟩)
  · replace h := h.2 c43
    refine eg_iconst dX11_init_30 kc_0 ?_
    refine eg_istore (lv' := [(4, .int 0), (0, .ref a0), (1, .ref a1), (2, va_rf v9), (3, .int x3_13)]) dX11_init_31 (Nat.le_of_ble_eq_true rfl) rfl ?_
    refine eb_jp1_e (J := fun (g19 : eb_S) => ((((0 + c3) + c7) + c11) ≤ bc ∧ (((0 + s4) + s8) + s12) ≤ bs) → eb_G l Γ P X cX11_init RX11 5 (none) (rmX11_init bc bs) 80 [(0, .ref a0), (1, .ref a1), (2, va_rf v9), (3, .int x3_13)] [] g19 (((0 + c3) + c7) + c11) (((0 + s4) + s8) + s12)) h ?_ ?_
    · clear h
      intro g19 h hu
      refine eg_iinc (j := 3) (lv' := [(3, .int (x3_13 + 1)), (0, .ref a0), (1, .ref a1), (2, va_rf v9)]) dX11_init_80 rfl (by rw [kc_1]) (Nat.le_of_ble_eq_true rfl) (by simp [List.filter_cons, eb_rfc]) ?_
      refine eg_goto dX11_init_83 ?_
      exact eg_sub [1, 2, 3, 0] rfl (hr15 (x3_13 + 1) g19 h hu)
    · clear h
      intro k20 hk20 h
      refine eg_sub [1, 2, 3, 4, 0] rfl ?_
      refine eb_loop2_e (J := fun (x4_21 : Int32) (g22 : eb_S) => ((((0 + c3) + c7) + c11) ≤ bc ∧ (((0 + s4) + s8) + s12) ≤ bs) → eb_G l Γ P X cX11_init RX11 5 (none) (rmX11_init bc bs) 33 [(0, .ref a0), (1, .ref a1), (2, va_rf v9), (3, .int x3_13), (4, .int x4_21)] [] g22 (((0 + c3) + c7) + c11) (((0 + s4) + s8) + s12)) h ?_ hu
      clear h
      clear hu
      intro r23 hr23 x4_21 g22 h hu
      refine eg_iload 4 dX11_init_33 rfl ?_
      refine eg_aload_n 1 dX11_init_35 rfl rfl ?_
      obtain ⟨fs, v24, he, hv, h⟩ := h
      refine eg_getN 0 in_X1 he rfl (Nat.le_of_ble_eq_true rfl) (List.mem_of_getElem? (i := 12) rfl) rfl hv dX11_init_36 ?_
      refine eg_icmp_ge dX11_init_39 (fun c42 => ?_) (fun c42 => ?_)
      · replace h := h.1 c42
        exact eg_sub [0, 1, 2, 3] rfl (hk20 g22 h hu)
      · replace h := h.2 c42
        refine eg_aload_n 1 dX11_init_42 rfl rfl ?_
        obtain ⟨fs, v25, he, hv, h⟩ := h
        refine eg_getN 2 in_X1 he rfl (Nat.le_of_ble_eq_true rfl) (List.mem_of_getElem? (i := 13) rfl) rfl hv dX11_init_43 ?_
        refine eg_iload 4 dX11_init_46 rfl ?_
        refine eg_ishr dX11_init_48 ?_
        refine eg_iconst dX11_init_49 kc_1 ?_
        refine eg_iand dX11_init_50 ?_
        refine eg_iconst dX11_init_51 kc_1 ?_
        refine eb_jp1_e (J := fun (g26 : eb_S) => ((((0 + c3) + c7) + c11) ≤ bc ∧ (((0 + s4) + s8) + s12) ≤ bs) → eb_G l Γ P X cX11_init RX11 5 (none) (rmX11_init bc bs) 74 [(0, .ref a0), (1, .ref a1), (2, va_rf v9), (3, .int x3_13), (4, .int x4_21)] [] g26 (((0 + c3) + c7) + c11) (((0 + s4) + s8) + s12)) h ?_ ?_
        · clear h
          intro g26 h hu
          refine eg_iinc (j := 4) (lv' := [(4, .int (x4_21 + 1)), (0, .ref a0), (1, .ref a1), (2, va_rf v9), (3, .int x3_13)]) dX11_init_74 rfl (by rw [kc_1]) (Nat.le_of_ble_eq_true rfl) rfl ?_
          refine eg_goto dX11_init_77 ?_
          exact eg_sub [1, 2, 3, 4, 0] rfl (hr23 (x4_21 + 1) g26 h hu)
        · clear h
          intro k27 hk27 h
          refine eg_icmp_ne dX11_init_52 (fun c41 => ?_) (fun c41 => ?_)
          · replace h := h.2 c41
            exact hk27 g22 h hu
          · replace h := h.1 c41
            refine eg_aload_n 0 dX11_init_55 rfl rfl ?_
            refine eh_aload_n (v := v9) 2 dX11_init_56 rfl rfl ?_
            refine eg_iload_n 3 dX11_init_57 rfl rfl ?_
            obtain ⟨p28, rfl, h⟩ := h
            obtain ⟨nA, fA, he, hb, h⟩ := h
            refine eh_sald he hb dX11_init_58 (fun v29 ev29 => ?_)
            replace h := h v29 ev29
            refine eg_aload_n 2 dX11_init_59 rfl rfl ?_
            refine eg_aload_n 1 dX11_init_60 rfl rfl ?_
            obtain ⟨fs, v30, he, hv, h⟩ := h
            refine eg_getN 3 in_X1 he rfl (Nat.le_of_ble_eq_true rfl) (List.mem_of_getElem? (i := 14) rfl) rfl hv dX11_init_61 ?_
            refine eg_iload_n 3 dX11_init_64 rfl rfl ?_
            refine eg_iload 4 dX11_init_65 rfl ?_
            obtain ⟨p31, rfl, h⟩ := h
            obtain ⟨hcs, h⟩ := h
            have hM0 := h
            clear h
            refine ec_VIp (rest := [.ref p28, .int v29, .ref a0]) (ctX8_by hM0) (lw_V q606 q436 q437 q84 q438) rfl rfl hcs nX8_by ⟨Nat.le_of_ble_eq_true rfl, Nat.le_of_ble_eq_true rfl⟩ ⟨rfl, rfl⟩ hu rfl rfl (Nat.le_of_ble_eq_true rfl) dX11_init_67 (fun v32 h => ?_)
            clear hM0
            obtain ⟨nA, fA, he, hb, h⟩ := h
            refine eh_sald he hb dX11_init_70 (fun v36 ev36 => ?_)
            replace h := h v36 ev36
            obtain ⟨hcs, h⟩ := h
            have hM0 := h
            clear h
            refine ec_UVw (rest := []) (ctX10_joins hM0) gUX11_37 rfl hcs nX10_joins ⟨Nat.le_of_ble_eq_true rfl, Nat.le_of_ble_eq_true rfl⟩ ⟨rfl, rfl⟩ hu rfl rfl (Nat.le_of_ble_eq_true rfl) dX11_init_71 (fun g38 h => ?_)
            clear hM0
            exact hk27 g38 h hu
def MX0_netOf (Γ : eb_C) (bc bs : Nat) (st : eb_S) (a0 : Nat) (a1 : Int32) (K : Option Nat → eb_S → Prop) : Prop :=
  eb_gr st a0 0 0 (fun v1 => eb_nn v1 (fun p2 => eb_lr Γ st p2 7 a1 (fun v3 => eb_gr st a0 0 2 (fun v4 => eb_jp3 (fun (g5 : eb_S) (u6 : Nat) (w7 : Nat) => eb_gr g5 a0 0 1 (fun v8 => K v8 g5)) (fun k9 => eb_jp0 (eb_mk st (.inr (10, [.int 0, .int 0, .null, .null])) 4 bc bs 0 0 (fun p10 g11 => eb_nn v3 (fun p12 => ∃ c15 s16 : Nat, ((0 + 1) + c15 ≤ bc ∧ (0 + 4) + s16 ≤ bs) ∧ MX11_init Γ c15 s16 g11 p10 p12 (fun g14 => eb_pt g14 a0 0 1 (.ref p10) (fun g17 => eb_pt g17 a0 0 2 (.ref p12) (fun g18 => eb_gi g18 p12 1 2 (fun v19 => eb_pt g18 a0 0 3 (.int v19) (fun g20 => eb_gr g20 p12 1 3 (fun v21 => eb_pt g20 a0 0 4 (va_rf v21) (fun g22 => k9 g22 (((0 + 1) + c15)) (((0 + 4) + s16)))))))))))) (fun k23 => eb_br (v4 = v3) (eb_gi st a0 0 3 (fun v24 => eb_nn v3 (fun p25 => eb_gi st p25 1 2 (fun v26 => eb_br (v24 = v26) (eb_gr st a0 0 4 (fun v27 => eb_gr st p25 1 3 (fun v28 => eb_br (v27 = v28) (k9 st 0 0) (k23)))) (k23))))) (k23)))))))
abbrev rmX0_netOf (bc bs : Nat) : Room := { frames := 7, cells := bc, slots := bs, locals := 155 }
theorem nX0_netOf : eb_ar yX0_netOf 1 := by decide +kernel
theorem dX0_netOf_0 : eb_dc cX0_netOf 0 (.aload_n 0) 1 1 := by decide +kernel
theorem dX0_netOf_1 : eb_dc cX0_netOf 1 (.getfield 15) 3 4 := by decide +kernel
theorem dX0_netOf_4 : eb_dc cX0_netOf 4 (.iload_n 1) 1 5 := by decide +kernel
theorem dX0_netOf_5 : eb_dc cX0_netOf 5 (.aaload) 1 6 := by decide +kernel
theorem dX0_netOf_6 : eb_dc cX0_netOf 6 (.astore_n 2) 1 7 := by decide +kernel
theorem dX0_netOf_7 : eb_dc cX0_netOf 7 (.aload_n 0) 1 8 := by decide +kernel
theorem dX0_netOf_8 : eb_dc cX0_netOf 8 (.getfield 164) 3 11 := by decide +kernel
theorem dX0_netOf_11 : eb_dc cX0_netOf 11 (.aload_n 2) 1 12 := by decide +kernel
theorem dX0_netOf_12 : eb_dj cX0_netOf 12 (.if_acmp .ne 25) 25 15 37 := by decide +kernel
theorem dX0_netOf_15 : eb_dc cX0_netOf 15 (.aload_n 0) 1 16 := by decide +kernel
theorem dX0_netOf_16 : eb_dc cX0_netOf 16 (.getfield 168) 3 19 := by decide +kernel
theorem dX0_netOf_19 : eb_dc cX0_netOf 19 (.aload_n 2) 1 20 := by decide +kernel
theorem dX0_netOf_20 : eb_dc cX0_netOf 20 (.getfield 50) 3 23 := by decide +kernel
theorem dX0_netOf_23 : eb_dj cX0_netOf 23 (.if_icmp .ne 14) 14 26 37 := by decide +kernel
theorem dX0_netOf_26 : eb_dc cX0_netOf 26 (.aload_n 0) 1 27 := by decide +kernel
theorem dX0_netOf_27 : eb_dc cX0_netOf 27 (.getfield 171) 3 30 := by decide +kernel
theorem dX0_netOf_30 : eb_dc cX0_netOf 30 (.aload_n 2) 1 31 := by decide +kernel
theorem dX0_netOf_31 : eb_dc cX0_netOf 31 (.getfield 148) 3 34 := by decide +kernel
theorem dX0_netOf_34 : eb_dj cX0_netOf 34 (.if_acmp .eq 36) 36 37 70 := by decide +kernel
theorem dX0_netOf_37 : eb_dc cX0_netOf 37 (.aload_n 0) 1 38 := by decide +kernel
theorem dX0_netOf_38 : eb_dc cX0_netOf 38 (.new 174) 3 41 := by decide +kernel
theorem dX0_netOf_41 : eb_dc cX0_netOf 41 (.dup) 1 42 := by decide +kernel
theorem dX0_netOf_42 : eb_dc cX0_netOf 42 (.aload_n 2) 1 43 := by decide +kernel
theorem dX0_netOf_43 : eb_dc cX0_netOf 43 (.invokespecial 176) 3 46 := by decide +kernel
theorem dX0_netOf_46 : eb_dc cX0_netOf 46 (.putfield 179) 3 49 := by decide +kernel
theorem dX0_netOf_49 : eb_dc cX0_netOf 49 (.aload_n 0) 1 50 := by decide +kernel
theorem dX0_netOf_50 : eb_dc cX0_netOf 50 (.aload_n 2) 1 51 := by decide +kernel
theorem dX0_netOf_51 : eb_dc cX0_netOf 51 (.putfield 164) 3 54 := by decide +kernel
theorem dX0_netOf_54 : eb_dc cX0_netOf 54 (.aload_n 0) 1 55 := by decide +kernel
theorem dX0_netOf_55 : eb_dc cX0_netOf 55 (.aload_n 2) 1 56 := by decide +kernel
theorem dX0_netOf_56 : eb_dc cX0_netOf 56 (.getfield 50) 3 59 := by decide +kernel
theorem dX0_netOf_59 : eb_dc cX0_netOf 59 (.putfield 168) 3 62 := by decide +kernel
theorem dX0_netOf_62 : eb_dc cX0_netOf 62 (.aload_n 0) 1 63 := by decide +kernel
theorem dX0_netOf_63 : eb_dc cX0_netOf 63 (.aload_n 2) 1 64 := by decide +kernel
theorem dX0_netOf_64 : eb_dc cX0_netOf 64 (.getfield 148) 3 67 := by decide +kernel
theorem dX0_netOf_67 : eb_dc cX0_netOf 67 (.putfield 171) 3 70 := by decide +kernel
theorem dX0_netOf_70 : eb_dc cX0_netOf 70 (.aload_n 0) 1 71 := by decide +kernel
theorem dX0_netOf_71 : eb_dc cX0_netOf 71 (.getfield 179) 3 74 := by decide +kernel
theorem dX0_netOf_74 : eb_dc cX0_netOf 74 (.areturn) 1 75 := by decide +kernel
theorem ctX0_netOf {l : Launch} {Γ : eb_C} {bc bs : Nat} {st : eb_S} {a0 : Nat} {a1 : Int32} {K : Option Nat → eb_S → Prop} (h : MX0_netOf Γ bc bs st a0 a1 K) : eb_Ct l Γ yX0_netOf cX0_netOf 3 (some (.object "EvenBodies$Net")) (rmX0_netOf bc bs) [.ref a0, .int a1] st (eb_oR K) := by
  refine eb_of (by decide) (Nat.le_of_ble_eq_true rfl) (fun X P hP hX0 => ?_)
  suffices hgo : (0 ≤ bc ∧ 0 ≤ bs) → eb_G l Γ P X cX0_netOf RX0 3 (some (.object "EvenBodies$Net")) (rmX0_netOf bc bs) 0 [(0, .ref a0), (1, .int a1)] [] st 0 0 from hgo ⟨Nat.zero_le _, Nat.zero_le _⟩
  intro hu
  refine eg_aload_n 0 dX0_netOf_0 rfl rfl ?_
  obtain ⟨fs, v1, he, hv, h⟩ := h
  refine eg_get 0 in_X0 he rfl (Nat.le_of_ble_eq_true rfl) q159 rfl hv dX0_netOf_1 ?_
  refine eg_iload_n 1 dX0_netOf_4 rfl rfl ?_
  obtain ⟨p2, rfl, h⟩ := h
  obtain ⟨nA, fA, he, hb, h⟩ := h
  refine eg_aald (t := 7) (ty := .object "EvenBodies$Body") rfl rfl he hb dX0_netOf_5 (fun v3 ev3 => ?_)
  replace h := h v3 ev3
  refine eh_astore_n (i := 2) (v := v3) (lv' := [(2, va_rf v3), (0, .ref a0), (1, .int a1)]) dX0_netOf_6 rfl (Nat.le_of_ble_eq_true rfl) rfl ?_
  refine eg_aload_n 1 dX0_netOf_7 rfl rfl ?_
  obtain ⟨fs, v4, he, hv, h⟩ := h
  refine eg_get 2 in_X0 he rfl (Nat.le_of_ble_eq_true rfl) q161 rfl hv dX0_netOf_8 ?_
  refine eh_aload_n (v := v3) 0 dX0_netOf_11 rfl rfl ?_
  refine eb_jp3_e (J := fun (g5 : eb_S) (u6 : Nat) (w7 : Nat) => (u6 ≤ bc ∧ w7 ≤ bs) → eb_G l Γ P X cX0_netOf RX0 3 (some (.object "EvenBodies$Net")) (rmX0_netOf bc bs) 70 [(0, .ref a0)] [] g5 u6 w7) h ?_ ?_
  · clear h
    intro g5 u6 w7 h hu
    refine eg_aload_n 0 dX0_netOf_70 rfl rfl ?_
    obtain ⟨fs, v8, he, hv, h⟩ := h
    refine eg_get 1 in_X0 he rfl (Nat.le_of_ble_eq_true rfl) q160 rfl hv dX0_netOf_71 ?_
    exact eg_aret dX0_netOf_74 (Or.inl ⟨_, rfl⟩) (eb_rfz v8) hu.1 hu.2 (hP _ _ ⟨v8, rfl, h⟩)
  · clear h
    intro k9 hk9 h
    refine eb_jp0_e (J := (0 ≤ bc ∧ 0 ≤ bs) → eb_G l Γ P X cX0_netOf RX0 3 (some (.object "EvenBodies$Net")) (rmX0_netOf bc bs) 37 [(0, .ref a0), (2, va_rf v3)] [] st 0 0) h ?_ ?_
    · clear h
      intro  h hu
      refine eg_aload_n 0 dX0_netOf_37 rfl rfl ?_
      obtain ⟨hc1, hs1, h⟩ := h
      refine eh_new (ci := 10) (fs := [.int 0, .int 0, .null, .null]) in_X11 tyX11 tyX11_ok q595 q596 q88 rfl (by decide +kernel) hc1 hs1 dX0_netOf_38 (fun p10 qp10 g11 eg11 => ?_)
      replace h := h p10 qp10 g11 eg11
      replace hu := And.intro hc1 hs1
      refine eg_dup dX0_netOf_41 rfl ?_
      refine eh_aload_n (v := v3) 1 dX0_netOf_42 rfl rfl ?_
      obtain ⟨p12, rfl, h⟩ := h
      obtain ⟨c15, s16, hca, h⟩ := h
      have hM0 := h
      clear h
      refine ec_IVa (rest := [.ref p10, .ref a0]) (ctX11_init hM0) q599 q88 q597 q598 rfl nX11_init ⟨Nat.le_of_ble_eq_true rfl, Nat.le_of_ble_eq_true rfl⟩ ⟨rfl, rfl⟩ hca rfl rfl (Nat.le_of_ble_eq_true rfl) dX0_netOf_43 (fun g14 h => ?_)
      clear hM0
      replace hu := hca
      obtain ⟨fs, he, hlen, h⟩ := h
      refine eh_put 1 in_X0 he rfl (Nat.le_of_ble_eq_true rfl) tyX0 tyX0_ok nmX0 q160 rfl rfl rfl rfl hlen dX0_netOf_46 (fun g17 eg17 => ?_)
      replace h := h g17 eg17
      refine eg_aload_n 0 dX0_netOf_49 rfl rfl ?_
      refine eg_aload_n 1 dX0_netOf_50 rfl rfl ?_
      obtain ⟨fs, he, hlen, h⟩ := h
      refine eh_put 2 in_X0 he rfl (Nat.le_of_ble_eq_true rfl) tyX0 tyX0_ok nmX0 q161 rfl rfl rfl rfl hlen dX0_netOf_51 (fun g18 eg18 => ?_)
      replace h := h g18 eg18
      refine eg_aload_n 0 dX0_netOf_54 rfl rfl ?_
      refine eg_aload_n 1 dX0_netOf_55 rfl rfl ?_
      obtain ⟨fs, v19, he, hv, h⟩ := h
      refine eg_getN 2 in_X1 he rfl (Nat.le_of_ble_eq_true rfl) (List.mem_of_getElem? (i := 3) rfl) rfl hv dX0_netOf_56 ?_
      obtain ⟨fs, he, hlen, h⟩ := h
      refine eh_put 3 in_X0 he rfl (Nat.le_of_ble_eq_true rfl) tyX0 tyX0_ok nmX0 q162 rfl rfl rfl rfl hlen dX0_netOf_59 (fun g20 eg20 => ?_)
      replace h := h g20 eg20
      refine eg_aload_n 0 dX0_netOf_62 rfl rfl ?_
      refine eg_aload_n 1 dX0_netOf_63 rfl rfl ?_
      obtain ⟨fs, v21, he, hv, h⟩ := h
      refine eg_getN 3 in_X1 he rfl (Nat.le_of_ble_eq_true rfl) (List.mem_of_getElem? (i := 4) rfl) rfl hv dX0_netOf_64 ?_
      obtain ⟨fs, he, hlen, h⟩ := h
      refine eh_put 4 in_X0 he rfl (Nat.le_of_ble_eq_true rfl) tyX0 tyX0_ok nmX0 q163 rfl rfl (eb_rfN v21 (Or.inl ⟨_, rfl⟩)) (eb_rfF v21 (Or.inl ⟨_, rfl⟩)) hlen dX0_netOf_67 (fun g22 eg22 => ?_)
      replace h := h g22 eg22
      exact eg_sub [0] rfl (hk9 g22 (((0 + 1) + c15)) (((0 + 4) + s16)) h hu)
    · clear h
      intro k23 hk23 h
      refine eg_acmp_ne (rx := v4) (ry := v3) dX0_netOf_12 (fun c31 => ?_) (fun c31 => ?_)
      · replace h := h.2 c31
        exact eg_sub [1, 0] rfl (hk23 h hu)
      · replace h := h.1 c31
        refine eg_aload_n 1 dX0_netOf_15 rfl rfl ?_
        obtain ⟨fs, v24, he, hv, h⟩ := h
        refine eg_get 3 in_X0 he rfl (Nat.le_of_ble_eq_true rfl) q162 rfl hv dX0_netOf_16 ?_
        refine eh_aload_n (v := v3) 0 dX0_netOf_19 rfl rfl ?_
        obtain ⟨p25, rfl, h⟩ := h
        obtain ⟨fs, v26, he, hv, h⟩ := h
        refine eg_getN 2 in_X1 he rfl (Nat.le_of_ble_eq_true rfl) (List.mem_of_getElem? (i := 3) rfl) rfl hv dX0_netOf_20 ?_
        refine eg_icmp_ne dX0_netOf_23 (fun c30 => ?_) (fun c30 => ?_)
        · replace h := h.2 c30
          exact eg_sub [1, 0] rfl (hk23 h hu)
        · replace h := h.1 c30
          refine eg_aload_n 1 dX0_netOf_26 rfl rfl ?_
          obtain ⟨fs, v27, he, hv, h⟩ := h
          refine eg_get 4 in_X0 he rfl (Nat.le_of_ble_eq_true rfl) q163 rfl hv dX0_netOf_27 ?_
          refine eg_aload_n 0 dX0_netOf_30 rfl rfl ?_
          obtain ⟨fs, v28, he, hv, h⟩ := h
          refine eg_getN 3 in_X1 he rfl (Nat.le_of_ble_eq_true rfl) (List.mem_of_getElem? (i := 4) rfl) rfl hv dX0_netOf_31 ?_
          refine eg_acmp_eq (rx := v27) (ry := v28) dX0_netOf_34 (fun c29 => ?_) (fun c29 => ?_)
          · replace h := h.1 c29
            exact eg_sub [1] rfl (hk9 st 0 0 h hu)
          · replace h := h.2 c29
            exact eg_sub [1, 0] rfl (hk23 h hu)
def MX10_degree (Γ : eb_C) (st : eb_S) (a0 : Nat) (a1 : Int32) (K : Int32 → Prop) : Prop :=
  eb_nr st a0 3 (fun v1 => eb_nn v1 (fun p2 => eb_li Γ st p2 0 a1 (fun v3 => K v3)))
abbrev rmX10_degree : Room := { frames := 1, cells := 0, slots := 0, locals := 12 }
theorem nX10_degree : eb_ar yX10_degree 1 := by decide +kernel
theorem dX10_degree_0 : eb_dc cX10_degree 0 (.aload_n 0) 1 1 := by decide +kernel
theorem dX10_degree_1 : eb_dc cX10_degree 1 (.getfield 22) 3 4 := by decide +kernel
theorem dX10_degree_4 : eb_dc cX10_degree 4 (.iload_n 1) 1 5 := by decide +kernel
theorem dX10_degree_5 : eb_dc cX10_degree 5 (.iaload) 1 6 := by decide +kernel
theorem dX10_degree_6 : eb_dc cX10_degree 6 (.ireturn) 1 7 := by decide +kernel
theorem ctX10_degree {l : Launch} {Γ : eb_C} {st : eb_S} {a0 : Nat} {a1 : Int32} {K : Int32 → Prop} (h : MX10_degree Γ st a0 a1 K) : eb_Ct l Γ yX10_degree cX10_degree 2 (some .int) rmX10_degree [.ref a0, .int a1] st (eb_pI st K) := by
  refine eb_of (by decide) (Nat.le_of_ble_eq_true rfl) (fun X P hP hX0 => ?_)
  show eb_G l Γ P X cX10_degree RX10 2 (some .int) rmX10_degree 0 [(0, .ref a0), (1, .int a1)] [] st 0 0
  refine eg_aload_n 0 dX10_degree_0 rfl rfl ?_
  obtain ⟨c0, fs, v1, hc0, he, hv, h⟩ := h
  refine en_get 3 (Nat.le_of_ble_eq_true rfl) hc0 he q638 hv dX10_degree_1 ?_
  refine eg_iload_n 1 dX10_degree_4 rfl rfl ?_
  obtain ⟨p2, rfl, h⟩ := h
  obtain ⟨nA, fA, he, hb, h⟩ := h
  refine eh_iald he hb dX10_degree_5 (fun v3 ev3 => ?_)
  replace h := h v3 ev3
  exact eg_iret dX10_degree_6 (Nat.zero_le _) (Nat.zero_le _) (hP _ _ ⟨_, rfl, rfl, h⟩)
theorem gUX0_155 : ∀ c ∈ [9, 10, 13], ∃ (C : String) (T : u_T) (N : Nat), eb_cl[c]? = some (C, T, N) ∧ GoodIn lw_all (va_wsU "EvenBodies" 155 C "EvenBodies$Net" ⟨"EvenBodies$Net", "degree", "(I)I"⟩ yX10_degree (ws_ yX10_degree cX10_degree 2 (some .int))) := by
  intro c hc
  simp only [List.mem_cons, List.not_mem_nil, or_false] at hc
  rcases hc with rfl | rfl | rfl
  · exact ⟨_, _, _, rfl, lw_U q648 q651 q650 q649 q87 q654⟩
  · exact ⟨_, _, _, rfl, lw_U q648 q651 q652 q649 q87 q654⟩
  · exact ⟨_, _, _, rfl, lw_U q648 q651 q653 q649 q87 q654⟩
def MX0_degree (Γ : eb_C) (bc bs : Nat) (st : eb_S) (a0 : Nat) (a1 : Int32) (a2 : Int32) (K : Int32 → eb_S → Prop) : Prop :=
  eb_cs st a0 [0] ∧ ∃ c3 s4 : Nat, (0 + c3 ≤ bc ∧ 0 + s4 ≤ bs) ∧ MX0_isCorner Γ c3 s4 st a0 a1 a2 (fun v1 g2 => eb_cs g2 a0 [0] ∧ ∃ c7 s8 : Nat, ((0 + c3) + c7 ≤ bc ∧ (0 + s4) + s8 ≤ bs) ∧ MX0_why Γ c7 s8 g2 a0 a1 v1 (fun v5 g6 => eb_br (v5 = 1) (eb_cs g6 a0 [0] ∧ ∃ c11 s12 : Nat, ((((0 + c3) + c7)) + c11 ≤ bc ∧ (((0 + s4) + s8)) + s12 ≤ bs) ∧ MX0_netOf Γ c11 s12 g6 a0 a1 (fun v9 g10 => eb_nn v9 (fun p13 => eb_cs g10 p13 [9, 10, 13] ∧ MX10_degree Γ g10 p13 a2 (fun v14 => K v14 g10)))) (K v5 g6)))
abbrev rmX0_degree (bc bs : Nat) : Room := { frames := 15, cells := bc, slots := bs, locals := 329 }
theorem nX0_degree : eb_ar yX0_degree 2 := by decide +kernel
theorem dX0_degree_0 : eb_dc cX0_degree 0 (.aload_n 0) 1 1 := by decide +kernel
theorem dX0_degree_1 : eb_dc cX0_degree 1 (.iload_n 1) 1 2 := by decide +kernel
theorem dX0_degree_2 : eb_dc cX0_degree 2 (.aload_n 0) 1 3 := by decide +kernel
theorem dX0_degree_3 : eb_dc cX0_degree 3 (.iload_n 1) 1 4 := by decide +kernel
theorem dX0_degree_4 : eb_dc cX0_degree 4 (.iload_n 2) 1 5 := by decide +kernel
theorem dX0_degree_5 : eb_dc cX0_degree 5 (.invokevirtual 145) 3 8 := by decide +kernel
theorem dX0_degree_8 : eb_dc cX0_degree 8 (.invokevirtual 75) 3 11 := by decide +kernel
theorem dX0_degree_11 : eb_dc cX0_degree 11 (.istore_n 3) 1 12 := by decide +kernel
theorem dX0_degree_12 : eb_dc cX0_degree 12 (.iload_n 3) 1 13 := by decide +kernel
theorem dX0_degree_13 : eb_dc cX0_degree 13 (.iconst 1) 1 14 := by decide +kernel
theorem dX0_degree_14 : eb_dj cX0_degree 14 (.if_icmp .eq 7) 7 17 21 := by decide +kernel
theorem dX0_degree_17 : eb_dc cX0_degree 17 (.iload_n 3) 1 18 := by decide +kernel
theorem dX0_degree_18 : eb_dj cX0_degree 18 (.goto 12) 12 21 30 := by decide +kernel
theorem dX0_degree_21 : eb_dc cX0_degree 21 (.aload_n 0) 1 22 := by decide +kernel
theorem dX0_degree_22 : eb_dc cX0_degree 22 (.iload_n 1) 1 23 := by decide +kernel
theorem dX0_degree_23 : eb_dc cX0_degree 23 (.invokevirtual 151) 3 26 := by decide +kernel
theorem dX0_degree_26 : eb_dc cX0_degree 26 (.iload_n 2) 1 27 := by decide +kernel
theorem dX0_degree_27 : eb_dc cX0_degree 27 (.invokevirtual 155) 3 30 := by decide +kernel
theorem dX0_degree_30 : eb_dc cX0_degree 30 (.ireturn) 1 31 := by decide +kernel
theorem ctX0_degree {l : Launch} {Γ : eb_C} {bc bs : Nat} {st : eb_S} {a0 : Nat} {a1 : Int32} {a2 : Int32} {K : Int32 → eb_S → Prop} (h : MX0_degree Γ bc bs st a0 a1 a2 K) : eb_Ct l Γ yX0_degree cX0_degree 4 (some .int) (rmX0_degree bc bs) [.ref a0, .int a1, .int a2] st (eb_oI K) := by
  refine eb_of (by decide) (Nat.le_of_ble_eq_true rfl) (fun X P hP hX0 => ?_)
  suffices hgo : (0 ≤ bc ∧ 0 ≤ bs) → eb_G l Γ P X cX0_degree RX0 4 (some .int) (rmX0_degree bc bs) 0 [(0, .ref a0), (1, .int a1), (2, .int a2)] [] st 0 0 from hgo ⟨Nat.zero_le _, Nat.zero_le _⟩
  intro hu
  refine eg_aload_n 0 dX0_degree_0 rfl rfl ?_
  refine eg_iload_n 1 dX0_degree_1 rfl rfl ?_
  refine eg_aload_n 0 dX0_degree_2 rfl rfl ?_
  refine eg_iload_n 1 dX0_degree_3 rfl rfl ?_
  refine eg_iload_n 2 dX0_degree_4 rfl rfl ?_
  obtain ⟨hcs, h⟩ := h
  obtain ⟨c3, s4, hca, h⟩ := h
  have hM0 := h
  clear h
  refine ec_VIa (rest := [.int a1, .ref a0]) (ctX0_isCorner hM0) (lw_V q583 q585 qs11 q74 q586) rfl rfl hcs nX0_isCorner ⟨Nat.le_of_ble_eq_true rfl, Nat.le_of_ble_eq_true rfl⟩ ⟨rfl, rfl⟩ hca rfl rfl (Nat.le_of_ble_eq_true rfl) dX0_degree_5 (fun v1 g2 h => ?_)
  clear hM0
  replace hu := hca
  obtain ⟨hcs, h⟩ := h
  obtain ⟨c7, s8, hca, h⟩ := h
  have hM0 := h
  clear h
  refine ec_VIa (rest := []) (ctX0_why hM0) (lw_V q237 q239 qs1 q74 q240) rfl rfl hcs nX0_why ⟨Nat.le_of_ble_eq_true rfl, Nat.le_of_ble_eq_true rfl⟩ ⟨rfl, rfl⟩ hca rfl rfl (Nat.le_of_ble_eq_true rfl) dX0_degree_8 (fun v5 g6 h => ?_)
  clear hM0
  replace hu := hca
  refine eg_istore_n (lv' := [(3, .int v5), (0, .ref a0), (1, .int a1), (2, .int a2)]) dX0_degree_11 rfl (Nat.le_of_ble_eq_true rfl) rfl ?_
  refine eg_iload_n 0 dX0_degree_12 rfl rfl ?_
  refine eg_iconst dX0_degree_13 kc_1 ?_
  refine eg_icmp_eq dX0_degree_14 (fun c18 => ?_) (fun c18 => ?_)
  · replace h := h.1 c18
    refine eg_aload_n 1 dX0_degree_21 rfl rfl ?_
    refine eg_iload_n 2 dX0_degree_22 rfl rfl ?_
    obtain ⟨hcs, h⟩ := h
    obtain ⟨c11, s12, hca, h⟩ := h
    have hM0 := h
    clear h
    refine ec_VRa (rest := []) (ctX0_netOf hM0) (lw_V q591 q593 qs12 q74 q594) rfl rfl hcs nX0_netOf ⟨Nat.le_of_ble_eq_true rfl, Nat.le_of_ble_eq_true rfl⟩ ⟨rfl, rfl⟩ hca rfl rfl (Nat.le_of_ble_eq_true rfl) dX0_degree_23 (fun v9 g10 h => ?_)
    clear hM0
    replace hu := hca
    refine eg_iload_n 3 dX0_degree_26 rfl rfl ?_
    obtain ⟨p13, rfl, h⟩ := h
    obtain ⟨hcs, h⟩ := h
    have hM0 := h
    clear h
    refine ec_UIp (rest := []) (ctX10_degree hM0) gUX0_155 rfl hcs nX10_degree ⟨Nat.le_of_ble_eq_true rfl, Nat.le_of_ble_eq_true rfl⟩ ⟨rfl, rfl⟩ hu rfl rfl (Nat.le_of_ble_eq_true rfl) dX0_degree_27 (fun v14 h => ?_)
    clear hM0
    exact eg_iret dX0_degree_30 hu.1 hu.2 (hP _ _ ⟨_, rfl, h⟩)
  · replace h := h.2 c18
    refine eg_iload_n 0 dX0_degree_17 rfl rfl ?_
    refine eg_goto dX0_degree_18 ?_
    exact eg_iret dX0_degree_30 hu.1 hu.2 (hP _ _ ⟨_, rfl, h⟩)
def MX10_far (Γ : eb_C) (bc bs : Nat) (st : eb_S) (a0 : Nat) (a1 : Int32) (K : Option Nat → eb_S → Prop) : Prop :=
  eb_ni st a0 0 (fun v1 => eb_ok1 v1 ∧ (eb_mk st (eb_ia Γ 0 (v1.toNatClampNeg) (fun _ => 0)) (v1.toNatClampNeg) bc bs 0 0 (fun p2 g3 => MJ0_fill Γ g3 p2 (-1) (fun g5 => eb_ni g5 a0 0 (fun v8 => eb_ok1 v8 ∧ (eb_mk g5 (eb_ia Γ 0 (v8.toNatClampNeg) (fun _ => 0)) (v8.toNatClampNeg) bc bs (0 + 1) ((0 + (v1.toNatClampNeg))) (fun p9 g10 => eb_wi Γ g10 p2 0 a1 0 (fun g11 => eb_wi Γ g11 p9 0 0 a1 (fun g12 => eb_jp1 (fun (g13 : eb_S) => K (some p2) g13) (fun k14 => eb_loop3 (fun r18 (x4_15 : Int32) (x5_16 : Int32) (g17 : eb_S) => eb_br (x4_15 ≤ x5_16) (k14 g17) (eb_li Γ g17 p9 0 x5_16 (fun v19 => eb_jp2 (fun (x4_20 : Int32) (g21 : eb_S) => r18 x4_20 (x5_16 + 1) g21) (fun k22 => eb_loop3 (fun r26 (x4_23 : Int32) (x7_24 : Int32) (g25 : eb_S) => eb_nr g25 a0 3 (fun v27 => eb_nn v27 (fun p28 => eb_li Γ g25 p28 0 v19 (fun v29 => eb_br (v29 ≤ x7_24) (k22 x4_23 g25) (eb_cs g25 a0 [9, 10, 13] ∧ MX10_at Γ g25 a0 v19 x7_24 (fun v30 => eb_li Γ g25 p2 0 v30 (fun v34 => eb_jp2 (fun (x4_35 : Int32) (g36 : eb_S) => r26 x4_35 (x7_24 + 1) g36) (fun k37 => eb_br (v34 = (-1)) (eb_li Γ g25 p2 0 v19 (fun v38 => eb_wi Γ g25 p2 0 v30 (v38 + 1) (fun g39 => eb_wi Γ g39 p9 0 x4_23 v30 (fun g40 => k37 (x4_23 + 1) g40)))) (k37 x4_23 g25))))))))) x4_15 0 g17)))) 1 0 g12))))))))))
abbrev rmX10_far (bc bs : Nat) : Room := { frames := 2, cells := bc, slots := bs, locals := 35 }
theorem nX10_far : eb_ar yX10_far 1 := by decide +kernel
theorem dX10_far_0 : eb_dc cX10_far 0 (.aload_n 0) 1 1 := by decide +kernel
theorem dX10_far_1 : eb_dc cX10_far 1 (.getfield 9) 3 4 := by decide +kernel
theorem dX10_far_4 : eb_dc cX10_far 4 (.newarray .int) 2 6 := by decide +kernel
theorem dX10_far_6 : eb_dc cX10_far 6 (.astore_n 2) 1 7 := by decide +kernel
theorem dX10_far_7 : eb_dc cX10_far 7 (.aload_n 2) 1 8 := by decide +kernel
theorem dX10_far_8 : eb_dc cX10_far 8 (.iconst (-1)) 1 9 := by decide +kernel
theorem dX10_far_9 : eb_dc cX10_far 9 (.invokestatic 37) 3 12 := by decide +kernel
theorem dX10_far_12 : eb_dc cX10_far 12 (.aload_n 0) 1 13 := by decide +kernel
theorem dX10_far_13 : eb_dc cX10_far 13 (.getfield 9) 3 16 := by decide +kernel
theorem dX10_far_16 : eb_dc cX10_far 16 (.newarray .int) 2 18 := by decide +kernel
theorem dX10_far_18 : eb_dc cX10_far 18 (.astore_n 3) 1 19 := by decide +kernel
theorem dX10_far_19 : eb_dc cX10_far 19 (.aload_n 2) 1 20 := by decide +kernel
theorem dX10_far_20 : eb_dc cX10_far 20 (.iload_n 1) 1 21 := by decide +kernel
theorem dX10_far_21 : eb_dc cX10_far 21 (.iconst 0) 1 22 := by decide +kernel
theorem dX10_far_22 : eb_dc cX10_far 22 (.iastore) 1 23 := by decide +kernel
theorem dX10_far_23 : eb_dc cX10_far 23 (.aload_n 3) 1 24 := by decide +kernel
theorem dX10_far_24 : eb_dc cX10_far 24 (.iconst 0) 1 25 := by decide +kernel
theorem dX10_far_25 : eb_dc cX10_far 25 (.iload_n 1) 1 26 := by decide +kernel
theorem dX10_far_26 : eb_dc cX10_far 26 (.iastore) 1 27 := by decide +kernel
theorem dX10_far_27 : eb_dc cX10_far 27 (.iconst 1) 1 28 := by decide +kernel
theorem dX10_far_28 : eb_dc cX10_far 28 (.istore 4) 2 30 := by decide +kernel
theorem dX10_far_30 : eb_dc cX10_far 30 (.iconst 0) 1 31 := by decide +kernel
theorem dX10_far_31 : eb_dc cX10_far 31 (.istore 5) 2 33 := by decide +kernel
theorem dX10_far_33 : eb_dc cX10_far 33 (.iload 5) 2 35 := by decide +kernel
theorem dX10_far_35 : eb_dc cX10_far 35 (.iload 4) 2 37 := by decide +kernel
theorem dX10_far_37 : eb_dj cX10_far 37 (.if_icmp .ge 73) 73 40 110 := by decide +kernel
theorem dX10_far_40 : eb_dc cX10_far 40 (.aload_n 3) 1 41 := by decide +kernel
theorem dX10_far_41 : eb_dc cX10_far 41 (.iload 5) 2 43 := by decide +kernel
theorem dX10_far_43 : eb_dc cX10_far 43 (.iaload) 1 44 := by decide +kernel
theorem dX10_far_44 : eb_dc cX10_far 44 (.istore 6) 2 46 := by decide +kernel
theorem dX10_far_46 : eb_dc cX10_far 46 (.iconst 0) 1 47 := by decide +kernel
theorem dX10_far_47 : eb_dc cX10_far 47 (.istore 7) 2 49 := by decide +kernel
theorem dX10_far_49 : eb_dc cX10_far 49 (.iload 7) 2 51 := by decide +kernel
theorem dX10_far_51 : eb_dc cX10_far 51 (.aload_n 0) 1 52 := by decide +kernel
theorem dX10_far_52 : eb_dc cX10_far 52 (.getfield 22) 3 55 := by decide +kernel
theorem dX10_far_55 : eb_dc cX10_far 55 (.iload 6) 2 57 := by decide +kernel
theorem dX10_far_57 : eb_dc cX10_far 57 (.iaload) 1 58 := by decide +kernel
theorem dX10_far_58 : eb_dj cX10_far 58 (.if_icmp .ge 46) 46 61 104 := by decide +kernel
theorem dX10_far_61 : eb_dc cX10_far 61 (.aload_n 0) 1 62 := by decide +kernel
theorem dX10_far_62 : eb_dc cX10_far 62 (.iload 6) 2 64 := by decide +kernel
theorem dX10_far_64 : eb_dc cX10_far 64 (.iload 7) 2 66 := by decide +kernel
theorem dX10_far_66 : eb_dc cX10_far 66 (.invokevirtual 25) 3 69 := by decide +kernel
theorem dX10_far_69 : eb_dc cX10_far 69 (.istore 8) 2 71 := by decide +kernel
theorem dX10_far_71 : eb_dc cX10_far 71 (.aload_n 2) 1 72 := by decide +kernel
theorem dX10_far_72 : eb_dc cX10_far 72 (.iload 8) 2 74 := by decide +kernel
theorem dX10_far_74 : eb_dc cX10_far 74 (.iaload) 1 75 := by decide +kernel
theorem dX10_far_75 : eb_dc cX10_far 75 (.iconst (-1)) 1 76 := by decide +kernel
theorem dX10_far_76 : eb_dj cX10_far 76 (.if_icmp .ne 22) 22 79 98 := by decide +kernel
theorem dX10_far_79 : eb_dc cX10_far 79 (.aload_n 2) 1 80 := by decide +kernel
theorem dX10_far_80 : eb_dc cX10_far 80 (.iload 8) 2 82 := by decide +kernel
theorem dX10_far_82 : eb_dc cX10_far 82 (.aload_n 2) 1 83 := by decide +kernel
theorem dX10_far_83 : eb_dc cX10_far 83 (.iload 6) 2 85 := by decide +kernel
theorem dX10_far_85 : eb_dc cX10_far 85 (.iaload) 1 86 := by decide +kernel
theorem dX10_far_86 : eb_dc cX10_far 86 (.iconst 1) 1 87 := by decide +kernel
theorem dX10_far_87 : eb_dc cX10_far 87 (.iadd) 1 88 := by decide +kernel
theorem dX10_far_88 : eb_dc cX10_far 88 (.iastore) 1 89 := by decide +kernel
theorem dX10_far_89 : eb_dc cX10_far 89 (.aload_n 3) 1 90 := by decide +kernel
theorem dX10_far_90 : eb_dc cX10_far 90 (.iload 4) 2 92 := by decide +kernel
theorem dX10_far_92 : eb_dc cX10_far 92 (.iload 8) 2 94 := by decide +kernel
theorem dX10_far_94 : eb_dc cX10_far 94 (.iastore) 1 95 := by decide +kernel
theorem dX10_far_95 : eb_dc cX10_far 95 (.iinc 4 1) 3 98 := by decide +kernel
theorem dX10_far_98 : eb_dc cX10_far 98 (.iinc 7 1) 3 101 := by decide +kernel
theorem dX10_far_101 : eb_dj cX10_far 101 (.goto (-52)) (-52) 104 49 := by decide +kernel
theorem dX10_far_104 : eb_dc cX10_far 104 (.iinc 5 1) 3 107 := by decide +kernel
theorem dX10_far_107 : eb_dj cX10_far 107 (.goto (-74)) (-74) 110 33 := by decide +kernel
theorem dX10_far_110 : eb_dc cX10_far 110 (.aload_n 2) 1 111 := by decide +kernel
theorem dX10_far_111 : eb_dc cX10_far 111 (.areturn) 1 112 := by decide +kernel
theorem ctX10_far {l : Launch} {Γ : eb_C} {bc bs : Nat} {st : eb_S} {a0 : Nat} {a1 : Int32} {K : Option Nat → eb_S → Prop} (h : MX10_far Γ bc bs st a0 a1 K) : eb_Ct l Γ yX10_far cX10_far 9 (some (.array .int)) (rmX10_far bc bs) [.ref a0, .int a1] st (eb_oR K) := by
  refine eb_of (by decide) (Nat.le_of_ble_eq_true rfl) (fun X P hP hX0 => ?_)
  suffices hgo : (0 ≤ bc ∧ 0 ≤ bs) → eb_G l Γ P X cX10_far RX10 9 (some (.array .int)) (rmX10_far bc bs) 0 [(0, .ref a0), (1, .int a1)] [] st 0 0 from hgo ⟨Nat.zero_le _, Nat.zero_le _⟩
  intro hu
  refine eg_aload_n 0 dX10_far_0 rfl rfl ?_
  obtain ⟨c0, fs, v1, hc0, he, hv, h⟩ := h
  refine en_get 0 (Nat.le_of_ble_eq_true rfl) hc0 he q629 hv dX10_far_1 ?_
  obtain ⟨hok, h⟩ := h
  obtain ⟨hc1, hs1, h⟩ := h
  refine eh_new_i q158 rfl hok hc1 hs1 dX10_far_4 (fun p2 qp2 g3 eg3 => ?_)
  replace h := h p2 qp2 g3 eg3
  replace hu := And.intro hc1 hs1
  refine eg_astore_n (i := 2) (lv' := [(2, .ref p2), (0, .ref a0), (1, .int a1)]) dX10_far_6 rfl (Nat.le_of_ble_eq_true rfl) rfl ?_
  refine eg_aload_n 0 dX10_far_7 rfl rfl ?_
  refine eg_iconst dX10_far_8 kc_m1 ?_
  have hM0 := h
  clear h
  refine ec_SVw (rest := []) (ctJ0_fill hM0) (lw_S q666 q116 q76 q117) nJ0_fill ⟨Nat.le_of_ble_eq_true rfl, Nat.le_of_ble_eq_true rfl⟩ ⟨rfl, rfl⟩ hu rfl rfl (Nat.le_of_ble_eq_true rfl) dX10_far_9 (fun g5 h => ?_)
  clear hM0
  refine eg_aload_n 1 dX10_far_12 rfl rfl ?_
  obtain ⟨c0, fs, v8, hc0, he, hv, h⟩ := h
  refine en_get 0 (Nat.le_of_ble_eq_true rfl) hc0 he q629 hv dX10_far_13 ?_
  obtain ⟨hok, h⟩ := h
  obtain ⟨hc1, hs1, h⟩ := h
  refine eh_new_i q158 rfl hok hc1 hs1 dX10_far_16 (fun p9 qp9 g10 eg10 => ?_)
  replace h := h p9 qp9 g10 eg10
  replace hu := And.intro hc1 hs1
  refine eg_astore_n (i := 3) (lv' := [(3, .ref p9), (2, .ref p2), (0, .ref a0), (1, .int a1)]) dX10_far_18 rfl (Nat.le_of_ble_eq_true rfl) rfl ?_
  refine eg_aload_n 1 dX10_far_19 rfl rfl ?_
  refine eg_iload_n 3 dX10_far_20 rfl rfl ?_
  refine eg_iconst dX10_far_21 kc_0 ?_
  obtain ⟨nA, fA, he, hb, h⟩ := h
  refine eh_iast he hb dX10_far_22 (fun g11 eg11 => ?_)
  replace h := h g11 eg11
  refine eg_aload_n 0 dX10_far_23 rfl rfl ?_
  refine eg_iconst dX10_far_24 kc_0 ?_
  refine eg_iload_n 3 dX10_far_25 rfl rfl ?_
  obtain ⟨nA, fA, he, hb, h⟩ := h
  refine eh_iast he hb dX10_far_26 (fun g12 eg12 => ?_)
  replace h := h g12 eg12
  refine eg_iconst dX10_far_27 kc_1 ?_
  refine eg_istore (lv' := [(4, .int 1), (3, .ref p9), (2, .ref p2), (0, .ref a0), (1, .int a1)]) dX10_far_28 (Nat.le_of_ble_eq_true rfl) rfl ?_
  refine eg_iconst dX10_far_30 kc_0 ?_
  refine eg_istore (lv' := [(5, .int 0), (4, .int 1), (3, .ref p9), (2, .ref p2), (0, .ref a0), (1, .int a1)]) dX10_far_31 (Nat.le_of_ble_eq_true rfl) rfl ?_
  refine eb_jp1_e (J := fun (g13 : eb_S) => (((0 + 1) + 1) ≤ bc ∧ ((0 + (v1.toNatClampNeg)) + (v8.toNatClampNeg)) ≤ bs) → eb_G l Γ P X cX10_far RX10 9 (some (.array .int)) (rmX10_far bc bs) 110 [(2, .ref p2)] [] g13 ((0 + 1) + 1) ((0 + (v1.toNatClampNeg)) + (v8.toNatClampNeg))) h ?_ ?_
  · clear h
    intro g13 h hu
    refine eg_aload_n 0 dX10_far_110 rfl rfl ?_
    exact eg_aret dX10_far_111 (Or.inr ⟨_, rfl⟩) (Or.inr ⟨_, rfl⟩) hu.1 hu.2 (hP _ _ ⟨(some p2), rfl, h⟩)
  · clear h
    intro k14 hk14 h
    refine eg_sub [4, 3, 2, 1, 0] rfl ?_
    refine eb_loop3_e (J := fun (x4_15 : Int32) (x5_16 : Int32) (g17 : eb_S) => (((0 + 1) + 1) ≤ bc ∧ ((0 + (v1.toNatClampNeg)) + (v8.toNatClampNeg)) ≤ bs) → eb_G l Γ P X cX10_far RX10 9 (some (.array .int)) (rmX10_far bc bs) 33 [(0, .ref a0), (2, .ref p2), (3, .ref p9), (4, .int x4_15), (5, .int x5_16)] [] g17 ((0 + 1) + 1) ((0 + (v1.toNatClampNeg)) + (v8.toNatClampNeg))) h ?_ hu
    clear h
    clear hu
    intro r18 hr18 x4_15 x5_16 g17 h hu
    refine eg_iload 4 dX10_far_33 rfl ?_
    refine eg_iload 3 dX10_far_35 rfl ?_
    refine eg_icmp_ge dX10_far_37 (fun c43 => ?_) (fun c43 => ?_)
    · replace h := h.1 c43
      exact eg_sub [1] rfl (hk14 g17 h hu)
    · replace h := h.2 c43
      refine eg_aload_n 2 dX10_far_40 rfl rfl ?_
      refine eg_iload 4 dX10_far_41 rfl ?_
      obtain ⟨nA, fA, he, hb, h⟩ := h
      refine eh_iald he hb dX10_far_43 (fun v19 ev19 => ?_)
      replace h := h v19 ev19
      refine eg_istore (lv' := [(6, .int v19), (0, .ref a0), (2, .ref p2), (3, .ref p9), (4, .int x4_15), (5, .int x5_16)]) dX10_far_44 (Nat.le_of_ble_eq_true rfl) rfl ?_
      refine eg_iconst dX10_far_46 kc_0 ?_
      refine eg_istore (lv' := [(7, .int 0), (6, .int v19), (0, .ref a0), (2, .ref p2), (3, .ref p9), (4, .int x4_15), (5, .int x5_16)]) dX10_far_47 (Nat.le_of_ble_eq_true rfl) rfl ?_
      refine eb_jp2_e (J := fun (x4_20 : Int32) (g21 : eb_S) => (((0 + 1) + 1) ≤ bc ∧ ((0 + (v1.toNatClampNeg)) + (v8.toNatClampNeg)) ≤ bs) → eb_G l Γ P X cX10_far RX10 9 (some (.array .int)) (rmX10_far bc bs) 104 [(0, .ref a0), (2, .ref p2), (3, .ref p9), (4, .int x4_20), (5, .int x5_16)] [] g21 ((0 + 1) + 1) ((0 + (v1.toNatClampNeg)) + (v8.toNatClampNeg))) h ?_ ?_
      · clear h
        intro x4_20 g21 h hu
        refine eg_iinc (j := 4) (lv' := [(5, .int (x5_16 + 1)), (0, .ref a0), (2, .ref p2), (3, .ref p9), (4, .int x4_20)]) dX10_far_104 rfl (by rw [kc_1]) (Nat.le_of_ble_eq_true rfl) rfl ?_
        refine eg_goto dX10_far_107 ?_
        exact eg_sub [1, 2, 3, 4, 0] rfl (hr18 x4_20 (x5_16 + 1) g21 h hu)
      · clear h
        intro k22 hk22 h
        refine eg_sub [2, 3, 4, 5, 6, 1, 0] rfl ?_
        refine eb_loop3_e (J := fun (x4_23 : Int32) (x7_24 : Int32) (g25 : eb_S) => (((0 + 1) + 1) ≤ bc ∧ ((0 + (v1.toNatClampNeg)) + (v8.toNatClampNeg)) ≤ bs) → eb_G l Γ P X cX10_far RX10 9 (some (.array .int)) (rmX10_far bc bs) 49 [(0, .ref a0), (2, .ref p2), (3, .ref p9), (4, .int x4_23), (5, .int x5_16), (6, .int v19), (7, .int x7_24)] [] g25 ((0 + 1) + 1) ((0 + (v1.toNatClampNeg)) + (v8.toNatClampNeg))) h ?_ hu
        clear h
        clear hu
        intro r26 hr26 x4_23 x7_24 g25 h hu
        refine eg_iload 6 dX10_far_49 rfl ?_
        refine eg_aload_n 0 dX10_far_51 rfl rfl ?_
        obtain ⟨c0, fs, v27, hc0, he, hv, h⟩ := h
        refine en_get 3 (Nat.le_of_ble_eq_true rfl) hc0 he q638 hv dX10_far_52 ?_
        refine eg_iload 5 dX10_far_55 rfl ?_
        obtain ⟨p28, rfl, h⟩ := h
        obtain ⟨nA, fA, he, hb, h⟩ := h
        refine eh_iald he hb dX10_far_57 (fun v29 ev29 => ?_)
        replace h := h v29 ev29
        refine eg_icmp_ge dX10_far_58 (fun c42 => ?_) (fun c42 => ?_)
        · replace h := h.1 c42
          exact eg_sub [0, 1, 2, 3, 4] rfl (hk22 x4_23 g25 h hu)
        · replace h := h.2 c42
          refine eg_aload_n 0 dX10_far_61 rfl rfl ?_
          refine eg_iload 5 dX10_far_62 rfl ?_
          refine eg_iload 6 dX10_far_64 rfl ?_
          obtain ⟨hcs, h⟩ := h
          have hM0 := h
          clear h
          refine ec_UIp (rest := []) (ctX10_at hM0) gUX10_25 rfl hcs nX10_at ⟨Nat.le_of_ble_eq_true rfl, Nat.le_of_ble_eq_true rfl⟩ ⟨rfl, rfl⟩ hu rfl rfl (Nat.le_of_ble_eq_true rfl) dX10_far_66 (fun v30 h => ?_)
          clear hM0
          refine eg_istore (lv' := [(8, .int v30), (0, .ref a0), (2, .ref p2), (3, .ref p9), (4, .int x4_23), (5, .int x5_16), (6, .int v19), (7, .int x7_24)]) dX10_far_69 (Nat.le_of_ble_eq_true rfl) rfl ?_
          refine eg_aload_n 2 dX10_far_71 rfl rfl ?_
          refine eg_iload 0 dX10_far_72 rfl ?_
          obtain ⟨nA, fA, he, hb, h⟩ := h
          refine eh_iald he hb dX10_far_74 (fun v34 ev34 => ?_)
          replace h := h v34 ev34
          refine eg_iconst dX10_far_75 kc_m1 ?_
          refine eb_jp2_e (J := fun (x4_35 : Int32) (g36 : eb_S) => (((0 + 1) + 1) ≤ bc ∧ ((0 + (v1.toNatClampNeg)) + (v8.toNatClampNeg)) ≤ bs) → eb_G l Γ P X cX10_far RX10 9 (some (.array .int)) (rmX10_far bc bs) 98 [(0, .ref a0), (2, .ref p2), (3, .ref p9), (4, .int x4_35), (5, .int x5_16), (6, .int v19), (7, .int x7_24)] [] g36 ((0 + 1) + 1) ((0 + (v1.toNatClampNeg)) + (v8.toNatClampNeg))) h ?_ ?_
          · clear h
            intro x4_35 g36 h hu
            refine eg_iinc (j := 6) (lv' := [(7, .int (x7_24 + 1)), (0, .ref a0), (2, .ref p2), (3, .ref p9), (4, .int x4_35), (5, .int x5_16), (6, .int v19)]) dX10_far_98 rfl (by rw [kc_1]) (Nat.le_of_ble_eq_true rfl) rfl ?_
            refine eg_goto dX10_far_101 ?_
            exact eg_sub [1, 2, 3, 4, 5, 6, 0] rfl (hr26 x4_35 (x7_24 + 1) g36 h hu)
          · clear h
            intro k37 hk37 h
            refine eg_icmp_ne dX10_far_76 (fun c41 => ?_) (fun c41 => ?_)
            · replace h := h.2 c41
              exact eg_sub [1, 2, 3, 4, 5, 6, 7] rfl (hk37 x4_23 g25 h hu)
            · replace h := h.1 c41
              refine eg_aload_n 2 dX10_far_79 rfl rfl ?_
              refine eg_iload 0 dX10_far_80 rfl ?_
              refine eg_aload_n 2 dX10_far_82 rfl rfl ?_
              refine eg_iload 6 dX10_far_83 rfl ?_
              obtain ⟨nA, fA, he, hb, h⟩ := h
              refine eh_iald he hb dX10_far_85 (fun v38 ev38 => ?_)
              replace h := h v38 ev38
              refine eg_iconst dX10_far_86 kc_1 ?_
              refine eg_iadd dX10_far_87 ?_
              obtain ⟨nA, fA, he, hb, h⟩ := h
              refine eh_iast he hb dX10_far_88 (fun g39 eg39 => ?_)
              replace h := h g39 eg39
              refine eg_aload_n 3 dX10_far_89 rfl rfl ?_
              refine eg_iload 4 dX10_far_90 rfl ?_
              refine eg_iload 0 dX10_far_92 rfl ?_
              obtain ⟨nA, fA, he, hb, h⟩ := h
              refine eh_iast he hb dX10_far_94 (fun g40 eg40 => ?_)
              replace h := h g40 eg40
              refine eg_iinc (j := 4) (lv' := [(4, .int (x4_23 + 1)), (8, .int v30), (0, .ref a0), (2, .ref p2), (3, .ref p9), (5, .int x5_16), (6, .int v19), (7, .int x7_24)]) dX10_far_95 rfl (by rw [kc_1]) (Nat.le_of_ble_eq_true rfl) rfl ?_
              exact eg_sub [2, 3, 4, 0, 5, 6, 7] rfl (hk37 (x4_23 + 1) g40 h hu)

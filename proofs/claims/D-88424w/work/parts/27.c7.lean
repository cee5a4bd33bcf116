set_option maxRecDepth 100000
set_option maxHeartbeats 4000000
theorem gUX0_160 : ∀ c ∈ [9, 10, 13], ∃ (C : String) (T : u_T) (N : Nat), eb_cl[c]? = some (C, T, N) ∧ GoodIn lw_all (va_wsU "EvenBodies" 160 C "EvenBodies$Net" ⟨"EvenBodies$Net", "far", "(I)[I"⟩ yX10_far (ws_ yX10_far cX10_far 9 (some (.array .int)))) := by
  intro c hc
  simp only [List.mem_cons, List.not_mem_nil, or_false] at hc
  rcases hc with rfl | rfl | rfl
  · exact ⟨_, _, _, rfl, lw_U q659 q662 q661 q660 q87 q665⟩
  · exact ⟨_, _, _, rfl, lw_U q659 q662 q663 q660 q87 q665⟩
  · exact ⟨_, _, _, rfl, lw_U q659 q662 q664 q660 q87 q665⟩
def MX0_far (Γ : eb_C) (bc bs : Nat) (st : eb_S) (a0 : Nat) (a1 : Int32) (a2 : Int32) (a3 : Int32) (K : Int32 → eb_S → Prop) : Prop :=
  eb_cs st a0 [0] ∧ ∃ c3 s4 : Nat, (0 + c3 ≤ bc ∧ 0 + s4 ≤ bs) ∧ MX0_isCorner Γ c3 s4 st a0 a1 a2 (fun v1 g2 => eb_jp4 (fun (s5 : Int32) (g6 : eb_S) (u7 : Nat) (w8 : Nat) => eb_cs g6 a0 [0] ∧ ∃ c11 s12 : Nat, (u7 + c11 ≤ bc ∧ w8 + s12 ≤ bs) ∧ MX0_why Γ c11 s12 g6 a0 a1 s5 (fun v9 g10 => eb_br (v9 = 1) (eb_cs g10 a0 [0] ∧ ∃ c15 s16 : Nat, ((u7 + c11) + c15 ≤ bc ∧ (w8 + s12) + s16 ≤ bs) ∧ MX0_netOf Γ c15 s16 g10 a0 a1 (fun v13 g14 => eb_nn v13 (fun p17 => eb_cs g14 p17 [9, 10, 13] ∧ ∃ c20 s21 : Nat, ((((u7 + c11) + c15)) + c20 ≤ bc ∧ (((w8 + s12) + s16)) + s21 ≤ bs) ∧ MX10_far Γ c20 s21 g14 p17 a2 (fun v18 g19 => eb_nn v18 (fun p22 => eb_li Γ g19 p22 0 a3 (fun v23 => K v23 g19)))))) (K v9 g10))) (fun k25 => eb_br (v1 = 0) (k25 0 g2 (0 + c3) (0 + s4)) (eb_cs g2 a0 [0] ∧ ∃ c28 s29 : Nat, ((0 + c3) + c28 ≤ bc ∧ (0 + s4) + s29 ≤ bs) ∧ MX0_isCorner Γ c28 s29 g2 a0 a1 a3 (fun v26 g27 => eb_br (v26 = 0) (k25 0 g27 (((0 + c3) + c28)) (((0 + s4) + s29))) (k25 1 g27 (((0 + c3) + c28)) (((0 + s4) + s29)))))))
abbrev rmX0_far (bc bs : Nat) : Room := { frames := 15, cells := bc, slots := bs, locals := 329 }
theorem nX0_far : eb_ar yX0_far 3 := by decide +kernel
theorem dX0_far_0 : eb_dc cX0_far 0 (.aload_n 0) 1 1 := by decide +kernel
theorem dX0_far_1 : eb_dc cX0_far 1 (.iload_n 1) 1 2 := by decide +kernel
theorem dX0_far_2 : eb_dc cX0_far 2 (.aload_n 0) 1 3 := by decide +kernel
theorem dX0_far_3 : eb_dc cX0_far 3 (.iload_n 1) 1 4 := by decide +kernel
theorem dX0_far_4 : eb_dc cX0_far 4 (.iload_n 2) 1 5 := by decide +kernel
theorem dX0_far_5 : eb_dc cX0_far 5 (.invokevirtual 145) 3 8 := by decide +kernel
theorem dX0_far_8 : eb_dj cX0_far 8 (.ifCond .eq 16) 16 11 24 := by decide +kernel
theorem dX0_far_11 : eb_dc cX0_far 11 (.aload_n 0) 1 12 := by decide +kernel
theorem dX0_far_12 : eb_dc cX0_far 12 (.iload_n 1) 1 13 := by decide +kernel
theorem dX0_far_13 : eb_dc cX0_far 13 (.iload_n 3) 1 14 := by decide +kernel
theorem dX0_far_14 : eb_dc cX0_far 14 (.invokevirtual 145) 3 17 := by decide +kernel
theorem dX0_far_17 : eb_dj cX0_far 17 (.ifCond .eq 7) 7 20 24 := by decide +kernel
theorem dX0_far_20 : eb_dc cX0_far 20 (.iconst 1) 1 21 := by decide +kernel
theorem dX0_far_21 : eb_dj cX0_far 21 (.goto 4) 4 24 25 := by decide +kernel
theorem dX0_far_24 : eb_dc cX0_far 24 (.iconst 0) 1 25 := by decide +kernel
theorem dX0_far_25 : eb_dc cX0_far 25 (.invokevirtual 75) 3 28 := by decide +kernel
theorem dX0_far_28 : eb_dc cX0_far 28 (.istore 4) 2 30 := by decide +kernel
theorem dX0_far_30 : eb_dc cX0_far 30 (.iload 4) 2 32 := by decide +kernel
theorem dX0_far_32 : eb_dc cX0_far 32 (.iconst 1) 1 33 := by decide +kernel
theorem dX0_far_33 : eb_dj cX0_far 33 (.if_icmp .eq 8) 8 36 41 := by decide +kernel
theorem dX0_far_36 : eb_dc cX0_far 36 (.iload 4) 2 38 := by decide +kernel
theorem dX0_far_38 : eb_dj cX0_far 38 (.goto 14) 14 41 52 := by decide +kernel
theorem dX0_far_41 : eb_dc cX0_far 41 (.aload_n 0) 1 42 := by decide +kernel
theorem dX0_far_42 : eb_dc cX0_far 42 (.iload_n 1) 1 43 := by decide +kernel
theorem dX0_far_43 : eb_dc cX0_far 43 (.invokevirtual 151) 3 46 := by decide +kernel
theorem dX0_far_46 : eb_dc cX0_far 46 (.iload_n 2) 1 47 := by decide +kernel
theorem dX0_far_47 : eb_dc cX0_far 47 (.invokevirtual 160) 3 50 := by decide +kernel
theorem dX0_far_50 : eb_dc cX0_far 50 (.iload_n 3) 1 51 := by decide +kernel
theorem dX0_far_51 : eb_dc cX0_far 51 (.iaload) 1 52 := by decide +kernel
theorem dX0_far_52 : eb_dc cX0_far 52 (.ireturn) 1 53 := by decide +kernel
theorem ctX0_far {l : Launch} {Γ : eb_C} {bc bs : Nat} {st : eb_S} {a0 : Nat} {a1 : Int32} {a2 : Int32} {a3 : Int32} {K : Int32 → eb_S → Prop} (h : MX0_far Γ bc bs st a0 a1 a2 a3 K) : eb_Ct l Γ yX0_far cX0_far 5 (some .int) (rmX0_far bc bs) [.ref a0, .int a1, .int a2, .int a3] st (eb_oI K) := by
  refine eb_of (by decide) (Nat.le_of_ble_eq_true rfl) (fun X P hP hX0 => ?_)
  suffices hgo : (0 ≤ bc ∧ 0 ≤ bs) → eb_G l Γ P X cX0_far RX0 5 (some .int) (rmX0_far bc bs) 0 [(0, .ref a0), (1, .int a1), (2, .int a2), (3, .int a3)] [] st 0 0 from hgo ⟨Nat.zero_le _, Nat.zero_le _⟩
  intro hu
  refine eg_aload_n 0 dX0_far_0 rfl rfl ?_
  refine eg_iload_n 1 dX0_far_1 rfl rfl ?_
  refine eg_aload_n 0 dX0_far_2 rfl rfl ?_
  refine eg_iload_n 1 dX0_far_3 rfl rfl ?_
  refine eg_iload_n 2 dX0_far_4 rfl rfl ?_
  obtain ⟨hcs, h⟩ := h
  obtain ⟨c3, s4, hca, h⟩ := h
  have hM0 := h
  clear h
  refine ec_VIa (rest := [.int a1, .ref a0]) (ctX0_isCorner hM0) (lw_V q583 q585 qs11 q74 q586) rfl rfl hcs nX0_isCorner ⟨Nat.le_of_ble_eq_true rfl, Nat.le_of_ble_eq_true rfl⟩ ⟨rfl, rfl⟩ hca rfl rfl (Nat.le_of_ble_eq_true rfl) dX0_far_5 (fun v1 g2 h => ?_)
  clear hM0
  replace hu := hca
  refine eb_jp4_e (J := fun (s5 : Int32) (g6 : eb_S) (u7 : Nat) (w8 : Nat) => (u7 ≤ bc ∧ w8 ≤ bs) → eb_G l Γ P X cX0_far RX0 5 (some .int) (rmX0_far bc bs) 25 [(0, .ref a0), (1, .int a1), (2, .int a2), (3, .int a3)] [.int s5, .int a1, .ref a0] g6 u7 w8) h ?_ ?_
  · clear h
    intro s5 g6 u7 w8 h hu
    obtain ⟨hcs, h⟩ := h
    obtain ⟨c11, s12, hca, h⟩ := h
    have hM0 := h
    clear h
    refine ec_VIa (rest := []) (ctX0_why hM0) (lw_V q237 q239 qs1 q74 q240) rfl rfl hcs nX0_why ⟨Nat.le_of_ble_eq_true rfl, Nat.le_of_ble_eq_true rfl⟩ ⟨rfl, rfl⟩ hca rfl rfl (Nat.le_of_ble_eq_true rfl) dX0_far_25 (fun v9 g10 h => ?_)
    clear hM0
    replace hu := hca
    refine eg_istore (lv' := [(4, .int v9), (0, .ref a0), (1, .int a1), (2, .int a2), (3, .int a3)]) dX0_far_28 (Nat.le_of_ble_eq_true rfl) rfl ?_
    refine eg_iload 0 dX0_far_30 rfl ?_
    refine eg_iconst dX0_far_32 kc_1 ?_
    refine eg_icmp_eq dX0_far_33 (fun c24 => ?_) (fun c24 => ?_)
    · replace h := h.1 c24
      refine eg_aload_n 1 dX0_far_41 rfl rfl ?_
      refine eg_iload_n 2 dX0_far_42 rfl rfl ?_
      obtain ⟨hcs, h⟩ := h
      obtain ⟨c15, s16, hca, h⟩ := h
      have hM0 := h
      clear h
      refine ec_VRa (rest := []) (ctX0_netOf hM0) (lw_V q591 q593 qs12 q74 q594) rfl rfl hcs nX0_netOf ⟨Nat.le_of_ble_eq_true rfl, Nat.le_of_ble_eq_true rfl⟩ ⟨rfl, rfl⟩ hca rfl rfl (Nat.le_of_ble_eq_true rfl) dX0_far_43 (fun v13 g14 h => ?_)
      clear hM0
      replace hu := hca
      refine eg_iload_n 3 dX0_far_46 rfl rfl ?_
      obtain ⟨p17, rfl, h⟩ := h
      obtain ⟨hcs, h⟩ := h
      obtain ⟨c20, s21, hca, h⟩ := h
      have hM0 := h
      clear h
      refine ec_URa (rest := []) (ctX10_far hM0) gUX0_160 rfl hcs nX10_far ⟨Nat.le_of_ble_eq_true rfl, Nat.le_of_ble_eq_true rfl⟩ ⟨rfl, rfl⟩ hca rfl rfl (Nat.le_of_ble_eq_true rfl) dX0_far_47 (fun v18 g19 h => ?_)
      clear hM0
      replace hu := hca
      refine eg_iload_n 4 dX0_far_50 rfl rfl ?_
      obtain ⟨p22, rfl, h⟩ := h
      obtain ⟨nA, fA, he, hb, h⟩ := h
      refine eh_iald he hb dX0_far_51 (fun v23 ev23 => ?_)
      replace h := h v23 ev23
      exact eg_iret dX0_far_52 hu.1 hu.2 (hP _ _ ⟨_, rfl, h⟩)
    · replace h := h.2 c24
      refine eg_iload 0 dX0_far_36 rfl ?_
      refine eg_goto dX0_far_38 ?_
      exact eg_iret dX0_far_52 hu.1 hu.2 (hP _ _ ⟨_, rfl, h⟩)
  · clear h
    intro k25 hk25 h
    refine eg_if_eq dX0_far_8 (fun c31 => ?_) (fun c31 => ?_)
    · replace h := h.1 c31
      refine eg_iconst dX0_far_24 kc_0 ?_
      exact hk25 0 g2 (0 + c3) (0 + s4) h hu
    · replace h := h.2 c31
      refine eg_aload_n 0 dX0_far_11 rfl rfl ?_
      refine eg_iload_n 1 dX0_far_12 rfl rfl ?_
      refine eg_iload_n 3 dX0_far_13 rfl rfl ?_
      obtain ⟨hcs, h⟩ := h
      obtain ⟨c28, s29, hca, h⟩ := h
      have hM0 := h
      clear h
      refine ec_VIa (rest := [.int a1, .ref a0]) (ctX0_isCorner hM0) (lw_V q583 q585 qs11 q74 q586) rfl rfl hcs nX0_isCorner ⟨Nat.le_of_ble_eq_true rfl, Nat.le_of_ble_eq_true rfl⟩ ⟨rfl, rfl⟩ hca rfl rfl (Nat.le_of_ble_eq_true rfl) dX0_far_14 (fun v26 g27 h => ?_)
      clear hM0
      replace hu := hca
      refine eg_if_eq dX0_far_17 (fun c30 => ?_) (fun c30 => ?_)
      · replace h := h.1 c30
        refine eg_iconst dX0_far_24 kc_0 ?_
        exact hk25 0 g27 (((0 + c3) + c28)) (((0 + s4) + s29)) h hu
      · replace h := h.2 c30
        refine eg_iconst dX0_far_20 kc_1 ?_
        refine eg_goto dX0_far_21 ?_
        exact hk25 1 g27 (((0 + c3) + c28)) (((0 + s4) + s29)) h hu
def MX0_layer (Γ : eb_C) (bc bs : Nat) (st : eb_S) (a0 : Nat) (a1 : Int32) (a2 : Int32) (K : Int32 → eb_S → Prop) : Prop :=
  eb_jp1 (fun (s1 : Int32) => eb_cs st a0 [0] ∧ ∃ c4 s5 : Nat, (0 + c4 ≤ bc ∧ 0 + s5 ≤ bs) ∧ MX0_why Γ c4 s5 st a0 a1 s1 (fun v2 g3 => eb_br (v2 = 1) (eb_cs g3 a0 [0] ∧ ∃ c8 s9 : Nat, ((0 + c4) + c8 ≤ bc ∧ (0 + s5) + s9 ≤ bs) ∧ MX0_netOf Γ c8 s9 g3 a0 a1 (fun v6 g7 => eb_nn v6 (fun p10 => eb_cs g7 p10 [9, 10, 13] ∧ ∃ c13 s14 : Nat, ((((0 + c4) + c8)) + c13 ≤ bc ∧ (((0 + s5) + s9)) + s14 ≤ bs) ∧ MX10_far Γ c13 s14 g7 p10 0 (fun v11 g12 => eb_nn v11 (fun p15 => eb_ln Γ g12 p15 0 (fun v16 => eb_loop2 (fun r19 (x4_17 : Int32) (x7_18 : Int32) => eb_br (v16 ≤ x7_18) (K x4_17 g12) (eb_li Γ g12 p15 0 x7_18 (fun v20 => eb_jp1 (fun (s21 : Int32) => r19 (x4_17 + s21) (x7_18 + 1)) (fun k22 => eb_br (v20 = a2) (k22 1) (k22 0))))) 0 0)))))) (K v2 g3))) (fun k26 => eb_br (a2 < 0) (k26 0) (k26 1))
abbrev rmX0_layer (bc bs : Nat) : Room := { frames := 14, cells := bc, slots := bs, locals := 306 }
theorem nX0_layer : eb_ar yX0_layer 2 := by decide +kernel
theorem dX0_layer_0 : eb_dc cX0_layer 0 (.aload_n 0) 1 1 := by decide +kernel
theorem dX0_layer_1 : eb_dc cX0_layer 1 (.iload_n 1) 1 2 := by decide +kernel
theorem dX0_layer_2 : eb_dc cX0_layer 2 (.iload_n 2) 1 3 := by decide +kernel
theorem dX0_layer_3 : eb_dj cX0_layer 3 (.ifCond .lt 7) 7 6 10 := by decide +kernel
theorem dX0_layer_6 : eb_dc cX0_layer 6 (.iconst 1) 1 7 := by decide +kernel
theorem dX0_layer_7 : eb_dj cX0_layer 7 (.goto 4) 4 10 11 := by decide +kernel
theorem dX0_layer_10 : eb_dc cX0_layer 10 (.iconst 0) 1 11 := by decide +kernel
theorem dX0_layer_11 : eb_dc cX0_layer 11 (.invokevirtual 75) 3 14 := by decide +kernel
theorem dX0_layer_14 : eb_dc cX0_layer 14 (.istore_n 3) 1 15 := by decide +kernel
theorem dX0_layer_15 : eb_dc cX0_layer 15 (.iload_n 3) 1 16 := by decide +kernel
theorem dX0_layer_16 : eb_dc cX0_layer 16 (.iconst 1) 1 17 := by decide +kernel
theorem dX0_layer_17 : eb_dj cX0_layer 17 (.if_icmp .eq 5) 5 20 22 := by decide +kernel
theorem dX0_layer_20 : eb_dc cX0_layer 20 (.iload_n 3) 1 21 := by decide +kernel
theorem dX0_layer_21 : eb_dc cX0_layer 21 (.ireturn) 1 22 := by decide +kernel
theorem dX0_layer_22 : eb_dc cX0_layer 22 (.iconst 0) 1 23 := by decide +kernel
theorem dX0_layer_23 : eb_dc cX0_layer 23 (.istore 4) 2 25 := by decide +kernel
theorem dX0_layer_25 : eb_dc cX0_layer 25 (.aload_n 0) 1 26 := by decide +kernel
theorem dX0_layer_26 : eb_dc cX0_layer 26 (.iload_n 1) 1 27 := by decide +kernel
theorem dX0_layer_27 : eb_dc cX0_layer 27 (.invokevirtual 151) 3 30 := by decide +kernel
theorem dX0_layer_30 : eb_dc cX0_layer 30 (.iconst 0) 1 31 := by decide +kernel
theorem dX0_layer_31 : eb_dc cX0_layer 31 (.invokevirtual 160) 3 34 := by decide +kernel
theorem dX0_layer_34 : eb_dc cX0_layer 34 (.astore 5) 2 36 := by decide +kernel
theorem dX0_layer_36 : eb_dc cX0_layer 36 (.aload 5) 2 38 := by decide +kernel
theorem dX0_layer_38 : eb_dc cX0_layer 38 (.arraylength) 1 39 := by decide +kernel
theorem dX0_layer_39 : eb_dc cX0_layer 39 (.istore 6) 2 41 := by decide +kernel
theorem dX0_layer_41 : eb_dc cX0_layer 41 (.iconst 0) 1 42 := by decide +kernel
theorem dX0_layer_42 : eb_dc cX0_layer 42 (.istore 7) 2 44 := by decide +kernel
theorem dX0_layer_44 : eb_dc cX0_layer 44 (.iload 7) 2 46 := by decide +kernel
theorem dX0_layer_46 : eb_dc cX0_layer 46 (.iload 6) 2 48 := by decide +kernel
theorem dX0_layer_48 : eb_dj cX0_layer 48 (.if_icmp .ge 32) 32 51 80 := by decide +kernel
theorem dX0_layer_51 : eb_dc cX0_layer 51 (.aload 5) 2 53 := by decide +kernel
theorem dX0_layer_53 : eb_dc cX0_layer 53 (.iload 7) 2 55 := by decide +kernel
theorem dX0_layer_55 : eb_dc cX0_layer 55 (.iaload) 1 56 := by decide +kernel
theorem dX0_layer_56 : eb_dc cX0_layer 56 (.istore 8) 2 58 := by decide +kernel
theorem dX0_layer_58 : eb_dc cX0_layer 58 (.iload 4) 2 60 := by decide +kernel
theorem dX0_layer_60 : eb_dc cX0_layer 60 (.iload 8) 2 62 := by decide +kernel
theorem dX0_layer_62 : eb_dc cX0_layer 62 (.iload_n 2) 1 63 := by decide +kernel
theorem dX0_layer_63 : eb_dj cX0_layer 63 (.if_icmp .ne 7) 7 66 70 := by decide +kernel
theorem dX0_layer_66 : eb_dc cX0_layer 66 (.iconst 1) 1 67 := by decide +kernel
theorem dX0_layer_67 : eb_dj cX0_layer 67 (.goto 4) 4 70 71 := by decide +kernel
theorem dX0_layer_70 : eb_dc cX0_layer 70 (.iconst 0) 1 71 := by decide +kernel
theorem dX0_layer_71 : eb_dc cX0_layer 71 (.iadd) 1 72 := by decide +kernel
theorem dX0_layer_72 : eb_dc cX0_layer 72 (.istore 4) 2 74 := by decide +kernel
theorem dX0_layer_74 : eb_dc cX0_layer 74 (.iinc 7 1) 3 77 := by decide +kernel
theorem dX0_layer_77 : eb_dj cX0_layer 77 (.goto (-33)) (-33) 80 44 := by decide +kernel
theorem dX0_layer_80 : eb_dc cX0_layer 80 (.iload 4) 2 82 := by decide +kernel
theorem dX0_layer_82 : eb_dc cX0_layer 82 (.ireturn) 1 83 := by decide +kernel
theorem ctX0_layer {l : Launch} {Γ : eb_C} {bc bs : Nat} {st : eb_S} {a0 : Nat} {a1 : Int32} {a2 : Int32} {K : Int32 → eb_S → Prop} (h : MX0_layer Γ bc bs st a0 a1 a2 K) : eb_Ct l Γ yX0_layer cX0_layer 9 (some .int) (rmX0_layer bc bs) [.ref a0, .int a1, .int a2] st (eb_oI K) := by
  refine eb_of (by decide) (Nat.le_of_ble_eq_true rfl) (fun X P hP hX0 => ?_)
  suffices hgo : (0 ≤ bc ∧ 0 ≤ bs) → eb_G l Γ P X cX0_layer RX0 9 (some .int) (rmX0_layer bc bs) 0 [(0, .ref a0), (1, .int a1), (2, .int a2)] [] st 0 0 from hgo ⟨Nat.zero_le _, Nat.zero_le _⟩
  intro hu
  refine eg_aload_n 0 dX0_layer_0 rfl rfl ?_
  refine eg_iload_n 1 dX0_layer_1 rfl rfl ?_
  refine eg_iload_n 2 dX0_layer_2 rfl rfl ?_
  refine eb_jp1_e (J := fun (s1 : Int32) => (0 ≤ bc ∧ 0 ≤ bs) → eb_G l Γ P X cX0_layer RX0 9 (some .int) (rmX0_layer bc bs) 11 [(0, .ref a0), (1, .int a1), (2, .int a2)] [.int s1, .int a1, .ref a0] st 0 0) h ?_ ?_
  · clear h
    intro s1 h hu
    obtain ⟨hcs, h⟩ := h
    obtain ⟨c4, s5, hca, h⟩ := h
    have hM0 := h
    clear h
    refine ec_VIa (rest := []) (ctX0_why hM0) (lw_V q237 q239 qs1 q74 q240) rfl rfl hcs nX0_why ⟨Nat.le_of_ble_eq_true rfl, Nat.le_of_ble_eq_true rfl⟩ ⟨rfl, rfl⟩ hca rfl rfl (Nat.le_of_ble_eq_true rfl) dX0_layer_11 (fun v2 g3 h => ?_)
    clear hM0
    replace hu := hca
    refine eg_istore_n (lv' := [(3, .int v2), (0, .ref a0), (1, .int a1), (2, .int a2)]) dX0_layer_14 rfl (Nat.le_of_ble_eq_true rfl) rfl ?_
    refine eg_iload_n 0 dX0_layer_15 rfl rfl ?_
    refine eg_iconst dX0_layer_16 kc_1 ?_
    refine eg_icmp_eq dX0_layer_17 (fun c25 => ?_) (fun c25 => ?_)
    · replace h := h.1 c25
      refine eg_iconst dX0_layer_22 kc_0 ?_
      refine eg_istore (lv' := [(4, .int 0), (3, .int v2), (0, .ref a0), (1, .int a1), (2, .int a2)]) dX0_layer_23 (Nat.le_of_ble_eq_true rfl) rfl ?_
      refine eg_aload_n 2 dX0_layer_25 rfl rfl ?_
      refine eg_iload_n 3 dX0_layer_26 rfl rfl ?_
      obtain ⟨hcs, h⟩ := h
      obtain ⟨c8, s9, hca, h⟩ := h
      have hM0 := h
      clear h
      refine ec_VRa (rest := []) (ctX0_netOf hM0) (lw_V q591 q593 qs12 q74 q594) rfl rfl hcs nX0_netOf ⟨Nat.le_of_ble_eq_true rfl, Nat.le_of_ble_eq_true rfl⟩ ⟨rfl, rfl⟩ hca rfl rfl (Nat.le_of_ble_eq_true rfl) dX0_layer_27 (fun v6 g7 h => ?_)
      clear hM0
      replace hu := hca
      refine eg_iconst dX0_layer_30 kc_0 ?_
      obtain ⟨p10, rfl, h⟩ := h
      obtain ⟨hcs, h⟩ := h
      obtain ⟨c13, s14, hca, h⟩ := h
      have hM0 := h
      clear h
      refine ec_URa (rest := []) (ctX10_far hM0) gUX0_160 rfl hcs nX10_far ⟨Nat.le_of_ble_eq_true rfl, Nat.le_of_ble_eq_true rfl⟩ ⟨rfl, rfl⟩ hca rfl rfl (Nat.le_of_ble_eq_true rfl) dX0_layer_31 (fun v11 g12 h => ?_)
      clear hM0
      replace hu := hca
      refine eh_astore (i := 5) (v := v11) (lv' := [(5, va_rf v11), (4, .int 0), (3, .int v2), (0, .ref a0), (1, .int a1), (2, .int a2)]) dX0_layer_34 (Nat.le_of_ble_eq_true rfl) rfl ?_
      refine eh_aload (v := v11) 0 dX0_layer_36 rfl ?_
      obtain ⟨p15, rfl, h⟩ := h
      obtain ⟨xA, he, h⟩ := h
      refine eh_alen (t := 0) (ty := .int) he rfl dX0_layer_38 ?_
      generalize Int32.ofNat xA.1 = v16 at h ⊢
      refine eg_istore (lv' := [(6, .int v16), (5, .ref p15), (4, .int 0), (3, .int v2), (0, .ref a0), (1, .int a1), (2, .int a2)]) dX0_layer_39 (Nat.le_of_ble_eq_true rfl) rfl ?_
      refine eg_iconst dX0_layer_41 kc_0 ?_
      refine eg_istore (lv' := [(7, .int 0), (6, .int v16), (5, .ref p15), (4, .int 0), (3, .int v2), (0, .ref a0), (1, .int a1), (2, .int a2)]) dX0_layer_42 (Nat.le_of_ble_eq_true rfl) rfl ?_
      refine eg_sub [7, 3, 2, 1, 0] rfl ?_
      refine eb_loop2_e (J := fun (x4_17 : Int32) (x7_18 : Int32) => ((((0 + c4) + c8) + c13) ≤ bc ∧ (((0 + s5) + s9) + s14) ≤ bs) → eb_G l Γ P X cX0_layer RX0 9 (some .int) (rmX0_layer bc bs) 44 [(2, .int a2), (4, .int x4_17), (5, .ref p15), (6, .int v16), (7, .int x7_18)] [] g12 (((0 + c4) + c8) + c13) (((0 + s5) + s9) + s14)) h ?_ hu
      clear h
      clear hu
      intro r19 hr19 x4_17 x7_18 h hu
      refine eg_iload 4 dX0_layer_44 rfl ?_
      refine eg_iload 3 dX0_layer_46 rfl ?_
      refine eg_icmp_ge dX0_layer_48 (fun c24 => ?_) (fun c24 => ?_)
      · replace h := h.1 c24
        refine eg_iload 1 dX0_layer_80 rfl ?_
        exact eg_iret dX0_layer_82 hu.1 hu.2 (hP _ _ ⟨_, rfl, h⟩)
      · replace h := h.2 c24
        refine eg_aload 2 dX0_layer_51 rfl ?_
        refine eg_iload 4 dX0_layer_53 rfl ?_
        obtain ⟨nA, fA, he, hb, h⟩ := h
        refine eh_iald he hb dX0_layer_55 (fun v20 ev20 => ?_)
        replace h := h v20 ev20
        refine eg_istore (lv' := [(8, .int v20), (2, .int a2), (4, .int x4_17), (5, .ref p15), (6, .int v16), (7, .int x7_18)]) dX0_layer_56 (Nat.le_of_ble_eq_true rfl) rfl ?_
        refine eg_iload 2 dX0_layer_58 rfl ?_
        refine eg_iload 0 dX0_layer_60 rfl ?_
        refine eg_iload_n 1 dX0_layer_62 rfl rfl ?_
        refine eb_jp1_e (J := fun (s21 : Int32) => ((((0 + c4) + c8) + c13) ≤ bc ∧ (((0 + s5) + s9) + s14) ≤ bs) → eb_G l Γ P X cX0_layer RX0 9 (some .int) (rmX0_layer bc bs) 71 [(2, .int a2), (5, .ref p15), (6, .int v16), (7, .int x7_18)] [.int s21, .int x4_17] g12 (((0 + c4) + c8) + c13) (((0 + s5) + s9) + s14)) h ?_ ?_
        · clear h
          intro s21 h hu
          refine eg_iadd dX0_layer_71 ?_
          refine eg_istore (lv' := [(4, .int (x4_17 + s21)), (2, .int a2), (5, .ref p15), (6, .int v16), (7, .int x7_18)]) dX0_layer_72 (Nat.le_of_ble_eq_true rfl) rfl ?_
          refine eg_iinc (j := 4) (lv' := [(7, .int (x7_18 + 1)), (4, .int (x4_17 + s21)), (2, .int a2), (5, .ref p15), (6, .int v16)]) dX0_layer_74 rfl (by rw [kc_1]) (Nat.le_of_ble_eq_true rfl) rfl ?_
          refine eg_goto dX0_layer_77 ?_
          exact eg_sub [2, 1, 3, 4, 0] rfl (hr19 (x4_17 + s21) (x7_18 + 1) h hu)
        · clear h
          intro k22 hk22 h
          refine eg_icmp_ne dX0_layer_63 (fun c23 => ?_) (fun c23 => ?_)
          · replace h := h.2 c23
            refine eg_iconst dX0_layer_70 kc_0 ?_
            exact eg_sub [1, 3, 4, 5] rfl (hk22 0 h hu)
          · replace h := h.1 c23
            refine eg_iconst dX0_layer_66 kc_1 ?_
            refine eg_goto dX0_layer_67 ?_
            exact eg_sub [1, 3, 4, 5] rfl (hk22 1 h hu)
    · replace h := h.2 c25
      refine eg_iload_n 0 dX0_layer_20 rfl rfl ?_
      exact eg_iret dX0_layer_21 hu.1 hu.2 (hP _ _ ⟨_, rfl, h⟩)
  · clear h
    intro k26 hk26 h
    refine eg_if_lt dX0_layer_3 (fun c27 => ?_) (fun c27 => ?_)
    · replace h := h.1 c27
      refine eg_iconst dX0_layer_10 kc_0 ?_
      exact hk26 0 h hu
    · replace h := h.2 c27
      refine eg_iconst dX0_layer_6 kc_1 ?_
      refine eg_goto dX0_layer_7 ?_
      exact hk26 1 h hu
theorem gUX0_184 : ∀ c ∈ [9, 10, 13], ∃ (C : String) (T : u_T) (N : Nat), eb_cl[c]? = some (C, T, N) ∧ GoodIn lw_all (va_wsU "EvenBodies" 184 C "EvenBodies$Net" ⟨"EvenBodies$Net", "at", "(II)I"⟩ yX10_at (ws_ yX10_at cX10_at 3 (some .int))) := by
  intro c hc
  simp only [List.mem_cons, List.not_mem_nil, or_false] at hc
  rcases hc with rfl | rfl | rfl
  · exact ⟨_, _, _, rfl, lw_U q675 q621 q620 q619 q87 q624⟩
  · exact ⟨_, _, _, rfl, lw_U q675 q621 q622 q619 q87 q624⟩
  · exact ⟨_, _, _, rfl, lw_U q675 q621 q623 q619 q87 q624⟩
def MX0_ways (Γ : eb_C) (bc bs : Nat) (st : eb_S) (a0 : Nat) (a1 : Int32) (a2 : Int32) (a3 : Int32) (a4 : Int32) (K : Int64 → eb_S → Prop) : Prop :=
  eb_cs st a0 [0] ∧ ∃ c3 s4 : Nat, (0 + c3 ≤ bc ∧ 0 + s4 ≤ bs) ∧ MX0_isCorner Γ c3 s4 st a0 a1 a2 (fun v1 g2 => eb_jp4 (fun (s5 : Int32) (g6 : eb_S) (u7 : Nat) (w8 : Nat) => eb_cs g6 a0 [0] ∧ ∃ c11 s12 : Nat, (u7 + c11 ≤ bc ∧ w8 + s12 ≤ bs) ∧ MX0_why Γ c11 s12 g6 a0 a1 s5 (fun v9 g10 => eb_br (v9 = 1) (eb_cs g10 a0 [0] ∧ ∃ c15 s16 : Nat, ((u7 + c11) + c15 ≤ bc ∧ (w8 + s12) + s16 ≤ bs) ∧ MX0_netOf Γ c15 s16 g10 a0 a1 (fun v13 g14 => eb_nn v13 (fun p17 => eb_ni g14 p17 0 (fun v18 => eb_ok1 v18 ∧ (eb_mk g14 (eb_la Γ (v18.toNatClampNeg) (fun _ => 0)) (v18.toNatClampNeg) bc bs (((u7 + c11) + c15)) (((w8 + s12) + s16)) (fun p19 g20 => eb_wl Γ g20 p19 a2 1 (fun g21 => eb_jp4 (fun (x7_22 : Option Nat) (g23 : eb_S) (u24 : Nat) (w25 : Nat) => eb_nn x7_22 (fun p26 => eb_ll Γ g23 p26 a3 (fun v27 => K v27 g23))) (fun k28 => eb_loop5 (fun r34 (x7_29 : Option Nat) (x8_30 : Int32) (g31 : eb_S) (u32 : Nat) (w33 : Nat) => eb_br (a4 ≤ x8_30) (k28 x7_29 g31 u32 w33) (eb_ni g31 p17 0 (fun v35 => eb_ok1 v35 ∧ (eb_mk g31 (eb_la Γ (v35.toNatClampNeg) (fun _ => 0)) (v35.toNatClampNeg) bc bs u32 w33 (fun p36 g37 => eb_jp1 (fun (g38 : eb_S) => r34 (some p36) (x8_30 + 1) g38 (u32 + 1) ((w33 + (v35.toNatClampNeg)))) (fun k39 => eb_loop2 (fun r42 (x10_40 : Int32) (g41 : eb_S) => eb_ni g41 p17 0 (fun v43 => eb_br (v43 ≤ x10_40) (k39 g41) (eb_jp1 (fun (g44 : eb_S) => r42 (x10_40 + 1) g44) (fun k45 => eb_loop2 (fun r48 (x11_46 : Int32) (g47 : eb_S) => eb_cs g47 p17 [9, 10, 13] ∧ MX10_degree Γ g47 p17 x10_40 (fun v49 => eb_br (v49 ≤ x11_46) (k45 g47) (eb_cs g47 p17 [9, 10, 13] ∧ MX10_at Γ g47 p17 x10_40 x11_46 (fun v53 => eb_ll Γ g47 p36 v53 (fun v57 => eb_nn x7_29 (fun p58 => eb_ll Γ g47 p58 x10_40 (fun v59 => eb_wl Γ g47 p36 v53 (v57 + v59) (fun g60 => r48 (x11_46 + 1) g60)))))))) 0 g41)))) 0 g37)))))) (some p19) 0 g21 ((((u7 + c11) + c15) + 1)) ((((w8 + s12) + s16) + (v18.toNatClampNeg))))))))))) (K (Int32.toInt64 v9) g10))) (fun k65 => eb_br (v1 = 0) (k65 0 g2 (0 + c3) (0 + s4)) (eb_cs g2 a0 [0] ∧ ∃ c68 s69 : Nat, ((0 + c3) + c68 ≤ bc ∧ (0 + s4) + s69 ≤ bs) ∧ MX0_isCorner Γ c68 s69 g2 a0 a1 a3 (fun v66 g67 => eb_br (v66 = 0) (k65 0 g67 (((0 + c3) + c68)) (((0 + s4) + s69))) (MX0_in a4 0 12 (fun v70 => eb_br (v70 = 0) (k65 0 g67 (((0 + c3) + c68)) (((0 + s4) + s69))) (k65 1 g67 (((0 + c3) + c68)) (((0 + s4) + s69)))))))))
abbrev rmX0_ways (bc bs : Nat) : Room := { frames := 15, cells := bc, slots := bs, locals := 329 }
theorem nX0_ways : eb_ar yX0_ways 4 := by decide +kernel
theorem dX0_ways_0 : eb_dc cX0_ways 0 (.aload_n 0) 1 1 := by decide +kernel
theorem dX0_ways_1 : eb_dc cX0_ways 1 (.iload_n 1) 1 2 := by decide +kernel
theorem dX0_ways_2 : eb_dc cX0_ways 2 (.aload_n 0) 1 3 := by decide +kernel
theorem dX0_ways_3 : eb_dc cX0_ways 3 (.iload_n 1) 1 4 := by decide +kernel
theorem dX0_ways_4 : eb_dc cX0_ways 4 (.iload_n 2) 1 5 := by decide +kernel
theorem dX0_ways_5 : eb_dc cX0_ways 5 (.invokevirtual 145) 3 8 := by decide +kernel
theorem dX0_ways_8 : eb_dj cX0_ways 8 (.ifCond .eq 27) 27 11 35 := by decide +kernel
theorem dX0_ways_11 : eb_dc cX0_ways 11 (.aload_n 0) 1 12 := by decide +kernel
theorem dX0_ways_12 : eb_dc cX0_ways 12 (.iload_n 1) 1 13 := by decide +kernel
theorem dX0_ways_13 : eb_dc cX0_ways 13 (.iload_n 3) 1 14 := by decide +kernel
theorem dX0_ways_14 : eb_dc cX0_ways 14 (.invokevirtual 145) 3 17 := by decide +kernel
theorem dX0_ways_17 : eb_dj cX0_ways 17 (.ifCond .eq 18) 18 20 35 := by decide +kernel
theorem dX0_ways_20 : eb_dc cX0_ways 20 (.iload 4) 2 22 := by decide +kernel
theorem dX0_ways_22 : eb_dc cX0_ways 22 (.iconst 0) 1 23 := by decide +kernel
theorem dX0_ways_23 : eb_dc cX0_ways 23 (.bipush 12) 2 25 := by decide +kernel
theorem dX0_ways_25 : eb_dc cX0_ways 25 (.invokestatic 26) 3 28 := by decide +kernel
theorem dX0_ways_28 : eb_dj cX0_ways 28 (.ifCond .eq 7) 7 31 35 := by decide +kernel
theorem dX0_ways_31 : eb_dc cX0_ways 31 (.iconst 1) 1 32 := by decide +kernel
theorem dX0_ways_32 : eb_dj cX0_ways 32 (.goto 4) 4 35 36 := by decide +kernel
theorem dX0_ways_35 : eb_dc cX0_ways 35 (.iconst 0) 1 36 := by decide +kernel
theorem dX0_ways_36 : eb_dc cX0_ways 36 (.invokevirtual 75) 3 39 := by decide +kernel
theorem dX0_ways_39 : eb_dc cX0_ways 39 (.istore 5) 2 41 := by decide +kernel
theorem dX0_ways_41 : eb_dc cX0_ways 41 (.iload 5) 2 43 := by decide +kernel
theorem dX0_ways_43 : eb_dc cX0_ways 43 (.iconst 1) 1 44 := by decide +kernel
theorem dX0_ways_44 : eb_dj cX0_ways 44 (.if_icmp .eq 7) 7 47 51 := by decide +kernel
theorem dX0_ways_47 : eb_dc cX0_ways 47 (.iload 5) 2 49 := by decide +kernel
theorem dX0_ways_49 : eb_dc cX0_ways 49 (.i2l) 1 50 := by decide +kernel
theorem dX0_ways_50 : eb_dc cX0_ways 50 (.lreturn) 1 51 := by decide +kernel
theorem dX0_ways_51 : eb_dc cX0_ways 51 (.aload_n 0) 1 52 := by decide +kernel
theorem dX0_ways_52 : eb_dc cX0_ways 52 (.iload_n 1) 1 53 := by decide +kernel
theorem dX0_ways_53 : eb_dc cX0_ways 53 (.invokevirtual 151) 3 56 := by decide +kernel
theorem dX0_ways_56 : eb_dc cX0_ways 56 (.astore 6) 2 58 := by decide +kernel
theorem dX0_ways_58 : eb_dc cX0_ways 58 (.aload 6) 2 60 := by decide +kernel
theorem dX0_ways_60 : eb_dc cX0_ways 60 (.getfield 183) 3 63 := by decide +kernel
theorem dX0_ways_63 : eb_dc cX0_ways 63 (.newarray .long) 2 65 := by decide +kernel
theorem dX0_ways_65 : eb_dc cX0_ways 65 (.astore 7) 2 67 := by decide +kernel
theorem dX0_ways_67 : eb_dc cX0_ways 67 (.aload 7) 2 69 := by decide +kernel
theorem dX0_ways_69 : eb_dc cX0_ways 69 (.iload_n 2) 1 70 := by decide +kernel
theorem dX0_ways_70 : eb_dc cX0_ways 70 (.lconst 1) 1 71 := by decide +kernel
theorem dX0_ways_71 : eb_dc cX0_ways 71 (.lastore) 1 72 := by decide +kernel
theorem dX0_ways_72 : eb_dc cX0_ways 72 (.iconst 0) 1 73 := by decide +kernel
theorem dX0_ways_73 : eb_dc cX0_ways 73 (.istore 8) 2 75 := by decide +kernel
theorem dX0_ways_75 : eb_dc cX0_ways 75 (.iload 8) 2 77 := by decide +kernel
theorem dX0_ways_77 : eb_dc cX0_ways 77 (.iload 4) 2 79 := by decide +kernel
theorem dX0_ways_79 : eb_dj cX0_ways 79 (.if_icmp .ge 82) 82 82 161 := by decide +kernel
theorem dX0_ways_82 : eb_dc cX0_ways 82 (.aload 6) 2 84 := by decide +kernel
theorem dX0_ways_84 : eb_dc cX0_ways 84 (.getfield 183) 3 87 := by decide +kernel
theorem dX0_ways_87 : eb_dc cX0_ways 87 (.newarray .long) 2 89 := by decide +kernel
theorem dX0_ways_89 : eb_dc cX0_ways 89 (.astore 9) 2 91 := by decide +kernel
theorem dX0_ways_91 : eb_dc cX0_ways 91 (.iconst 0) 1 92 := by decide +kernel
theorem dX0_ways_92 : eb_dc cX0_ways 92 (.istore 10) 2 94 := by decide +kernel
theorem dX0_ways_94 : eb_dc cX0_ways 94 (.iload 10) 2 96 := by decide +kernel
theorem dX0_ways_96 : eb_dc cX0_ways 96 (.aload 6) 2 98 := by decide +kernel
theorem dX0_ways_98 : eb_dc cX0_ways 98 (.getfield 183) 3 101 := by decide +kernel
theorem dX0_ways_101 : eb_dj cX0_ways 101 (.if_icmp .ge 50) 50 104 151 := by decide +kernel
theorem dX0_ways_104 : eb_dc cX0_ways 104 (.iconst 0) 1 105 := by decide +kernel
theorem dX0_ways_105 : eb_dc cX0_ways 105 (.istore 11) 2 107 := by decide +kernel
theorem dX0_ways_107 : eb_dc cX0_ways 107 (.iload 11) 2 109 := by decide +kernel
theorem dX0_ways_109 : eb_dc cX0_ways 109 (.aload 6) 2 111 := by decide +kernel
theorem dX0_ways_111 : eb_dc cX0_ways 111 (.iload 10) 2 113 := by decide +kernel
theorem dX0_ways_113 : eb_dc cX0_ways 113 (.invokevirtual 155) 3 116 := by decide +kernel
theorem dX0_ways_116 : eb_dj cX0_ways 116 (.if_icmp .ge 29) 29 119 145 := by decide +kernel
theorem dX0_ways_119 : eb_dc cX0_ways 119 (.aload 9) 2 121 := by decide +kernel
theorem dX0_ways_121 : eb_dc cX0_ways 121 (.aload 6) 2 123 := by decide +kernel
theorem dX0_ways_123 : eb_dc cX0_ways 123 (.iload 10) 2 125 := by decide +kernel
theorem dX0_ways_125 : eb_dc cX0_ways 125 (.iload 11) 2 127 := by decide +kernel
theorem dX0_ways_127 : eb_dc cX0_ways 127 (.invokevirtual 184) 3 130 := by decide +kernel
theorem dX0_ways_130 : eb_dc cX0_ways 130 (.dup2) 1 131 := by decide +kernel
theorem dX0_ways_131 : eb_dc cX0_ways 131 (.laload) 1 132 := by decide +kernel
theorem dX0_ways_132 : eb_dc cX0_ways 132 (.aload 7) 2 134 := by decide +kernel
theorem dX0_ways_134 : eb_dc cX0_ways 134 (.iload 10) 2 136 := by decide +kernel
theorem dX0_ways_136 : eb_dc cX0_ways 136 (.laload) 1 137 := by decide +kernel
theorem dX0_ways_137 : eb_dc cX0_ways 137 (.ladd) 1 138 := by decide +kernel
theorem dX0_ways_138 : eb_dc cX0_ways 138 (.lastore) 1 139 := by decide +kernel
theorem dX0_ways_139 : eb_dc cX0_ways 139 (.iinc 11 1) 3 142 := by decide +kernel
theorem dX0_ways_142 : eb_dj cX0_ways 142 (.goto (-35)) (-35) 145 107 := by decide +kernel
theorem dX0_ways_145 : eb_dc cX0_ways 145 (.iinc 10 1) 3 148 := by decide +kernel
theorem dX0_ways_148 : eb_dj cX0_ways 148 (.goto (-54)) (-54) 151 94 := by decide +kernel
theorem dX0_ways_151 : eb_dc cX0_ways 151 (.aload 9) 2 153 := by decide +kernel
theorem dX0_ways_153 : eb_dc cX0_ways 153 (.astore 7) 2 155 := by decide +kernel
theorem dX0_ways_155 : eb_dc cX0_ways 155 (.iinc 8 1) 3 158 := by decide +kernel
theorem dX0_ways_158 : eb_dj cX0_ways 158 (.goto (-83)) (-83) 161 75 := by decide +kernel
theorem dX0_ways_161 : eb_dc cX0_ways 161 (.aload 7) 2 163 := by decide +kernel
theorem dX0_ways_163 : eb_dc cX0_ways 163 (.iload_n 3) 1 164 := by decide +kernel
theorem dX0_ways_164 : eb_dc cX0_ways 164 (.laload) 1 165 := by decide +kernel
theorem dX0_ways_165 : eb_dc cX0_ways 165 (.lreturn) 1 166 := by decide +kernel
theorem ctX0_ways {l : Launch} {Γ : eb_C} {bc bs : Nat} {st : eb_S} {a0 : Nat} {a1 : Int32} {a2 : Int32} {a3 : Int32} {a4 : Int32} {K : Int64 → eb_S → Prop} (h : MX0_ways Γ bc bs st a0 a1 a2 a3 a4 K) : eb_Ct l Γ yX0_ways cX0_ways 12 (some .long) (rmX0_ways bc bs) [.ref a0, .int a1, .int a2, .int a3, .int a4] st (eb_oL K) := by
  refine eb_of (by decide) (Nat.le_of_ble_eq_true rfl) (fun X P hP hX0 => ?_)
  suffices hgo : (0 ≤ bc ∧ 0 ≤ bs) → eb_G l Γ P X cX0_ways RX0 12 (some .long) (rmX0_ways bc bs) 0 [(0, .ref a0), (1, .int a1), (2, .int a2), (3, .int a3), (4, .int a4)] [] st 0 0 from hgo ⟨Nat.zero_le _, Nat.zero_le _⟩
  intro hu
  refine eg_aload_n 0 dX0_ways_0 rfl rfl ?_
  refine eg_iload_n 1 dX0_ways_1 rfl rfl ?_
  refine eg_aload_n 0 dX0_ways_2 rfl rfl ?_
  refine eg_iload_n 1 dX0_ways_3 rfl rfl ?_
  refine eg_iload_n 2 dX0_ways_4 rfl rfl ?_
  obtain ⟨hcs, h⟩ := h
  obtain ⟨c3, s4, hca, h⟩ := h
  have hM0 := h
  clear h
  refine ec_VIa (rest := [.int a1, .ref a0]) (ctX0_isCorner hM0) (lw_V q583 q585 qs11 q74 q586) rfl rfl hcs nX0_isCorner ⟨Nat.le_of_ble_eq_true rfl, Nat.le_of_ble_eq_true rfl⟩ ⟨rfl, rfl⟩ hca rfl rfl (Nat.le_of_ble_eq_true rfl) dX0_ways_5 (fun v1 g2 h => ?_)
  clear hM0
  replace hu := hca
  refine eb_jp4_e (J := fun (s5 : Int32) (g6 : eb_S) (u7 : Nat) (w8 : Nat) => (u7 ≤ bc ∧ w8 ≤ bs) → eb_G l Γ P X cX0_ways RX0 12 (some .long) (rmX0_ways bc bs) 36 [(0, .ref a0), (1, .int a1), (2, .int a2), (3, .int a3), (4, .int a4)] [.int s5, .int a1, .ref a0] g6 u7 w8) h ?_ ?_
  · clear h
    intro s5 g6 u7 w8 h hu
    obtain ⟨hcs, h⟩ := h
    obtain ⟨c11, s12, hca, h⟩ := h
    have hM0 := h
    clear h
    refine ec_VIa (rest := []) (ctX0_why hM0) (lw_V q237 q239 qs1 q74 q240) rfl rfl hcs nX0_why ⟨Nat.le_of_ble_eq_true rfl, Nat.le_of_ble_eq_true rfl⟩ ⟨rfl, rfl⟩ hca rfl rfl (Nat.le_of_ble_eq_true rfl) dX0_ways_36 (fun v9 g10 h => ?_)
    clear hM0
    replace hu := hca
    refine eg_istore (lv' := [(5, .int v9), (0, .ref a0), (1, .int a1), (2, .int a2), (3, .int a3), (4, .int a4)]) dX0_ways_39 (Nat.le_of_ble_eq_true rfl) rfl ?_
    refine eg_iload 0 dX0_ways_41 rfl ?_
    refine eg_iconst dX0_ways_43 kc_1 ?_
    refine eg_icmp_eq dX0_ways_44 (fun c64 => ?_) (fun c64 => ?_)
    · replace h := h.1 c64
      refine eg_aload_n 1 dX0_ways_51 rfl rfl ?_
      refine eg_iload_n 2 dX0_ways_52 rfl rfl ?_
      obtain ⟨hcs, h⟩ := h
      obtain ⟨c15, s16, hca, h⟩ := h
      have hM0 := h
      clear h
      refine ec_VRa (rest := []) (ctX0_netOf hM0) (lw_V q591 q593 qs12 q74 q594) rfl rfl hcs nX0_netOf ⟨Nat.le_of_ble_eq_true rfl, Nat.le_of_ble_eq_true rfl⟩ ⟨rfl, rfl⟩ hca rfl rfl (Nat.le_of_ble_eq_true rfl) dX0_ways_53 (fun v13 g14 h => ?_)
      clear hM0
      replace hu := hca
      refine eh_astore (i := 6) (v := v13) (lv' := [(6, va_rf v13), (5, .int v9), (0, .ref a0), (1, .int a1), (2, .int a2), (3, .int a3), (4, .int a4)]) dX0_ways_56 (Nat.le_of_ble_eq_true rfl) rfl ?_
      refine eh_aload (v := v13) 0 dX0_ways_58 rfl ?_
      obtain ⟨p17, rfl, h⟩ := h
      obtain ⟨c0, fs, v18, hc0, he, hv, h⟩ := h
      refine en_get 0 (Nat.le_of_ble_eq_true rfl) hc0 he q634 hv dX0_ways_60 ?_
      obtain ⟨hok, h⟩ := h
      obtain ⟨hc1, hs1, h⟩ := h
      refine eh_new_j q676 rfl hok hc1 hs1 dX0_ways_63 (fun p19 qp19 g20 eg20 => ?_)
      replace h := h p19 qp19 g20 eg20
      replace hu := And.intro hc1 hs1
      refine eg_astore (i := 7) (lv' := [(7, .ref p19), (6, .ref p17), (5, .int v9), (0, .ref a0), (1, .int a1), (2, .int a2), (3, .int a3), (4, .int a4)]) dX0_ways_65 (Nat.le_of_ble_eq_true rfl) rfl ?_
      refine eg_aload 0 dX0_ways_67 rfl ?_
      refine eg_iload_n 5 dX0_ways_69 rfl rfl ?_
      refine eg_lconst (v := 1) dX0_ways_70 rfl ?_
      obtain ⟨nA, fA, he, hb, h⟩ := h
      refine eh_last he hb dX0_ways_71 (fun g21 eg21 => ?_)
      replace h := h g21 eg21
      refine eg_iconst dX0_ways_72 kc_0 ?_
      refine eg_istore (lv' := [(8, .int 0), (7, .ref p19), (6, .ref p17), (5, .int v9), (0, .ref a0), (1, .int a1), (2, .int a2), (3, .int a3), (4, .int a4)]) dX0_ways_73 (Nat.le_of_ble_eq_true rfl) rfl ?_
      refine eb_jp4_e (J := fun (x7_22 : Option Nat) (g23 : eb_S) (u24 : Nat) (w25 : Nat) => (u24 ≤ bc ∧ w25 ≤ bs) → eb_G l Γ P X cX0_ways RX0 12 (some .long) (rmX0_ways bc bs) 161 [(3, .int a3), (7, va_rf x7_22)] [] g23 u24 w25) h ?_ ?_
      · clear h
        intro x7_22 g23 u24 w25 h hu
        refine eh_aload (v := x7_22) 1 dX0_ways_161 rfl ?_
        refine eg_iload_n 0 dX0_ways_163 rfl rfl ?_
        obtain ⟨p26, rfl, h⟩ := h
        obtain ⟨nA, fA, he, hb, h⟩ := h
        refine eh_lald he hb dX0_ways_164 (fun v27 ev27 => ?_)
        replace h := h v27 ev27
        exact eg_lret dX0_ways_165 hu.1 hu.2 (hP _ _ ⟨_, rfl, h⟩)
      · clear h
        intro k28 hk28 h
        refine eg_sub [7, 8, 2, 1, 0] rfl ?_
        refine eb_loop5_e (J := fun (x7_29 : Option Nat) (x8_30 : Int32) (g31 : eb_S) (u32 : Nat) (w33 : Nat) => (u32 ≤ bc ∧ w33 ≤ bs) → eb_G l Γ P X cX0_ways RX0 12 (some .long) (rmX0_ways bc bs) 75 [(3, .int a3), (4, .int a4), (6, .ref p17), (7, va_rf x7_29), (8, .int x8_30)] [] g31 u32 w33) h ?_ hu
        clear h
        clear hu
        intro r34 hr34 x7_29 x8_30 g31 u32 w33 h hu
        refine eg_iload 4 dX0_ways_75 rfl ?_
        refine eg_iload 1 dX0_ways_77 rfl ?_
        refine eg_icmp_ge dX0_ways_79 (fun c63 => ?_) (fun c63 => ?_)
        · replace h := h.1 c63
          exact eg_sub [0, 3] rfl (hk28 x7_29 g31 u32 w33 h hu)
        · replace h := h.2 c63
          refine eg_aload 2 dX0_ways_82 rfl ?_
          obtain ⟨c0, fs, v35, hc0, he, hv, h⟩ := h
          refine en_get 0 (Nat.le_of_ble_eq_true rfl) hc0 he q634 hv dX0_ways_84 ?_
          obtain ⟨hok, h⟩ := h
          obtain ⟨hc1, hs1, h⟩ := h
          refine eh_new_j q676 rfl hok hc1 hs1 dX0_ways_87 (fun p36 qp36 g37 eg37 => ?_)
          replace h := h p36 qp36 g37 eg37
          replace hu := And.intro hc1 hs1
          refine eg_astore (i := 9) (lv' := [(9, .ref p36), (3, .int a3), (4, .int a4), (6, .ref p17), (7, va_rf x7_29), (8, .int x8_30)]) dX0_ways_89 (Nat.le_of_ble_eq_true rfl) rfl ?_
          refine eg_iconst dX0_ways_91 kc_0 ?_
          refine eg_istore (lv' := [(10, .int 0), (9, .ref p36), (3, .int a3), (4, .int a4), (6, .ref p17), (7, va_rf x7_29), (8, .int x8_30)]) dX0_ways_92 (Nat.le_of_ble_eq_true rfl) rfl ?_
          refine eb_jp1_e (J := fun (g38 : eb_S) => ((u32 + 1) ≤ bc ∧ (w33 + (v35.toNatClampNeg)) ≤ bs) → eb_G l Γ P X cX0_ways RX0 12 (some .long) (rmX0_ways bc bs) 151 [(3, .int a3), (4, .int a4), (6, .ref p17), (8, .int x8_30), (9, .ref p36)] [] g38 (u32 + 1) (w33 + (v35.toNatClampNeg))) h ?_ ?_
          · clear h
            intro g38 h hu
            refine eg_aload 4 dX0_ways_151 rfl ?_
            refine eg_astore (i := 7) (lv' := [(7, .ref p36), (3, .int a3), (4, .int a4), (6, .ref p17), (8, .int x8_30), (9, .ref p36)]) dX0_ways_153 (Nat.le_of_ble_eq_true rfl) rfl ?_
            refine eg_iinc (j := 4) (lv' := [(8, .int (x8_30 + 1)), (7, .ref p36), (3, .int a3), (4, .int a4), (6, .ref p17), (9, .ref p36)]) dX0_ways_155 rfl (by rw [kc_1]) (Nat.le_of_ble_eq_true rfl) rfl ?_
            refine eg_goto dX0_ways_158 ?_
            exact eg_sub [2, 3, 4, 1, 0] rfl (hr34 (some p36) (x8_30 + 1) g38 (u32 + 1) ((w33 + (v35.toNatClampNeg))) h hu)
          · clear h
            intro k39 hk39 h
            refine eg_sub [2, 3, 4, 5, 6, 1, 0] rfl ?_
            refine eb_loop2_e (J := fun (x10_40 : Int32) (g41 : eb_S) => ((u32 + 1) ≤ bc ∧ (w33 + (v35.toNatClampNeg)) ≤ bs) → eb_G l Γ P X cX0_ways RX0 12 (some .long) (rmX0_ways bc bs) 94 [(3, .int a3), (4, .int a4), (6, .ref p17), (7, va_rf x7_29), (8, .int x8_30), (9, .ref p36), (10, .int x10_40)] [] g41 (u32 + 1) (w33 + (v35.toNatClampNeg))) h ?_ hu
            clear h
            clear hu
            intro r42 hr42 x10_40 g41 h hu
            refine eg_iload 6 dX0_ways_94 rfl ?_
            refine eg_aload 2 dX0_ways_96 rfl ?_
            obtain ⟨c0, fs, v43, hc0, he, hv, h⟩ := h
            refine en_get 0 (Nat.le_of_ble_eq_true rfl) hc0 he q634 hv dX0_ways_98 ?_
            refine eg_icmp_ge dX0_ways_101 (fun c62 => ?_) (fun c62 => ?_)
            · replace h := h.1 c62
              exact eg_sub [0, 1, 2, 4, 5] rfl (hk39 g41 h hu)
            · replace h := h.2 c62
              refine eg_iconst dX0_ways_104 kc_0 ?_
              refine eg_istore (lv' := [(11, .int 0), (3, .int a3), (4, .int a4), (6, .ref p17), (7, va_rf x7_29), (8, .int x8_30), (9, .ref p36), (10, .int x10_40)]) dX0_ways_105 (Nat.le_of_ble_eq_true rfl) rfl ?_
              refine eb_jp1_e (J := fun (g44 : eb_S) => ((u32 + 1) ≤ bc ∧ (w33 + (v35.toNatClampNeg)) ≤ bs) → eb_G l Γ P X cX0_ways RX0 12 (some .long) (rmX0_ways bc bs) 145 [(3, .int a3), (4, .int a4), (6, .ref p17), (7, va_rf x7_29), (8, .int x8_30), (9, .ref p36), (10, .int x10_40)] [] g44 (u32 + 1) (w33 + (v35.toNatClampNeg))) h ?_ ?_
              · clear h
                intro g44 h hu
                refine eg_iinc (j := 6) (lv' := [(10, .int (x10_40 + 1)), (3, .int a3), (4, .int a4), (6, .ref p17), (7, va_rf x7_29), (8, .int x8_30), (9, .ref p36)]) dX0_ways_145 rfl (by rw [kc_1]) (Nat.le_of_ble_eq_true rfl) rfl ?_
                refine eg_goto dX0_ways_148 ?_
                exact eg_sub [1, 2, 3, 4, 5, 6, 0] rfl (hr42 (x10_40 + 1) g44 h hu)
              · clear h
                intro k45 hk45 h
                refine eg_sub [1, 2, 3, 4, 5, 6, 7, 0] rfl ?_
                refine eb_loop2_e (J := fun (x11_46 : Int32) (g47 : eb_S) => ((u32 + 1) ≤ bc ∧ (w33 + (v35.toNatClampNeg)) ≤ bs) → eb_G l Γ P X cX0_ways RX0 12 (some .long) (rmX0_ways bc bs) 107 [(3, .int a3), (4, .int a4), (6, .ref p17), (7, va_rf x7_29), (8, .int x8_30), (9, .ref p36), (10, .int x10_40), (11, .int x11_46)] [] g47 (u32 + 1) (w33 + (v35.toNatClampNeg))) h ?_ hu
                clear h
                clear hu
                intro r48 hr48 x11_46 g47 h hu
                refine eg_iload 7 dX0_ways_107 rfl ?_
                refine eg_aload 2 dX0_ways_109 rfl ?_
                refine eg_iload 6 dX0_ways_111 rfl ?_
                obtain ⟨hcs, h⟩ := h
                have hM0 := h
                clear h
                refine ec_UIp (rest := [.int x11_46]) (ctX10_degree hM0) gUX0_155 rfl hcs nX10_degree ⟨Nat.le_of_ble_eq_true rfl, Nat.le_of_ble_eq_true rfl⟩ ⟨rfl, rfl⟩ hu rfl rfl (Nat.le_of_ble_eq_true rfl) dX0_ways_113 (fun v49 h => ?_)
                clear hM0
                refine eg_icmp_ge dX0_ways_116 (fun c61 => ?_) (fun c61 => ?_)
                · replace h := h.1 c61
                  exact eg_sub [0, 1, 2, 3, 4, 5, 6] rfl (hk45 g47 h hu)
                · replace h := h.2 c61
                  refine eg_aload 5 dX0_ways_119 rfl ?_
                  refine eg_aload 2 dX0_ways_121 rfl ?_
                  refine eg_iload 6 dX0_ways_123 rfl ?_
                  refine eg_iload 7 dX0_ways_125 rfl ?_
                  obtain ⟨hcs, h⟩ := h
                  have hM0 := h
                  clear h
                  refine ec_UIp (rest := [.ref p36]) (ctX10_at hM0) gUX0_184 rfl hcs nX10_at ⟨Nat.le_of_ble_eq_true rfl, Nat.le_of_ble_eq_true rfl⟩ ⟨rfl, rfl⟩ hu rfl rfl (Nat.le_of_ble_eq_true rfl) dX0_ways_127 (fun v53 h => ?_)
                  clear hM0
                  refine eg_dup2 dX0_ways_130 rfl rfl ?_
                  obtain ⟨nA, fA, he, hb, h⟩ := h
                  refine eh_lald he hb dX0_ways_131 (fun v57 ev57 => ?_)
                  replace h := h v57 ev57
                  refine eh_aload (v := x7_29) 3 dX0_ways_132 rfl ?_
                  refine eg_iload 6 dX0_ways_134 rfl ?_
                  obtain ⟨p58, rfl, h⟩ := h
                  obtain ⟨nA, fA, he, hb, h⟩ := h
                  refine eh_lald he hb dX0_ways_136 (fun v59 ev59 => ?_)
                  replace h := h v59 ev59
                  refine eg_ladd dX0_ways_137 ?_
                  obtain ⟨nA, fA, he, hb, h⟩ := h
                  refine eh_last he hb dX0_ways_138 (fun g60 eg60 => ?_)
                  replace h := h g60 eg60
                  refine eg_iinc (j := 7) (lv' := [(11, .int (x11_46 + 1)), (3, .int a3), (4, .int a4), (6, .ref p17), (7, .ref p58), (8, .int x8_30), (9, .ref p36), (10, .int x10_40)]) dX0_ways_139 rfl (by rw [kc_1]) (Nat.le_of_ble_eq_true rfl) rfl ?_
                  refine eg_goto dX0_ways_142 ?_
                  exact eg_sub [1, 2, 3, 4, 5, 6, 7, 0] rfl (hr48 (x11_46 + 1) g60 h hu)
    · replace h := h.2 c64
      refine eg_iload 0 dX0_ways_47 rfl ?_
      refine eg_i2l dX0_ways_49 ?_
      exact eg_lret dX0_ways_50 hu.1 hu.2 (hP _ _ ⟨_, rfl, h⟩)
  · clear h
    intro k65 hk65 h
    refine eg_if_eq dX0_ways_8 (fun c76 => ?_) (fun c76 => ?_)
    · replace h := h.1 c76
      refine eg_iconst dX0_ways_35 kc_0 ?_
      exact hk65 0 g2 (0 + c3) (0 + s4) h hu
    · replace h := h.2 c76
      refine eg_aload_n 0 dX0_ways_11 rfl rfl ?_
      refine eg_iload_n 1 dX0_ways_12 rfl rfl ?_
      refine eg_iload_n 3 dX0_ways_13 rfl rfl ?_
      obtain ⟨hcs, h⟩ := h
      obtain ⟨c68, s69, hca, h⟩ := h
      have hM0 := h
      clear h
      refine ec_VIa (rest := [.int a1, .ref a0]) (ctX0_isCorner hM0) (lw_V q583 q585 qs11 q74 q586) rfl rfl hcs nX0_isCorner ⟨Nat.le_of_ble_eq_true rfl, Nat.le_of_ble_eq_true rfl⟩ ⟨rfl, rfl⟩ hca rfl rfl (Nat.le_of_ble_eq_true rfl) dX0_ways_14 (fun v66 g67 h => ?_)
      clear hM0
      replace hu := hca
      refine eg_if_eq dX0_ways_17 (fun c75 => ?_) (fun c75 => ?_)
      · replace h := h.1 c75
        refine eg_iconst dX0_ways_35 kc_0 ?_
        exact hk65 0 g67 (((0 + c3) + c68)) (((0 + s4) + s69)) h hu
      · replace h := h.2 c75
        refine eg_iload 4 dX0_ways_20 rfl ?_
        refine eg_iconst dX0_ways_22 kc_0 ?_
        refine eg_bipush dX0_ways_23 kb_12 ?_
        have hM0 := h
        clear h
        refine ec_SIp (rest := [.int a1, .ref a0]) (ctX0_in hM0) (lw_S q185 q186 q74 q187) nX0_in ⟨Nat.le_of_ble_eq_true rfl, Nat.le_of_ble_eq_true rfl⟩ ⟨rfl, rfl⟩ hu rfl rfl (Nat.le_of_ble_eq_true rfl) dX0_ways_25 (fun v70 h => ?_)
        clear hM0
        refine eg_if_eq dX0_ways_28 (fun c74 => ?_) (fun c74 => ?_)
        · replace h := h.1 c74
          refine eg_iconst dX0_ways_35 kc_0 ?_
          exact hk65 0 g67 (((0 + c3) + c68)) (((0 + s4) + s69)) h hu
        · replace h := h.2 c74
          refine eg_iconst dX0_ways_31 kc_1 ?_
          refine eg_goto dX0_ways_32 ?_
          exact hk65 1 g67 (((0 + c3) + c68)) (((0 + s4) + s69)) h hu
def MX0_coloured (Γ : eb_C) (bc bs : Nat) (st : eb_S) (a0 : Nat) (a1 : Int32) (K : Int32 → eb_S → Prop) : Prop :=
  eb_cs st a0 [0] ∧ ∃ c3 s4 : Nat, (0 + c3 ≤ bc ∧ 0 + s4 ≤ bs) ∧ MX0_why Γ c3 s4 st a0 a1 1 (fun v1 g2 => eb_br (v1 = 1) (eb_cs g2 a0 [0] ∧ ∃ c7 s8 : Nat, ((0 + c3) + c7 ≤ bc ∧ (0 + s4) + s8 ≤ bs) ∧ MX0_netOf Γ c7 s8 g2 a0 a1 (fun v5 g6 => eb_nn v5 (fun p9 => eb_cs g6 p9 [9, 10, 13] ∧ ∃ c12 s13 : Nat, ((((0 + c3) + c7)) + c12 ≤ bc ∧ (((0 + s4) + s8)) + s13 ≤ bs) ∧ MX10_far Γ c12 s13 g6 p9 0 (fun v10 g11 => eb_loop1 (fun r15 (x5_14 : Int32) => eb_ni g11 p9 0 (fun v16 => eb_br (v16 ≤ x5_14) (K 1 g11) (eb_jp0 (r15 (x5_14 + 1)) (fun k17 => eb_loop1 (fun r19 (x6_18 : Int32) => eb_cs g11 p9 [9, 10, 13] ∧ MX10_degree Γ g11 p9 x5_14 (fun v20 => eb_br (v20 ≤ x6_18) (k17) (eb_nn v10 (fun p24 => eb_li Γ g11 p24 0 x5_14 (fun v25 => eb_cs g11 p9 [9, 10, 13] ∧ MX10_at Γ g11 p9 x5_14 x6_18 (fun v26 => eb_li Γ g11 p24 0 v26 (fun v30 => eb_br ((eb_rem v25 2) = (eb_rem v30 2)) (K 0 g11) (r19 (x6_18 + 1))))))))) 0)))) 0)))) (K v1 g2))
abbrev rmX0_coloured (bc bs : Nat) : Room := { frames := 14, cells := bc, slots := bs, locals := 306 }
theorem nX0_coloured : eb_ar yX0_coloured 1 := by decide +kernel
theorem dX0_coloured_0 : eb_dc cX0_coloured 0 (.aload_n 0) 1 1 := by decide +kernel
theorem dX0_coloured_1 : eb_dc cX0_coloured 1 (.iload_n 1) 1 2 := by decide +kernel
theorem dX0_coloured_2 : eb_dc cX0_coloured 2 (.iconst 1) 1 3 := by decide +kernel
theorem dX0_coloured_3 : eb_dc cX0_coloured 3 (.invokevirtual 75) 3 6 := by decide +kernel
theorem dX0_coloured_6 : eb_dc cX0_coloured 6 (.istore_n 2) 1 7 := by decide +kernel
theorem dX0_coloured_7 : eb_dc cX0_coloured 7 (.iload_n 2) 1 8 := by decide +kernel
theorem dX0_coloured_8 : eb_dc cX0_coloured 8 (.iconst 1) 1 9 := by decide +kernel
theorem dX0_coloured_9 : eb_dj cX0_coloured 9 (.if_icmp .eq 5) 5 12 14 := by decide +kernel
theorem dX0_coloured_12 : eb_dc cX0_coloured 12 (.iload_n 2) 1 13 := by decide +kernel
theorem dX0_coloured_13 : eb_dc cX0_coloured 13 (.ireturn) 1 14 := by decide +kernel
theorem dX0_coloured_14 : eb_dc cX0_coloured 14 (.aload_n 0) 1 15 := by decide +kernel
theorem dX0_coloured_15 : eb_dc cX0_coloured 15 (.iload_n 1) 1 16 := by decide +kernel
theorem dX0_coloured_16 : eb_dc cX0_coloured 16 (.invokevirtual 151) 3 19 := by decide +kernel
theorem dX0_coloured_19 : eb_dc cX0_coloured 19 (.astore_n 3) 1 20 := by decide +kernel
theorem dX0_coloured_20 : eb_dc cX0_coloured 20 (.aload_n 3) 1 21 := by decide +kernel
theorem dX0_coloured_21 : eb_dc cX0_coloured 21 (.iconst 0) 1 22 := by decide +kernel
theorem dX0_coloured_22 : eb_dc cX0_coloured 22 (.invokevirtual 160) 3 25 := by decide +kernel
theorem dX0_coloured_25 : eb_dc cX0_coloured 25 (.astore 4) 2 27 := by decide +kernel
theorem dX0_coloured_27 : eb_dc cX0_coloured 27 (.iconst 0) 1 28 := by decide +kernel
theorem dX0_coloured_28 : eb_dc cX0_coloured 28 (.istore 5) 2 30 := by decide +kernel
theorem dX0_coloured_30 : eb_dc cX0_coloured 30 (.iload 5) 2 32 := by decide +kernel
theorem dX0_coloured_32 : eb_dc cX0_coloured 32 (.aload_n 3) 1 33 := by decide +kernel
theorem dX0_coloured_33 : eb_dc cX0_coloured 33 (.getfield 183) 3 36 := by decide +kernel
theorem dX0_coloured_36 : eb_dj cX0_coloured 36 (.if_icmp .ge 54) 54 39 90 := by decide +kernel
theorem dX0_coloured_39 : eb_dc cX0_coloured 39 (.iconst 0) 1 40 := by decide +kernel
theorem dX0_coloured_40 : eb_dc cX0_coloured 40 (.istore 6) 2 42 := by decide +kernel
theorem dX0_coloured_42 : eb_dc cX0_coloured 42 (.iload 6) 2 44 := by decide +kernel
theorem dX0_coloured_44 : eb_dc cX0_coloured 44 (.aload_n 3) 1 45 := by decide +kernel
theorem dX0_coloured_45 : eb_dc cX0_coloured 45 (.iload 5) 2 47 := by decide +kernel
theorem dX0_coloured_47 : eb_dc cX0_coloured 47 (.invokevirtual 155) 3 50 := by decide +kernel
theorem dX0_coloured_50 : eb_dj cX0_coloured 50 (.if_icmp .ge 34) 34 53 84 := by decide +kernel
theorem dX0_coloured_53 : eb_dc cX0_coloured 53 (.aload 4) 2 55 := by decide +kernel
theorem dX0_coloured_55 : eb_dc cX0_coloured 55 (.iload 5) 2 57 := by decide +kernel
theorem dX0_coloured_57 : eb_dc cX0_coloured 57 (.iaload) 1 58 := by decide +kernel
theorem dX0_coloured_58 : eb_dc cX0_coloured 58 (.iconst 2) 1 59 := by decide +kernel
theorem dX0_coloured_59 : eb_dc cX0_coloured 59 (.irem) 1 60 := by decide +kernel
theorem dX0_coloured_60 : eb_dc cX0_coloured 60 (.aload 4) 2 62 := by decide +kernel
theorem dX0_coloured_62 : eb_dc cX0_coloured 62 (.aload_n 3) 1 63 := by decide +kernel
theorem dX0_coloured_63 : eb_dc cX0_coloured 63 (.iload 5) 2 65 := by decide +kernel
theorem dX0_coloured_65 : eb_dc cX0_coloured 65 (.iload 6) 2 67 := by decide +kernel
theorem dX0_coloured_67 : eb_dc cX0_coloured 67 (.invokevirtual 184) 3 70 := by decide +kernel
theorem dX0_coloured_70 : eb_dc cX0_coloured 70 (.iaload) 1 71 := by decide +kernel
theorem dX0_coloured_71 : eb_dc cX0_coloured 71 (.iconst 2) 1 72 := by decide +kernel
theorem dX0_coloured_72 : eb_dc cX0_coloured 72 (.irem) 1 73 := by decide +kernel
theorem dX0_coloured_73 : eb_dj cX0_coloured 73 (.if_icmp .ne 5) 5 76 78 := by decide +kernel
theorem dX0_coloured_76 : eb_dc cX0_coloured 76 (.iconst 0) 1 77 := by decide +kernel
theorem dX0_coloured_77 : eb_dc cX0_coloured 77 (.ireturn) 1 78 := by decide +kernel
theorem dX0_coloured_78 : eb_dc cX0_coloured 78 (.iinc 6 1) 3 81 := by decide +kernel
theorem dX0_coloured_81 : eb_dj cX0_coloured 81 (.goto (-39)) (-39) 84 42 := by decide +kernel
theorem dX0_coloured_84 : eb_dc cX0_coloured 84 (.iinc 5 1) 3 87 := by decide +kernel
theorem dX0_coloured_87 : eb_dj cX0_coloured 87 (.goto (-57)) (-57) 90 30 := by decide +kernel
theorem dX0_coloured_90 : eb_dc cX0_coloured 90 (.iconst 1) 1 91 := by decide +kernel
theorem dX0_coloured_91 : eb_dc cX0_coloured 91 (.ireturn) 1 92 := by decide +kernel
theorem ctX0_coloured {l : Launch} {Γ : eb_C} {bc bs : Nat} {st : eb_S} {a0 : Nat} {a1 : Int32} {K : Int32 → eb_S → Prop} (h : MX0_coloured Γ bc bs st a0 a1 K) : eb_Ct l Γ yX0_coloured cX0_coloured 7 (some .int) (rmX0_coloured bc bs) [.ref a0, .int a1] st (eb_oI K) := by
  refine eb_of (by decide) (Nat.le_of_ble_eq_true rfl) (fun X P hP hX0 => ?_)
  suffices hgo : (0 ≤ bc ∧ 0 ≤ bs) → eb_G l Γ P X cX0_coloured RX0 7 (some .int) (rmX0_coloured bc bs) 0 [(0, .ref a0), (1, .int a1)] [] st 0 0 from hgo ⟨Nat.zero_le _, Nat.zero_le _⟩
  intro hu
  refine eg_aload_n 0 dX0_coloured_0 rfl rfl ?_
  refine eg_iload_n 1 dX0_coloured_1 rfl rfl ?_
  refine eg_iconst dX0_coloured_2 kc_1 ?_
  obtain ⟨hcs, h⟩ := h
  obtain ⟨c3, s4, hca, h⟩ := h
  have hM0 := h
  clear h
  refine ec_VIa (rest := []) (ctX0_why hM0) (lw_V q237 q239 qs1 q74 q240) rfl rfl hcs nX0_why ⟨Nat.le_of_ble_eq_true rfl, Nat.le_of_ble_eq_true rfl⟩ ⟨rfl, rfl⟩ hca rfl rfl (Nat.le_of_ble_eq_true rfl) dX0_coloured_3 (fun v1 g2 h => ?_)
  clear hM0
  replace hu := hca
  refine eg_istore_n (lv' := [(2, .int v1), (0, .ref a0), (1, .int a1)]) dX0_coloured_6 rfl (Nat.le_of_ble_eq_true rfl) rfl ?_
  refine eg_iload_n 0 dX0_coloured_7 rfl rfl ?_
  refine eg_iconst dX0_coloured_8 kc_1 ?_
  refine eg_icmp_eq dX0_coloured_9 (fun c34 => ?_) (fun c34 => ?_)
  · replace h := h.1 c34
    refine eg_aload_n 1 dX0_coloured_14 rfl rfl ?_
    refine eg_iload_n 2 dX0_coloured_15 rfl rfl ?_
    obtain ⟨hcs, h⟩ := h
    obtain ⟨c7, s8, hca, h⟩ := h
    have hM0 := h
    clear h
    refine ec_VRa (rest := []) (ctX0_netOf hM0) (lw_V q591 q593 qs12 q74 q594) rfl rfl hcs nX0_netOf ⟨Nat.le_of_ble_eq_true rfl, Nat.le_of_ble_eq_true rfl⟩ ⟨rfl, rfl⟩ hca rfl rfl (Nat.le_of_ble_eq_true rfl) dX0_coloured_16 (fun v5 g6 h => ?_)
    clear hM0
    replace hu := hca
    refine eh_astore_n (i := 3) (v := v5) (lv' := [(3, va_rf v5), (2, .int v1), (0, .ref a0), (1, .int a1)]) dX0_coloured_19 rfl (Nat.le_of_ble_eq_true rfl) rfl ?_
    refine eh_aload_n (v := v5) 0 dX0_coloured_20 rfl rfl ?_
    refine eg_iconst dX0_coloured_21 kc_0 ?_
    obtain ⟨p9, rfl, h⟩ := h
    obtain ⟨hcs, h⟩ := h
    obtain ⟨c12, s13, hca, h⟩ := h
    have hM0 := h
    clear h
    refine ec_URa (rest := []) (ctX10_far hM0) gUX0_160 rfl hcs nX10_far ⟨Nat.le_of_ble_eq_true rfl, Nat.le_of_ble_eq_true rfl⟩ ⟨rfl, rfl⟩ hca rfl rfl (Nat.le_of_ble_eq_true rfl) dX0_coloured_22 (fun v10 g11 h => ?_)
    clear hM0
    replace hu := hca
    refine eh_astore (i := 4) (v := v10) (lv' := [(4, va_rf v10), (3, .ref p9), (2, .int v1), (0, .ref a0), (1, .int a1)]) dX0_coloured_25 (Nat.le_of_ble_eq_true rfl) rfl ?_
    refine eg_iconst dX0_coloured_27 kc_0 ?_
    refine eg_istore (i := 5) (lv' := [(5, .int 0), (4, va_rf v10), (3, .ref p9), (2, .int v1), (0, .ref a0), (1, .int a1)]) dX0_coloured_28 (Nat.le_of_ble_eq_true rfl) (by simp [List.filter_cons, eb_rfc]) ?_
    refine eg_sub [2, 1, 0] rfl ?_
    refine eb_loop1_e (J := fun (x5_14 : Int32) => ((((0 + c3) + c7) + c12) ≤ bc ∧ (((0 + s4) + s8) + s13) ≤ bs) → eb_G l Γ P X cX0_coloured RX0 7 (some .int) (rmX0_coloured bc bs) 30 [(3, .ref p9), (4, va_rf v10), (5, .int x5_14)] [] g11 (((0 + c3) + c7) + c12) (((0 + s4) + s8) + s13)) h ?_ hu
    clear h
    clear hu
    intro r15 hr15 x5_14 h hu
    refine eg_iload 2 dX0_coloured_30 rfl ?_
    refine eg_aload_n 0 dX0_coloured_32 rfl rfl ?_
    obtain ⟨c0, fs, v16, hc0, he, hv, h⟩ := h
    refine en_get 0 (Nat.le_of_ble_eq_true rfl) hc0 he q634 hv dX0_coloured_33 ?_
    refine eg_icmp_ge dX0_coloured_36 (fun c33 => ?_) (fun c33 => ?_)
    · replace h := h.1 c33
      refine eg_iconst dX0_coloured_90 kc_1 ?_
      exact eg_iret dX0_coloured_91 hu.1 hu.2 (hP _ _ ⟨_, rfl, h⟩)
    · replace h := h.2 c33
      refine eg_iconst dX0_coloured_39 kc_0 ?_
      refine eg_istore (lv' := [(6, .int 0), (3, .ref p9), (4, va_rf v10), (5, .int x5_14)]) dX0_coloured_40 (Nat.le_of_ble_eq_true rfl) rfl ?_
      refine eb_jp0_e (J := ((((0 + c3) + c7) + c12) ≤ bc ∧ (((0 + s4) + s8) + s13) ≤ bs) → eb_G l Γ P X cX0_coloured RX0 7 (some .int) (rmX0_coloured bc bs) 84 [(3, .ref p9), (4, va_rf v10), (5, .int x5_14)] [] g11 (((0 + c3) + c7) + c12) (((0 + s4) + s8) + s13)) h ?_ ?_
      · clear h
        intro  h hu
        refine eg_iinc (j := 2) (lv' := [(5, .int (x5_14 + 1)), (3, .ref p9), (4, va_rf v10)]) dX0_coloured_84 rfl (by rw [kc_1]) (Nat.le_of_ble_eq_true rfl) (by simp [List.filter_cons, eb_rfc]) ?_
        refine eg_goto dX0_coloured_87 ?_
        exact eg_sub [1, 2, 0] rfl (hr15 (x5_14 + 1) h hu)
      · clear h
        intro k17 hk17 h
        refine eg_sub [1, 2, 3, 0] rfl ?_
        refine eb_loop1_e (J := fun (x6_18 : Int32) => ((((0 + c3) + c7) + c12) ≤ bc ∧ (((0 + s4) + s8) + s13) ≤ bs) → eb_G l Γ P X cX0_coloured RX0 7 (some .int) (rmX0_coloured bc bs) 42 [(3, .ref p9), (4, va_rf v10), (5, .int x5_14), (6, .int x6_18)] [] g11 (((0 + c3) + c7) + c12) (((0 + s4) + s8) + s13)) h ?_ hu
        clear h
        clear hu
        intro r19 hr19 x6_18 h hu
        refine eg_iload 3 dX0_coloured_42 rfl ?_
        refine eg_aload_n 0 dX0_coloured_44 rfl rfl ?_
        refine eg_iload 2 dX0_coloured_45 rfl ?_
        obtain ⟨hcs, h⟩ := h
        have hM0 := h
        clear h
        refine ec_UIp (rest := [.int x6_18]) (ctX10_degree hM0) gUX0_155 rfl hcs nX10_degree ⟨Nat.le_of_ble_eq_true rfl, Nat.le_of_ble_eq_true rfl⟩ ⟨rfl, rfl⟩ hu rfl rfl (Nat.le_of_ble_eq_true rfl) dX0_coloured_47 (fun v20 h => ?_)
        clear hM0
        refine eg_icmp_ge dX0_coloured_50 (fun c32 => ?_) (fun c32 => ?_)
        · replace h := h.1 c32
          exact eg_sub [0, 1, 2] rfl (hk17 h hu)
        · replace h := h.2 c32
          refine eh_aload (v := v10) 1 dX0_coloured_53 rfl ?_
          refine eg_iload 2 dX0_coloured_55 rfl ?_
          obtain ⟨p24, rfl, h⟩ := h
          obtain ⟨nA, fA, he, hb, h⟩ := h
          refine eh_iald he hb dX0_coloured_57 (fun v25 ev25 => ?_)
          replace h := h v25 ev25
          refine eg_iconst dX0_coloured_58 kc_2 ?_
          refine eg_irem dX0_coloured_59 (by decide) ?_
          refine eg_aload 1 dX0_coloured_60 rfl ?_
          refine eg_aload_n 0 dX0_coloured_62 rfl rfl ?_
          refine eg_iload 2 dX0_coloured_63 rfl ?_
          refine eg_iload 3 dX0_coloured_65 rfl ?_
          obtain ⟨hcs, h⟩ := h
          have hM0 := h
          clear h
          refine ec_UIp (rest := [.ref p24, .int (eb_rem v25 2)]) (ctX10_at hM0) gUX0_184 rfl hcs nX10_at ⟨Nat.le_of_ble_eq_true rfl, Nat.le_of_ble_eq_true rfl⟩ ⟨rfl, rfl⟩ hu rfl rfl (Nat.le_of_ble_eq_true rfl) dX0_coloured_67 (fun v26 h => ?_)
          clear hM0
          obtain ⟨nA, fA, he, hb, h⟩ := h
          refine eh_iald he hb dX0_coloured_70 (fun v30 ev30 => ?_)
          replace h := h v30 ev30
          refine eg_iconst dX0_coloured_71 kc_2 ?_
          refine eg_irem dX0_coloured_72 (by decide) ?_
          refine eg_icmp_ne dX0_coloured_73 (fun c31 => ?_) (fun c31 => ?_)
          · replace h := h.2 c31
            refine eg_iinc (j := 3) (lv' := [(6, .int (x6_18 + 1)), (3, .ref p9), (4, .ref p24), (5, .int x5_14)]) dX0_coloured_78 rfl (by rw [kc_1]) (Nat.le_of_ble_eq_true rfl) rfl ?_
            refine eg_goto dX0_coloured_81 ?_
            exact eg_sub [1, 2, 3, 0] rfl (hr19 (x6_18 + 1) h hu)
          · replace h := h.1 c31
            refine eg_iconst dX0_coloured_76 kc_0 ?_
            exact eg_iret dX0_coloured_77 hu.1 hu.2 (hP _ _ ⟨_, rfl, h⟩)
  · replace h := h.2 c34
    refine eg_iload_n 0 dX0_coloured_12 rfl rfl ?_
    exact eg_iret dX0_coloured_13 hu.1 hu.2 (hP _ _ ⟨_, rfl, h⟩)
def MX0_whyHull (Γ : eb_C) (bc bs : Nat) (st : eb_S) (a0 : Nat) (a1 : Int32) (a2 : Int32) (K : Int32 → eb_S → Prop) : Prop :=
  eb_cs st a0 [0] ∧ ∃ c3 s4 : Nat, (0 + c3 ≤ bc ∧ 0 + s4 ≤ bs) ∧ MX0_why Γ c3 s4 st a0 a1 a2 (fun v1 g2 => eb_br (v1 = 1) (eb_gr g2 a0 0 0 (fun v5 => eb_nn v5 (fun p6 => eb_lr Γ g2 p6 7 a1 (fun v7 => eb_nn v7 (fun p8 => eb_gi g2 p8 1 0 (fun v9 => eb_br (v9 = 3) (K 1 g2) (K (-3) g2))))))) (K v1 g2))
abbrev rmX0_whyHull (bc bs : Nat) : Room := { frames := 14, cells := bc, slots := bs, locals := 306 }
theorem nX0_whyHull : eb_ar yX0_whyHull 2 := by decide +kernel
theorem dX0_whyHull_0 : eb_dc cX0_whyHull 0 (.aload_n 0) 1 1 := by decide +kernel
theorem dX0_whyHull_1 : eb_dc cX0_whyHull 1 (.iload_n 1) 1 2 := by decide +kernel
theorem dX0_whyHull_2 : eb_dc cX0_whyHull 2 (.iload_n 2) 1 3 := by decide +kernel
theorem dX0_whyHull_3 : eb_dc cX0_whyHull 3 (.invokevirtual 75) 3 6 := by decide +kernel
theorem dX0_whyHull_6 : eb_dc cX0_whyHull 6 (.istore_n 3) 1 7 := by decide +kernel
theorem dX0_whyHull_7 : eb_dc cX0_whyHull 7 (.iload_n 3) 1 8 := by decide +kernel
theorem dX0_whyHull_8 : eb_dc cX0_whyHull 8 (.iconst 1) 1 9 := by decide +kernel
theorem dX0_whyHull_9 : eb_dj cX0_whyHull 9 (.if_icmp .eq 7) 7 12 16 := by decide +kernel
theorem dX0_whyHull_12 : eb_dc cX0_whyHull 12 (.iload_n 3) 1 13 := by decide +kernel
theorem dX0_whyHull_13 : eb_dj cX0_whyHull 13 (.goto 22) 22 16 35 := by decide +kernel
theorem dX0_whyHull_16 : eb_dc cX0_whyHull 16 (.aload_n 0) 1 17 := by decide +kernel
theorem dX0_whyHull_17 : eb_dc cX0_whyHull 17 (.getfield 15) 3 20 := by decide +kernel
theorem dX0_whyHull_20 : eb_dc cX0_whyHull 20 (.iload_n 1) 1 21 := by decide +kernel
theorem dX0_whyHull_21 : eb_dc cX0_whyHull 21 (.aaload) 1 22 := by decide +kernel
theorem dX0_whyHull_22 : eb_dc cX0_whyHull 22 (.getfield 34) 3 25 := by decide +kernel
theorem dX0_whyHull_25 : eb_dc cX0_whyHull 25 (.iconst 3) 1 26 := by decide +kernel
theorem dX0_whyHull_26 : eb_dj cX0_whyHull 26 (.if_icmp .eq 8) 8 29 34 := by decide +kernel
theorem dX0_whyHull_29 : eb_dc cX0_whyHull 29 (.bipush (-3)) 2 31 := by decide +kernel
theorem dX0_whyHull_31 : eb_dj cX0_whyHull 31 (.goto 4) 4 34 35 := by decide +kernel
theorem dX0_whyHull_34 : eb_dc cX0_whyHull 34 (.iconst 1) 1 35 := by decide +kernel
theorem dX0_whyHull_35 : eb_dc cX0_whyHull 35 (.ireturn) 1 36 := by decide +kernel
theorem ctX0_whyHull {l : Launch} {Γ : eb_C} {bc bs : Nat} {st : eb_S} {a0 : Nat} {a1 : Int32} {a2 : Int32} {K : Int32 → eb_S → Prop} (h : MX0_whyHull Γ bc bs st a0 a1 a2 K) : eb_Ct l Γ yX0_whyHull cX0_whyHull 4 (some .int) (rmX0_whyHull bc bs) [.ref a0, .int a1, .int a2] st (eb_oI K) := by
  refine eb_of (by decide) (Nat.le_of_ble_eq_true rfl) (fun X P hP hX0 => ?_)
  suffices hgo : (0 ≤ bc ∧ 0 ≤ bs) → eb_G l Γ P X cX0_whyHull RX0 4 (some .int) (rmX0_whyHull bc bs) 0 [(0, .ref a0), (1, .int a1), (2, .int a2)] [] st 0 0 from hgo ⟨Nat.zero_le _, Nat.zero_le _⟩
  intro hu
  refine eg_aload_n 0 dX0_whyHull_0 rfl rfl ?_
  refine eg_iload_n 1 dX0_whyHull_1 rfl rfl ?_
  refine eg_iload_n 2 dX0_whyHull_2 rfl rfl ?_
  obtain ⟨hcs, h⟩ := h
  obtain ⟨c3, s4, hca, h⟩ := h
  have hM0 := h
  clear h
  refine ec_VIa (rest := []) (ctX0_why hM0) (lw_V q237 q239 qs1 q74 q240) rfl rfl hcs nX0_why ⟨Nat.le_of_ble_eq_true rfl, Nat.le_of_ble_eq_true rfl⟩ ⟨rfl, rfl⟩ hca rfl rfl (Nat.le_of_ble_eq_true rfl) dX0_whyHull_3 (fun v1 g2 h => ?_)
  clear hM0
  replace hu := hca
  refine eg_istore_n (lv' := [(3, .int v1), (0, .ref a0), (1, .int a1), (2, .int a2)]) dX0_whyHull_6 rfl (Nat.le_of_ble_eq_true rfl) rfl ?_
  refine eg_iload_n 0 dX0_whyHull_7 rfl rfl ?_
  refine eg_iconst dX0_whyHull_8 kc_1 ?_
  refine eg_icmp_eq dX0_whyHull_9 (fun c11 => ?_) (fun c11 => ?_)
  · replace h := h.1 c11
    refine eg_aload_n 1 dX0_whyHull_16 rfl rfl ?_
    obtain ⟨fs, v5, he, hv, h⟩ := h
    refine eg_get 0 in_X0 he rfl (Nat.le_of_ble_eq_true rfl) q159 rfl hv dX0_whyHull_17 ?_
    refine eg_iload_n 2 dX0_whyHull_20 rfl rfl ?_
    obtain ⟨p6, rfl, h⟩ := h
    obtain ⟨nA, fA, he, hb, h⟩ := h
    refine eg_aald (t := 7) (ty := .object "EvenBodies$Body") rfl rfl he hb dX0_whyHull_21 (fun v7 ev7 => ?_)
    replace h := h v7 ev7
    obtain ⟨p8, rfl, h⟩ := h
    obtain ⟨fs, v9, he, hv, h⟩ := h
    refine eg_getN 0 in_X1 he rfl (Nat.le_of_ble_eq_true rfl) (List.mem_of_getElem? (i := 1) rfl) rfl hv dX0_whyHull_22 ?_
    refine eg_iconst dX0_whyHull_25 kc_3 ?_
    refine eg_icmp_eq dX0_whyHull_26 (fun c10 => ?_) (fun c10 => ?_)
    · replace h := h.1 c10
      refine eg_iconst dX0_whyHull_34 kc_1 ?_
      exact eg_iret dX0_whyHull_35 hu.1 hu.2 (hP _ _ ⟨_, rfl, h⟩)
    · replace h := h.2 c10
      refine eg_bipush dX0_whyHull_29 kb_m3 ?_
      refine eg_goto dX0_whyHull_31 ?_
      exact eg_iret dX0_whyHull_35 hu.1 hu.2 (hP _ _ ⟨_, rfl, h⟩)
  · replace h := h.2 c11
    refine eg_iload_n 0 dX0_whyHull_12 rfl rfl ?_
    refine eg_goto dX0_whyHull_13 ?_
    exact eg_iret dX0_whyHull_35 hu.1 hu.2 (hP _ _ ⟨_, rfl, h⟩)
def MX12_has (Γ : eb_C) (st : eb_S) (a0 : Nat) (a1 : Int32) (a2 : Int32) (K : Int32 → Prop) : Prop :=
  eb_loop1 (fun r2 (x3_1 : Int32) => eb_gr st a0 11 3 (fun v3 => eb_nn v3 (fun p4 => eb_li Γ st p4 0 a1 (fun v5 => eb_br (v5 ≤ x3_1) (K 0) (eb_gr st a0 11 4 (fun v6 => eb_nn v6 (fun p7 => eb_li Γ st p7 0 (((12 * a1) + x3_1)) (fun v8 => eb_br (v8 = a2) (K 1) (r2 (x3_1 + 1)))))))))) 0
abbrev rmX12_has : Room := { frames := 1, cells := 0, slots := 0, locals := 12 }
theorem nX12_has : eb_ar yX12_has 2 := by decide +kernel
theorem dX12_has_0 : eb_dc cX12_has 0 (.iconst 0) 1 1 := by decide +kernel
theorem dX12_has_1 : eb_dc cX12_has 1 (.istore_n 3) 1 2 := by decide +kernel
theorem dX12_has_2 : eb_dc cX12_has 2 (.iload_n 3) 1 3 := by decide +kernel
theorem dX12_has_3 : eb_dc cX12_has 3 (.aload_n 0) 1 4 := by decide +kernel
theorem dX12_has_4 : eb_dc cX12_has 4 (.getfield 9) 3 7 := by decide +kernel
theorem dX12_has_7 : eb_dc cX12_has 7 (.iload_n 1) 1 8 := by decide +kernel
theorem dX12_has_8 : eb_dc cX12_has 8 (.iaload) 1 9 := by decide +kernel
theorem dX12_has_9 : eb_dj cX12_has 9 (.if_icmp .ge 26) 26 12 35 := by decide +kernel
theorem dX12_has_12 : eb_dc cX12_has 12 (.aload_n 0) 1 13 := by decide +kernel
theorem dX12_has_13 : eb_dc cX12_has 13 (.getfield 15) 3 16 := by decide +kernel
theorem dX12_has_16 : eb_dc cX12_has 16 (.bipush 12) 2 18 := by decide +kernel
theorem dX12_has_18 : eb_dc cX12_has 18 (.iload_n 1) 1 19 := by decide +kernel
theorem dX12_has_19 : eb_dc cX12_has 19 (.imul) 1 20 := by decide +kernel
theorem dX12_has_20 : eb_dc cX12_has 20 (.iload_n 3) 1 21 := by decide +kernel
theorem dX12_has_21 : eb_dc cX12_has 21 (.iadd) 1 22 := by decide +kernel
theorem dX12_has_22 : eb_dc cX12_has 22 (.iaload) 1 23 := by decide +kernel
theorem dX12_has_23 : eb_dc cX12_has 23 (.iload_n 2) 1 24 := by decide +kernel
theorem dX12_has_24 : eb_dj cX12_has 24 (.if_icmp .ne 5) 5 27 29 := by decide +kernel
theorem dX12_has_27 : eb_dc cX12_has 27 (.iconst 1) 1 28 := by decide +kernel
theorem dX12_has_28 : eb_dc cX12_has 28 (.ireturn) 1 29 := by decide +kernel
theorem dX12_has_29 : eb_dc cX12_has 29 (.iinc 3 1) 3 32 := by decide +kernel
theorem dX12_has_32 : eb_dj cX12_has 32 (.goto (-30)) (-30) 35 2 := by decide +kernel
theorem dX12_has_35 : eb_dc cX12_has 35 (.iconst 0) 1 36 := by decide +kernel
theorem dX12_has_36 : eb_dc cX12_has 36 (.ireturn) 1 37 := by decide +kernel
theorem ctX12_has {l : Launch} {Γ : eb_C} {st : eb_S} {a0 : Nat} {a1 : Int32} {a2 : Int32} {K : Int32 → Prop} (h : MX12_has Γ st a0 a1 a2 K) : eb_Ct l Γ yX12_has cX12_has 4 (some .boolean) rmX12_has [.ref a0, .int a1, .int a2] st (eb_pI st K) := by
  refine eb_of (by decide) (Nat.le_of_ble_eq_true rfl) (fun X P hP hX0 => ?_)
  show eb_G l Γ P X cX12_has RX12 4 (some .boolean) rmX12_has 0 [(0, .ref a0), (1, .int a1), (2, .int a2)] [] st 0 0
  refine eg_iconst dX12_has_0 kc_0 ?_
  refine eg_istore_n (lv' := [(3, .int 0), (0, .ref a0), (1, .int a1), (2, .int a2)]) dX12_has_1 rfl (Nat.le_of_ble_eq_true rfl) rfl ?_
  refine eg_sub [1, 2, 3, 0] rfl ?_
  refine eb_loop1_e (J := fun (x3_1 : Int32) => eb_G l Γ P X cX12_has RX12 4 (some .boolean) rmX12_has 2 [(0, .ref a0), (1, .int a1), (2, .int a2), (3, .int x3_1)] [] st 0 0) h ?_
  clear h
  intro r2 hr2 x3_1 h
  refine eg_iload_n 3 dX12_has_2 rfl rfl ?_
  refine eg_aload_n 0 dX12_has_3 rfl rfl ?_
  obtain ⟨fs, v3, he, hv, h⟩ := h
  refine eg_get 3 in_X12 he rfl (Nat.le_of_ble_eq_true rfl) q762 rfl hv dX12_has_4 ?_
  refine eg_iload_n 1 dX12_has_7 rfl rfl ?_
  obtain ⟨p4, rfl, h⟩ := h
  obtain ⟨nA, fA, he, hb, h⟩ := h
  refine eh_iald he hb dX12_has_8 (fun v5 ev5 => ?_)
  replace h := h v5 ev5
  refine eg_icmp_ge dX12_has_9 (fun c10 => ?_) (fun c10 => ?_)
  · replace h := h.1 c10
    refine eg_iconst dX12_has_35 kc_0 ?_
    exact eg_zret dX12_has_36 rfl (Nat.zero_le _) (Nat.zero_le _) (hP _ _ ⟨_, rfl, rfl, h⟩)
  · replace h := h.2 c10
    refine eg_aload_n 0 dX12_has_12 rfl rfl ?_
    obtain ⟨fs, v6, he, hv, h⟩ := h
    refine eg_get 4 in_X12 he rfl (Nat.le_of_ble_eq_true rfl) q763 rfl hv dX12_has_13 ?_
    refine eg_bipush dX12_has_16 kb_12 ?_
    refine eg_iload_n 1 dX12_has_18 rfl rfl ?_
    refine eg_imul dX12_has_19 ?_
    refine eg_iload_n 3 dX12_has_20 rfl rfl ?_
    refine eg_iadd dX12_has_21 ?_
    obtain ⟨p7, rfl, h⟩ := h
    obtain ⟨nA, fA, he, hb, h⟩ := h
    refine eh_iald he hb dX12_has_22 (fun v8 ev8 => ?_)
    replace h := h v8 ev8
    refine eg_iload_n 2 dX12_has_23 rfl rfl ?_
    refine eg_icmp_ne dX12_has_24 (fun c9 => ?_) (fun c9 => ?_)
    · replace h := h.2 c9
      refine eg_iinc (j := 3) (lv' := [(3, .int (x3_1 + 1)), (0, .ref a0), (1, .int a1), (2, .int a2)]) dX12_has_29 rfl (by rw [kc_1]) (Nat.le_of_ble_eq_true rfl) rfl ?_
      refine eg_goto dX12_has_32 ?_
      exact eg_sub [1, 2, 3, 0] rfl (hr2 (x3_1 + 1) h)
    · replace h := h.1 c9
      refine eg_iconst dX12_has_27 kc_1 ?_
      exact eg_zret dX12_has_28 rfl (Nat.zero_le _) (Nat.zero_le _) (hP _ _ ⟨_, rfl, rfl, h⟩)
def MX12_comes (Γ : eb_C) (st : eb_S) (a0 : Nat) (a1 : Int32) (a2 : Int32) (K : eb_S → Prop) : Prop :=
  eb_cs st a0 [11] ∧ MX12_has Γ st a0 a1 a2 (fun v1 => eb_br (v1 = 0) (eb_gr st a0 11 4 (fun v5 => eb_gr st a0 11 3 (fun v6 => eb_nn v6 (fun p7 => eb_li Γ st p7 0 a1 (fun v8 => eb_nn v5 (fun p9 => eb_wi Γ st p9 0 (((12 * a1) + v8)) a2 (fun g10 => eb_gr g10 a0 11 3 (fun v11 => eb_nn v11 (fun p12 => eb_li Γ g10 p12 0 a1 (fun v13 => eb_wi Γ g10 p12 0 a1 (v13 + 1) (fun g14 => K g14))))))))))) (K st))
abbrev rmX12_comes : Room := { frames := 2, cells := 0, slots := 0, locals := 35 }
theorem nX12_comes : eb_ar yX12_comes 2 := by decide +kernel
theorem dX12_comes_0 : eb_dc cX12_comes 0 (.aload_n 0) 1 1 := by decide +kernel
theorem dX12_comes_1 : eb_dc cX12_comes 1 (.iload_n 1) 1 2 := by decide +kernel
theorem dX12_comes_2 : eb_dc cX12_comes 2 (.iload_n 2) 1 3 := by decide +kernel
theorem dX12_comes_3 : eb_dc cX12_comes 3 (.invokevirtual 87) 3 6 := by decide +kernel
theorem dX12_comes_6 : eb_dj cX12_comes 6 (.ifCond .ne 30) 30 9 36 := by decide +kernel
theorem dX12_comes_9 : eb_dc cX12_comes 9 (.aload_n 0) 1 10 := by decide +kernel
theorem dX12_comes_10 : eb_dc cX12_comes 10 (.getfield 15) 3 13 := by decide +kernel
theorem dX12_comes_13 : eb_dc cX12_comes 13 (.bipush 12) 2 15 := by decide +kernel
theorem dX12_comes_15 : eb_dc cX12_comes 15 (.iload_n 1) 1 16 := by decide +kernel
theorem dX12_comes_16 : eb_dc cX12_comes 16 (.imul) 1 17 := by decide +kernel
theorem dX12_comes_17 : eb_dc cX12_comes 17 (.aload_n 0) 1 18 := by decide +kernel
theorem dX12_comes_18 : eb_dc cX12_comes 18 (.getfield 9) 3 21 := by decide +kernel
theorem dX12_comes_21 : eb_dc cX12_comes 21 (.iload_n 1) 1 22 := by decide +kernel
theorem dX12_comes_22 : eb_dc cX12_comes 22 (.iaload) 1 23 := by decide +kernel
theorem dX12_comes_23 : eb_dc cX12_comes 23 (.iadd) 1 24 := by decide +kernel
theorem dX12_comes_24 : eb_dc cX12_comes 24 (.iload_n 2) 1 25 := by decide +kernel
theorem dX12_comes_25 : eb_dc cX12_comes 25 (.iastore) 1 26 := by decide +kernel
theorem dX12_comes_26 : eb_dc cX12_comes 26 (.aload_n 0) 1 27 := by decide +kernel
theorem dX12_comes_27 : eb_dc cX12_comes 27 (.getfield 9) 3 30 := by decide +kernel
theorem dX12_comes_30 : eb_dc cX12_comes 30 (.iload_n 1) 1 31 := by decide +kernel
theorem dX12_comes_31 : eb_dc cX12_comes 31 (.dup2) 1 32 := by decide +kernel
theorem dX12_comes_32 : eb_dc cX12_comes 32 (.iaload) 1 33 := by decide +kernel
theorem dX12_comes_33 : eb_dc cX12_comes 33 (.iconst 1) 1 34 := by decide +kernel
theorem dX12_comes_34 : eb_dc cX12_comes 34 (.iadd) 1 35 := by decide +kernel
theorem dX12_comes_35 : eb_dc cX12_comes 35 (.iastore) 1 36 := by decide +kernel
theorem dX12_comes_36 : eb_dc cX12_comes 36 (.return_) 1 37 := by decide +kernel
theorem ctX12_comes {l : Launch} {Γ : eb_C} {st : eb_S} {a0 : Nat} {a1 : Int32} {a2 : Int32} {K : eb_S → Prop} (h : MX12_comes Γ st a0 a1 a2 K) : eb_Ct l Γ yX12_comes cX12_comes 3 (none) rmX12_comes [.ref a0, .int a1, .int a2] st (eb_oV K) := by
  refine eb_of (by decide) (Nat.le_of_ble_eq_true rfl) (fun X P hP hX0 => ?_)
  show eb_G l Γ P X cX12_comes RX12 3 (none) rmX12_comes 0 [(0, .ref a0), (1, .int a1), (2, .int a2)] [] st 0 0
  refine eg_aload_n 0 dX12_comes_0 rfl rfl ?_
  refine eg_iload_n 1 dX12_comes_1 rfl rfl ?_
  refine eg_iload_n 2 dX12_comes_2 rfl rfl ?_
  obtain ⟨hcs, h⟩ := h
  have hM0 := h
  clear h
  refine ec_VIp (rest := []) (ctX12_has hM0) (lw_V q709 q711 qs17 q89 q712) rfl rfl hcs nX12_has ⟨Nat.le_of_ble_eq_true rfl, Nat.le_of_ble_eq_true rfl⟩ ⟨rfl, rfl⟩ ⟨Nat.zero_le _, Nat.zero_le _⟩ rfl rfl (Nat.le_of_ble_eq_true rfl) dX12_comes_3 (fun v1 h => ?_)
  clear hM0
  refine eg_if_ne dX12_comes_6 (fun c15 => ?_) (fun c15 => ?_)
  · replace h := h.2 c15
    exact eg_vret dX12_comes_36 (Nat.zero_le _) (Nat.zero_le _) (hP _ _ ⟨rfl, h⟩)
  · replace h := h.1 c15
    refine eg_aload_n 0 dX12_comes_9 rfl rfl ?_
    obtain ⟨fs, v5, he, hv, h⟩ := h
    refine eg_get 4 in_X12 he rfl (Nat.le_of_ble_eq_true rfl) q763 rfl hv dX12_comes_10 ?_
    refine eg_bipush dX12_comes_13 kb_12 ?_
    refine eg_iload_n 1 dX12_comes_15 rfl rfl ?_
    refine eg_imul dX12_comes_16 ?_
    refine eg_aload_n 0 dX12_comes_17 rfl rfl ?_
    obtain ⟨fs, v6, he, hv, h⟩ := h
    refine eg_get 3 in_X12 he rfl (Nat.le_of_ble_eq_true rfl) q762 rfl hv dX12_comes_18 ?_
    refine eg_iload_n 1 dX12_comes_21 rfl rfl ?_
    obtain ⟨p7, rfl, h⟩ := h
    obtain ⟨nA, fA, he, hb, h⟩ := h
    refine eh_iald he hb dX12_comes_22 (fun v8 ev8 => ?_)
    replace h := h v8 ev8
    refine eg_iadd dX12_comes_23 ?_
    refine eg_iload_n 2 dX12_comes_24 rfl rfl ?_
    obtain ⟨p9, rfl, h⟩ := h
    obtain ⟨nA, fA, he, hb, h⟩ := h
    refine eh_iast he hb dX12_comes_25 (fun g10 eg10 => ?_)
    replace h := h g10 eg10
    refine eg_aload_n 0 dX12_comes_26 rfl rfl ?_
    obtain ⟨fs, v11, he, hv, h⟩ := h
    refine eg_get 3 in_X12 he rfl (Nat.le_of_ble_eq_true rfl) q762 rfl hv dX12_comes_27 ?_
    refine eg_iload_n 1 dX12_comes_30 rfl rfl ?_
    refine eg_dup2 dX12_comes_31 rfl (eb_rfc v11) ?_
    obtain ⟨p12, rfl, h⟩ := h
    obtain ⟨nA, fA, he, hb, h⟩ := h
    refine eh_iald he hb dX12_comes_32 (fun v13 ev13 => ?_)
    replace h := h v13 ev13
    refine eg_iconst dX12_comes_33 kc_1 ?_
    refine eg_iadd dX12_comes_34 ?_
    obtain ⟨nA, fA, he, hb, h⟩ := h
    refine eh_iast he hb dX12_comes_35 (fun g14 eg14 => ?_)
    replace h := h g14 eg14
    exact eg_vret dX12_comes_36 (Nat.zero_le _) (Nat.zero_le _) (hP _ _ ⟨rfl, h⟩)
def MX12_faceOf (Γ : eb_C) (st : eb_S) (a0 : Nat) (a1 : Int32) (a2 : Int32) (a3 : Int32) (K : Int32 → Prop) : Prop :=
  eb_loop1 (fun r2 (x4_1 : Int32) => eb_gi st a0 11 2 (fun v3 => eb_br (v3 ≤ x4_1) (K (-1)) (eb_jp0 (r2 (x4_1 + 1)) (fun k4 => eb_br (x4_1 = a3) (k4) (eb_cs st a0 [11] ∧ MX12_has Γ st a0 x4_1 a1 (fun v5 => eb_br (v5 = 0) (k4) (eb_cs st a0 [11] ∧ MX12_has Γ st a0 x4_1 a2 (fun v9 => eb_br (v9 = 0) (k4) (K x4_1))))))))) 0
abbrev rmX12_faceOf : Room := { frames := 2, cells := 0, slots := 0, locals := 35 }
theorem nX12_faceOf : eb_ar yX12_faceOf 3 := by decide +kernel
theorem dX12_faceOf_0 : eb_dc cX12_faceOf 0 (.iconst 0) 1 1 := by decide +kernel
theorem dX12_faceOf_1 : eb_dc cX12_faceOf 1 (.istore 4) 2 3 := by decide +kernel
theorem dX12_faceOf_3 : eb_dc cX12_faceOf 3 (.iload 4) 2 5 := by decide +kernel
theorem dX12_faceOf_5 : eb_dc cX12_faceOf 5 (.aload_n 0) 1 6 := by decide +kernel
theorem dX12_faceOf_6 : eb_dc cX12_faceOf 6 (.getfield 70) 3 9 := by decide +kernel
theorem dX12_faceOf_9 : eb_dj cX12_faceOf 9 (.if_icmp .ge 38) 38 12 47 := by decide +kernel
theorem dX12_faceOf_12 : eb_dc cX12_faceOf 12 (.iload 4) 2 14 := by decide +kernel
theorem dX12_faceOf_14 : eb_dc cX12_faceOf 14 (.iload_n 3) 1 15 := by decide +kernel
theorem dX12_faceOf_15 : eb_dj cX12_faceOf 15 (.if_icmp .eq 26) 26 18 41 := by decide +kernel
theorem dX12_faceOf_18 : eb_dc cX12_faceOf 18 (.aload_n 0) 1 19 := by decide +kernel
theorem dX12_faceOf_19 : eb_dc cX12_faceOf 19 (.iload 4) 2 21 := by decide +kernel
theorem dX12_faceOf_21 : eb_dc cX12_faceOf 21 (.iload_n 1) 1 22 := by decide +kernel
theorem dX12_faceOf_22 : eb_dc cX12_faceOf 22 (.invokevirtual 87) 3 25 := by decide +kernel
theorem dX12_faceOf_25 : eb_dj cX12_faceOf 25 (.ifCond .eq 16) 16 28 41 := by decide +kernel
theorem dX12_faceOf_28 : eb_dc cX12_faceOf 28 (.aload_n 0) 1 29 := by decide +kernel
theorem dX12_faceOf_29 : eb_dc cX12_faceOf 29 (.iload 4) 2 31 := by decide +kernel
theorem dX12_faceOf_31 : eb_dc cX12_faceOf 31 (.iload_n 2) 1 32 := by decide +kernel
theorem dX12_faceOf_32 : eb_dc cX12_faceOf 32 (.invokevirtual 87) 3 35 := by decide +kernel
theorem dX12_faceOf_35 : eb_dj cX12_faceOf 35 (.ifCond .eq 6) 6 38 41 := by decide +kernel
theorem dX12_faceOf_38 : eb_dc cX12_faceOf 38 (.iload 4) 2 40 := by decide +kernel
theorem dX12_faceOf_40 : eb_dc cX12_faceOf 40 (.ireturn) 1 41 := by decide +kernel
theorem dX12_faceOf_41 : eb_dc cX12_faceOf 41 (.iinc 4 1) 3 44 := by decide +kernel
theorem dX12_faceOf_44 : eb_dj cX12_faceOf 44 (.goto (-41)) (-41) 47 3 := by decide +kernel
theorem dX12_faceOf_47 : eb_dc cX12_faceOf 47 (.iconst (-1)) 1 48 := by decide +kernel
theorem dX12_faceOf_48 : eb_dc cX12_faceOf 48 (.ireturn) 1 49 := by decide +kernel
theorem ctX12_faceOf {l : Launch} {Γ : eb_C} {st : eb_S} {a0 : Nat} {a1 : Int32} {a2 : Int32} {a3 : Int32} {K : Int32 → Prop} (h : MX12_faceOf Γ st a0 a1 a2 a3 K) : eb_Ct l Γ yX12_faceOf cX12_faceOf 5 (some .int) rmX12_faceOf [.ref a0, .int a1, .int a2, .int a3] st (eb_pI st K) := by
  refine eb_of (by decide) (Nat.le_of_ble_eq_true rfl) (fun X P hP hX0 => ?_)
  show eb_G l Γ P X cX12_faceOf RX12 5 (some .int) rmX12_faceOf 0 [(0, .ref a0), (1, .int a1), (2, .int a2), (3, .int a3)] [] st 0 0
  refine eg_iconst dX12_faceOf_0 kc_0 ?_
  refine eg_istore (lv' := [(4, .int 0), (0, .ref a0), (1, .int a1), (2, .int a2), (3, .int a3)]) dX12_faceOf_1 (Nat.le_of_ble_eq_true rfl) rfl ?_
  refine eg_sub [1, 2, 3, 4, 0] rfl ?_
  refine eb_loop1_e (J := fun (x4_1 : Int32) => eb_G l Γ P X cX12_faceOf RX12 5 (some .int) rmX12_faceOf 3 [(0, .ref a0), (1, .int a1), (2, .int a2), (3, .int a3), (4, .int x4_1)] [] st 0 0) h ?_
  clear h
  intro r2 hr2 x4_1 h
  refine eg_iload 4 dX12_faceOf_3 rfl ?_
  refine eg_aload_n 0 dX12_faceOf_5 rfl rfl ?_
  obtain ⟨fs, v3, he, hv, h⟩ := h
  refine eg_get 2 in_X12 he rfl (Nat.le_of_ble_eq_true rfl) q760 rfl hv dX12_faceOf_6 ?_
  refine eg_icmp_ge dX12_faceOf_9 (fun c16 => ?_) (fun c16 => ?_)
  · replace h := h.1 c16
    refine eg_iconst dX12_faceOf_47 kc_m1 ?_
    exact eg_iret dX12_faceOf_48 (Nat.zero_le _) (Nat.zero_le _) (hP _ _ ⟨_, rfl, rfl, h⟩)
  · replace h := h.2 c16
    refine eg_iload 4 dX12_faceOf_12 rfl ?_
    refine eg_iload_n 3 dX12_faceOf_14 rfl rfl ?_
    refine eb_jp0_e (J := eb_G l Γ P X cX12_faceOf RX12 5 (some .int) rmX12_faceOf 41 [(0, .ref a0), (1, .int a1), (2, .int a2), (3, .int a3), (4, .int x4_1)] [] st 0 0) h ?_ ?_
    · clear h
      intro  h
      refine eg_iinc (j := 4) (lv' := [(4, .int (x4_1 + 1)), (0, .ref a0), (1, .int a1), (2, .int a2), (3, .int a3)]) dX12_faceOf_41 rfl (by rw [kc_1]) (Nat.le_of_ble_eq_true rfl) rfl ?_
      refine eg_goto dX12_faceOf_44 ?_
      exact eg_sub [1, 2, 3, 4, 0] rfl (hr2 (x4_1 + 1) h)
    · clear h
      intro k4 hk4 h
      refine eg_icmp_eq dX12_faceOf_15 (fun c15 => ?_) (fun c15 => ?_)
      · replace h := h.1 c15
        exact hk4 h
      · replace h := h.2 c15
        refine eg_aload_n 0 dX12_faceOf_18 rfl rfl ?_
        refine eg_iload 4 dX12_faceOf_19 rfl ?_
        refine eg_iload_n 1 dX12_faceOf_21 rfl rfl ?_
        obtain ⟨hcs, h⟩ := h
        have hM0 := h
        clear h
        refine ec_VIp (rest := []) (ctX12_has hM0) (lw_V q709 q711 qs17 q89 q712) rfl rfl hcs nX12_has ⟨Nat.le_of_ble_eq_true rfl, Nat.le_of_ble_eq_true rfl⟩ ⟨rfl, rfl⟩ ⟨Nat.zero_le _, Nat.zero_le _⟩ rfl rfl (Nat.le_of_ble_eq_true rfl) dX12_faceOf_22 (fun v5 h => ?_)
        clear hM0
        refine eg_if_eq dX12_faceOf_25 (fun c14 => ?_) (fun c14 => ?_)
        · replace h := h.1 c14
          exact hk4 h
        · replace h := h.2 c14
          refine eg_aload_n 0 dX12_faceOf_28 rfl rfl ?_
          refine eg_iload 4 dX12_faceOf_29 rfl ?_
          refine eg_iload_n 2 dX12_faceOf_31 rfl rfl ?_
          obtain ⟨hcs, h⟩ := h
          have hM0 := h
          clear h
          refine ec_VIp (rest := []) (ctX12_has hM0) (lw_V q709 q711 qs17 q89 q712) rfl rfl hcs nX12_has ⟨Nat.le_of_ble_eq_true rfl, Nat.le_of_ble_eq_true rfl⟩ ⟨rfl, rfl⟩ ⟨Nat.zero_le _, Nat.zero_le _⟩ rfl rfl (Nat.le_of_ble_eq_true rfl) dX12_faceOf_32 (fun v9 h => ?_)
          clear hM0
          refine eg_if_eq dX12_faceOf_35 (fun c13 => ?_) (fun c13 => ?_)
          · replace h := h.1 c13
            exact hk4 h
          · replace h := h.2 c13
            refine eg_iload 4 dX12_faceOf_38 rfl ?_
            exact eg_iret dX12_faceOf_40 (Nat.zero_le _) (Nat.zero_le _) (hP _ _ ⟨_, rfl, rfl, h⟩)
theorem gUX12_91 : ∀ c ∈ [9, 10, 13], ∃ (C : String) (T : u_T) (N : Nat), eb_cl[c]? = some (C, T, N) ∧ GoodIn lw_all (va_wsU "EvenBodies$Hull" 91 C "EvenBodies$Net" ⟨"EvenBodies$Net", "degree", "(I)I"⟩ yX10_degree (ws_ yX10_degree cX10_degree 2 (some .int))) := by
  intro c hc
  simp only [List.mem_cons, List.not_mem_nil, or_false] at hc
  rcases hc with rfl | rfl | rfl
  · exact ⟨_, _, _, rfl, lw_U q719 q651 q650 q649 q87 q654⟩
  · exact ⟨_, _, _, rfl, lw_U q719 q651 q652 q649 q87 q654⟩
  · exact ⟨_, _, _, rfl, lw_U q719 q651 q653 q649 q87 q654⟩
theorem gUX12_94 : ∀ c ∈ [9, 10, 13], ∃ (C : String) (T : u_T) (N : Nat), eb_cl[c]? = some (C, T, N) ∧ GoodIn lw_all (va_wsU "EvenBodies$Hull" 94 C "EvenBodies$Net" ⟨"EvenBodies$Net", "at", "(II)I"⟩ yX10_at (ws_ yX10_at cX10_at 3 (some .int))) := by
  intro c hc
  simp only [List.mem_cons, List.not_mem_nil, or_false] at hc
  rcases hc with rfl | rfl | rfl
  · exact ⟨_, _, _, rfl, lw_U q718 q621 q620 q619 q87 q624⟩
  · exact ⟨_, _, _, rfl, lw_U q718 q621 q622 q619 q87 q624⟩
  · exact ⟨_, _, _, rfl, lw_U q718 q621 q623 q619 q87 q624⟩
def MX12_other (Γ : eb_C) (st : eb_S) (a0 : Nat) (a1 : Int32) (a2 : Int32) (a3 : Int32) (K : Int32 → Prop) : Prop :=
  eb_loop1 (fun r2 (x4_1 : Int32) => eb_gr st a0 11 1 (fun v3 => eb_nn v3 (fun p4 => eb_cs st p4 [9, 10, 13] ∧ MX10_degree Γ st p4 a1 (fun v5 => eb_br (v5 ≤ x4_1) (K (-1)) (eb_gr st a0 11 1 (fun v9 => eb_nn v9 (fun p10 => eb_cs st p10 [9, 10, 13] ∧ MX10_at Γ st p10 a1 x4_1 (fun v11 => eb_jp0 (r2 (x4_1 + 1)) (fun k15 => eb_br (v11 = a2) (k15) (eb_cs st a0 [11] ∧ MX12_has Γ st a0 a3 v11 (fun v16 => eb_br (v16 = 0) (k15) (K v11)))))))))))) 0
abbrev rmX12_other : Room := { frames := 2, cells := 0, slots := 0, locals := 35 }
theorem nX12_other : eb_ar yX12_other 3 := by decide +kernel
theorem dX12_other_0 : eb_dc cX12_other 0 (.iconst 0) 1 1 := by decide +kernel
theorem dX12_other_1 : eb_dc cX12_other 1 (.istore 4) 2 3 := by decide +kernel
theorem dX12_other_3 : eb_dc cX12_other 3 (.iload 4) 2 5 := by decide +kernel
theorem dX12_other_5 : eb_dc cX12_other 5 (.aload_n 0) 1 6 := by decide +kernel
theorem dX12_other_6 : eb_dc cX12_other 6 (.getfield 27) 3 9 := by decide +kernel
theorem dX12_other_9 : eb_dc cX12_other 9 (.iload_n 1) 1 10 := by decide +kernel
theorem dX12_other_10 : eb_dc cX12_other 10 (.invokevirtual 91) 3 13 := by decide +kernel
theorem dX12_other_13 : eb_dj cX12_other 13 (.if_icmp .ge 40) 40 16 53 := by decide +kernel
theorem dX12_other_16 : eb_dc cX12_other 16 (.aload_n 0) 1 17 := by decide +kernel
theorem dX12_other_17 : eb_dc cX12_other 17 (.getfield 27) 3 20 := by decide +kernel
theorem dX12_other_20 : eb_dc cX12_other 20 (.iload_n 1) 1 21 := by decide +kernel
theorem dX12_other_21 : eb_dc cX12_other 21 (.iload 4) 2 23 := by decide +kernel
theorem dX12_other_23 : eb_dc cX12_other 23 (.invokevirtual 94) 3 26 := by decide +kernel
theorem dX12_other_26 : eb_dc cX12_other 26 (.istore 5) 2 28 := by decide +kernel
theorem dX12_other_28 : eb_dc cX12_other 28 (.iload 5) 2 30 := by decide +kernel
theorem dX12_other_30 : eb_dc cX12_other 30 (.iload_n 2) 1 31 := by decide +kernel
theorem dX12_other_31 : eb_dj cX12_other 31 (.if_icmp .eq 16) 16 34 47 := by decide +kernel
theorem dX12_other_34 : eb_dc cX12_other 34 (.aload_n 0) 1 35 := by decide +kernel
theorem dX12_other_35 : eb_dc cX12_other 35 (.iload_n 3) 1 36 := by decide +kernel
theorem dX12_other_36 : eb_dc cX12_other 36 (.iload 5) 2 38 := by decide +kernel
theorem dX12_other_38 : eb_dc cX12_other 38 (.invokevirtual 87) 3 41 := by decide +kernel
theorem dX12_other_41 : eb_dj cX12_other 41 (.ifCond .eq 6) 6 44 47 := by decide +kernel
theorem dX12_other_44 : eb_dc cX12_other 44 (.iload 5) 2 46 := by decide +kernel
theorem dX12_other_46 : eb_dc cX12_other 46 (.ireturn) 1 47 := by decide +kernel
theorem dX12_other_47 : eb_dc cX12_other 47 (.iinc 4 1) 3 50 := by decide +kernel
theorem dX12_other_50 : eb_dj cX12_other 50 (.goto (-47)) (-47) 53 3 := by decide +kernel
theorem dX12_other_53 : eb_dc cX12_other 53 (.iconst (-1)) 1 54 := by decide +kernel
theorem dX12_other_54 : eb_dc cX12_other 54 (.ireturn) 1 55 := by decide +kernel
theorem ctX12_other {l : Launch} {Γ : eb_C} {st : eb_S} {a0 : Nat} {a1 : Int32} {a2 : Int32} {a3 : Int32} {K : Int32 → Prop} (h : MX12_other Γ st a0 a1 a2 a3 K) : eb_Ct l Γ yX12_other cX12_other 6 (some .int) rmX12_other [.ref a0, .int a1, .int a2, .int a3] st (eb_pI st K) := by
  refine eb_of (by decide) (Nat.le_of_ble_eq_true rfl) (fun X P hP hX0 => ?_)
  show eb_G l Γ P X cX12_other RX12 6 (some .int) rmX12_other 0 [(0, .ref a0), (1, .int a1), (2, .int a2), (3, .int a3)] [] st 0 0
  refine eg_iconst dX12_other_0 kc_0 ?_
  refine eg_istore (lv' := [(4, .int 0), (0, .ref a0), (1, .int a1), (2, .int a2), (3, .int a3)]) dX12_other_1 (Nat.le_of_ble_eq_true rfl) rfl ?_
  refine eg_sub [1, 2, 3, 4, 0] rfl ?_
  refine eb_loop1_e (J := fun (x4_1 : Int32) => eb_G l Γ P X cX12_other RX12 6 (some .int) rmX12_other 3 [(0, .ref a0), (1, .int a1), (2, .int a2), (3, .int a3), (4, .int x4_1)] [] st 0 0) h ?_
  clear h
  intro r2 hr2 x4_1 h
  refine eg_iload 4 dX12_other_3 rfl ?_
  refine eg_aload_n 0 dX12_other_5 rfl rfl ?_
  obtain ⟨fs, v3, he, hv, h⟩ := h
  refine eg_get 1 in_X12 he rfl (Nat.le_of_ble_eq_true rfl) q758 rfl hv dX12_other_6 ?_
  refine eg_iload_n 1 dX12_other_9 rfl rfl ?_
  obtain ⟨p4, rfl, h⟩ := h
  obtain ⟨hcs, h⟩ := h
  have hM0 := h
  clear h
  refine ec_UIp (rest := [.int x4_1]) (ctX10_degree hM0) gUX12_91 rfl hcs nX10_degree ⟨Nat.le_of_ble_eq_true rfl, Nat.le_of_ble_eq_true rfl⟩ ⟨rfl, rfl⟩ ⟨Nat.zero_le _, Nat.zero_le _⟩ rfl rfl (Nat.le_of_ble_eq_true rfl) dX12_other_10 (fun v5 h => ?_)
  clear hM0
  refine eg_icmp_ge dX12_other_13 (fun c22 => ?_) (fun c22 => ?_)
  · replace h := h.1 c22
    refine eg_iconst dX12_other_53 kc_m1 ?_
    exact eg_iret dX12_other_54 (Nat.zero_le _) (Nat.zero_le _) (hP _ _ ⟨_, rfl, rfl, h⟩)
  · replace h := h.2 c22
    refine eg_aload_n 0 dX12_other_16 rfl rfl ?_
    obtain ⟨fs, v9, he, hv, h⟩ := h
    refine eg_get 1 in_X12 he rfl (Nat.le_of_ble_eq_true rfl) q758 rfl hv dX12_other_17 ?_
    refine eg_iload_n 1 dX12_other_20 rfl rfl ?_
    refine eg_iload 4 dX12_other_21 rfl ?_
    obtain ⟨p10, rfl, h⟩ := h
    obtain ⟨hcs, h⟩ := h
    have hM0 := h
    clear h
    refine ec_UIp (rest := []) (ctX10_at hM0) gUX12_94 rfl hcs nX10_at ⟨Nat.le_of_ble_eq_true rfl, Nat.le_of_ble_eq_true rfl⟩ ⟨rfl, rfl⟩ ⟨Nat.zero_le _, Nat.zero_le _⟩ rfl rfl (Nat.le_of_ble_eq_true rfl) dX12_other_23 (fun v11 h => ?_)
    clear hM0
    refine eg_istore (lv' := [(5, .int v11), (0, .ref a0), (1, .int a1), (2, .int a2), (3, .int a3), (4, .int x4_1)]) dX12_other_26 (Nat.le_of_ble_eq_true rfl) rfl ?_
    refine eg_iload 0 dX12_other_28 rfl ?_
    refine eg_iload_n 3 dX12_other_30 rfl rfl ?_
    refine eb_jp0_e (J := eb_G l Γ P X cX12_other RX12 6 (some .int) rmX12_other 47 [(0, .ref a0), (1, .int a1), (2, .int a2), (3, .int a3), (4, .int x4_1)] [] st 0 0) h ?_ ?_
    · clear h
      intro  h
      refine eg_iinc (j := 4) (lv' := [(4, .int (x4_1 + 1)), (0, .ref a0), (1, .int a1), (2, .int a2), (3, .int a3)]) dX12_other_47 rfl (by rw [kc_1]) (Nat.le_of_ble_eq_true rfl) rfl ?_
      refine eg_goto dX12_other_50 ?_
      exact eg_sub [1, 2, 3, 4, 0] rfl (hr2 (x4_1 + 1) h)
    · clear h
      intro k15 hk15 h
      refine eg_icmp_eq dX12_other_31 (fun c21 => ?_) (fun c21 => ?_)
      · replace h := h.1 c21
        exact eg_sub [1, 2, 3, 4, 5] rfl (hk15 h)
      · replace h := h.2 c21
        refine eg_aload_n 1 dX12_other_34 rfl rfl ?_
        refine eg_iload_n 4 dX12_other_35 rfl rfl ?_
        refine eg_iload 0 dX12_other_36 rfl ?_
        obtain ⟨hcs, h⟩ := h
        have hM0 := h
        clear h
        refine ec_VIp (rest := []) (ctX12_has hM0) (lw_V q709 q711 qs17 q89 q712) rfl rfl hcs nX12_has ⟨Nat.le_of_ble_eq_true rfl, Nat.le_of_ble_eq_true rfl⟩ ⟨rfl, rfl⟩ ⟨Nat.zero_le _, Nat.zero_le _⟩ rfl rfl (Nat.le_of_ble_eq_true rfl) dX12_other_38 (fun v16 h => ?_)
        clear hM0
        refine eg_if_eq dX12_other_41 (fun c20 => ?_) (fun c20 => ?_)
        · replace h := h.1 c20
          exact eg_sub [1, 2, 3, 4, 5] rfl (hk15 h)
        · replace h := h.2 c20
          refine eg_iload 0 dX12_other_44 rfl ?_
          exact eg_iret dX12_other_46 (Nat.zero_le _) (Nat.zero_le _) (hP _ _ ⟨_, rfl, rfl, h⟩)
def MX12_neighbour (Γ : eb_C) (st : eb_S) (a0 : Nat) (a1 : Int32) (a2 : Int32) (K : Int32 → Prop) : Prop :=
  eb_gr st a0 11 5 (fun v1 => eb_nn v1 (fun p2 => eb_li Γ st p2 0 (((8 * a1) + a2)) (fun v3 => K v3)))
abbrev rmX12_neighbour : Room := { frames := 1, cells := 0, slots := 0, locals := 12 }
theorem nX12_neighbour : eb_ar yX12_neighbour 2 := by decide +kernel
theorem dX12_neighbour_0 : eb_dc cX12_neighbour 0 (.aload_n 0) 1 1 := by decide +kernel
theorem dX12_neighbour_1 : eb_dc cX12_neighbour 1 (.getfield 37) 3 4 := by decide +kernel
theorem dX12_neighbour_4 : eb_dc cX12_neighbour 4 (.bipush 8) 2 6 := by decide +kernel
theorem dX12_neighbour_6 : eb_dc cX12_neighbour 6 (.iload_n 1) 1 7 := by decide +kernel
theorem dX12_neighbour_7 : eb_dc cX12_neighbour 7 (.imul) 1 8 := by decide +kernel
theorem dX12_neighbour_8 : eb_dc cX12_neighbour 8 (.iload_n 2) 1 9 := by decide +kernel
theorem dX12_neighbour_9 : eb_dc cX12_neighbour 9 (.iadd) 1 10 := by decide +kernel
theorem dX12_neighbour_10 : eb_dc cX12_neighbour 10 (.iaload) 1 11 := by decide +kernel
theorem dX12_neighbour_11 : eb_dc cX12_neighbour 11 (.ireturn) 1 12 := by decide +kernel
theorem ctX12_neighbour {l : Launch} {Γ : eb_C} {st : eb_S} {a0 : Nat} {a1 : Int32} {a2 : Int32} {K : Int32 → Prop} (h : MX12_neighbour Γ st a0 a1 a2 K) : eb_Ct l Γ yX12_neighbour cX12_neighbour 3 (some .int) rmX12_neighbour [.ref a0, .int a1, .int a2] st (eb_pI st K) := by
  refine eb_of (by decide) (Nat.le_of_ble_eq_true rfl) (fun X P hP hX0 => ?_)
  show eb_G l Γ P X cX12_neighbour RX12 3 (some .int) rmX12_neighbour 0 [(0, .ref a0), (1, .int a1), (2, .int a2)] [] st 0 0
  refine eg_aload_n 0 dX12_neighbour_0 rfl rfl ?_
  obtain ⟨fs, v1, he, hv, h⟩ := h
  refine eg_get 5 in_X12 he rfl (Nat.le_of_ble_eq_true rfl) q764 rfl hv dX12_neighbour_1 ?_
  refine eg_bipush dX12_neighbour_4 kb_8 ?_
  refine eg_iload_n 1 dX12_neighbour_6 rfl rfl ?_
  refine eg_imul dX12_neighbour_7 ?_
  refine eg_iload_n 2 dX12_neighbour_8 rfl rfl ?_
  refine eg_iadd dX12_neighbour_9 ?_
  obtain ⟨p2, rfl, h⟩ := h
  obtain ⟨nA, fA, he, hb, h⟩ := h
  refine eh_iald he hb dX12_neighbour_10 (fun v3 ev3 => ?_)
  replace h := h v3 ev3
  exact eg_iret dX12_neighbour_11 (Nat.zero_le _) (Nat.zero_le _) (hP _ _ ⟨_, rfl, rfl, h⟩)
def MX12_goesRound (Γ : eb_C) (st : eb_S) (a0 : Nat) (a1 : Int32) (K : eb_S → Prop) : Prop :=
  eb_gr st a0 11 1 (fun v1 => eb_nn v1 (fun p2 => eb_cs st p2 [9, 10, 13] ∧ MX10_at Γ st p2 a1 0 (fun v3 => eb_loop4 (fun r11 (x2_7 : Int32) (x3_8 : Int32) (x4_9 : Int32) (g10 : eb_S) => eb_gr g10 a0 11 1 (fun v12 => eb_nn v12 (fun p13 => eb_cs g10 p13 [9, 10, 13] ∧ MX10_degree Γ g10 p13 a1 (fun v14 => eb_br (v14 ≤ x4_9) (K g10) (eb_gr g10 a0 11 5 (fun v18 => eb_nn v18 (fun p19 => eb_wi Γ g10 p19 0 (((8 * a1) + x4_9)) x2_7 (fun g20 => eb_cs g20 a0 [11] ∧ MX12_faceOf Γ g20 a0 a1 x2_7 x3_8 (fun v21 => eb_jp1 (fun (s25 : Int32) => eb_gr g20 a0 11 6 (fun v26 => eb_nn v26 (fun p27 => eb_wi Γ g20 p27 0 (((8 * a1) + x4_9)) s25 (fun g28 => eb_jp1 (fun (s29 : Int32) => eb_jp1 (fun (s30 : Int32) => r11 s30 s25 (x4_9 + 1) g28) (fun k31 => eb_br (s29 = (-1)) (eb_cs g28 a0 [11] ∧ MX12_neighbour Γ g28 a0 a1 0 (fun v32 => k31 v32)) (k31 s29))) (fun k37 => eb_br (s25 = (-1)) (k37 (-1)) (eb_cs g28 a0 [11] ∧ MX12_other Γ g28 a0 a1 x2_7 s25 (fun v38 => k37 v38))))))) (fun k43 => eb_br (v21 = (-1)) (k43 x3_8) (k43 v21))))))))))) v3 (-1) 0 st)))
abbrev rmX12_goesRound : Room := { frames := 3, cells := 0, slots := 0, locals := 60 }
theorem nX12_goesRound : eb_ar yX12_goesRound 1 := by decide +kernel
theorem dX12_goesRound_0 : eb_dc cX12_goesRound 0 (.aload_n 0) 1 1 := by decide +kernel
theorem dX12_goesRound_1 : eb_dc cX12_goesRound 1 (.getfield 27) 3 4 := by decide +kernel
theorem dX12_goesRound_4 : eb_dc cX12_goesRound 4 (.iload_n 1) 1 5 := by decide +kernel
theorem dX12_goesRound_5 : eb_dc cX12_goesRound 5 (.iconst 0) 1 6 := by decide +kernel
theorem dX12_goesRound_6 : eb_dc cX12_goesRound 6 (.invokevirtual 94) 3 9 := by decide +kernel
theorem dX12_goesRound_9 : eb_dc cX12_goesRound 9 (.istore_n 2) 1 10 := by decide +kernel
theorem dX12_goesRound_10 : eb_dc cX12_goesRound 10 (.iconst (-1)) 1 11 := by decide +kernel
theorem dX12_goesRound_11 : eb_dc cX12_goesRound 11 (.istore_n 3) 1 12 := by decide +kernel
theorem dX12_goesRound_12 : eb_dc cX12_goesRound 12 (.iconst 0) 1 13 := by decide +kernel
theorem dX12_goesRound_13 : eb_dc cX12_goesRound 13 (.istore 4) 2 15 := by decide +kernel
theorem dX12_goesRound_15 : eb_dc cX12_goesRound 15 (.iload 4) 2 17 := by decide +kernel
theorem dX12_goesRound_17 : eb_dc cX12_goesRound 17 (.aload_n 0) 1 18 := by decide +kernel
theorem dX12_goesRound_18 : eb_dc cX12_goesRound 18 (.getfield 27) 3 21 := by decide +kernel
theorem dX12_goesRound_21 : eb_dc cX12_goesRound 21 (.iload_n 1) 1 22 := by decide +kernel
theorem dX12_goesRound_22 : eb_dc cX12_goesRound 22 (.invokevirtual 91) 3 25 := by decide +kernel
theorem dX12_goesRound_25 : eb_dj cX12_goesRound 25 (.if_icmp .ge 93) 93 28 118 := by decide +kernel
theorem dX12_goesRound_28 : eb_dc cX12_goesRound 28 (.aload_n 0) 1 29 := by decide +kernel
theorem dX12_goesRound_29 : eb_dc cX12_goesRound 29 (.getfield 37) 3 32 := by decide +kernel
theorem dX12_goesRound_32 : eb_dc cX12_goesRound 32 (.bipush 8) 2 34 := by decide +kernel
theorem dX12_goesRound_34 : eb_dc cX12_goesRound 34 (.iload_n 1) 1 35 := by decide +kernel
theorem dX12_goesRound_35 : eb_dc cX12_goesRound 35 (.imul) 1 36 := by decide +kernel
theorem dX12_goesRound_36 : eb_dc cX12_goesRound 36 (.iload 4) 2 38 := by decide +kernel
theorem dX12_goesRound_38 : eb_dc cX12_goesRound 38 (.iadd) 1 39 := by decide +kernel
theorem dX12_goesRound_39 : eb_dc cX12_goesRound 39 (.iload_n 2) 1 40 := by decide +kernel
theorem dX12_goesRound_40 : eb_dc cX12_goesRound 40 (.iastore) 1 41 := by decide +kernel
theorem dX12_goesRound_41 : eb_dc cX12_goesRound 41 (.aload_n 0) 1 42 := by decide +kernel
theorem dX12_goesRound_42 : eb_dc cX12_goesRound 42 (.iload_n 1) 1 43 := by decide +kernel
theorem dX12_goesRound_43 : eb_dc cX12_goesRound 43 (.iload_n 2) 1 44 := by decide +kernel
theorem dX12_goesRound_44 : eb_dc cX12_goesRound 44 (.iload_n 3) 1 45 := by decide +kernel
theorem dX12_goesRound_45 : eb_dc cX12_goesRound 45 (.invokevirtual 101) 3 48 := by decide +kernel
theorem dX12_goesRound_48 : eb_dc cX12_goesRound 48 (.istore 5) 2 50 := by decide +kernel
theorem dX12_goesRound_50 : eb_dc cX12_goesRound 50 (.iload 5) 2 52 := by decide +kernel
theorem dX12_goesRound_52 : eb_dc cX12_goesRound 52 (.iconst (-1)) 1 53 := by decide +kernel
theorem dX12_goesRound_53 : eb_dj cX12_goesRound 53 (.if_icmp .ne 7) 7 56 60 := by decide +kernel
theorem dX12_goesRound_56 : eb_dc cX12_goesRound 56 (.iload_n 3) 1 57 := by decide +kernel
theorem dX12_goesRound_57 : eb_dj cX12_goesRound 57 (.goto 5) 5 60 62 := by decide +kernel
theorem dX12_goesRound_60 : eb_dc cX12_goesRound 60 (.iload 5) 2 62 := by decide +kernel
theorem dX12_goesRound_62 : eb_dc cX12_goesRound 62 (.istore_n 3) 1 63 := by decide +kernel
theorem dX12_goesRound_63 : eb_dc cX12_goesRound 63 (.aload_n 0) 1 64 := by decide +kernel
theorem dX12_goesRound_64 : eb_dc cX12_goesRound 64 (.getfield 40) 3 67 := by decide +kernel
theorem dX12_goesRound_67 : eb_dc cX12_goesRound 67 (.bipush 8) 2 69 := by decide +kernel
theorem dX12_goesRound_69 : eb_dc cX12_goesRound 69 (.iload_n 1) 1 70 := by decide +kernel
theorem dX12_goesRound_70 : eb_dc cX12_goesRound 70 (.imul) 1 71 := by decide +kernel
theorem dX12_goesRound_71 : eb_dc cX12_goesRound 71 (.iload 4) 2 73 := by decide +kernel
theorem dX12_goesRound_73 : eb_dc cX12_goesRound 73 (.iadd) 1 74 := by decide +kernel
theorem dX12_goesRound_74 : eb_dc cX12_goesRound 74 (.iload_n 3) 1 75 := by decide +kernel
theorem dX12_goesRound_75 : eb_dc cX12_goesRound 75 (.iastore) 1 76 := by decide +kernel
theorem dX12_goesRound_76 : eb_dc cX12_goesRound 76 (.iload_n 3) 1 77 := by decide +kernel
theorem dX12_goesRound_77 : eb_dc cX12_goesRound 77 (.iconst (-1)) 1 78 := by decide +kernel
theorem dX12_goesRound_78 : eb_dj cX12_goesRound 78 (.if_icmp .ne 7) 7 81 85 := by decide +kernel
theorem dX12_goesRound_81 : eb_dc cX12_goesRound 81 (.iconst (-1)) 1 82 := by decide +kernel
theorem dX12_goesRound_82 : eb_dj cX12_goesRound 82 (.goto 10) 10 85 92 := by decide +kernel
theorem dX12_goesRound_85 : eb_dc cX12_goesRound 85 (.aload_n 0) 1 86 := by decide +kernel
theorem dX12_goesRound_86 : eb_dc cX12_goesRound 86 (.iload_n 1) 1 87 := by decide +kernel
theorem dX12_goesRound_87 : eb_dc cX12_goesRound 87 (.iload_n 2) 1 88 := by decide +kernel
theorem dX12_goesRound_88 : eb_dc cX12_goesRound 88 (.iload_n 3) 1 89 := by decide +kernel
theorem dX12_goesRound_89 : eb_dc cX12_goesRound 89 (.invokevirtual 105) 3 92 := by decide +kernel
theorem dX12_goesRound_92 : eb_dc cX12_goesRound 92 (.istore 6) 2 94 := by decide +kernel
theorem dX12_goesRound_94 : eb_dc cX12_goesRound 94 (.iload 6) 2 96 := by decide +kernel
theorem dX12_goesRound_96 : eb_dc cX12_goesRound 96 (.iconst (-1)) 1 97 := by decide +kernel
theorem dX12_goesRound_97 : eb_dj cX12_goesRound 97 (.if_icmp .ne 12) 12 100 109 := by decide +kernel
theorem dX12_goesRound_100 : eb_dc cX12_goesRound 100 (.aload_n 0) 1 101 := by decide +kernel
theorem dX12_goesRound_101 : eb_dc cX12_goesRound 101 (.iload_n 1) 1 102 := by decide +kernel
theorem dX12_goesRound_102 : eb_dc cX12_goesRound 102 (.iconst 0) 1 103 := by decide +kernel
theorem dX12_goesRound_103 : eb_dc cX12_goesRound 103 (.invokevirtual 108) 3 106 := by decide +kernel
theorem dX12_goesRound_106 : eb_dj cX12_goesRound 106 (.goto 5) 5 109 111 := by decide +kernel
theorem dX12_goesRound_109 : eb_dc cX12_goesRound 109 (.iload 6) 2 111 := by decide +kernel
theorem dX12_goesRound_111 : eb_dc cX12_goesRound 111 (.istore_n 2) 1 112 := by decide +kernel
theorem dX12_goesRound_112 : eb_dc cX12_goesRound 112 (.iinc 4 1) 3 115 := by decide +kernel
theorem dX12_goesRound_115 : eb_dj cX12_goesRound 115 (.goto (-100)) (-100) 118 15 := by decide +kernel
theorem dX12_goesRound_118 : eb_dc cX12_goesRound 118 (.return_) 1 119 := by decide +kernel
theorem ctX12_goesRound {l : Launch} {Γ : eb_C} {st : eb_S} {a0 : Nat} {a1 : Int32} {K : eb_S → Prop} (h : MX12_goesRound Γ st a0 a1 K) : eb_Ct l Γ yX12_goesRound cX12_goesRound 7 (none) rmX12_goesRound [.ref a0, .int a1] st (eb_oV K) := by
  refine eb_of (by decide) (Nat.le_of_ble_eq_true rfl) (fun X P hP hX0 => ?_)
  show eb_G l Γ P X cX12_goesRound RX12 7 (none) rmX12_goesRound 0 [(0, .ref a0), (1, .int a1)] [] st 0 0
  refine eg_aload_n 0 dX12_goesRound_0 rfl rfl ?_
  obtain ⟨fs, v1, he, hv, h⟩ := h
  refine eg_get 1 in_X12 he rfl (Nat.le_of_ble_eq_true rfl) q758 rfl hv dX12_goesRound_1 ?_
  refine eg_iload_n 1 dX12_goesRound_4 rfl rfl ?_
  refine eg_iconst dX12_goesRound_5 kc_0 ?_
  obtain ⟨p2, rfl, h⟩ := h
  obtain ⟨hcs, h⟩ := h
  have hM0 := h
  clear h
  refine ec_UIp (rest := []) (ctX10_at hM0) gUX12_94 rfl hcs nX10_at ⟨Nat.le_of_ble_eq_true rfl, Nat.le_of_ble_eq_true rfl⟩ ⟨rfl, rfl⟩ ⟨Nat.zero_le _, Nat.zero_le _⟩ rfl rfl (Nat.le_of_ble_eq_true rfl) dX12_goesRound_6 (fun v3 h => ?_)
  clear hM0
  refine eg_istore_n (lv' := [(2, .int v3), (0, .ref a0), (1, .int a1)]) dX12_goesRound_9 rfl (Nat.le_of_ble_eq_true rfl) rfl ?_
  refine eg_iconst dX12_goesRound_10 kc_m1 ?_
  refine eg_istore_n (lv' := [(3, .int (-1)), (2, .int v3), (0, .ref a0), (1, .int a1)]) dX12_goesRound_11 rfl (Nat.le_of_ble_eq_true rfl) rfl ?_
  refine eg_iconst dX12_goesRound_12 kc_0 ?_
  refine eg_istore (lv' := [(4, .int 0), (3, .int (-1)), (2, .int v3), (0, .ref a0), (1, .int a1)]) dX12_goesRound_13 (Nat.le_of_ble_eq_true rfl) rfl ?_
  refine eg_sub [3, 4, 2, 1, 0] rfl ?_
  refine eb_loop4_e (J := fun (x2_7 : Int32) (x3_8 : Int32) (x4_9 : Int32) (g10 : eb_S) => eb_G l Γ P X cX12_goesRound RX12 7 (none) rmX12_goesRound 15 [(0, .ref a0), (1, .int a1), (2, .int x2_7), (3, .int x3_8), (4, .int x4_9)] [] g10 0 0) h ?_
  clear h
  intro r11 hr11 x2_7 x3_8 x4_9 g10 h
  refine eg_iload 4 dX12_goesRound_15 rfl ?_
  refine eg_aload_n 0 dX12_goesRound_17 rfl rfl ?_
  obtain ⟨fs, v12, he, hv, h⟩ := h
  refine eg_get 1 in_X12 he rfl (Nat.le_of_ble_eq_true rfl) q758 rfl hv dX12_goesRound_18 ?_
  refine eg_iload_n 1 dX12_goesRound_21 rfl rfl ?_
  obtain ⟨p13, rfl, h⟩ := h
  obtain ⟨hcs, h⟩ := h
  have hM0 := h
  clear h
  refine ec_UIp (rest := [.int x4_9]) (ctX10_degree hM0) gUX12_91 rfl hcs nX10_degree ⟨Nat.le_of_ble_eq_true rfl, Nat.le_of_ble_eq_true rfl⟩ ⟨rfl, rfl⟩ ⟨Nat.zero_le _, Nat.zero_le _⟩ rfl rfl (Nat.le_of_ble_eq_true rfl) dX12_goesRound_22 (fun v14 h => ?_)
  clear hM0
  refine eg_icmp_ge dX12_goesRound_25 (fun c45 => ?_) (fun c45 => ?_)
  · replace h := h.1 c45
    exact eg_vret dX12_goesRound_118 (Nat.zero_le _) (Nat.zero_le _) (hP _ _ ⟨rfl, h⟩)
  · replace h := h.2 c45
    refine eg_aload_n 0 dX12_goesRound_28 rfl rfl ?_
    obtain ⟨fs, v18, he, hv, h⟩ := h
    refine eg_get 5 in_X12 he rfl (Nat.le_of_ble_eq_true rfl) q764 rfl hv dX12_goesRound_29 ?_
    refine eg_bipush dX12_goesRound_32 kb_8 ?_
    refine eg_iload_n 1 dX12_goesRound_34 rfl rfl ?_
    refine eg_imul dX12_goesRound_35 ?_
    refine eg_iload 4 dX12_goesRound_36 rfl ?_
    refine eg_iadd dX12_goesRound_38 ?_
    refine eg_iload_n 2 dX12_goesRound_39 rfl rfl ?_
    obtain ⟨p19, rfl, h⟩ := h
    obtain ⟨nA, fA, he, hb, h⟩ := h
    refine eh_iast he hb dX12_goesRound_40 (fun g20 eg20 => ?_)
    replace h := h g20 eg20
    refine eg_aload_n 0 dX12_goesRound_41 rfl rfl ?_
    refine eg_iload_n 1 dX12_goesRound_42 rfl rfl ?_
    refine eg_iload_n 2 dX12_goesRound_43 rfl rfl ?_
    refine eg_iload_n 3 dX12_goesRound_44 rfl rfl ?_
    obtain ⟨hcs, h⟩ := h
    have hM0 := h
    clear h
    refine ec_VIp (rest := []) (ctX12_faceOf hM0) (lw_V q720 q722 qs19 q89 q723) rfl rfl hcs nX12_faceOf ⟨Nat.le_of_ble_eq_true rfl, Nat.le_of_ble_eq_true rfl⟩ ⟨rfl, rfl⟩ ⟨Nat.zero_le _, Nat.zero_le _⟩ rfl rfl (Nat.le_of_ble_eq_true rfl) dX12_goesRound_45 (fun v21 h => ?_)
    clear hM0
    refine eg_istore (lv' := [(5, .int v21), (0, .ref a0), (1, .int a1), (2, .int x2_7), (3, .int x3_8), (4, .int x4_9)]) dX12_goesRound_48 (Nat.le_of_ble_eq_true rfl) rfl ?_
    refine eg_iload 0 dX12_goesRound_50 rfl ?_
    refine eg_iconst dX12_goesRound_52 kc_m1 ?_
    refine eb_jp1_e (J := fun (s25 : Int32) => eb_G l Γ P X cX12_goesRound RX12 7 (none) rmX12_goesRound 62 [(0, .ref a0), (1, .int a1), (2, .int x2_7), (4, .int x4_9)] [.int s25] g20 0 0) h ?_ ?_
    · clear h
      intro s25 h
      refine eg_istore_n (lv' := [(3, .int s25), (0, .ref a0), (1, .int a1), (2, .int x2_7), (4, .int x4_9)]) dX12_goesRound_62 rfl (Nat.le_of_ble_eq_true rfl) rfl ?_
      refine eg_aload_n 1 dX12_goesRound_63 rfl rfl ?_
      obtain ⟨fs, v26, he, hv, h⟩ := h
      refine eg_get 6 in_X12 he rfl (Nat.le_of_ble_eq_true rfl) q765 rfl hv dX12_goesRound_64 ?_
      refine eg_bipush dX12_goesRound_67 kb_8 ?_
      refine eg_iload_n 2 dX12_goesRound_69 rfl rfl ?_
      refine eg_imul dX12_goesRound_70 ?_
      refine eg_iload 4 dX12_goesRound_71 rfl ?_
      refine eg_iadd dX12_goesRound_73 ?_
      refine eg_iload_n 0 dX12_goesRound_74 rfl rfl ?_
      obtain ⟨p27, rfl, h⟩ := h
      obtain ⟨nA, fA, he, hb, h⟩ := h
      refine eh_iast he hb dX12_goesRound_75 (fun g28 eg28 => ?_)
      replace h := h g28 eg28
      refine eg_iload_n 0 dX12_goesRound_76 rfl rfl ?_
      refine eg_iconst dX12_goesRound_77 kc_m1 ?_
      refine eb_jp1_e (J := fun (s29 : Int32) => eb_G l Γ P X cX12_goesRound RX12 7 (none) rmX12_goesRound 92 [(0, .ref a0), (1, .int a1), (3, .int s25), (4, .int x4_9)] [.int s29] g28 0 0) h ?_ ?_
      · clear h
        intro s29 h
        refine eg_istore (lv' := [(6, .int s29), (0, .ref a0), (1, .int a1), (3, .int s25), (4, .int x4_9)]) dX12_goesRound_92 (Nat.le_of_ble_eq_true rfl) rfl ?_
        refine eg_iload 0 dX12_goesRound_94 rfl ?_
        refine eg_iconst dX12_goesRound_96 kc_m1 ?_
        refine eb_jp1_e (J := fun (s30 : Int32) => eb_G l Γ P X cX12_goesRound RX12 7 (none) rmX12_goesRound 111 [(0, .ref a0), (1, .int a1), (3, .int s25), (4, .int x4_9)] [.int s30] g28 0 0) h ?_ ?_
        · clear h
          intro s30 h
          refine eg_istore_n (lv' := [(2, .int s30), (0, .ref a0), (1, .int a1), (3, .int s25), (4, .int x4_9)]) dX12_goesRound_111 rfl (Nat.le_of_ble_eq_true rfl) rfl ?_
          refine eg_iinc (j := 4) (lv' := [(4, .int (x4_9 + 1)), (2, .int s30), (0, .ref a0), (1, .int a1), (3, .int s25)]) dX12_goesRound_112 rfl (by rw [kc_1]) (Nat.le_of_ble_eq_true rfl) rfl ?_
          refine eg_goto dX12_goesRound_115 ?_
          exact eg_sub [2, 3, 1, 4, 0] rfl (hr11 s30 s25 (x4_9 + 1) g28 h)
        · clear h
          intro k31 hk31 h
          refine eg_icmp_ne dX12_goesRound_97 (fun c36 => ?_) (fun c36 => ?_)
          · replace h := h.2 c36
            refine eg_iload 0 dX12_goesRound_109 rfl ?_
            exact eg_sub [1, 2, 3, 4] rfl (hk31 s29 h)
          · replace h := h.1 c36
            refine eg_aload_n 1 dX12_goesRound_100 rfl rfl ?_
            refine eg_iload_n 2 dX12_goesRound_101 rfl rfl ?_
            refine eg_iconst dX12_goesRound_102 kc_0 ?_
            obtain ⟨hcs, h⟩ := h
            have hM0 := h
            clear h
            refine ec_VIp (rest := []) (ctX12_neighbour hM0) (lw_V q728 q730 qs21 q89 q731) rfl rfl hcs nX12_neighbour ⟨Nat.le_of_ble_eq_true rfl, Nat.le_of_ble_eq_true rfl⟩ ⟨rfl, rfl⟩ ⟨Nat.zero_le _, Nat.zero_le _⟩ rfl rfl (Nat.le_of_ble_eq_true rfl) dX12_goesRound_103 (fun v32 h => ?_)
            clear hM0
            refine eg_goto dX12_goesRound_106 ?_
            exact eg_sub [1, 2, 3, 4] rfl (hk31 v32 h)
      · clear h
        intro k37 hk37 h
        refine eg_icmp_ne dX12_goesRound_78 (fun c42 => ?_) (fun c42 => ?_)
        · replace h := h.2 c42
          refine eg_aload_n 1 dX12_goesRound_85 rfl rfl ?_
          refine eg_iload_n 2 dX12_goesRound_86 rfl rfl ?_
          refine eg_iload_n 3 dX12_goesRound_87 rfl rfl ?_
          refine eg_iload_n 0 dX12_goesRound_88 rfl rfl ?_
          obtain ⟨hcs, h⟩ := h
          have hM0 := h
          clear h
          refine ec_VIp (rest := []) (ctX12_other hM0) (lw_V q724 q726 qs20 q89 q727) rfl rfl hcs nX12_other ⟨Nat.le_of_ble_eq_true rfl, Nat.le_of_ble_eq_true rfl⟩ ⟨rfl, rfl⟩ ⟨Nat.zero_le _, Nat.zero_le _⟩ rfl rfl (Nat.le_of_ble_eq_true rfl) dX12_goesRound_89 (fun v38 h => ?_)
          clear hM0
          exact eg_sub [1, 2, 0, 4] rfl (hk37 v38 h)
        · replace h := h.1 c42
          refine eg_iconst dX12_goesRound_81 kc_m1 ?_
          refine eg_goto dX12_goesRound_82 ?_
          exact eg_sub [1, 2, 0, 4] rfl (hk37 (-1) h)
    · clear h
      intro k43 hk43 h
      refine eg_icmp_ne dX12_goesRound_53 (fun c44 => ?_) (fun c44 => ?_)
      · replace h := h.2 c44
        refine eg_iload 0 dX12_goesRound_60 rfl ?_
        exact eg_sub [1, 2, 3, 5] rfl (hk43 v21 h)
      · replace h := h.1 c44
        refine eg_iload_n 4 dX12_goesRound_56 rfl rfl ?_
        refine eg_goto dX12_goesRound_57 ?_
        exact eg_sub [1, 2, 3, 5] rfl (hk43 x3_8 h)
def MX12_placeOf (Γ : eb_C) (st : eb_S) (a0 : Nat) (a1 : Int32) (a2 : Int32) (K : Int32 → Prop) : Prop :=
  eb_loop1 (fun r2 (x3_1 : Int32) => eb_cs st a0 [11] ∧ MX12_neighbour Γ st a0 a1 x3_1 (fun v3 => eb_br (v3 = a2) (K x3_1) (r2 (x3_1 + 1)))) 0
abbrev rmX12_placeOf : Room := { frames := 2, cells := 0, slots := 0, locals := 34 }
theorem nX12_placeOf : eb_ar yX12_placeOf 2 := by decide +kernel
theorem dX12_placeOf_0 : eb_dc cX12_placeOf 0 (.iconst 0) 1 1 := by decide +kernel
theorem dX12_placeOf_1 : eb_dc cX12_placeOf 1 (.istore_n 3) 1 2 := by decide +kernel
theorem dX12_placeOf_2 : eb_dc cX12_placeOf 2 (.aload_n 0) 1 3 := by decide +kernel
theorem dX12_placeOf_3 : eb_dc cX12_placeOf 3 (.iload_n 1) 1 4 := by decide +kernel
theorem dX12_placeOf_4 : eb_dc cX12_placeOf 4 (.iload_n 3) 1 5 := by decide +kernel
theorem dX12_placeOf_5 : eb_dc cX12_placeOf 5 (.invokevirtual 108) 3 8 := by decide +kernel
theorem dX12_placeOf_8 : eb_dc cX12_placeOf 8 (.iload_n 2) 1 9 := by decide +kernel
theorem dX12_placeOf_9 : eb_dj cX12_placeOf 9 (.if_icmp .eq 9) 9 12 18 := by decide +kernel
theorem dX12_placeOf_12 : eb_dc cX12_placeOf 12 (.iinc 3 1) 3 15 := by decide +kernel
theorem dX12_placeOf_15 : eb_dj cX12_placeOf 15 (.goto (-13)) (-13) 18 2 := by decide +kernel
theorem dX12_placeOf_18 : eb_dc cX12_placeOf 18 (.iload_n 3) 1 19 := by decide +kernel
theorem dX12_placeOf_19 : eb_dc cX12_placeOf 19 (.ireturn) 1 20 := by decide +kernel
theorem ctX12_placeOf {l : Launch} {Γ : eb_C} {st : eb_S} {a0 : Nat} {a1 : Int32} {a2 : Int32} {K : Int32 → Prop} (h : MX12_placeOf Γ st a0 a1 a2 K) : eb_Ct l Γ yX12_placeOf cX12_placeOf 4 (some .int) rmX12_placeOf [.ref a0, .int a1, .int a2] st (eb_pI st K) := by
  refine eb_of (by decide) (Nat.le_of_ble_eq_true rfl) (fun X P hP hX0 => ?_)
  show eb_G l Γ P X cX12_placeOf RX12 4 (some .int) rmX12_placeOf 0 [(0, .ref a0), (1, .int a1), (2, .int a2)] [] st 0 0
  refine eg_iconst dX12_placeOf_0 kc_0 ?_
  refine eg_istore_n (lv' := [(3, .int 0), (0, .ref a0), (1, .int a1), (2, .int a2)]) dX12_placeOf_1 rfl (Nat.le_of_ble_eq_true rfl) rfl ?_
  refine eg_sub [1, 2, 3, 0] rfl ?_
  refine eb_loop1_e (J := fun (x3_1 : Int32) => eb_G l Γ P X cX12_placeOf RX12 4 (some .int) rmX12_placeOf 2 [(0, .ref a0), (1, .int a1), (2, .int a2), (3, .int x3_1)] [] st 0 0) h ?_
  clear h
  intro r2 hr2 x3_1 h
  refine eg_aload_n 0 dX12_placeOf_2 rfl rfl ?_
  refine eg_iload_n 1 dX12_placeOf_3 rfl rfl ?_
  refine eg_iload_n 3 dX12_placeOf_4 rfl rfl ?_
  obtain ⟨hcs, h⟩ := h
  have hM0 := h
  clear h
  refine ec_VIp (rest := []) (ctX12_neighbour hM0) (lw_V q728 q730 qs21 q89 q731) rfl rfl hcs nX12_neighbour ⟨Nat.le_of_ble_eq_true rfl, Nat.le_of_ble_eq_true rfl⟩ ⟨rfl, rfl⟩ ⟨Nat.zero_le _, Nat.zero_le _⟩ rfl rfl (Nat.le_of_ble_eq_true rfl) dX12_placeOf_5 (fun v3 h => ?_)
  clear hM0
  refine eg_iload_n 2 dX12_placeOf_8 rfl rfl ?_
  refine eg_icmp_eq dX12_placeOf_9 (fun c7 => ?_) (fun c7 => ?_)
  · replace h := h.1 c7
    refine eg_iload_n 3 dX12_placeOf_18 rfl rfl ?_
    exact eg_iret dX12_placeOf_19 (Nat.zero_le _) (Nat.zero_le _) (hP _ _ ⟨_, rfl, rfl, h⟩)
  · replace h := h.2 c7
    refine eg_iinc (j := 3) (lv' := [(3, .int (x3_1 + 1)), (0, .ref a0), (1, .int a1), (2, .int a2)]) dX12_placeOf_12 rfl (by rw [kc_1]) (Nat.le_of_ble_eq_true rfl) rfl ?_
    refine eg_goto dX12_placeOf_15 ?_
    exact eg_sub [1, 2, 3, 0] rfl (hr2 (x3_1 + 1) h)

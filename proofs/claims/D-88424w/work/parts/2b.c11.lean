set_option maxRecDepth 100000
set_option maxHeartbeats 4000000
theorem gUX0_247 : ∀ c ∈ [13], ∃ (C : String) (T : u_T) (N : Nat), eb_cl[c]? = some (C, T, N) ∧ GoodIn lw_all (va_wsU "EvenBodies" 247 C "EvenBodies$Net" ⟨"EvenBodies$Snub", "all", "()I"⟩ yX10_all (ws_ yX10_all cX10_all 6 (some .int))) := by
  intro c hc
  simp only [List.mem_cons, List.not_mem_nil, or_false] at hc
  rcases hc with rfl
  · exact ⟨_, _, _, rfl, lw_U q1055 q1056 q1058 q1059 q87 q1060⟩
def MX0_snub (Γ : eb_C) (bc bs : Nat) (st : eb_S) (a0 : Nat) (a1 : Int32) (a2 : Int32) (K : Int32 → eb_S → Prop) : Prop :=
  MX0_in a2 0 2 (fun v1 => eb_cs st a0 [0] ∧ ∃ c7 s8 : Nat, (0 + c7 ≤ bc ∧ 0 + s8 ≤ bs) ∧ MX0_whyHull Γ c7 s8 st a0 a1 v1 (fun v5 g6 => eb_br (v5 = 1) (eb_cs g6 a0 [0] ∧ ∃ c11 s12 : Nat, ((0 + c7) + c11 ≤ bc ∧ (0 + s8) + s12 ≤ bs) ∧ MX0_snubOf Γ c11 s12 g6 a0 a1 (fun v9 g10 => eb_br (a2 = 0) (eb_nn v9 (fun p24 => eb_gi g10 p24 13 0 (fun v25 => K v25 g10))) (eb_br (a2 = 1) (eb_nn v9 (fun p18 => eb_cs g10 p18 [13] ∧ MX10_all Γ g10 p18 (fun v19 => K v19 g10))) (eb_nn v9 (fun p13 => eb_cs g10 p13 [13] ∧ MX14_faces Γ g10 p13 0 (fun v14 => K v14 g10)))))) (K v5 g6)))
abbrev rmX0_snub (bc bs : Nat) : Room := { frames := 15, cells := bc, slots := bs, locals := 329 }
theorem nX0_snub : eb_ar yX0_snub 2 := by decide +kernel
theorem dX0_snub_0 : eb_dc cX0_snub 0 (.aload_n 0) 1 1 := by decide +kernel
theorem dX0_snub_1 : eb_dc cX0_snub 1 (.iload_n 1) 1 2 := by decide +kernel
theorem dX0_snub_2 : eb_dc cX0_snub 2 (.iload_n 2) 1 3 := by decide +kernel
theorem dX0_snub_3 : eb_dc cX0_snub 3 (.iconst 0) 1 4 := by decide +kernel
theorem dX0_snub_4 : eb_dc cX0_snub 4 (.iconst 2) 1 5 := by decide +kernel
theorem dX0_snub_5 : eb_dc cX0_snub 5 (.invokestatic 26) 3 8 := by decide +kernel
theorem dX0_snub_8 : eb_dc cX0_snub 8 (.invokevirtual 187) 3 11 := by decide +kernel
theorem dX0_snub_11 : eb_dc cX0_snub 11 (.istore_n 3) 1 12 := by decide +kernel
theorem dX0_snub_12 : eb_dc cX0_snub 12 (.iload_n 3) 1 13 := by decide +kernel
theorem dX0_snub_13 : eb_dc cX0_snub 13 (.iconst 1) 1 14 := by decide +kernel
theorem dX0_snub_14 : eb_dj cX0_snub 14 (.if_icmp .eq 5) 5 17 19 := by decide +kernel
theorem dX0_snub_17 : eb_dc cX0_snub 17 (.iload_n 3) 1 18 := by decide +kernel
theorem dX0_snub_18 : eb_dc cX0_snub 18 (.ireturn) 1 19 := by decide +kernel
theorem dX0_snub_19 : eb_dc cX0_snub 19 (.aload_n 0) 1 20 := by decide +kernel
theorem dX0_snub_20 : eb_dc cX0_snub 20 (.iload_n 1) 1 21 := by decide +kernel
theorem dX0_snub_21 : eb_dc cX0_snub 21 (.invokevirtual 242) 3 24 := by decide +kernel
theorem dX0_snub_24 : eb_dc cX0_snub 24 (.astore 4) 2 26 := by decide +kernel
theorem dX0_snub_26 : eb_dc cX0_snub 26 (.iload_n 2) 1 27 := by decide +kernel
theorem dX0_snub_27 : eb_dj cX0_snub 27 (.ifCond .ne 11) 11 30 38 := by decide +kernel
theorem dX0_snub_30 : eb_dc cX0_snub 30 (.aload 4) 2 32 := by decide +kernel
theorem dX0_snub_32 : eb_dc cX0_snub 32 (.getfield 246) 3 35 := by decide +kernel
theorem dX0_snub_35 : eb_dj cX0_snub 35 (.goto 22) 22 38 57 := by decide +kernel
theorem dX0_snub_38 : eb_dc cX0_snub 38 (.iload_n 2) 1 39 := by decide +kernel
theorem dX0_snub_39 : eb_dc cX0_snub 39 (.iconst 1) 1 40 := by decide +kernel
theorem dX0_snub_40 : eb_dj cX0_snub 40 (.if_icmp .ne 11) 11 43 51 := by decide +kernel
theorem dX0_snub_43 : eb_dc cX0_snub 43 (.aload 4) 2 45 := by decide +kernel
theorem dX0_snub_45 : eb_dc cX0_snub 45 (.invokevirtual 247) 3 48 := by decide +kernel
theorem dX0_snub_48 : eb_dj cX0_snub 48 (.goto 9) 9 51 57 := by decide +kernel
theorem dX0_snub_51 : eb_dc cX0_snub 51 (.aload 4) 2 53 := by decide +kernel
theorem dX0_snub_53 : eb_dc cX0_snub 53 (.iconst 0) 1 54 := by decide +kernel
theorem dX0_snub_54 : eb_dc cX0_snub 54 (.invokevirtual 248) 3 57 := by decide +kernel
theorem dX0_snub_57 : eb_dc cX0_snub 57 (.ireturn) 1 58 := by decide +kernel
theorem ctX0_snub {l : Launch} {Γ : eb_C} {bc bs : Nat} {st : eb_S} {a0 : Nat} {a1 : Int32} {a2 : Int32} {K : Int32 → eb_S → Prop} (h : MX0_snub Γ bc bs st a0 a1 a2 K) : eb_Ct l Γ yX0_snub cX0_snub 5 (some .int) (rmX0_snub bc bs) [.ref a0, .int a1, .int a2] st (eb_oI K) := by
  refine eb_of (by decide) (Nat.le_of_ble_eq_true rfl) (fun X P hP hX0 => ?_)
  suffices hgo : (0 ≤ bc ∧ 0 ≤ bs) → eb_G l Γ P X cX0_snub RX0 5 (some .int) (rmX0_snub bc bs) 0 [(0, .ref a0), (1, .int a1), (2, .int a2)] [] st 0 0 from hgo ⟨Nat.zero_le _, Nat.zero_le _⟩
  intro hu
  refine eg_aload_n 0 dX0_snub_0 rfl rfl ?_
  refine eg_iload_n 1 dX0_snub_1 rfl rfl ?_
  refine eg_iload_n 2 dX0_snub_2 rfl rfl ?_
  refine eg_iconst dX0_snub_3 kc_0 ?_
  refine eg_iconst dX0_snub_4 kc_2 ?_
  have hM0 := h
  clear h
  refine ec_SIp (rest := [.int a1, .ref a0]) (ctX0_in hM0) (lw_S q185 q186 q74 q187) nX0_in ⟨Nat.le_of_ble_eq_true rfl, Nat.le_of_ble_eq_true rfl⟩ ⟨rfl, rfl⟩ hu rfl rfl (Nat.le_of_ble_eq_true rfl) dX0_snub_5 (fun v1 h => ?_)
  clear hM0
  obtain ⟨hcs, h⟩ := h
  obtain ⟨c7, s8, hca, h⟩ := h
  have hM0 := h
  clear h
  refine ec_VIa (rest := []) (ctX0_whyHull hM0) (lw_V q685 q687 qs15 q74 q688) rfl rfl hcs nX0_whyHull ⟨Nat.le_of_ble_eq_true rfl, Nat.le_of_ble_eq_true rfl⟩ ⟨rfl, rfl⟩ hca rfl rfl (Nat.le_of_ble_eq_true rfl) dX0_snub_8 (fun v5 g6 h => ?_)
  clear hM0
  replace hu := hca
  refine eg_istore_n (lv' := [(3, .int v5), (0, .ref a0), (1, .int a1), (2, .int a2)]) dX0_snub_11 rfl (Nat.le_of_ble_eq_true rfl) rfl ?_
  refine eg_iload_n 0 dX0_snub_12 rfl rfl ?_
  refine eg_iconst dX0_snub_13 kc_1 ?_
  refine eg_icmp_eq dX0_snub_14 (fun c27 => ?_) (fun c27 => ?_)
  · replace h := h.1 c27
    refine eg_aload_n 1 dX0_snub_19 rfl rfl ?_
    refine eg_iload_n 2 dX0_snub_20 rfl rfl ?_
    obtain ⟨hcs, h⟩ := h
    obtain ⟨c11, s12, hca, h⟩ := h
    have hM0 := h
    clear h
    refine ec_VRa (rest := []) (ctX0_snubOf hM0) (lw_V q1026 q1028 qs33 q74 q1029) rfl rfl hcs nX0_snubOf ⟨Nat.le_of_ble_eq_true rfl, Nat.le_of_ble_eq_true rfl⟩ ⟨rfl, rfl⟩ hca rfl rfl (Nat.le_of_ble_eq_true rfl) dX0_snub_21 (fun v9 g10 h => ?_)
    clear hM0
    replace hu := hca
    refine eh_astore (i := 4) (v := v9) (lv' := [(4, va_rf v9), (3, .int v5), (0, .ref a0), (1, .int a1), (2, .int a2)]) dX0_snub_24 (Nat.le_of_ble_eq_true rfl) rfl ?_
    refine eg_iload_n 4 dX0_snub_26 rfl rfl ?_
    refine eg_if_ne dX0_snub_27 (fun c26 => ?_) (fun c26 => ?_)
    · replace h := h.2 c26
      refine eg_iload_n 4 dX0_snub_38 rfl rfl ?_
      refine eg_iconst dX0_snub_39 kc_1 ?_
      refine eg_icmp_ne dX0_snub_40 (fun c23 => ?_) (fun c23 => ?_)
      · replace h := h.2 c23
        refine eh_aload (v := v9) 0 dX0_snub_51 rfl ?_
        refine eg_iconst dX0_snub_53 kc_0 ?_
        obtain ⟨p13, rfl, h⟩ := h
        obtain ⟨hcs, h⟩ := h
        have hM0 := h
        clear h
        refine ec_VIp (rest := []) (ctX14_faces hM0) (lw_V q1061 q1062 q1063 q97 q1064) rfl rfl hcs nX14_faces ⟨Nat.le_of_ble_eq_true rfl, Nat.le_of_ble_eq_true rfl⟩ ⟨rfl, rfl⟩ hu rfl rfl (Nat.le_of_ble_eq_true rfl) dX0_snub_54 (fun v14 h => ?_)
        clear hM0
        exact eg_iret dX0_snub_57 hu.1 hu.2 (hP _ _ ⟨_, rfl, h⟩)
      · replace h := h.1 c23
        refine eh_aload (v := v9) 0 dX0_snub_43 rfl ?_
        obtain ⟨p18, rfl, h⟩ := h
        obtain ⟨hcs, h⟩ := h
        have hM0 := h
        clear h
        refine ec_UIp (rest := []) (ctX10_all hM0) gUX0_247 rfl hcs nX10_all ⟨Nat.le_of_ble_eq_true rfl, Nat.le_of_ble_eq_true rfl⟩ ⟨rfl, rfl⟩ hu rfl rfl (Nat.le_of_ble_eq_true rfl) dX0_snub_45 (fun v19 h => ?_)
        clear hM0
        refine eg_goto dX0_snub_48 ?_
        exact eg_iret dX0_snub_57 hu.1 hu.2 (hP _ _ ⟨_, rfl, h⟩)
    · replace h := h.1 c26
      refine eh_aload (v := v9) 0 dX0_snub_30 rfl ?_
      obtain ⟨p24, rfl, h⟩ := h
      obtain ⟨fs, v25, he, hv, h⟩ := h
      refine eg_getS 0 in_X14 he rfl (Nat.le_of_ble_eq_true rfl) q635 q633 hv dX0_snub_32 ?_
      refine eg_goto dX0_snub_35 ?_
      exact eg_iret dX0_snub_57 hu.1 hu.2 (hP _ _ ⟨_, rfl, h⟩)
  · replace h := h.2 c27
    refine eg_iload_n 0 dX0_snub_17 rfl rfl ?_
    exact eg_iret dX0_snub_18 hu.1 hu.2 (hP _ _ ⟨_, rfl, h⟩)
def MX0_snubLaw (Γ : eb_C) (bc bs : Nat) (st : eb_S) (a0 : Nat) (a1 : Int32) (K : Int32 → eb_S → Prop) : Prop :=
  eb_cs st a0 [0] ∧ ∃ c3 s4 : Nat, (0 + c3 ≤ bc ∧ 0 + s4 ≤ bs) ∧ MX0_whyHull Γ c3 s4 st a0 a1 1 (fun v1 g2 => eb_br (v1 = 1) (eb_cs g2 a0 [0] ∧ ∃ c7 s8 : Nat, ((0 + c3) + c7 ≤ bc ∧ (0 + s4) + s8 ≤ bs) ∧ MX0_snubOf Γ c7 s8 g2 a0 a1 (fun v5 g6 => eb_nn v5 (fun p9 => eb_gi g6 p9 13 0 (fun v10 => eb_cs g6 p9 [13] ∧ MX10_all Γ g6 p9 (fun v11 => eb_cs g6 p9 [13] ∧ MX14_faces Γ g6 p9 0 (fun v15 => K (((v10 - v11) + v15)) g6)))))) (K v1 g2))
abbrev rmX0_snubLaw (bc bs : Nat) : Room := { frames := 15, cells := bc, slots := bs, locals := 329 }
theorem nX0_snubLaw : eb_ar yX0_snubLaw 1 := by decide +kernel
theorem dX0_snubLaw_0 : eb_dc cX0_snubLaw 0 (.aload_n 0) 1 1 := by decide +kernel
theorem dX0_snubLaw_1 : eb_dc cX0_snubLaw 1 (.iload_n 1) 1 2 := by decide +kernel
theorem dX0_snubLaw_2 : eb_dc cX0_snubLaw 2 (.iconst 1) 1 3 := by decide +kernel
theorem dX0_snubLaw_3 : eb_dc cX0_snubLaw 3 (.invokevirtual 187) 3 6 := by decide +kernel
theorem dX0_snubLaw_6 : eb_dc cX0_snubLaw 6 (.istore_n 2) 1 7 := by decide +kernel
theorem dX0_snubLaw_7 : eb_dc cX0_snubLaw 7 (.iload_n 2) 1 8 := by decide +kernel
theorem dX0_snubLaw_8 : eb_dc cX0_snubLaw 8 (.iconst 1) 1 9 := by decide +kernel
theorem dX0_snubLaw_9 : eb_dj cX0_snubLaw 9 (.if_icmp .eq 5) 5 12 14 := by decide +kernel
theorem dX0_snubLaw_12 : eb_dc cX0_snubLaw 12 (.iload_n 2) 1 13 := by decide +kernel
theorem dX0_snubLaw_13 : eb_dc cX0_snubLaw 13 (.ireturn) 1 14 := by decide +kernel
theorem dX0_snubLaw_14 : eb_dc cX0_snubLaw 14 (.aload_n 0) 1 15 := by decide +kernel
theorem dX0_snubLaw_15 : eb_dc cX0_snubLaw 15 (.iload_n 1) 1 16 := by decide +kernel
theorem dX0_snubLaw_16 : eb_dc cX0_snubLaw 16 (.invokevirtual 242) 3 19 := by decide +kernel
theorem dX0_snubLaw_19 : eb_dc cX0_snubLaw 19 (.astore_n 3) 1 20 := by decide +kernel
theorem dX0_snubLaw_20 : eb_dc cX0_snubLaw 20 (.aload_n 3) 1 21 := by decide +kernel
theorem dX0_snubLaw_21 : eb_dc cX0_snubLaw 21 (.getfield 246) 3 24 := by decide +kernel
theorem dX0_snubLaw_24 : eb_dc cX0_snubLaw 24 (.aload_n 3) 1 25 := by decide +kernel
theorem dX0_snubLaw_25 : eb_dc cX0_snubLaw 25 (.invokevirtual 247) 3 28 := by decide +kernel
theorem dX0_snubLaw_28 : eb_dc cX0_snubLaw 28 (.isub) 1 29 := by decide +kernel
theorem dX0_snubLaw_29 : eb_dc cX0_snubLaw 29 (.aload_n 3) 1 30 := by decide +kernel
theorem dX0_snubLaw_30 : eb_dc cX0_snubLaw 30 (.iconst 0) 1 31 := by decide +kernel
theorem dX0_snubLaw_31 : eb_dc cX0_snubLaw 31 (.invokevirtual 248) 3 34 := by decide +kernel
theorem dX0_snubLaw_34 : eb_dc cX0_snubLaw 34 (.iadd) 1 35 := by decide +kernel
theorem dX0_snubLaw_35 : eb_dc cX0_snubLaw 35 (.ireturn) 1 36 := by decide +kernel
theorem ctX0_snubLaw {l : Launch} {Γ : eb_C} {bc bs : Nat} {st : eb_S} {a0 : Nat} {a1 : Int32} {K : Int32 → eb_S → Prop} (h : MX0_snubLaw Γ bc bs st a0 a1 K) : eb_Ct l Γ yX0_snubLaw cX0_snubLaw 4 (some .int) (rmX0_snubLaw bc bs) [.ref a0, .int a1] st (eb_oI K) := by
  refine eb_of (by decide) (Nat.le_of_ble_eq_true rfl) (fun X P hP hX0 => ?_)
  suffices hgo : (0 ≤ bc ∧ 0 ≤ bs) → eb_G l Γ P X cX0_snubLaw RX0 4 (some .int) (rmX0_snubLaw bc bs) 0 [(0, .ref a0), (1, .int a1)] [] st 0 0 from hgo ⟨Nat.zero_le _, Nat.zero_le _⟩
  intro hu
  refine eg_aload_n 0 dX0_snubLaw_0 rfl rfl ?_
  refine eg_iload_n 1 dX0_snubLaw_1 rfl rfl ?_
  refine eg_iconst dX0_snubLaw_2 kc_1 ?_
  obtain ⟨hcs, h⟩ := h
  obtain ⟨c3, s4, hca, h⟩ := h
  have hM0 := h
  clear h
  refine ec_VIa (rest := []) (ctX0_whyHull hM0) (lw_V q685 q687 qs15 q74 q688) rfl rfl hcs nX0_whyHull ⟨Nat.le_of_ble_eq_true rfl, Nat.le_of_ble_eq_true rfl⟩ ⟨rfl, rfl⟩ hca rfl rfl (Nat.le_of_ble_eq_true rfl) dX0_snubLaw_3 (fun v1 g2 h => ?_)
  clear hM0
  replace hu := hca
  refine eg_istore_n (lv' := [(2, .int v1), (0, .ref a0), (1, .int a1)]) dX0_snubLaw_6 rfl (Nat.le_of_ble_eq_true rfl) rfl ?_
  refine eg_iload_n 0 dX0_snubLaw_7 rfl rfl ?_
  refine eg_iconst dX0_snubLaw_8 kc_1 ?_
  refine eg_icmp_eq dX0_snubLaw_9 (fun c19 => ?_) (fun c19 => ?_)
  · replace h := h.1 c19
    refine eg_aload_n 1 dX0_snubLaw_14 rfl rfl ?_
    refine eg_iload_n 2 dX0_snubLaw_15 rfl rfl ?_
    obtain ⟨hcs, h⟩ := h
    obtain ⟨c7, s8, hca, h⟩ := h
    have hM0 := h
    clear h
    refine ec_VRa (rest := []) (ctX0_snubOf hM0) (lw_V q1026 q1028 qs33 q74 q1029) rfl rfl hcs nX0_snubOf ⟨Nat.le_of_ble_eq_true rfl, Nat.le_of_ble_eq_true rfl⟩ ⟨rfl, rfl⟩ hca rfl rfl (Nat.le_of_ble_eq_true rfl) dX0_snubLaw_16 (fun v5 g6 h => ?_)
    clear hM0
    replace hu := hca
    refine eh_astore_n (i := 3) (v := v5) (lv' := [(3, va_rf v5), (2, .int v1), (0, .ref a0), (1, .int a1)]) dX0_snubLaw_19 rfl (Nat.le_of_ble_eq_true rfl) rfl ?_
    refine eh_aload_n (v := v5) 0 dX0_snubLaw_20 rfl rfl ?_
    obtain ⟨p9, rfl, h⟩ := h
    obtain ⟨fs, v10, he, hv, h⟩ := h
    refine eg_getS 0 in_X14 he rfl (Nat.le_of_ble_eq_true rfl) q635 q633 hv dX0_snubLaw_21 ?_
    refine eg_aload_n 0 dX0_snubLaw_24 rfl rfl ?_
    obtain ⟨hcs, h⟩ := h
    have hM0 := h
    clear h
    refine ec_UIp (rest := [.int v10]) (ctX10_all hM0) gUX0_247 rfl hcs nX10_all ⟨Nat.le_of_ble_eq_true rfl, Nat.le_of_ble_eq_true rfl⟩ ⟨rfl, rfl⟩ hu rfl rfl (Nat.le_of_ble_eq_true rfl) dX0_snubLaw_25 (fun v11 h => ?_)
    clear hM0
    refine eg_isub dX0_snubLaw_28 ?_
    refine eg_aload_n 0 dX0_snubLaw_29 rfl rfl ?_
    refine eg_iconst dX0_snubLaw_30 kc_0 ?_
    obtain ⟨hcs, h⟩ := h
    have hM0 := h
    clear h
    refine ec_VIp (rest := [.int (v10 - v11)]) (ctX14_faces hM0) (lw_V q1061 q1062 q1063 q97 q1064) rfl rfl hcs nX14_faces ⟨Nat.le_of_ble_eq_true rfl, Nat.le_of_ble_eq_true rfl⟩ ⟨rfl, rfl⟩ hu rfl rfl (Nat.le_of_ble_eq_true rfl) dX0_snubLaw_31 (fun v15 h => ?_)
    clear hM0
    refine eg_iadd dX0_snubLaw_34 ?_
    exact eg_iret dX0_snubLaw_35 hu.1 hu.2 (hP _ _ ⟨_, rfl, h⟩)
  · replace h := h.2 c19
    refine eg_iload_n 0 dX0_snubLaw_12 rfl rfl ?_
    exact eg_iret dX0_snubLaw_13 hu.1 hu.2 (hP _ _ ⟨_, rfl, h⟩)
def MX0_isHalfCorner (Γ : eb_C) (bc bs : Nat) (st : eb_S) (a0 : Nat) (a1 : Int32) (a2 : Int32) (K : Int32 → eb_S → Prop) : Prop :=
  MX0_isBody a1 (fun v1 => eb_br (v1 = 0) (K 0 st) (eb_br (a2 < 0) (K 0 st) (eb_gr st a0 0 0 (fun v5 => eb_nn v5 (fun p6 => eb_lr Γ st p6 7 a1 (fun v7 => eb_nn v7 (fun p8 => eb_cs st p8 [1] ∧ ∃ c11 s12 : Nat, (0 + c11 ≤ bc ∧ 0 + s12 ≤ bs) ∧ MX1_group Γ c11 s12 st p8 (fun v9 g10 => eb_nb v9 (K 1 g10) (fun p13 => eb_gr g10 a0 0 0 (fun v14 => eb_nn v14 (fun p15 => eb_lr Γ g10 p15 7 a1 (fun v16 => eb_nn v16 (fun p17 => eb_gi g10 p17 1 0 (fun v18 => eb_br (v18 = 3) (eb_gr g10 a0 0 0 (fun v19 => eb_nn v19 (fun p20 => eb_lr Γ g10 p20 7 a1 (fun v21 => eb_nn v21 (fun p22 => eb_cs g10 p22 [1] ∧ ∃ c25 s26 : Nat, ((0 + c11) + c25 ≤ bc ∧ (0 + s12) + s26 ≤ bs) ∧ MX1_group Γ c25 s26 g10 p22 (fun v23 g24 => eb_nn v23 (fun p27 => eb_gi g24 p27 7 1 (fun v28 => eb_br ((v28 / 2) ≤ a2) (K 0 g24) (K 1 g24))))))))) (K 1 g10)))))))))))))))
abbrev rmX0_isHalfCorner (bc bs : Nat) : Room := { frames := 13, cells := bc, slots := bs, locals := 284 }
theorem nX0_isHalfCorner : eb_ar yX0_isHalfCorner 2 := by decide +kernel
theorem dX0_isHalfCorner_0 : eb_dc cX0_isHalfCorner 0 (.iload_n 1) 1 1 := by decide +kernel
theorem dX0_isHalfCorner_1 : eb_dc cX0_isHalfCorner 1 (.invokestatic 30) 3 4 := by decide +kernel
theorem dX0_isHalfCorner_4 : eb_dj cX0_isHalfCorner 4 (.ifCond .eq 54) 54 7 58 := by decide +kernel
theorem dX0_isHalfCorner_7 : eb_dc cX0_isHalfCorner 7 (.iload_n 2) 1 8 := by decide +kernel
theorem dX0_isHalfCorner_8 : eb_dj cX0_isHalfCorner 8 (.ifCond .lt 50) 50 11 58 := by decide +kernel
theorem dX0_isHalfCorner_11 : eb_dc cX0_isHalfCorner 11 (.aload_n 0) 1 12 := by decide +kernel
theorem dX0_isHalfCorner_12 : eb_dc cX0_isHalfCorner 12 (.getfield 15) 3 15 := by decide +kernel
theorem dX0_isHalfCorner_15 : eb_dc cX0_isHalfCorner 15 (.iload_n 1) 1 16 := by decide +kernel
theorem dX0_isHalfCorner_16 : eb_dc cX0_isHalfCorner 16 (.aaload) 1 17 := by decide +kernel
theorem dX0_isHalfCorner_17 : eb_dc cX0_isHalfCorner 17 (.invokevirtual 66) 3 20 := by decide +kernel
theorem dX0_isHalfCorner_20 : eb_dj cX0_isHalfCorner 20 (.ifnull 34) 34 23 54 := by decide +kernel
theorem dX0_isHalfCorner_23 : eb_dc cX0_isHalfCorner 23 (.aload_n 0) 1 24 := by decide +kernel
theorem dX0_isHalfCorner_24 : eb_dc cX0_isHalfCorner 24 (.getfield 15) 3 27 := by decide +kernel
theorem dX0_isHalfCorner_27 : eb_dc cX0_isHalfCorner 27 (.iload_n 1) 1 28 := by decide +kernel
theorem dX0_isHalfCorner_28 : eb_dc cX0_isHalfCorner 28 (.aaload) 1 29 := by decide +kernel
theorem dX0_isHalfCorner_29 : eb_dc cX0_isHalfCorner 29 (.getfield 34) 3 32 := by decide +kernel
theorem dX0_isHalfCorner_32 : eb_dc cX0_isHalfCorner 32 (.iconst 3) 1 33 := by decide +kernel
theorem dX0_isHalfCorner_33 : eb_dj cX0_isHalfCorner 33 (.if_icmp .ne 21) 21 36 54 := by decide +kernel
theorem dX0_isHalfCorner_36 : eb_dc cX0_isHalfCorner 36 (.iload_n 2) 1 37 := by decide +kernel
theorem dX0_isHalfCorner_37 : eb_dc cX0_isHalfCorner 37 (.aload_n 0) 1 38 := by decide +kernel
theorem dX0_isHalfCorner_38 : eb_dc cX0_isHalfCorner 38 (.getfield 15) 3 41 := by decide +kernel
theorem dX0_isHalfCorner_41 : eb_dc cX0_isHalfCorner 41 (.iload_n 1) 1 42 := by decide +kernel
theorem dX0_isHalfCorner_42 : eb_dc cX0_isHalfCorner 42 (.aaload) 1 43 := by decide +kernel
theorem dX0_isHalfCorner_43 : eb_dc cX0_isHalfCorner 43 (.invokevirtual 66) 3 46 := by decide +kernel
theorem dX0_isHalfCorner_46 : eb_dc cX0_isHalfCorner 46 (.getfield 70) 3 49 := by decide +kernel
theorem dX0_isHalfCorner_49 : eb_dc cX0_isHalfCorner 49 (.iconst 2) 1 50 := by decide +kernel
theorem dX0_isHalfCorner_50 : eb_dc cX0_isHalfCorner 50 (.idiv) 1 51 := by decide +kernel
theorem dX0_isHalfCorner_51 : eb_dj cX0_isHalfCorner 51 (.if_icmp .ge 7) 7 54 58 := by decide +kernel
theorem dX0_isHalfCorner_54 : eb_dc cX0_isHalfCorner 54 (.iconst 1) 1 55 := by decide +kernel
theorem dX0_isHalfCorner_55 : eb_dj cX0_isHalfCorner 55 (.goto 4) 4 58 59 := by decide +kernel
theorem dX0_isHalfCorner_58 : eb_dc cX0_isHalfCorner 58 (.iconst 0) 1 59 := by decide +kernel
theorem dX0_isHalfCorner_59 : eb_dc cX0_isHalfCorner 59 (.ireturn) 1 60 := by decide +kernel
theorem ctX0_isHalfCorner {l : Launch} {Γ : eb_C} {bc bs : Nat} {st : eb_S} {a0 : Nat} {a1 : Int32} {a2 : Int32} {K : Int32 → eb_S → Prop} (h : MX0_isHalfCorner Γ bc bs st a0 a1 a2 K) : eb_Ct l Γ yX0_isHalfCorner cX0_isHalfCorner 3 (some .boolean) (rmX0_isHalfCorner bc bs) [.ref a0, .int a1, .int a2] st (eb_oI K) := by
  refine eb_of (by decide) (Nat.le_of_ble_eq_true rfl) (fun X P hP hX0 => ?_)
  suffices hgo : (0 ≤ bc ∧ 0 ≤ bs) → eb_G l Γ P X cX0_isHalfCorner RX0 3 (some .boolean) (rmX0_isHalfCorner bc bs) 0 [(0, .ref a0), (1, .int a1), (2, .int a2)] [] st 0 0 from hgo ⟨Nat.zero_le _, Nat.zero_le _⟩
  intro hu
  refine eg_iload_n 1 dX0_isHalfCorner_0 rfl rfl ?_
  have hM0 := h
  clear h
  refine ec_SIp (rest := []) (ctX0_isBody hM0) (lw_S q182 q183 q74 q184) nX0_isBody ⟨Nat.le_of_ble_eq_true rfl, Nat.le_of_ble_eq_true rfl⟩ ⟨rfl, rfl⟩ hu rfl rfl (Nat.le_of_ble_eq_true rfl) dX0_isHalfCorner_1 (fun v1 h => ?_)
  clear hM0
  refine eg_if_eq dX0_isHalfCorner_4 (fun c32 => ?_) (fun c32 => ?_)
  · replace h := h.1 c32
    refine eg_iconst dX0_isHalfCorner_58 kc_0 ?_
    exact eg_zret dX0_isHalfCorner_59 rfl hu.1 hu.2 (hP _ _ ⟨_, rfl, h⟩)
  · replace h := h.2 c32
    refine eg_iload_n 2 dX0_isHalfCorner_7 rfl rfl ?_
    refine eg_if_lt dX0_isHalfCorner_8 (fun c31 => ?_) (fun c31 => ?_)
    · replace h := h.1 c31
      refine eg_iconst dX0_isHalfCorner_58 kc_0 ?_
      exact eg_zret dX0_isHalfCorner_59 rfl hu.1 hu.2 (hP _ _ ⟨_, rfl, h⟩)
    · replace h := h.2 c31
      refine eg_aload_n 0 dX0_isHalfCorner_11 rfl rfl ?_
      obtain ⟨fs, v5, he, hv, h⟩ := h
      refine eg_get 0 in_X0 he rfl (Nat.le_of_ble_eq_true rfl) q159 rfl hv dX0_isHalfCorner_12 ?_
      refine eg_iload_n 1 dX0_isHalfCorner_15 rfl rfl ?_
      obtain ⟨p6, rfl, h⟩ := h
      obtain ⟨nA, fA, he, hb, h⟩ := h
      refine eg_aald (t := 7) (ty := .object "EvenBodies$Body") rfl rfl he hb dX0_isHalfCorner_16 (fun v7 ev7 => ?_)
      replace h := h v7 ev7
      obtain ⟨p8, rfl, h⟩ := h
      obtain ⟨hcs, h⟩ := h
      obtain ⟨c11, s12, hca, h⟩ := h
      have hM0 := h
      clear h
      refine ec_VRa (rest := []) (ctX1_group hM0) (lw_V q241 q242 q243 q75 q244) rfl rfl hcs nX1_group ⟨Nat.le_of_ble_eq_true rfl, Nat.le_of_ble_eq_true rfl⟩ ⟨rfl, rfl⟩ hca rfl rfl (Nat.le_of_ble_eq_true rfl) dX0_isHalfCorner_17 (fun v9 g10 h => ?_)
      clear hM0
      replace hu := hca
      refine eg_ifnull (v := v9) dX0_isHalfCorner_20 (fun hnul => ?_) (fun p13 hnon => ?_)
      · subst hnul
        replace h := h.1 rfl
        refine eg_iconst dX0_isHalfCorner_54 kc_1 ?_
        refine eg_goto dX0_isHalfCorner_55 ?_
        exact eg_zret dX0_isHalfCorner_59 rfl hu.1 hu.2 (hP _ _ ⟨_, rfl, h⟩)
      · subst hnon
        replace h := h.2 p13 rfl
        refine eg_aload_n 0 dX0_isHalfCorner_23 rfl rfl ?_
        obtain ⟨fs, v14, he, hv, h⟩ := h
        refine eg_get 0 in_X0 he rfl (Nat.le_of_ble_eq_true rfl) q159 rfl hv dX0_isHalfCorner_24 ?_
        refine eg_iload_n 1 dX0_isHalfCorner_27 rfl rfl ?_
        obtain ⟨p15, rfl, h⟩ := h
        obtain ⟨nA, fA, he, hb, h⟩ := h
        refine eg_aald (t := 7) (ty := .object "EvenBodies$Body") rfl rfl he hb dX0_isHalfCorner_28 (fun v16 ev16 => ?_)
        replace h := h v16 ev16
        obtain ⟨p17, rfl, h⟩ := h
        obtain ⟨fs, v18, he, hv, h⟩ := h
        refine eg_getN 0 in_X1 he rfl (Nat.le_of_ble_eq_true rfl) (List.mem_of_getElem? (i := 1) rfl) rfl hv dX0_isHalfCorner_29 ?_
        refine eg_iconst dX0_isHalfCorner_32 kc_3 ?_
        refine eg_icmp_ne dX0_isHalfCorner_33 (fun c30 => ?_) (fun c30 => ?_)
        · replace h := h.2 c30
          refine eg_iconst dX0_isHalfCorner_54 kc_1 ?_
          refine eg_goto dX0_isHalfCorner_55 ?_
          exact eg_zret dX0_isHalfCorner_59 rfl hu.1 hu.2 (hP _ _ ⟨_, rfl, h⟩)
        · replace h := h.1 c30
          refine eg_iload_n 2 dX0_isHalfCorner_36 rfl rfl ?_
          refine eg_aload_n 0 dX0_isHalfCorner_37 rfl rfl ?_
          obtain ⟨fs, v19, he, hv, h⟩ := h
          refine eg_get 0 in_X0 he rfl (Nat.le_of_ble_eq_true rfl) q159 rfl hv dX0_isHalfCorner_38 ?_
          refine eg_iload_n 1 dX0_isHalfCorner_41 rfl rfl ?_
          obtain ⟨p20, rfl, h⟩ := h
          obtain ⟨nA, fA, he, hb, h⟩ := h
          refine eg_aald (t := 7) (ty := .object "EvenBodies$Body") rfl rfl he hb dX0_isHalfCorner_42 (fun v21 ev21 => ?_)
          replace h := h v21 ev21
          obtain ⟨p22, rfl, h⟩ := h
          obtain ⟨hcs, h⟩ := h
          obtain ⟨c25, s26, hca, h⟩ := h
          have hM0 := h
          clear h
          refine ec_VRa (rest := [.int a2]) (ctX1_group hM0) (lw_V q241 q242 q243 q75 q244) rfl rfl hcs nX1_group ⟨Nat.le_of_ble_eq_true rfl, Nat.le_of_ble_eq_true rfl⟩ ⟨rfl, rfl⟩ hca rfl rfl (Nat.le_of_ble_eq_true rfl) dX0_isHalfCorner_43 (fun v23 g24 h => ?_)
          clear hM0
          replace hu := hca
          obtain ⟨p27, rfl, h⟩ := h
          obtain ⟨fs, v28, he, hv, h⟩ := h
          refine eg_getN 1 in_X8 he rfl (Nat.le_of_ble_eq_true rfl) (List.mem_of_getElem? (i := 7) rfl) rfl hv dX0_isHalfCorner_46 ?_
          refine eg_iconst dX0_isHalfCorner_49 kc_2 ?_
          refine eg_idiv dX0_isHalfCorner_50 (by decide) ?_
          refine eg_icmp_ge dX0_isHalfCorner_51 (fun c29 => ?_) (fun c29 => ?_)
          · replace h := h.1 c29
            refine eg_iconst dX0_isHalfCorner_58 kc_0 ?_
            exact eg_zret dX0_isHalfCorner_59 rfl hu.1 hu.2 (hP _ _ ⟨_, rfl, h⟩)
          · replace h := h.2 c29
            refine eg_iconst dX0_isHalfCorner_54 kc_1 ?_
            refine eg_goto dX0_isHalfCorner_55 ?_
            exact eg_zret dX0_isHalfCorner_59 rfl hu.1 hu.2 (hP _ _ ⟨_, rfl, h⟩)
theorem gUX0_254 : ∀ c ∈ [13], ∃ (C : String) (T : u_T) (N : Nat), eb_cl[c]? = some (C, T, N) ∧ GoodIn lw_all (va_wsU "EvenBodies" 254 C "EvenBodies$Net" ⟨"EvenBodies$Snub", "degree", "(I)I"⟩ yX10_degree (ws_ yX10_degree cX10_degree 2 (some .int))) := by
  intro c hc
  simp only [List.mem_cons, List.not_mem_nil, or_false] at hc
  rcases hc with rfl
  · exact ⟨_, _, _, rfl, lw_U q1078 q1079 q1081 q649 q87 q654⟩
def MX0_snubDegree (Γ : eb_C) (bc bs : Nat) (st : eb_S) (a0 : Nat) (a1 : Int32) (a2 : Int32) (K : Int32 → eb_S → Prop) : Prop :=
  eb_cs st a0 [0] ∧ ∃ c3 s4 : Nat, (0 + c3 ≤ bc ∧ 0 + s4 ≤ bs) ∧ MX0_isHalfCorner Γ c3 s4 st a0 a1 a2 (fun v1 g2 => eb_cs g2 a0 [0] ∧ ∃ c7 s8 : Nat, ((0 + c3) + c7 ≤ bc ∧ (0 + s4) + s8 ≤ bs) ∧ MX0_whyHull Γ c7 s8 g2 a0 a1 v1 (fun v5 g6 => eb_br (v5 = 1) (eb_cs g6 a0 [0] ∧ ∃ c11 s12 : Nat, ((((0 + c3) + c7)) + c11 ≤ bc ∧ (((0 + s4) + s8)) + s12 ≤ bs) ∧ MX0_snubOf Γ c11 s12 g6 a0 a1 (fun v9 g10 => eb_nn v9 (fun p13 => eb_cs g10 p13 [13] ∧ MX10_degree Γ g10 p13 a2 (fun v14 => K v14 g10)))) (K v5 g6)))
abbrev rmX0_snubDegree (bc bs : Nat) : Room := { frames := 15, cells := bc, slots := bs, locals := 329 }
theorem nX0_snubDegree : eb_ar yX0_snubDegree 2 := by decide +kernel
theorem dX0_snubDegree_0 : eb_dc cX0_snubDegree 0 (.aload_n 0) 1 1 := by decide +kernel
theorem dX0_snubDegree_1 : eb_dc cX0_snubDegree 1 (.iload_n 1) 1 2 := by decide +kernel
theorem dX0_snubDegree_2 : eb_dc cX0_snubDegree 2 (.aload_n 0) 1 3 := by decide +kernel
theorem dX0_snubDegree_3 : eb_dc cX0_snubDegree 3 (.iload_n 1) 1 4 := by decide +kernel
theorem dX0_snubDegree_4 : eb_dc cX0_snubDegree 4 (.iload_n 2) 1 5 := by decide +kernel
theorem dX0_snubDegree_5 : eb_dc cX0_snubDegree 5 (.invokevirtual 251) 3 8 := by decide +kernel
theorem dX0_snubDegree_8 : eb_dc cX0_snubDegree 8 (.invokevirtual 187) 3 11 := by decide +kernel
theorem dX0_snubDegree_11 : eb_dc cX0_snubDegree 11 (.istore_n 3) 1 12 := by decide +kernel
theorem dX0_snubDegree_12 : eb_dc cX0_snubDegree 12 (.iload_n 3) 1 13 := by decide +kernel
theorem dX0_snubDegree_13 : eb_dc cX0_snubDegree 13 (.iconst 1) 1 14 := by decide +kernel
theorem dX0_snubDegree_14 : eb_dj cX0_snubDegree 14 (.if_icmp .eq 7) 7 17 21 := by decide +kernel
theorem dX0_snubDegree_17 : eb_dc cX0_snubDegree 17 (.iload_n 3) 1 18 := by decide +kernel
theorem dX0_snubDegree_18 : eb_dj cX0_snubDegree 18 (.goto 12) 12 21 30 := by decide +kernel
theorem dX0_snubDegree_21 : eb_dc cX0_snubDegree 21 (.aload_n 0) 1 22 := by decide +kernel
theorem dX0_snubDegree_22 : eb_dc cX0_snubDegree 22 (.iload_n 1) 1 23 := by decide +kernel
theorem dX0_snubDegree_23 : eb_dc cX0_snubDegree 23 (.invokevirtual 242) 3 26 := by decide +kernel
theorem dX0_snubDegree_26 : eb_dc cX0_snubDegree 26 (.iload_n 2) 1 27 := by decide +kernel
theorem dX0_snubDegree_27 : eb_dc cX0_snubDegree 27 (.invokevirtual 254) 3 30 := by decide +kernel
theorem dX0_snubDegree_30 : eb_dc cX0_snubDegree 30 (.ireturn) 1 31 := by decide +kernel
theorem ctX0_snubDegree {l : Launch} {Γ : eb_C} {bc bs : Nat} {st : eb_S} {a0 : Nat} {a1 : Int32} {a2 : Int32} {K : Int32 → eb_S → Prop} (h : MX0_snubDegree Γ bc bs st a0 a1 a2 K) : eb_Ct l Γ yX0_snubDegree cX0_snubDegree 4 (some .int) (rmX0_snubDegree bc bs) [.ref a0, .int a1, .int a2] st (eb_oI K) := by
  refine eb_of (by decide) (Nat.le_of_ble_eq_true rfl) (fun X P hP hX0 => ?_)
  suffices hgo : (0 ≤ bc ∧ 0 ≤ bs) → eb_G l Γ P X cX0_snubDegree RX0 4 (some .int) (rmX0_snubDegree bc bs) 0 [(0, .ref a0), (1, .int a1), (2, .int a2)] [] st 0 0 from hgo ⟨Nat.zero_le _, Nat.zero_le _⟩
  intro hu
  refine eg_aload_n 0 dX0_snubDegree_0 rfl rfl ?_
  refine eg_iload_n 1 dX0_snubDegree_1 rfl rfl ?_
  refine eg_aload_n 0 dX0_snubDegree_2 rfl rfl ?_
  refine eg_iload_n 1 dX0_snubDegree_3 rfl rfl ?_
  refine eg_iload_n 2 dX0_snubDegree_4 rfl rfl ?_
  obtain ⟨hcs, h⟩ := h
  obtain ⟨c3, s4, hca, h⟩ := h
  have hM0 := h
  clear h
  refine ec_VIa (rest := [.int a1, .ref a0]) (ctX0_isHalfCorner hM0) (lw_V q1074 q1076 qs34 q74 q1077) rfl rfl hcs nX0_isHalfCorner ⟨Nat.le_of_ble_eq_true rfl, Nat.le_of_ble_eq_true rfl⟩ ⟨rfl, rfl⟩ hca rfl rfl (Nat.le_of_ble_eq_true rfl) dX0_snubDegree_5 (fun v1 g2 h => ?_)
  clear hM0
  replace hu := hca
  obtain ⟨hcs, h⟩ := h
  obtain ⟨c7, s8, hca, h⟩ := h
  have hM0 := h
  clear h
  refine ec_VIa (rest := []) (ctX0_whyHull hM0) (lw_V q685 q687 qs15 q74 q688) rfl rfl hcs nX0_whyHull ⟨Nat.le_of_ble_eq_true rfl, Nat.le_of_ble_eq_true rfl⟩ ⟨rfl, rfl⟩ hca rfl rfl (Nat.le_of_ble_eq_true rfl) dX0_snubDegree_8 (fun v5 g6 h => ?_)
  clear hM0
  replace hu := hca
  refine eg_istore_n (lv' := [(3, .int v5), (0, .ref a0), (1, .int a1), (2, .int a2)]) dX0_snubDegree_11 rfl (Nat.le_of_ble_eq_true rfl) rfl ?_
  refine eg_iload_n 0 dX0_snubDegree_12 rfl rfl ?_
  refine eg_iconst dX0_snubDegree_13 kc_1 ?_
  refine eg_icmp_eq dX0_snubDegree_14 (fun c18 => ?_) (fun c18 => ?_)
  · replace h := h.1 c18
    refine eg_aload_n 1 dX0_snubDegree_21 rfl rfl ?_
    refine eg_iload_n 2 dX0_snubDegree_22 rfl rfl ?_
    obtain ⟨hcs, h⟩ := h
    obtain ⟨c11, s12, hca, h⟩ := h
    have hM0 := h
    clear h
    refine ec_VRa (rest := []) (ctX0_snubOf hM0) (lw_V q1026 q1028 qs33 q74 q1029) rfl rfl hcs nX0_snubOf ⟨Nat.le_of_ble_eq_true rfl, Nat.le_of_ble_eq_true rfl⟩ ⟨rfl, rfl⟩ hca rfl rfl (Nat.le_of_ble_eq_true rfl) dX0_snubDegree_23 (fun v9 g10 h => ?_)
    clear hM0
    replace hu := hca
    refine eg_iload_n 3 dX0_snubDegree_26 rfl rfl ?_
    obtain ⟨p13, rfl, h⟩ := h
    obtain ⟨hcs, h⟩ := h
    have hM0 := h
    clear h
    refine ec_UIp (rest := []) (ctX10_degree hM0) gUX0_254 rfl hcs nX10_degree ⟨Nat.le_of_ble_eq_true rfl, Nat.le_of_ble_eq_true rfl⟩ ⟨rfl, rfl⟩ hu rfl rfl (Nat.le_of_ble_eq_true rfl) dX0_snubDegree_27 (fun v14 h => ?_)
    clear hM0
    exact eg_iret dX0_snubDegree_30 hu.1 hu.2 (hP _ _ ⟨_, rfl, h⟩)
  · replace h := h.2 c18
    refine eg_iload_n 0 dX0_snubDegree_17 rfl rfl ?_
    refine eg_goto dX0_snubDegree_18 ?_
    exact eg_iret dX0_snubDegree_30 hu.1 hu.2 (hP _ _ ⟨_, rfl, h⟩)
theorem gUX0_255 : ∀ c ∈ [13], ∃ (C : String) (T : u_T) (N : Nat), eb_cl[c]? = some (C, T, N) ∧ GoodIn lw_all (va_wsU "EvenBodies" 255 C "EvenBodies$Net" ⟨"EvenBodies$Snub", "far", "(I)[I"⟩ yX10_far (ws_ yX10_far cX10_far 9 (some (.array .int)))) := by
  intro c hc
  simp only [List.mem_cons, List.not_mem_nil, or_false] at hc
  rcases hc with rfl
  · exact ⟨_, _, _, rfl, lw_U q1086 q1087 q1089 q660 q87 q665⟩
def MX0_snubFar (Γ : eb_C) (bc bs : Nat) (st : eb_S) (a0 : Nat) (a1 : Int32) (a2 : Int32) (a3 : Int32) (K : Int32 → eb_S → Prop) : Prop :=
  eb_cs st a0 [0] ∧ ∃ c3 s4 : Nat, (0 + c3 ≤ bc ∧ 0 + s4 ≤ bs) ∧ MX0_isHalfCorner Γ c3 s4 st a0 a1 a2 (fun v1 g2 => eb_jp4 (fun (s5 : Int32) (g6 : eb_S) (u7 : Nat) (w8 : Nat) => eb_cs g6 a0 [0] ∧ ∃ c11 s12 : Nat, (u7 + c11 ≤ bc ∧ w8 + s12 ≤ bs) ∧ MX0_whyHull Γ c11 s12 g6 a0 a1 s5 (fun v9 g10 => eb_br (v9 = 1) (eb_cs g10 a0 [0] ∧ ∃ c15 s16 : Nat, ((u7 + c11) + c15 ≤ bc ∧ (w8 + s12) + s16 ≤ bs) ∧ MX0_snubOf Γ c15 s16 g10 a0 a1 (fun v13 g14 => eb_nn v13 (fun p17 => eb_cs g14 p17 [13] ∧ ∃ c20 s21 : Nat, ((((u7 + c11) + c15)) + c20 ≤ bc ∧ (((w8 + s12) + s16)) + s21 ≤ bs) ∧ MX10_far Γ c20 s21 g14 p17 a2 (fun v18 g19 => eb_nn v18 (fun p22 => eb_li Γ g19 p22 0 a3 (fun v23 => K v23 g19)))))) (K v9 g10))) (fun k25 => eb_br (v1 = 0) (k25 0 g2 (0 + c3) (0 + s4)) (eb_cs g2 a0 [0] ∧ ∃ c28 s29 : Nat, ((0 + c3) + c28 ≤ bc ∧ (0 + s4) + s29 ≤ bs) ∧ MX0_isHalfCorner Γ c28 s29 g2 a0 a1 a3 (fun v26 g27 => eb_br (v26 = 0) (k25 0 g27 (((0 + c3) + c28)) (((0 + s4) + s29))) (k25 1 g27 (((0 + c3) + c28)) (((0 + s4) + s29)))))))
abbrev rmX0_snubFar (bc bs : Nat) : Room := { frames := 15, cells := bc, slots := bs, locals := 329 }
theorem nX0_snubFar : eb_ar yX0_snubFar 3 := by decide +kernel
theorem dX0_snubFar_0 : eb_dc cX0_snubFar 0 (.aload_n 0) 1 1 := by decide +kernel
theorem dX0_snubFar_1 : eb_dc cX0_snubFar 1 (.iload_n 1) 1 2 := by decide +kernel
theorem dX0_snubFar_2 : eb_dc cX0_snubFar 2 (.aload_n 0) 1 3 := by decide +kernel
theorem dX0_snubFar_3 : eb_dc cX0_snubFar 3 (.iload_n 1) 1 4 := by decide +kernel
theorem dX0_snubFar_4 : eb_dc cX0_snubFar 4 (.iload_n 2) 1 5 := by decide +kernel
theorem dX0_snubFar_5 : eb_dc cX0_snubFar 5 (.invokevirtual 251) 3 8 := by decide +kernel
theorem dX0_snubFar_8 : eb_dj cX0_snubFar 8 (.ifCond .eq 16) 16 11 24 := by decide +kernel
theorem dX0_snubFar_11 : eb_dc cX0_snubFar 11 (.aload_n 0) 1 12 := by decide +kernel
theorem dX0_snubFar_12 : eb_dc cX0_snubFar 12 (.iload_n 1) 1 13 := by decide +kernel
theorem dX0_snubFar_13 : eb_dc cX0_snubFar 13 (.iload_n 3) 1 14 := by decide +kernel
theorem dX0_snubFar_14 : eb_dc cX0_snubFar 14 (.invokevirtual 251) 3 17 := by decide +kernel
theorem dX0_snubFar_17 : eb_dj cX0_snubFar 17 (.ifCond .eq 7) 7 20 24 := by decide +kernel
theorem dX0_snubFar_20 : eb_dc cX0_snubFar 20 (.iconst 1) 1 21 := by decide +kernel
theorem dX0_snubFar_21 : eb_dj cX0_snubFar 21 (.goto 4) 4 24 25 := by decide +kernel
theorem dX0_snubFar_24 : eb_dc cX0_snubFar 24 (.iconst 0) 1 25 := by decide +kernel
theorem dX0_snubFar_25 : eb_dc cX0_snubFar 25 (.invokevirtual 187) 3 28 := by decide +kernel
theorem dX0_snubFar_28 : eb_dc cX0_snubFar 28 (.istore 4) 2 30 := by decide +kernel
theorem dX0_snubFar_30 : eb_dc cX0_snubFar 30 (.iload 4) 2 32 := by decide +kernel
theorem dX0_snubFar_32 : eb_dc cX0_snubFar 32 (.iconst 1) 1 33 := by decide +kernel
theorem dX0_snubFar_33 : eb_dj cX0_snubFar 33 (.if_icmp .eq 8) 8 36 41 := by decide +kernel
theorem dX0_snubFar_36 : eb_dc cX0_snubFar 36 (.iload 4) 2 38 := by decide +kernel
theorem dX0_snubFar_38 : eb_dj cX0_snubFar 38 (.goto 14) 14 41 52 := by decide +kernel
theorem dX0_snubFar_41 : eb_dc cX0_snubFar 41 (.aload_n 0) 1 42 := by decide +kernel
theorem dX0_snubFar_42 : eb_dc cX0_snubFar 42 (.iload_n 1) 1 43 := by decide +kernel
theorem dX0_snubFar_43 : eb_dc cX0_snubFar 43 (.invokevirtual 242) 3 46 := by decide +kernel
theorem dX0_snubFar_46 : eb_dc cX0_snubFar 46 (.iload_n 2) 1 47 := by decide +kernel
theorem dX0_snubFar_47 : eb_dc cX0_snubFar 47 (.invokevirtual 255) 3 50 := by decide +kernel
theorem dX0_snubFar_50 : eb_dc cX0_snubFar 50 (.iload_n 3) 1 51 := by decide +kernel
theorem dX0_snubFar_51 : eb_dc cX0_snubFar 51 (.iaload) 1 52 := by decide +kernel
theorem dX0_snubFar_52 : eb_dc cX0_snubFar 52 (.ireturn) 1 53 := by decide +kernel
theorem ctX0_snubFar {l : Launch} {Γ : eb_C} {bc bs : Nat} {st : eb_S} {a0 : Nat} {a1 : Int32} {a2 : Int32} {a3 : Int32} {K : Int32 → eb_S → Prop} (h : MX0_snubFar Γ bc bs st a0 a1 a2 a3 K) : eb_Ct l Γ yX0_snubFar cX0_snubFar 5 (some .int) (rmX0_snubFar bc bs) [.ref a0, .int a1, .int a2, .int a3] st (eb_oI K) := by
  refine eb_of (by decide) (Nat.le_of_ble_eq_true rfl) (fun X P hP hX0 => ?_)
  suffices hgo : (0 ≤ bc ∧ 0 ≤ bs) → eb_G l Γ P X cX0_snubFar RX0 5 (some .int) (rmX0_snubFar bc bs) 0 [(0, .ref a0), (1, .int a1), (2, .int a2), (3, .int a3)] [] st 0 0 from hgo ⟨Nat.zero_le _, Nat.zero_le _⟩
  intro hu
  refine eg_aload_n 0 dX0_snubFar_0 rfl rfl ?_
  refine eg_iload_n 1 dX0_snubFar_1 rfl rfl ?_
  refine eg_aload_n 0 dX0_snubFar_2 rfl rfl ?_
  refine eg_iload_n 1 dX0_snubFar_3 rfl rfl ?_
  refine eg_iload_n 2 dX0_snubFar_4 rfl rfl ?_
  obtain ⟨hcs, h⟩ := h
  obtain ⟨c3, s4, hca, h⟩ := h
  have hM0 := h
  clear h
  refine ec_VIa (rest := [.int a1, .ref a0]) (ctX0_isHalfCorner hM0) (lw_V q1074 q1076 qs34 q74 q1077) rfl rfl hcs nX0_isHalfCorner ⟨Nat.le_of_ble_eq_true rfl, Nat.le_of_ble_eq_true rfl⟩ ⟨rfl, rfl⟩ hca rfl rfl (Nat.le_of_ble_eq_true rfl) dX0_snubFar_5 (fun v1 g2 h => ?_)
  clear hM0
  replace hu := hca
  refine eb_jp4_e (J := fun (s5 : Int32) (g6 : eb_S) (u7 : Nat) (w8 : Nat) => (u7 ≤ bc ∧ w8 ≤ bs) → eb_G l Γ P X cX0_snubFar RX0 5 (some .int) (rmX0_snubFar bc bs) 25 [(0, .ref a0), (1, .int a1), (2, .int a2), (3, .int a3)] [.int s5, .int a1, .ref a0] g6 u7 w8) h ?_ ?_
  · clear h
    intro s5 g6 u7 w8 h hu
    obtain ⟨hcs, h⟩ := h
    obtain ⟨c11, s12, hca, h⟩ := h
    have hM0 := h
    clear h
    refine ec_VIa (rest := []) (ctX0_whyHull hM0) (lw_V q685 q687 qs15 q74 q688) rfl rfl hcs nX0_whyHull ⟨Nat.le_of_ble_eq_true rfl, Nat.le_of_ble_eq_true rfl⟩ ⟨rfl, rfl⟩ hca rfl rfl (Nat.le_of_ble_eq_true rfl) dX0_snubFar_25 (fun v9 g10 h => ?_)
    clear hM0
    replace hu := hca
    refine eg_istore (lv' := [(4, .int v9), (0, .ref a0), (1, .int a1), (2, .int a2), (3, .int a3)]) dX0_snubFar_28 (Nat.le_of_ble_eq_true rfl) rfl ?_
    refine eg_iload 0 dX0_snubFar_30 rfl ?_
    refine eg_iconst dX0_snubFar_32 kc_1 ?_
    refine eg_icmp_eq dX0_snubFar_33 (fun c24 => ?_) (fun c24 => ?_)
    · replace h := h.1 c24
      refine eg_aload_n 1 dX0_snubFar_41 rfl rfl ?_
      refine eg_iload_n 2 dX0_snubFar_42 rfl rfl ?_
      obtain ⟨hcs, h⟩ := h
      obtain ⟨c15, s16, hca, h⟩ := h
      have hM0 := h
      clear h
      refine ec_VRa (rest := []) (ctX0_snubOf hM0) (lw_V q1026 q1028 qs33 q74 q1029) rfl rfl hcs nX0_snubOf ⟨Nat.le_of_ble_eq_true rfl, Nat.le_of_ble_eq_true rfl⟩ ⟨rfl, rfl⟩ hca rfl rfl (Nat.le_of_ble_eq_true rfl) dX0_snubFar_43 (fun v13 g14 h => ?_)
      clear hM0
      replace hu := hca
      refine eg_iload_n 3 dX0_snubFar_46 rfl rfl ?_
      obtain ⟨p17, rfl, h⟩ := h
      obtain ⟨hcs, h⟩ := h
      obtain ⟨c20, s21, hca, h⟩ := h
      have hM0 := h
      clear h
      refine ec_URa (rest := []) (ctX10_far hM0) gUX0_255 rfl hcs nX10_far ⟨Nat.le_of_ble_eq_true rfl, Nat.le_of_ble_eq_true rfl⟩ ⟨rfl, rfl⟩ hca rfl rfl (Nat.le_of_ble_eq_true rfl) dX0_snubFar_47 (fun v18 g19 h => ?_)
      clear hM0
      replace hu := hca
      refine eg_iload_n 4 dX0_snubFar_50 rfl rfl ?_
      obtain ⟨p22, rfl, h⟩ := h
      obtain ⟨nA, fA, he, hb, h⟩ := h
      refine eh_iald he hb dX0_snubFar_51 (fun v23 ev23 => ?_)
      replace h := h v23 ev23
      exact eg_iret dX0_snubFar_52 hu.1 hu.2 (hP _ _ ⟨_, rfl, h⟩)
    · replace h := h.2 c24
      refine eg_iload 0 dX0_snubFar_36 rfl ?_
      refine eg_goto dX0_snubFar_38 ?_
      exact eg_iret dX0_snubFar_52 hu.1 hu.2 (hP _ _ ⟨_, rfl, h⟩)
  · clear h
    intro k25 hk25 h
    refine eg_if_eq dX0_snubFar_8 (fun c31 => ?_) (fun c31 => ?_)
    · replace h := h.1 c31
      refine eg_iconst dX0_snubFar_24 kc_0 ?_
      exact hk25 0 g2 (0 + c3) (0 + s4) h hu
    · replace h := h.2 c31
      refine eg_aload_n 0 dX0_snubFar_11 rfl rfl ?_
      refine eg_iload_n 1 dX0_snubFar_12 rfl rfl ?_
      refine eg_iload_n 3 dX0_snubFar_13 rfl rfl ?_
      obtain ⟨hcs, h⟩ := h
      obtain ⟨c28, s29, hca, h⟩ := h
      have hM0 := h
      clear h
      refine ec_VIa (rest := [.int a1, .ref a0]) (ctX0_isHalfCorner hM0) (lw_V q1074 q1076 qs34 q74 q1077) rfl rfl hcs nX0_isHalfCorner ⟨Nat.le_of_ble_eq_true rfl, Nat.le_of_ble_eq_true rfl⟩ ⟨rfl, rfl⟩ hca rfl rfl (Nat.le_of_ble_eq_true rfl) dX0_snubFar_14 (fun v26 g27 h => ?_)
      clear hM0
      replace hu := hca
      refine eg_if_eq dX0_snubFar_17 (fun c30 => ?_) (fun c30 => ?_)
      · replace h := h.1 c30
        refine eg_iconst dX0_snubFar_24 kc_0 ?_
        exact hk25 0 g27 (((0 + c3) + c28)) (((0 + s4) + s29)) h hu
      · replace h := h.2 c30
        refine eg_iconst dX0_snubFar_20 kc_1 ?_
        refine eg_goto dX0_snubFar_21 ?_
        exact hk25 1 g27 (((0 + c3) + c28)) (((0 + s4) + s29)) h hu
def MX0_snubFaces (Γ : eb_C) (bc bs : Nat) (st : eb_S) (a0 : Nat) (a1 : Int32) (a2 : Int32) (K : Int32 → eb_S → Prop) : Prop :=
  eb_jp1 (fun (s1 : Int32) => eb_cs st a0 [0] ∧ ∃ c4 s5 : Nat, (0 + c4 ≤ bc ∧ 0 + s5 ≤ bs) ∧ MX0_whyHull Γ c4 s5 st a0 a1 s1 (fun v2 g3 => eb_br (v2 = 1) (eb_cs g3 a0 [0] ∧ ∃ c8 s9 : Nat, ((0 + c4) + c8 ≤ bc ∧ (0 + s5) + s9 ≤ bs) ∧ MX0_snubOf Γ c8 s9 g3 a0 a1 (fun v6 g7 => eb_nn v6 (fun p10 => eb_cs g7 p10 [13] ∧ MX14_faces Γ g7 p10 a2 (fun v11 => K v11 g7)))) (K v2 g3))) (fun k16 => eb_br (a2 < 2) (k16 0) (k16 1))
abbrev rmX0_snubFaces (bc bs : Nat) : Room := { frames := 15, cells := bc, slots := bs, locals := 329 }
theorem nX0_snubFaces : eb_ar yX0_snubFaces 2 := by decide +kernel
theorem dX0_snubFaces_0 : eb_dc cX0_snubFaces 0 (.aload_n 0) 1 1 := by decide +kernel
theorem dX0_snubFaces_1 : eb_dc cX0_snubFaces 1 (.iload_n 1) 1 2 := by decide +kernel
theorem dX0_snubFaces_2 : eb_dc cX0_snubFaces 2 (.iload_n 2) 1 3 := by decide +kernel
theorem dX0_snubFaces_3 : eb_dc cX0_snubFaces 3 (.iconst 2) 1 4 := by decide +kernel
theorem dX0_snubFaces_4 : eb_dj cX0_snubFaces 4 (.if_icmp .lt 7) 7 7 11 := by decide +kernel
theorem dX0_snubFaces_7 : eb_dc cX0_snubFaces 7 (.iconst 1) 1 8 := by decide +kernel
theorem dX0_snubFaces_8 : eb_dj cX0_snubFaces 8 (.goto 4) 4 11 12 := by decide +kernel
theorem dX0_snubFaces_11 : eb_dc cX0_snubFaces 11 (.iconst 0) 1 12 := by decide +kernel
theorem dX0_snubFaces_12 : eb_dc cX0_snubFaces 12 (.invokevirtual 187) 3 15 := by decide +kernel
theorem dX0_snubFaces_15 : eb_dc cX0_snubFaces 15 (.istore_n 3) 1 16 := by decide +kernel
theorem dX0_snubFaces_16 : eb_dc cX0_snubFaces 16 (.iload_n 3) 1 17 := by decide +kernel
theorem dX0_snubFaces_17 : eb_dc cX0_snubFaces 17 (.iconst 1) 1 18 := by decide +kernel
theorem dX0_snubFaces_18 : eb_dj cX0_snubFaces 18 (.if_icmp .eq 7) 7 21 25 := by decide +kernel
theorem dX0_snubFaces_21 : eb_dc cX0_snubFaces 21 (.iload_n 3) 1 22 := by decide +kernel
theorem dX0_snubFaces_22 : eb_dj cX0_snubFaces 22 (.goto 12) 12 25 34 := by decide +kernel
theorem dX0_snubFaces_25 : eb_dc cX0_snubFaces 25 (.aload_n 0) 1 26 := by decide +kernel
theorem dX0_snubFaces_26 : eb_dc cX0_snubFaces 26 (.iload_n 1) 1 27 := by decide +kernel
theorem dX0_snubFaces_27 : eb_dc cX0_snubFaces 27 (.invokevirtual 242) 3 30 := by decide +kernel
theorem dX0_snubFaces_30 : eb_dc cX0_snubFaces 30 (.iload_n 2) 1 31 := by decide +kernel
theorem dX0_snubFaces_31 : eb_dc cX0_snubFaces 31 (.invokevirtual 248) 3 34 := by decide +kernel
theorem dX0_snubFaces_34 : eb_dc cX0_snubFaces 34 (.ireturn) 1 35 := by decide +kernel
theorem ctX0_snubFaces {l : Launch} {Γ : eb_C} {bc bs : Nat} {st : eb_S} {a0 : Nat} {a1 : Int32} {a2 : Int32} {K : Int32 → eb_S → Prop} (h : MX0_snubFaces Γ bc bs st a0 a1 a2 K) : eb_Ct l Γ yX0_snubFaces cX0_snubFaces 4 (some .int) (rmX0_snubFaces bc bs) [.ref a0, .int a1, .int a2] st (eb_oI K) := by
  refine eb_of (by decide) (Nat.le_of_ble_eq_true rfl) (fun X P hP hX0 => ?_)
  suffices hgo : (0 ≤ bc ∧ 0 ≤ bs) → eb_G l Γ P X cX0_snubFaces RX0 4 (some .int) (rmX0_snubFaces bc bs) 0 [(0, .ref a0), (1, .int a1), (2, .int a2)] [] st 0 0 from hgo ⟨Nat.zero_le _, Nat.zero_le _⟩
  intro hu
  refine eg_aload_n 0 dX0_snubFaces_0 rfl rfl ?_
  refine eg_iload_n 1 dX0_snubFaces_1 rfl rfl ?_
  refine eg_iload_n 2 dX0_snubFaces_2 rfl rfl ?_
  refine eg_iconst dX0_snubFaces_3 kc_2 ?_
  refine eb_jp1_e (J := fun (s1 : Int32) => (0 ≤ bc ∧ 0 ≤ bs) → eb_G l Γ P X cX0_snubFaces RX0 4 (some .int) (rmX0_snubFaces bc bs) 12 [(0, .ref a0), (1, .int a1), (2, .int a2)] [.int s1, .int a1, .ref a0] st 0 0) h ?_ ?_
  · clear h
    intro s1 h hu
    obtain ⟨hcs, h⟩ := h
    obtain ⟨c4, s5, hca, h⟩ := h
    have hM0 := h
    clear h
    refine ec_VIa (rest := []) (ctX0_whyHull hM0) (lw_V q685 q687 qs15 q74 q688) rfl rfl hcs nX0_whyHull ⟨Nat.le_of_ble_eq_true rfl, Nat.le_of_ble_eq_true rfl⟩ ⟨rfl, rfl⟩ hca rfl rfl (Nat.le_of_ble_eq_true rfl) dX0_snubFaces_12 (fun v2 g3 h => ?_)
    clear hM0
    replace hu := hca
    refine eg_istore_n (lv' := [(3, .int v2), (0, .ref a0), (1, .int a1), (2, .int a2)]) dX0_snubFaces_15 rfl (Nat.le_of_ble_eq_true rfl) rfl ?_
    refine eg_iload_n 0 dX0_snubFaces_16 rfl rfl ?_
    refine eg_iconst dX0_snubFaces_17 kc_1 ?_
    refine eg_icmp_eq dX0_snubFaces_18 (fun c15 => ?_) (fun c15 => ?_)
    · replace h := h.1 c15
      refine eg_aload_n 1 dX0_snubFaces_25 rfl rfl ?_
      refine eg_iload_n 2 dX0_snubFaces_26 rfl rfl ?_
      obtain ⟨hcs, h⟩ := h
      obtain ⟨c8, s9, hca, h⟩ := h
      have hM0 := h
      clear h
      refine ec_VRa (rest := []) (ctX0_snubOf hM0) (lw_V q1026 q1028 qs33 q74 q1029) rfl rfl hcs nX0_snubOf ⟨Nat.le_of_ble_eq_true rfl, Nat.le_of_ble_eq_true rfl⟩ ⟨rfl, rfl⟩ hca rfl rfl (Nat.le_of_ble_eq_true rfl) dX0_snubFaces_27 (fun v6 g7 h => ?_)
      clear hM0
      replace hu := hca
      refine eg_iload_n 3 dX0_snubFaces_30 rfl rfl ?_
      obtain ⟨p10, rfl, h⟩ := h
      obtain ⟨hcs, h⟩ := h
      have hM0 := h
      clear h
      refine ec_VIp (rest := []) (ctX14_faces hM0) (lw_V q1061 q1062 q1063 q97 q1064) rfl rfl hcs nX14_faces ⟨Nat.le_of_ble_eq_true rfl, Nat.le_of_ble_eq_true rfl⟩ ⟨rfl, rfl⟩ hu rfl rfl (Nat.le_of_ble_eq_true rfl) dX0_snubFaces_31 (fun v11 h => ?_)
      clear hM0
      exact eg_iret dX0_snubFaces_34 hu.1 hu.2 (hP _ _ ⟨_, rfl, h⟩)
    · replace h := h.2 c15
      refine eg_iload_n 0 dX0_snubFaces_21 rfl rfl ?_
      refine eg_goto dX0_snubFaces_22 ?_
      exact eg_iret dX0_snubFaces_34 hu.1 hu.2 (hP _ _ ⟨_, rfl, h⟩)
  · clear h
    intro k16 hk16 h
    refine eg_icmp_lt dX0_snubFaces_4 (fun c17 => ?_) (fun c17 => ?_)
    · replace h := h.1 c17
      refine eg_iconst dX0_snubFaces_11 kc_0 ?_
      exact hk16 0 h hu
    · replace h := h.2 c17
      refine eg_iconst dX0_snubFaces_7 kc_1 ?_
      refine eg_goto dX0_snubFaces_8 ?_
      exact hk16 1 h hu
theorem gUX12_151 : ∀ c ∈ [9, 10, 13], ∃ (C : String) (T : u_T) (N : Nat), eb_cl[c]? = some (C, T, N) ∧ GoodIn lw_all (va_wsU "EvenBodies$Hull" 151 C "EvenBodies$Net" ⟨"EvenBodies$Net", "joins", "(II)V"⟩ yX10_joins (ws_ yX10_joins cX10_joins 3 (none))) := by
  intro c hc
  simp only [List.mem_cons, List.not_mem_nil, or_false] at hc
  rcases hc with rfl | rfl | rfl
  · exact ⟨_, _, _, rfl, lw_U q1110 q1589 q1591 q611 q87 q612⟩
  · exact ⟨_, _, _, rfl, lw_U q1110 q1589 q1590 q611 q87 q612⟩
  · exact ⟨_, _, _, rfl, lw_U q1110 q1589 q1592 q611 q87 q612⟩
def MX12_dual (Γ : eb_C) (bc bs : Nat) (st : eb_S) (a0 : Nat) (K : Option Nat → eb_S → Prop) : Prop :=
  eb_mk st (.inr (9, [.int 0, .int 0, .null, .null])) 4 bc bs 0 0 (fun p1 g2 => eb_gi g2 a0 11 2 (fun v3 => MJ2_max 1 v3 (fun v4 => ∃ c10 s11 : Nat, ((0 + 1) + c10 ≤ bc ∧ (0 + 4) + s11 ≤ bs) ∧ MX10_init Γ c10 s11 g2 p1 v4 16 (fun g9 => eb_jp1 (fun (g12 : eb_S) => K (some p1) g12) (fun k13 => eb_loop2 (fun r16 (x2_14 : Int32) (g15 : eb_S) => eb_gr g15 a0 11 1 (fun v17 => eb_nn v17 (fun p18 => eb_ni g15 p18 0 (fun v19 => eb_br (v19 ≤ x2_14) (k13 g15) (eb_jp1 (fun (g20 : eb_S) => r16 (x2_14 + 1) g20) (fun k21 => eb_loop2 (fun r24 (x3_22 : Int32) (g23 : eb_S) => eb_gr g23 a0 11 1 (fun v25 => eb_nn v25 (fun p26 => eb_cs g23 p26 [9, 10, 13] ∧ MX10_degree Γ g23 p26 x2_14 (fun v27 => eb_br (v27 ≤ x3_22) (k21 g23) (eb_gr g23 a0 11 1 (fun v31 => eb_nn v31 (fun p32 => eb_cs g23 p32 [9, 10, 13] ∧ MX10_at Γ g23 p32 x2_14 x3_22 (fun v33 => eb_cs g23 a0 [11] ∧ MX12_faceOf Γ g23 a0 x2_14 v33 (-1) (fun v37 => eb_jp1 (fun (s41 : Int32) => eb_jp1 (fun (g42 : eb_S) => r24 (x3_22 + 1) g42) (fun k43 => eb_br (s41 = (-1)) (k43 g23) (eb_cs g23 p1 [9, 10, 13] ∧ MX10_joins Γ g23 p1 v37 s41 (fun g45 => k43 g45)))) (fun k49 => eb_br (v37 = (-1)) (k49 (-1)) (eb_gr g23 a0 11 1 (fun v50 => eb_nn v50 (fun p51 => eb_cs g23 p51 [9, 10, 13] ∧ MX10_at Γ g23 p51 x2_14 x3_22 (fun v52 => eb_cs g23 a0 [11] ∧ MX12_faceOf Γ g23 a0 x2_14 v52 v37 (fun v56 => k49 v56))))))))))))))) 0 g15)))))) 0 g9)))))
abbrev rmX12_dual (bc bs : Nat) : Room := { frames := 4, cells := bc, slots := bs, locals := 79 }
theorem nX12_dual : eb_ar yX12_dual 0 := by decide +kernel
theorem dX12_dual_0 : eb_dc cX12_dual 0 (.new 32) 3 3 := by decide +kernel
theorem dX12_dual_3 : eb_dc cX12_dual 3 (.dup) 1 4 := by decide +kernel
theorem dX12_dual_4 : eb_dc cX12_dual 4 (.iconst 1) 1 5 := by decide +kernel
theorem dX12_dual_5 : eb_dc cX12_dual 5 (.aload_n 0) 1 6 := by decide +kernel
theorem dX12_dual_6 : eb_dc cX12_dual 6 (.getfield 70) 3 9 := by decide +kernel
theorem dX12_dual_9 : eb_dc cX12_dual 9 (.invokestatic 146) 3 12 := by decide +kernel
theorem dX12_dual_12 : eb_dc cX12_dual 12 (.bipush 16) 2 14 := by decide +kernel
theorem dX12_dual_14 : eb_dc cX12_dual 14 (.invokespecial 149) 3 17 := by decide +kernel
theorem dX12_dual_17 : eb_dc cX12_dual 17 (.astore_n 1) 1 18 := by decide +kernel
theorem dX12_dual_18 : eb_dc cX12_dual 18 (.iconst 0) 1 19 := by decide +kernel
theorem dX12_dual_19 : eb_dc cX12_dual 19 (.istore_n 2) 1 20 := by decide +kernel
theorem dX12_dual_20 : eb_dc cX12_dual 20 (.iload_n 2) 1 21 := by decide +kernel
theorem dX12_dual_21 : eb_dc cX12_dual 21 (.aload_n 0) 1 22 := by decide +kernel
theorem dX12_dual_22 : eb_dc cX12_dual 22 (.getfield 27) 3 25 := by decide +kernel
theorem dX12_dual_25 : eb_dc cX12_dual 25 (.getfield 31) 3 28 := by decide +kernel
theorem dX12_dual_28 : eb_dj cX12_dual 28 (.if_icmp .ge 88) 88 31 116 := by decide +kernel
theorem dX12_dual_31 : eb_dc cX12_dual 31 (.iconst 0) 1 32 := by decide +kernel
theorem dX12_dual_32 : eb_dc cX12_dual 32 (.istore_n 3) 1 33 := by decide +kernel
theorem dX12_dual_33 : eb_dc cX12_dual 33 (.iload_n 3) 1 34 := by decide +kernel
theorem dX12_dual_34 : eb_dc cX12_dual 34 (.aload_n 0) 1 35 := by decide +kernel
theorem dX12_dual_35 : eb_dc cX12_dual 35 (.getfield 27) 3 38 := by decide +kernel
theorem dX12_dual_38 : eb_dc cX12_dual 38 (.iload_n 2) 1 39 := by decide +kernel
theorem dX12_dual_39 : eb_dc cX12_dual 39 (.invokevirtual 91) 3 42 := by decide +kernel
theorem dX12_dual_42 : eb_dj cX12_dual 42 (.if_icmp .ge 68) 68 45 110 := by decide +kernel
theorem dX12_dual_45 : eb_dc cX12_dual 45 (.aload_n 0) 1 46 := by decide +kernel
theorem dX12_dual_46 : eb_dc cX12_dual 46 (.iload_n 2) 1 47 := by decide +kernel
theorem dX12_dual_47 : eb_dc cX12_dual 47 (.aload_n 0) 1 48 := by decide +kernel
theorem dX12_dual_48 : eb_dc cX12_dual 48 (.getfield 27) 3 51 := by decide +kernel
theorem dX12_dual_51 : eb_dc cX12_dual 51 (.iload_n 2) 1 52 := by decide +kernel
theorem dX12_dual_52 : eb_dc cX12_dual 52 (.iload_n 3) 1 53 := by decide +kernel
theorem dX12_dual_53 : eb_dc cX12_dual 53 (.invokevirtual 94) 3 56 := by decide +kernel
theorem dX12_dual_56 : eb_dc cX12_dual 56 (.iconst (-1)) 1 57 := by decide +kernel
theorem dX12_dual_57 : eb_dc cX12_dual 57 (.invokevirtual 101) 3 60 := by decide +kernel
theorem dX12_dual_60 : eb_dc cX12_dual 60 (.istore 4) 2 62 := by decide +kernel
theorem dX12_dual_62 : eb_dc cX12_dual 62 (.iload 4) 2 64 := by decide +kernel
theorem dX12_dual_64 : eb_dc cX12_dual 64 (.iconst (-1)) 1 65 := by decide +kernel
theorem dX12_dual_65 : eb_dj cX12_dual 65 (.if_icmp .ne 7) 7 68 72 := by decide +kernel
theorem dX12_dual_68 : eb_dc cX12_dual 68 (.iconst (-1)) 1 69 := by decide +kernel
theorem dX12_dual_69 : eb_dj cX12_dual 69 (.goto 19) 19 72 88 := by decide +kernel
theorem dX12_dual_72 : eb_dc cX12_dual 72 (.aload_n 0) 1 73 := by decide +kernel
theorem dX12_dual_73 : eb_dc cX12_dual 73 (.iload_n 2) 1 74 := by decide +kernel
theorem dX12_dual_74 : eb_dc cX12_dual 74 (.aload_n 0) 1 75 := by decide +kernel
theorem dX12_dual_75 : eb_dc cX12_dual 75 (.getfield 27) 3 78 := by decide +kernel
theorem dX12_dual_78 : eb_dc cX12_dual 78 (.iload_n 2) 1 79 := by decide +kernel
theorem dX12_dual_79 : eb_dc cX12_dual 79 (.iload_n 3) 1 80 := by decide +kernel
theorem dX12_dual_80 : eb_dc cX12_dual 80 (.invokevirtual 94) 3 83 := by decide +kernel
theorem dX12_dual_83 : eb_dc cX12_dual 83 (.iload 4) 2 85 := by decide +kernel
theorem dX12_dual_85 : eb_dc cX12_dual 85 (.invokevirtual 101) 3 88 := by decide +kernel
theorem dX12_dual_88 : eb_dc cX12_dual 88 (.istore 5) 2 90 := by decide +kernel
theorem dX12_dual_90 : eb_dc cX12_dual 90 (.iload 5) 2 92 := by decide +kernel
theorem dX12_dual_92 : eb_dc cX12_dual 92 (.iconst (-1)) 1 93 := by decide +kernel
theorem dX12_dual_93 : eb_dj cX12_dual 93 (.if_icmp .eq 11) 11 96 104 := by decide +kernel
theorem dX12_dual_96 : eb_dc cX12_dual 96 (.aload_n 1) 1 97 := by decide +kernel
theorem dX12_dual_97 : eb_dc cX12_dual 97 (.iload 4) 2 99 := by decide +kernel
theorem dX12_dual_99 : eb_dc cX12_dual 99 (.iload 5) 2 101 := by decide +kernel
theorem dX12_dual_101 : eb_dc cX12_dual 101 (.invokevirtual 151) 3 104 := by decide +kernel
theorem dX12_dual_104 : eb_dc cX12_dual 104 (.iinc 3 1) 3 107 := by decide +kernel
theorem dX12_dual_107 : eb_dj cX12_dual 107 (.goto (-74)) (-74) 110 33 := by decide +kernel
theorem dX12_dual_110 : eb_dc cX12_dual 110 (.iinc 2 1) 3 113 := by decide +kernel
theorem dX12_dual_113 : eb_dj cX12_dual 113 (.goto (-93)) (-93) 116 20 := by decide +kernel
theorem dX12_dual_116 : eb_dc cX12_dual 116 (.aload_n 1) 1 117 := by decide +kernel
theorem dX12_dual_117 : eb_dc cX12_dual 117 (.areturn) 1 118 := by decide +kernel
theorem ctX12_dual {l : Launch} {Γ : eb_C} {bc bs : Nat} {st : eb_S} {a0 : Nat} {K : Option Nat → eb_S → Prop} (h : MX12_dual Γ bc bs st a0 K) : eb_Ct l Γ yX12_dual cX12_dual 6 (some (.object "EvenBodies$Net")) (rmX12_dual bc bs) [.ref a0] st (eb_oR K) := by
  refine eb_of (by decide) (Nat.le_of_ble_eq_true rfl) (fun X P hP hX0 => ?_)
  suffices hgo : (0 ≤ bc ∧ 0 ≤ bs) → eb_G l Γ P X cX12_dual RX12 6 (some (.object "EvenBodies$Net")) (rmX12_dual bc bs) 0 [(0, .ref a0)] [] st 0 0 from hgo ⟨Nat.zero_le _, Nat.zero_le _⟩
  intro hu
  obtain ⟨hc1, hs1, h⟩ := h
  refine eh_new (ci := 9) (fs := [.int 0, .int 0, .null, .null]) in_X10 tyX10 tyX10_ok q1102 q616 q87 rfl (by decide +kernel) hc1 hs1 dX12_dual_0 (fun p1 qp1 g2 eg2 => ?_)
  replace h := h p1 qp1 g2 eg2
  replace hu := And.intro hc1 hs1
  refine eg_dup dX12_dual_3 rfl ?_
  refine eg_iconst dX12_dual_4 kc_1 ?_
  refine eg_aload_n 0 dX12_dual_5 rfl rfl ?_
  obtain ⟨fs, v3, he, hv, h⟩ := h
  refine eg_get 2 in_X12 he rfl (Nat.le_of_ble_eq_true rfl) q760 rfl hv dX12_dual_6 ?_
  have hM0 := h
  clear h
  refine ec_SIp (rest := [.ref p1, .ref p1]) (ctJ2_max hM0) (lw_S q1103 q972 q90 q973) nJ2_max ⟨Nat.le_of_ble_eq_true rfl, Nat.le_of_ble_eq_true rfl⟩ ⟨rfl, rfl⟩ hu rfl rfl (Nat.le_of_ble_eq_true rfl) dX12_dual_9 (fun v4 h => ?_)
  clear hM0
  refine eg_bipush dX12_dual_12 kb_16 ?_
  obtain ⟨c10, s11, hca, h⟩ := h
  have hM0 := h
  clear h
  refine ec_IVa (rest := [.ref p1]) (ctX10_init hM0) q603 q87 q1104 q602 rfl nX10_init ⟨Nat.le_of_ble_eq_true rfl, Nat.le_of_ble_eq_true rfl⟩ ⟨rfl, rfl⟩ hca rfl rfl (Nat.le_of_ble_eq_true rfl) dX12_dual_14 (fun g9 h => ?_)
  clear hM0
  replace hu := hca
  refine eg_astore_n (i := 1) (lv' := [(1, .ref p1), (0, .ref a0)]) dX12_dual_17 rfl (Nat.le_of_ble_eq_true rfl) rfl ?_
  refine eg_iconst dX12_dual_18 kc_0 ?_
  refine eg_istore_n (lv' := [(2, .int 0), (1, .ref p1), (0, .ref a0)]) dX12_dual_19 rfl (Nat.le_of_ble_eq_true rfl) rfl ?_
  refine eb_jp1_e (J := fun (g12 : eb_S) => (((0 + 1) + c10) ≤ bc ∧ ((0 + 4) + s11) ≤ bs) → eb_G l Γ P X cX12_dual RX12 6 (some (.object "EvenBodies$Net")) (rmX12_dual bc bs) 116 [(1, .ref p1)] [] g12 ((0 + 1) + c10) ((0 + 4) + s11)) h ?_ ?_
  · clear h
    intro g12 h hu
    refine eg_aload_n 0 dX12_dual_116 rfl rfl ?_
    exact eg_aret dX12_dual_117 (Or.inl ⟨_, rfl⟩) (Or.inr ⟨_, rfl⟩) hu.1 hu.2 (hP _ _ ⟨(some p1), rfl, h⟩)
  · clear h
    intro k13 hk13 h
    refine eg_sub [2, 1, 0] rfl ?_
    refine eb_loop2_e (J := fun (x2_14 : Int32) (g15 : eb_S) => (((0 + 1) + c10) ≤ bc ∧ ((0 + 4) + s11) ≤ bs) → eb_G l Γ P X cX12_dual RX12 6 (some (.object "EvenBodies$Net")) (rmX12_dual bc bs) 20 [(0, .ref a0), (1, .ref p1), (2, .int x2_14)] [] g15 ((0 + 1) + c10) ((0 + 4) + s11)) h ?_ hu
    clear h
    clear hu
    intro r16 hr16 x2_14 g15 h hu
    refine eg_iload_n 2 dX12_dual_20 rfl rfl ?_
    refine eg_aload_n 0 dX12_dual_21 rfl rfl ?_
    obtain ⟨fs, v17, he, hv, h⟩ := h
    refine eg_get 1 in_X12 he rfl (Nat.le_of_ble_eq_true rfl) q758 rfl hv dX12_dual_22 ?_
    obtain ⟨p18, rfl, h⟩ := h
    obtain ⟨c0, fs, v19, hc0, he, hv, h⟩ := h
    refine en_get 0 (Nat.le_of_ble_eq_true rfl) hc0 he q631 hv dX12_dual_25 ?_
    refine eg_icmp_ge dX12_dual_28 (fun c62 => ?_) (fun c62 => ?_)
    · replace h := h.1 c62
      exact eg_sub [1] rfl (hk13 g15 h hu)
    · replace h := h.2 c62
      refine eg_iconst dX12_dual_31 kc_0 ?_
      refine eg_istore_n (lv' := [(3, .int 0), (0, .ref a0), (1, .ref p1), (2, .int x2_14)]) dX12_dual_32 rfl (Nat.le_of_ble_eq_true rfl) rfl ?_
      refine eb_jp1_e (J := fun (g20 : eb_S) => (((0 + 1) + c10) ≤ bc ∧ ((0 + 4) + s11) ≤ bs) → eb_G l Γ P X cX12_dual RX12 6 (some (.object "EvenBodies$Net")) (rmX12_dual bc bs) 110 [(0, .ref a0), (1, .ref p1), (2, .int x2_14)] [] g20 ((0 + 1) + c10) ((0 + 4) + s11)) h ?_ ?_
      · clear h
        intro g20 h hu
        refine eg_iinc (j := 2) (lv' := [(2, .int (x2_14 + 1)), (0, .ref a0), (1, .ref p1)]) dX12_dual_110 rfl (by rw [kc_1]) (Nat.le_of_ble_eq_true rfl) rfl ?_
        refine eg_goto dX12_dual_113 ?_
        exact eg_sub [1, 2, 0] rfl (hr16 (x2_14 + 1) g20 h hu)
      · clear h
        intro k21 hk21 h
        refine eg_sub [1, 2, 3, 0] rfl ?_
        refine eb_loop2_e (J := fun (x3_22 : Int32) (g23 : eb_S) => (((0 + 1) + c10) ≤ bc ∧ ((0 + 4) + s11) ≤ bs) → eb_G l Γ P X cX12_dual RX12 6 (some (.object "EvenBodies$Net")) (rmX12_dual bc bs) 33 [(0, .ref a0), (1, .ref p1), (2, .int x2_14), (3, .int x3_22)] [] g23 ((0 + 1) + c10) ((0 + 4) + s11)) h ?_ hu
        clear h
        clear hu
        intro r24 hr24 x3_22 g23 h hu
        refine eg_iload_n 3 dX12_dual_33 rfl rfl ?_
        refine eg_aload_n 0 dX12_dual_34 rfl rfl ?_
        obtain ⟨fs, v25, he, hv, h⟩ := h
        refine eg_get 1 in_X12 he rfl (Nat.le_of_ble_eq_true rfl) q758 rfl hv dX12_dual_35 ?_
        refine eg_iload_n 2 dX12_dual_38 rfl rfl ?_
        obtain ⟨p26, rfl, h⟩ := h
        obtain ⟨hcs, h⟩ := h
        have hM0 := h
        clear h
        refine ec_UIp (rest := [.int x3_22]) (ctX10_degree hM0) gUX12_91 rfl hcs nX10_degree ⟨Nat.le_of_ble_eq_true rfl, Nat.le_of_ble_eq_true rfl⟩ ⟨rfl, rfl⟩ hu rfl rfl (Nat.le_of_ble_eq_true rfl) dX12_dual_39 (fun v27 h => ?_)
        clear hM0
        refine eg_icmp_ge dX12_dual_42 (fun c61 => ?_) (fun c61 => ?_)
        · replace h := h.1 c61
          exact eg_sub [0, 1, 2] rfl (hk21 g23 h hu)
        · replace h := h.2 c61
          refine eg_aload_n 0 dX12_dual_45 rfl rfl ?_
          refine eg_iload_n 2 dX12_dual_46 rfl rfl ?_
          refine eg_aload_n 0 dX12_dual_47 rfl rfl ?_
          obtain ⟨fs, v31, he, hv, h⟩ := h
          refine eg_get 1 in_X12 he rfl (Nat.le_of_ble_eq_true rfl) q758 rfl hv dX12_dual_48 ?_
          refine eg_iload_n 2 dX12_dual_51 rfl rfl ?_
          refine eg_iload_n 3 dX12_dual_52 rfl rfl ?_
          obtain ⟨p32, rfl, h⟩ := h
          obtain ⟨hcs, h⟩ := h
          have hM0 := h
          clear h
          refine ec_UIp (rest := [.int x2_14, .ref a0]) (ctX10_at hM0) gUX12_94 rfl hcs nX10_at ⟨Nat.le_of_ble_eq_true rfl, Nat.le_of_ble_eq_true rfl⟩ ⟨rfl, rfl⟩ hu rfl rfl (Nat.le_of_ble_eq_true rfl) dX12_dual_53 (fun v33 h => ?_)
          clear hM0
          refine eg_iconst dX12_dual_56 kc_m1 ?_
          obtain ⟨hcs, h⟩ := h
          have hM0 := h
          clear h
          refine ec_VIp (rest := []) (ctX12_faceOf hM0) (lw_V q720 q722 qs19 q89 q723) rfl rfl hcs nX12_faceOf ⟨Nat.le_of_ble_eq_true rfl, Nat.le_of_ble_eq_true rfl⟩ ⟨rfl, rfl⟩ hu rfl rfl (Nat.le_of_ble_eq_true rfl) dX12_dual_57 (fun v37 h => ?_)
          clear hM0
          refine eg_istore (lv' := [(4, .int v37), (0, .ref a0), (1, .ref p1), (2, .int x2_14), (3, .int x3_22)]) dX12_dual_60 (Nat.le_of_ble_eq_true rfl) rfl ?_
          refine eg_iload 0 dX12_dual_62 rfl ?_
          refine eg_iconst dX12_dual_64 kc_m1 ?_
          refine eb_jp1_e (J := fun (s41 : Int32) => (((0 + 1) + c10) ≤ bc ∧ ((0 + 4) + s11) ≤ bs) → eb_G l Γ P X cX12_dual RX12 6 (some (.object "EvenBodies$Net")) (rmX12_dual bc bs) 88 [(0, .ref a0), (1, .ref p1), (2, .int x2_14), (3, .int x3_22), (4, .int v37)] [.int s41] g23 ((0 + 1) + c10) ((0 + 4) + s11)) h ?_ ?_
          · clear h
            intro s41 h hu
            refine eg_istore (lv' := [(5, .int s41), (0, .ref a0), (1, .ref p1), (2, .int x2_14), (3, .int x3_22), (4, .int v37)]) dX12_dual_88 (Nat.le_of_ble_eq_true rfl) rfl ?_
            refine eg_iload 0 dX12_dual_90 rfl ?_
            refine eg_iconst dX12_dual_92 kc_m1 ?_
            refine eb_jp1_e (J := fun (g42 : eb_S) => (((0 + 1) + c10) ≤ bc ∧ ((0 + 4) + s11) ≤ bs) → eb_G l Γ P X cX12_dual RX12 6 (some (.object "EvenBodies$Net")) (rmX12_dual bc bs) 104 [(0, .ref a0), (1, .ref p1), (2, .int x2_14), (3, .int x3_22)] [] g42 ((0 + 1) + c10) ((0 + 4) + s11)) h ?_ ?_
            · clear h
              intro g42 h hu
              refine eg_iinc (j := 3) (lv' := [(3, .int (x3_22 + 1)), (0, .ref a0), (1, .ref p1), (2, .int x2_14)]) dX12_dual_104 rfl (by rw [kc_1]) (Nat.le_of_ble_eq_true rfl) rfl ?_
              refine eg_goto dX12_dual_107 ?_
              exact eg_sub [1, 2, 3, 0] rfl (hr24 (x3_22 + 1) g42 h hu)
            · clear h
              intro k43 hk43 h
              refine eg_icmp_eq dX12_dual_93 (fun c48 => ?_) (fun c48 => ?_)
              · replace h := h.1 c48
                exact eg_sub [1, 2, 3, 4] rfl (hk43 g23 h hu)
              · replace h := h.2 c48
                refine eg_aload_n 2 dX12_dual_96 rfl rfl ?_
                refine eg_iload 5 dX12_dual_97 rfl ?_
                refine eg_iload 0 dX12_dual_99 rfl ?_
                obtain ⟨hcs, h⟩ := h
                have hM0 := h
                clear h
                refine ec_UVw (rest := []) (ctX10_joins hM0) gUX12_151 rfl hcs nX10_joins ⟨Nat.le_of_ble_eq_true rfl, Nat.le_of_ble_eq_true rfl⟩ ⟨rfl, rfl⟩ hu rfl rfl (Nat.le_of_ble_eq_true rfl) dX12_dual_101 (fun g45 h => ?_)
                clear hM0
                exact eg_sub [1, 2, 3, 4] rfl (hk43 g45 h hu)
          · clear h
            intro k49 hk49 h
            refine eg_icmp_ne dX12_dual_65 (fun c60 => ?_) (fun c60 => ?_)
            · replace h := h.2 c60
              refine eg_aload_n 1 dX12_dual_72 rfl rfl ?_
              refine eg_iload_n 3 dX12_dual_73 rfl rfl ?_
              refine eg_aload_n 1 dX12_dual_74 rfl rfl ?_
              obtain ⟨fs, v50, he, hv, h⟩ := h
              refine eg_get 1 in_X12 he rfl (Nat.le_of_ble_eq_true rfl) q758 rfl hv dX12_dual_75 ?_
              refine eg_iload_n 3 dX12_dual_78 rfl rfl ?_
              refine eg_iload_n 4 dX12_dual_79 rfl rfl ?_
              obtain ⟨p51, rfl, h⟩ := h
              obtain ⟨hcs, h⟩ := h
              have hM0 := h
              clear h
              refine ec_UIp (rest := [.int x2_14, .ref a0]) (ctX10_at hM0) gUX12_94 rfl hcs nX10_at ⟨Nat.le_of_ble_eq_true rfl, Nat.le_of_ble_eq_true rfl⟩ ⟨rfl, rfl⟩ hu rfl rfl (Nat.le_of_ble_eq_true rfl) dX12_dual_80 (fun v52 h => ?_)
              clear hM0
              refine eg_iload 0 dX12_dual_83 rfl ?_
              obtain ⟨hcs, h⟩ := h
              have hM0 := h
              clear h
              refine ec_VIp (rest := []) (ctX12_faceOf hM0) (lw_V q720 q722 qs19 q89 q723) rfl rfl hcs nX12_faceOf ⟨Nat.le_of_ble_eq_true rfl, Nat.le_of_ble_eq_true rfl⟩ ⟨rfl, rfl⟩ hu rfl rfl (Nat.le_of_ble_eq_true rfl) dX12_dual_85 (fun v56 h => ?_)
              clear hM0
              exact eg_sub [1, 2, 3, 4, 0] rfl (hk49 v56 h hu)
            · replace h := h.1 c60
              refine eg_iconst dX12_dual_68 kc_m1 ?_
              refine eg_goto dX12_dual_69 ?_
              exact eg_sub [1, 2, 3, 4, 0] rfl (hk49 (-1) h hu)
theorem gUX0_262 : ∀ c ∈ [9, 10, 13], ∃ (C : String) (T : u_T) (N : Nat), eb_cl[c]? = some (C, T, N) ∧ GoodIn lw_all (va_wsU "EvenBodies" 262 C "EvenBodies$Net" ⟨"EvenBodies$Net", "all", "()I"⟩ yX10_all (ws_ yX10_all cX10_all 6 (some .int))) := by
  intro c hc
  simp only [List.mem_cons, List.not_mem_nil, or_false] at hc
  rcases hc with rfl | rfl | rfl
  · exact ⟨_, _, _, rfl, lw_U q1111 q1593 q1595 q1059 q87 q1060⟩
  · exact ⟨_, _, _, rfl, lw_U q1111 q1593 q1594 q1059 q87 q1060⟩
  · exact ⟨_, _, _, rfl, lw_U q1111 q1593 q1596 q1059 q87 q1060⟩
def MX0_dual (Γ : eb_C) (bc bs : Nat) (st : eb_S) (a0 : Nat) (a1 : Int32) (a2 : Int32) (K : Int32 → eb_S → Prop) : Prop :=
  MX0_in a2 0 2 (fun v1 => eb_cs st a0 [0] ∧ ∃ c7 s8 : Nat, (0 + c7 ≤ bc ∧ 0 + s8 ≤ bs) ∧ MX0_whyHull Γ c7 s8 st a0 a1 v1 (fun v5 g6 => eb_br (v5 = 1) (eb_gr g6 a0 0 0 (fun v9 => eb_nn v9 (fun p10 => eb_lr Γ g6 p10 7 a1 (fun v11 => eb_nn v11 (fun p12 => eb_cs g6 p12 [1] ∧ ∃ c15 s16 : Nat, ((0 + c7) + c15 ≤ bc ∧ (0 + s8) + s16 ≤ bs) ∧ MX1_hull Γ c15 s16 g6 p12 (fun v13 g14 => eb_br (a2 = 0) (eb_nn v13 (fun p32 => eb_gi g14 p32 11 2 (fun v33 => K v33 g14))) (eb_br (a2 = 1) (eb_nn v13 (fun p21 => eb_cs g14 p21 [11] ∧ ∃ c24 s25 : Nat, ((((0 + c7) + c15)) + c24 ≤ bc ∧ (((0 + s8) + s16)) + s25 ≤ bs) ∧ MX12_dual Γ c24 s25 g14 p21 (fun v22 g23 => eb_nn v22 (fun p26 => eb_cs g23 p26 [9, 10, 13] ∧ MX10_all Γ g23 p26 (fun v27 => K v27 g23))))) (eb_nn v13 (fun p17 => eb_gr g14 p17 11 1 (fun v18 => eb_nn v18 (fun p19 => eb_ni g14 p19 0 (fun v20 => K v20 g14)))))))))))) (K v5 g6)))
abbrev rmX0_dual (bc bs : Nat) : Room := { frames := 15, cells := bc, slots := bs, locals := 329 }
theorem nX0_dual : eb_ar yX0_dual 2 := by decide +kernel
theorem dX0_dual_0 : eb_dc cX0_dual 0 (.aload_n 0) 1 1 := by decide +kernel
theorem dX0_dual_1 : eb_dc cX0_dual 1 (.iload_n 1) 1 2 := by decide +kernel
theorem dX0_dual_2 : eb_dc cX0_dual 2 (.iload_n 2) 1 3 := by decide +kernel
theorem dX0_dual_3 : eb_dc cX0_dual 3 (.iconst 0) 1 4 := by decide +kernel
theorem dX0_dual_4 : eb_dc cX0_dual 4 (.iconst 2) 1 5 := by decide +kernel
theorem dX0_dual_5 : eb_dc cX0_dual 5 (.invokestatic 26) 3 8 := by decide +kernel
theorem dX0_dual_8 : eb_dc cX0_dual 8 (.invokevirtual 187) 3 11 := by decide +kernel
theorem dX0_dual_11 : eb_dc cX0_dual 11 (.istore_n 3) 1 12 := by decide +kernel
theorem dX0_dual_12 : eb_dc cX0_dual 12 (.iload_n 3) 1 13 := by decide +kernel
theorem dX0_dual_13 : eb_dc cX0_dual 13 (.iconst 1) 1 14 := by decide +kernel
theorem dX0_dual_14 : eb_dj cX0_dual 14 (.if_icmp .eq 5) 5 17 19 := by decide +kernel
theorem dX0_dual_17 : eb_dc cX0_dual 17 (.iload_n 3) 1 18 := by decide +kernel
theorem dX0_dual_18 : eb_dc cX0_dual 18 (.ireturn) 1 19 := by decide +kernel
theorem dX0_dual_19 : eb_dc cX0_dual 19 (.aload_n 0) 1 20 := by decide +kernel
theorem dX0_dual_20 : eb_dc cX0_dual 20 (.getfield 15) 3 23 := by decide +kernel
theorem dX0_dual_23 : eb_dc cX0_dual 23 (.iload_n 1) 1 24 := by decide +kernel
theorem dX0_dual_24 : eb_dc cX0_dual 24 (.aaload) 1 25 := by decide +kernel
theorem dX0_dual_25 : eb_dc cX0_dual 25 (.invokevirtual 190) 3 28 := by decide +kernel
theorem dX0_dual_28 : eb_dc cX0_dual 28 (.astore 4) 2 30 := by decide +kernel
theorem dX0_dual_30 : eb_dc cX0_dual 30 (.iload_n 2) 1 31 := by decide +kernel
theorem dX0_dual_31 : eb_dj cX0_dual 31 (.ifCond .ne 11) 11 34 42 := by decide +kernel
theorem dX0_dual_34 : eb_dc cX0_dual 34 (.aload 4) 2 36 := by decide +kernel
theorem dX0_dual_36 : eb_dc cX0_dual 36 (.getfield 256) 3 39 := by decide +kernel
theorem dX0_dual_39 : eb_dj cX0_dual 39 (.goto 27) 27 42 66 := by decide +kernel
theorem dX0_dual_42 : eb_dc cX0_dual 42 (.iload_n 2) 1 43 := by decide +kernel
theorem dX0_dual_43 : eb_dc cX0_dual 43 (.iconst 1) 1 44 := by decide +kernel
theorem dX0_dual_44 : eb_dj cX0_dual 44 (.if_icmp .ne 14) 14 47 58 := by decide +kernel
theorem dX0_dual_47 : eb_dc cX0_dual 47 (.aload 4) 2 49 := by decide +kernel
theorem dX0_dual_49 : eb_dc cX0_dual 49 (.invokevirtual 258) 3 52 := by decide +kernel
theorem dX0_dual_52 : eb_dc cX0_dual 52 (.invokevirtual 262) 3 55 := by decide +kernel
theorem dX0_dual_55 : eb_dj cX0_dual 55 (.goto 11) 11 58 66 := by decide +kernel
theorem dX0_dual_58 : eb_dc cX0_dual 58 (.aload 4) 2 60 := by decide +kernel
theorem dX0_dual_60 : eb_dc cX0_dual 60 (.getfield 263) 3 63 := by decide +kernel
theorem dX0_dual_63 : eb_dc cX0_dual 63 (.getfield 183) 3 66 := by decide +kernel
theorem dX0_dual_66 : eb_dc cX0_dual 66 (.ireturn) 1 67 := by decide +kernel
theorem ctX0_dual {l : Launch} {Γ : eb_C} {bc bs : Nat} {st : eb_S} {a0 : Nat} {a1 : Int32} {a2 : Int32} {K : Int32 → eb_S → Prop} (h : MX0_dual Γ bc bs st a0 a1 a2 K) : eb_Ct l Γ yX0_dual cX0_dual 5 (some .int) (rmX0_dual bc bs) [.ref a0, .int a1, .int a2] st (eb_oI K) := by
  refine eb_of (by decide) (Nat.le_of_ble_eq_true rfl) (fun X P hP hX0 => ?_)
  suffices hgo : (0 ≤ bc ∧ 0 ≤ bs) → eb_G l Γ P X cX0_dual RX0 5 (some .int) (rmX0_dual bc bs) 0 [(0, .ref a0), (1, .int a1), (2, .int a2)] [] st 0 0 from hgo ⟨Nat.zero_le _, Nat.zero_le _⟩
  intro hu
  refine eg_aload_n 0 dX0_dual_0 rfl rfl ?_
  refine eg_iload_n 1 dX0_dual_1 rfl rfl ?_
  refine eg_iload_n 2 dX0_dual_2 rfl rfl ?_
  refine eg_iconst dX0_dual_3 kc_0 ?_
  refine eg_iconst dX0_dual_4 kc_2 ?_
  have hM0 := h
  clear h
  refine ec_SIp (rest := [.int a1, .ref a0]) (ctX0_in hM0) (lw_S q185 q186 q74 q187) nX0_in ⟨Nat.le_of_ble_eq_true rfl, Nat.le_of_ble_eq_true rfl⟩ ⟨rfl, rfl⟩ hu rfl rfl (Nat.le_of_ble_eq_true rfl) dX0_dual_5 (fun v1 h => ?_)
  clear hM0
  obtain ⟨hcs, h⟩ := h
  obtain ⟨c7, s8, hca, h⟩ := h
  have hM0 := h
  clear h
  refine ec_VIa (rest := []) (ctX0_whyHull hM0) (lw_V q685 q687 qs15 q74 q688) rfl rfl hcs nX0_whyHull ⟨Nat.le_of_ble_eq_true rfl, Nat.le_of_ble_eq_true rfl⟩ ⟨rfl, rfl⟩ hca rfl rfl (Nat.le_of_ble_eq_true rfl) dX0_dual_8 (fun v5 g6 h => ?_)
  clear hM0
  replace hu := hca
  refine eg_istore_n (lv' := [(3, .int v5), (0, .ref a0), (1, .int a1), (2, .int a2)]) dX0_dual_11 rfl (Nat.le_of_ble_eq_true rfl) rfl ?_
  refine eg_iload_n 0 dX0_dual_12 rfl rfl ?_
  refine eg_iconst dX0_dual_13 kc_1 ?_
  refine eg_icmp_eq dX0_dual_14 (fun c35 => ?_) (fun c35 => ?_)
  · replace h := h.1 c35
    refine eg_aload_n 1 dX0_dual_19 rfl rfl ?_
    obtain ⟨fs, v9, he, hv, h⟩ := h
    refine eg_get 0 in_X0 he rfl (Nat.le_of_ble_eq_true rfl) q159 rfl hv dX0_dual_20 ?_
    refine eg_iload_n 2 dX0_dual_23 rfl rfl ?_
    obtain ⟨p10, rfl, h⟩ := h
    obtain ⟨nA, fA, he, hb, h⟩ := h
    refine eg_aald (t := 7) (ty := .object "EvenBodies$Body") rfl rfl he hb dX0_dual_24 (fun v11 ev11 => ?_)
    replace h := h v11 ev11
    obtain ⟨p12, rfl, h⟩ := h
    obtain ⟨hcs, h⟩ := h
    obtain ⟨c15, s16, hca, h⟩ := h
    have hM0 := h
    clear h
    refine ec_VRa (rest := []) (ctX1_hull hM0) (lw_V q689 q690 q691 q75 q692) rfl rfl hcs nX1_hull ⟨Nat.le_of_ble_eq_true rfl, Nat.le_of_ble_eq_true rfl⟩ ⟨rfl, rfl⟩ hca rfl rfl (Nat.le_of_ble_eq_true rfl) dX0_dual_25 (fun v13 g14 h => ?_)
    clear hM0
    replace hu := hca
    refine eh_astore (i := 4) (v := v13) (lv' := [(4, va_rf v13), (3, .int v5), (0, .ref a0), (1, .int a1), (2, .int a2)]) dX0_dual_28 (Nat.le_of_ble_eq_true rfl) rfl ?_
    refine eg_iload_n 4 dX0_dual_30 rfl rfl ?_
    refine eg_if_ne dX0_dual_31 (fun c34 => ?_) (fun c34 => ?_)
    · replace h := h.2 c34
      refine eg_iload_n 4 dX0_dual_42 rfl rfl ?_
      refine eg_iconst dX0_dual_43 kc_1 ?_
      refine eg_icmp_ne dX0_dual_44 (fun c31 => ?_) (fun c31 => ?_)
      · replace h := h.2 c31
        refine eh_aload (v := v13) 0 dX0_dual_58 rfl ?_
        obtain ⟨p17, rfl, h⟩ := h
        obtain ⟨fs, v18, he, hv, h⟩ := h
        refine eg_getN 1 in_X12 he rfl (Nat.le_of_ble_eq_true rfl) (List.mem_of_getElem? (i := 9) rfl) rfl hv dX0_dual_60 ?_
        obtain ⟨p19, rfl, h⟩ := h
        obtain ⟨c0, fs, v20, hc0, he, hv, h⟩ := h
        refine en_get 0 (Nat.le_of_ble_eq_true rfl) hc0 he q634 hv dX0_dual_63 ?_
        exact eg_iret dX0_dual_66 hu.1 hu.2 (hP _ _ ⟨_, rfl, h⟩)
      · replace h := h.1 c31
        refine eh_aload (v := v13) 0 dX0_dual_47 rfl ?_
        obtain ⟨p21, rfl, h⟩ := h
        obtain ⟨hcs, h⟩ := h
        obtain ⟨c24, s25, hca, h⟩ := h
        have hM0 := h
        clear h
        refine ec_VRa (rest := []) (ctX12_dual hM0) (lw_V q1098 q1099 q1100 q89 q1101) rfl rfl hcs nX12_dual ⟨Nat.le_of_ble_eq_true rfl, Nat.le_of_ble_eq_true rfl⟩ ⟨rfl, rfl⟩ hca rfl rfl (Nat.le_of_ble_eq_true rfl) dX0_dual_49 (fun v22 g23 h => ?_)
        clear hM0
        replace hu := hca
        obtain ⟨p26, rfl, h⟩ := h
        obtain ⟨hcs, h⟩ := h
        have hM0 := h
        clear h
        refine ec_UIp (rest := []) (ctX10_all hM0) gUX0_262 rfl hcs nX10_all ⟨Nat.le_of_ble_eq_true rfl, Nat.le_of_ble_eq_true rfl⟩ ⟨rfl, rfl⟩ hu rfl rfl (Nat.le_of_ble_eq_true rfl) dX0_dual_52 (fun v27 h => ?_)
        clear hM0
        refine eg_goto dX0_dual_55 ?_
        exact eg_iret dX0_dual_66 hu.1 hu.2 (hP _ _ ⟨_, rfl, h⟩)
    · replace h := h.1 c34
      refine eh_aload (v := v13) 0 dX0_dual_34 rfl ?_
      obtain ⟨p32, rfl, h⟩ := h
      obtain ⟨fs, v33, he, hv, h⟩ := h
      refine eg_getN 2 in_X12 he rfl (Nat.le_of_ble_eq_true rfl) (List.mem_of_getElem? (i := 10) rfl) rfl hv dX0_dual_36 ?_
      refine eg_goto dX0_dual_39 ?_
      exact eg_iret dX0_dual_66 hu.1 hu.2 (hP _ _ ⟨_, rfl, h⟩)
  · replace h := h.2 c35
    refine eg_iload_n 0 dX0_dual_17 rfl rfl ?_
    exact eg_iret dX0_dual_18 hu.1 hu.2 (hP _ _ ⟨_, rfl, h⟩)
def MX0_dualDegree (Γ : eb_C) (bc bs : Nat) (st : eb_S) (a0 : Nat) (a1 : Int32) (a2 : Int32) (K : Int32 → eb_S → Prop) : Prop :=
  eb_jp1 (fun (s1 : Int32) => eb_cs st a0 [0] ∧ ∃ c4 s5 : Nat, (0 + c4 ≤ bc ∧ 0 + s5 ≤ bs) ∧ MX0_whyHull Γ c4 s5 st a0 a1 s1 (fun v2 g3 => eb_br (v2 = 1) (eb_gr g3 a0 0 0 (fun v6 => eb_nn v6 (fun p7 => eb_lr Γ g3 p7 7 a1 (fun v8 => eb_nn v8 (fun p9 => eb_cs g3 p9 [1] ∧ ∃ c12 s13 : Nat, ((0 + c4) + c12 ≤ bc ∧ (0 + s5) + s13 ≤ bs) ∧ MX1_hull Γ c12 s13 g3 p9 (fun v10 g11 => eb_nn v10 (fun p14 => eb_cs g11 p14 [11] ∧ ∃ c17 s18 : Nat, ((((0 + c4) + c12)) + c17 ≤ bc ∧ (((0 + s5) + s13)) + s18 ≤ bs) ∧ MX12_dual Γ c17 s18 g11 p14 (fun v15 g16 => eb_loop2 (fun r21 (x6_19 : Int32) (x7_20 : Int32) => eb_gi g16 p14 11 2 (fun v22 => eb_br (v22 ≤ x7_20) (K x6_19 g16) (eb_nn v15 (fun p23 => eb_cs g16 p23 [9, 10, 13] ∧ MX10_degree Γ g16 p23 x7_20 (fun v24 => eb_jp1 (fun (s28 : Int32) => r21 (x6_19 + s28) (x7_20 + 1)) (fun k29 => eb_br (v24 = a2) (k29 1) (k29 0))))))) 0 0)))))))) (K v2 g3))) (fun k33 => eb_br (a2 < 0) (k33 0) (k33 1))
abbrev rmX0_dualDegree (bc bs : Nat) : Room := { frames := 15, cells := bc, slots := bs, locals := 329 }
theorem nX0_dualDegree : eb_ar yX0_dualDegree 2 := by decide +kernel
theorem dX0_dualDegree_0 : eb_dc cX0_dualDegree 0 (.aload_n 0) 1 1 := by decide +kernel
theorem dX0_dualDegree_1 : eb_dc cX0_dualDegree 1 (.iload_n 1) 1 2 := by decide +kernel
theorem dX0_dualDegree_2 : eb_dc cX0_dualDegree 2 (.iload_n 2) 1 3 := by decide +kernel
theorem dX0_dualDegree_3 : eb_dj cX0_dualDegree 3 (.ifCond .lt 7) 7 6 10 := by decide +kernel
theorem dX0_dualDegree_6 : eb_dc cX0_dualDegree 6 (.iconst 1) 1 7 := by decide +kernel
theorem dX0_dualDegree_7 : eb_dj cX0_dualDegree 7 (.goto 4) 4 10 11 := by decide +kernel
theorem dX0_dualDegree_10 : eb_dc cX0_dualDegree 10 (.iconst 0) 1 11 := by decide +kernel
theorem dX0_dualDegree_11 : eb_dc cX0_dualDegree 11 (.invokevirtual 187) 3 14 := by decide +kernel
theorem dX0_dualDegree_14 : eb_dc cX0_dualDegree 14 (.istore_n 3) 1 15 := by decide +kernel
theorem dX0_dualDegree_15 : eb_dc cX0_dualDegree 15 (.iload_n 3) 1 16 := by decide +kernel
theorem dX0_dualDegree_16 : eb_dc cX0_dualDegree 16 (.iconst 1) 1 17 := by decide +kernel
theorem dX0_dualDegree_17 : eb_dj cX0_dualDegree 17 (.if_icmp .eq 5) 5 20 22 := by decide +kernel
theorem dX0_dualDegree_20 : eb_dc cX0_dualDegree 20 (.iload_n 3) 1 21 := by decide +kernel
theorem dX0_dualDegree_21 : eb_dc cX0_dualDegree 21 (.ireturn) 1 22 := by decide +kernel
theorem dX0_dualDegree_22 : eb_dc cX0_dualDegree 22 (.aload_n 0) 1 23 := by decide +kernel
theorem dX0_dualDegree_23 : eb_dc cX0_dualDegree 23 (.getfield 15) 3 26 := by decide +kernel
theorem dX0_dualDegree_26 : eb_dc cX0_dualDegree 26 (.iload_n 1) 1 27 := by decide +kernel
theorem dX0_dualDegree_27 : eb_dc cX0_dualDegree 27 (.aaload) 1 28 := by decide +kernel
theorem dX0_dualDegree_28 : eb_dc cX0_dualDegree 28 (.invokevirtual 190) 3 31 := by decide +kernel
theorem dX0_dualDegree_31 : eb_dc cX0_dualDegree 31 (.astore 4) 2 33 := by decide +kernel
theorem dX0_dualDegree_33 : eb_dc cX0_dualDegree 33 (.aload 4) 2 35 := by decide +kernel
theorem dX0_dualDegree_35 : eb_dc cX0_dualDegree 35 (.invokevirtual 258) 3 38 := by decide +kernel
theorem dX0_dualDegree_38 : eb_dc cX0_dualDegree 38 (.astore 5) 2 40 := by decide +kernel
theorem dX0_dualDegree_40 : eb_dc cX0_dualDegree 40 (.iconst 0) 1 41 := by decide +kernel
theorem dX0_dualDegree_41 : eb_dc cX0_dualDegree 41 (.istore 6) 2 43 := by decide +kernel
theorem dX0_dualDegree_43 : eb_dc cX0_dualDegree 43 (.iconst 0) 1 44 := by decide +kernel
theorem dX0_dualDegree_44 : eb_dc cX0_dualDegree 44 (.istore 7) 2 46 := by decide +kernel
theorem dX0_dualDegree_46 : eb_dc cX0_dualDegree 46 (.iload 7) 2 48 := by decide +kernel
theorem dX0_dualDegree_48 : eb_dc cX0_dualDegree 48 (.aload 4) 2 50 := by decide +kernel
theorem dX0_dualDegree_50 : eb_dc cX0_dualDegree 50 (.getfield 256) 3 53 := by decide +kernel
theorem dX0_dualDegree_53 : eb_dj cX0_dualDegree 53 (.if_icmp .ge 30) 30 56 83 := by decide +kernel
theorem dX0_dualDegree_56 : eb_dc cX0_dualDegree 56 (.iload 6) 2 58 := by decide +kernel
theorem dX0_dualDegree_58 : eb_dc cX0_dualDegree 58 (.aload 5) 2 60 := by decide +kernel
theorem dX0_dualDegree_60 : eb_dc cX0_dualDegree 60 (.iload 7) 2 62 := by decide +kernel
theorem dX0_dualDegree_62 : eb_dc cX0_dualDegree 62 (.invokevirtual 155) 3 65 := by decide +kernel
theorem dX0_dualDegree_65 : eb_dc cX0_dualDegree 65 (.iload_n 2) 1 66 := by decide +kernel
theorem dX0_dualDegree_66 : eb_dj cX0_dualDegree 66 (.if_icmp .ne 7) 7 69 73 := by decide +kernel
theorem dX0_dualDegree_69 : eb_dc cX0_dualDegree 69 (.iconst 1) 1 70 := by decide +kernel
theorem dX0_dualDegree_70 : eb_dj cX0_dualDegree 70 (.goto 4) 4 73 74 := by decide +kernel
theorem dX0_dualDegree_73 : eb_dc cX0_dualDegree 73 (.iconst 0) 1 74 := by decide +kernel
theorem dX0_dualDegree_74 : eb_dc cX0_dualDegree 74 (.iadd) 1 75 := by decide +kernel
theorem dX0_dualDegree_75 : eb_dc cX0_dualDegree 75 (.istore 6) 2 77 := by decide +kernel
theorem dX0_dualDegree_77 : eb_dc cX0_dualDegree 77 (.iinc 7 1) 3 80 := by decide +kernel
theorem dX0_dualDegree_80 : eb_dj cX0_dualDegree 80 (.goto (-34)) (-34) 83 46 := by decide +kernel
theorem dX0_dualDegree_83 : eb_dc cX0_dualDegree 83 (.iload 6) 2 85 := by decide +kernel
theorem dX0_dualDegree_85 : eb_dc cX0_dualDegree 85 (.ireturn) 1 86 := by decide +kernel
theorem ctX0_dualDegree {l : Launch} {Γ : eb_C} {bc bs : Nat} {st : eb_S} {a0 : Nat} {a1 : Int32} {a2 : Int32} {K : Int32 → eb_S → Prop} (h : MX0_dualDegree Γ bc bs st a0 a1 a2 K) : eb_Ct l Γ yX0_dualDegree cX0_dualDegree 8 (some .int) (rmX0_dualDegree bc bs) [.ref a0, .int a1, .int a2] st (eb_oI K) := by
  refine eb_of (by decide) (Nat.le_of_ble_eq_true rfl) (fun X P hP hX0 => ?_)
  suffices hgo : (0 ≤ bc ∧ 0 ≤ bs) → eb_G l Γ P X cX0_dualDegree RX0 8 (some .int) (rmX0_dualDegree bc bs) 0 [(0, .ref a0), (1, .int a1), (2, .int a2)] [] st 0 0 from hgo ⟨Nat.zero_le _, Nat.zero_le _⟩
  intro hu
  refine eg_aload_n 0 dX0_dualDegree_0 rfl rfl ?_
  refine eg_iload_n 1 dX0_dualDegree_1 rfl rfl ?_
  refine eg_iload_n 2 dX0_dualDegree_2 rfl rfl ?_
  refine eb_jp1_e (J := fun (s1 : Int32) => (0 ≤ bc ∧ 0 ≤ bs) → eb_G l Γ P X cX0_dualDegree RX0 8 (some .int) (rmX0_dualDegree bc bs) 11 [(0, .ref a0), (1, .int a1), (2, .int a2)] [.int s1, .int a1, .ref a0] st 0 0) h ?_ ?_
  · clear h
    intro s1 h hu
    obtain ⟨hcs, h⟩ := h
    obtain ⟨c4, s5, hca, h⟩ := h
    have hM0 := h
    clear h
    refine ec_VIa (rest := []) (ctX0_whyHull hM0) (lw_V q685 q687 qs15 q74 q688) rfl rfl hcs nX0_whyHull ⟨Nat.le_of_ble_eq_true rfl, Nat.le_of_ble_eq_true rfl⟩ ⟨rfl, rfl⟩ hca rfl rfl (Nat.le_of_ble_eq_true rfl) dX0_dualDegree_11 (fun v2 g3 h => ?_)
    clear hM0
    replace hu := hca
    refine eg_istore_n (lv' := [(3, .int v2), (0, .ref a0), (1, .int a1), (2, .int a2)]) dX0_dualDegree_14 rfl (Nat.le_of_ble_eq_true rfl) rfl ?_
    refine eg_iload_n 0 dX0_dualDegree_15 rfl rfl ?_
    refine eg_iconst dX0_dualDegree_16 kc_1 ?_
    refine eg_icmp_eq dX0_dualDegree_17 (fun c32 => ?_) (fun c32 => ?_)
    · replace h := h.1 c32
      refine eg_aload_n 1 dX0_dualDegree_22 rfl rfl ?_
      obtain ⟨fs, v6, he, hv, h⟩ := h
      refine eg_get 0 in_X0 he rfl (Nat.le_of_ble_eq_true rfl) q159 rfl hv dX0_dualDegree_23 ?_
      refine eg_iload_n 2 dX0_dualDegree_26 rfl rfl ?_
      obtain ⟨p7, rfl, h⟩ := h
      obtain ⟨nA, fA, he, hb, h⟩ := h
      refine eg_aald (t := 7) (ty := .object "EvenBodies$Body") rfl rfl he hb dX0_dualDegree_27 (fun v8 ev8 => ?_)
      replace h := h v8 ev8
      obtain ⟨p9, rfl, h⟩ := h
      obtain ⟨hcs, h⟩ := h
      obtain ⟨c12, s13, hca, h⟩ := h
      have hM0 := h
      clear h
      refine ec_VRa (rest := []) (ctX1_hull hM0) (lw_V q689 q690 q691 q75 q692) rfl rfl hcs nX1_hull ⟨Nat.le_of_ble_eq_true rfl, Nat.le_of_ble_eq_true rfl⟩ ⟨rfl, rfl⟩ hca rfl rfl (Nat.le_of_ble_eq_true rfl) dX0_dualDegree_28 (fun v10 g11 h => ?_)
      clear hM0
      replace hu := hca
      refine eh_astore (i := 4) (v := v10) (lv' := [(4, va_rf v10), (3, .int v2), (0, .ref a0), (1, .int a1), (2, .int a2)]) dX0_dualDegree_31 (Nat.le_of_ble_eq_true rfl) rfl ?_
      refine eh_aload (v := v10) 0 dX0_dualDegree_33 rfl ?_
      obtain ⟨p14, rfl, h⟩ := h
      obtain ⟨hcs, h⟩ := h
      obtain ⟨c17, s18, hca, h⟩ := h
      have hM0 := h
      clear h
      refine ec_VRa (rest := []) (ctX12_dual hM0) (lw_V q1098 q1099 q1100 q89 q1101) rfl rfl hcs nX12_dual ⟨Nat.le_of_ble_eq_true rfl, Nat.le_of_ble_eq_true rfl⟩ ⟨rfl, rfl⟩ hca rfl rfl (Nat.le_of_ble_eq_true rfl) dX0_dualDegree_35 (fun v15 g16 h => ?_)
      clear hM0
      replace hu := hca
      refine eh_astore (i := 5) (v := v15) (lv' := [(5, va_rf v15), (4, .ref p14), (3, .int v2), (0, .ref a0), (1, .int a1), (2, .int a2)]) dX0_dualDegree_38 (Nat.le_of_ble_eq_true rfl) rfl ?_
      refine eg_iconst dX0_dualDegree_40 kc_0 ?_
      refine eg_istore (i := 6) (lv' := [(6, .int 0), (5, va_rf v15), (4, .ref p14), (3, .int v2), (0, .ref a0), (1, .int a1), (2, .int a2)]) dX0_dualDegree_41 (Nat.le_of_ble_eq_true rfl) (by simp [List.filter_cons, eb_rfc]) ?_
      refine eg_iconst dX0_dualDegree_43 kc_0 ?_
      refine eg_istore (lv' := [(7, .int 0), (6, .int 0), (5, va_rf v15), (4, .ref p14), (3, .int v2), (0, .ref a0), (1, .int a1), (2, .int a2)]) dX0_dualDegree_44 (Nat.le_of_ble_eq_true rfl) rfl ?_
      refine eg_sub [7, 3, 2, 1, 0] rfl ?_
      refine eb_loop2_e (J := fun (x6_19 : Int32) (x7_20 : Int32) => ((((0 + c4) + c12) + c17) ≤ bc ∧ (((0 + s5) + s13) + s18) ≤ bs) → eb_G l Γ P X cX0_dualDegree RX0 8 (some .int) (rmX0_dualDegree bc bs) 46 [(2, .int a2), (4, .ref p14), (5, va_rf v15), (6, .int x6_19), (7, .int x7_20)] [] g16 (((0 + c4) + c12) + c17) (((0 + s5) + s13) + s18)) h ?_ hu
      clear h
      clear hu
      intro r21 hr21 x6_19 x7_20 h hu
      refine eg_iload 4 dX0_dualDegree_46 rfl ?_
      refine eg_aload 1 dX0_dualDegree_48 rfl ?_
      obtain ⟨fs, v22, he, hv, h⟩ := h
      refine eg_getN 2 in_X12 he rfl (Nat.le_of_ble_eq_true rfl) (List.mem_of_getElem? (i := 10) rfl) rfl hv dX0_dualDegree_50 ?_
      refine eg_icmp_ge dX0_dualDegree_53 (fun c31 => ?_) (fun c31 => ?_)
      · replace h := h.1 c31
        refine eg_iload 3 dX0_dualDegree_83 rfl ?_
        exact eg_iret dX0_dualDegree_85 hu.1 hu.2 (hP _ _ ⟨_, rfl, h⟩)
      · replace h := h.2 c31
        refine eg_iload 3 dX0_dualDegree_56 rfl ?_
        refine eh_aload (v := v15) 2 dX0_dualDegree_58 rfl ?_
        refine eg_iload 4 dX0_dualDegree_60 rfl ?_
        obtain ⟨p23, rfl, h⟩ := h
        obtain ⟨hcs, h⟩ := h
        have hM0 := h
        clear h
        refine ec_UIp (rest := [.int x6_19]) (ctX10_degree hM0) gUX0_155 rfl hcs nX10_degree ⟨Nat.le_of_ble_eq_true rfl, Nat.le_of_ble_eq_true rfl⟩ ⟨rfl, rfl⟩ hu rfl rfl (Nat.le_of_ble_eq_true rfl) dX0_dualDegree_62 (fun v24 h => ?_)
        clear hM0
        refine eg_iload_n 0 dX0_dualDegree_65 rfl rfl ?_
        refine eb_jp1_e (J := fun (s28 : Int32) => ((((0 + c4) + c12) + c17) ≤ bc ∧ (((0 + s5) + s13) + s18) ≤ bs) → eb_G l Γ P X cX0_dualDegree RX0 8 (some .int) (rmX0_dualDegree bc bs) 74 [(2, .int a2), (4, .ref p14), (5, .ref p23), (7, .int x7_20)] [.int s28, .int x6_19] g16 (((0 + c4) + c12) + c17) (((0 + s5) + s13) + s18)) h ?_ ?_
        · clear h
          intro s28 h hu
          refine eg_iadd dX0_dualDegree_74 ?_
          refine eg_istore (lv' := [(6, .int (x6_19 + s28)), (2, .int a2), (4, .ref p14), (5, .ref p23), (7, .int x7_20)]) dX0_dualDegree_75 (Nat.le_of_ble_eq_true rfl) rfl ?_
          refine eg_iinc (j := 4) (lv' := [(7, .int (x7_20 + 1)), (6, .int (x6_19 + s28)), (2, .int a2), (4, .ref p14), (5, .ref p23)]) dX0_dualDegree_77 rfl (by rw [kc_1]) (Nat.le_of_ble_eq_true rfl) rfl ?_
          refine eg_goto dX0_dualDegree_80 ?_
          exact eg_sub [2, 3, 4, 1, 0] rfl (hr21 (x6_19 + s28) (x7_20 + 1) h hu)
        · clear h
          intro k29 hk29 h
          refine eg_icmp_ne dX0_dualDegree_66 (fun c30 => ?_) (fun c30 => ?_)
          · replace h := h.2 c30
            refine eg_iconst dX0_dualDegree_73 kc_0 ?_
            exact eg_sub [0, 1, 2, 4] rfl (hk29 0 h hu)
          · replace h := h.1 c30
            refine eg_iconst dX0_dualDegree_69 kc_1 ?_
            refine eg_goto dX0_dualDegree_70 ?_
            exact eg_sub [0, 1, 2, 4] rfl (hk29 1 h hu)
    · replace h := h.2 c32
      refine eg_iload_n 0 dX0_dualDegree_20 rfl rfl ?_
      exact eg_iret dX0_dualDegree_21 hu.1 hu.2 (hP _ _ ⟨_, rfl, h⟩)
  · clear h
    intro k33 hk33 h
    refine eg_if_lt dX0_dualDegree_3 (fun c34 => ?_) (fun c34 => ?_)
    · replace h := h.1 c34
      refine eg_iconst dX0_dualDegree_10 kc_0 ?_
      exact hk33 0 h hu
    · replace h := h.2 c34
      refine eg_iconst dX0_dualDegree_6 kc_1 ?_
      refine eg_goto dX0_dualDegree_7 ?_
      exact hk33 1 h hu
def MX0_dualFar (Γ : eb_C) (bc bs : Nat) (st : eb_S) (a0 : Nat) (a1 : Int32) (K : Int32 → eb_S → Prop) : Prop :=
  eb_cs st a0 [0] ∧ ∃ c3 s4 : Nat, (0 + c3 ≤ bc ∧ 0 + s4 ≤ bs) ∧ MX0_whyHull Γ c3 s4 st a0 a1 1 (fun v1 g2 => eb_br (v1 = 1) (eb_gr g2 a0 0 0 (fun v5 => eb_nn v5 (fun p6 => eb_lr Γ g2 p6 7 a1 (fun v7 => eb_nn v7 (fun p8 => eb_cs g2 p8 [1] ∧ ∃ c11 s12 : Nat, ((0 + c3) + c11 ≤ bc ∧ (0 + s4) + s12 ≤ bs) ∧ MX1_hull Γ c11 s12 g2 p8 (fun v9 g10 => eb_nn v9 (fun p13 => eb_cs g10 p13 [11] ∧ ∃ c16 s17 : Nat, ((((0 + c3) + c11)) + c16 ≤ bc ∧ (((0 + s4) + s12)) + s17 ≤ bs) ∧ MX12_dual Γ c16 s17 g10 p13 (fun v14 g15 => eb_loop5 (fun r23 (x5_18 : Int32) (x6_19 : Int32) (g20 : eb_S) (u21 : Nat) (w22 : Nat) => eb_gi g20 p13 11 2 (fun v24 => eb_br (v24 ≤ x6_19) (K x5_18 g20) (eb_nn v14 (fun p25 => eb_cs g20 p25 [9, 10, 13] ∧ ∃ c28 s29 : Nat, (u21 + c28 ≤ bc ∧ w22 + s29 ≤ bs) ∧ MX10_far Γ c28 s29 g20 p25 x6_19 (fun v26 g27 => eb_nn v26 (fun p30 => eb_ln Γ g27 p30 0 (fun v31 => eb_jp1 (fun (x5_32 : Int32) => r23 x5_32 (x6_19 + 1) g27 (u21 + c28) (w22 + s29)) (fun k33 => eb_loop2 (fun r36 (x5_34 : Int32) (x9_35 : Int32) => eb_br (v31 ≤ x9_35) (k33 x5_34) (eb_li Γ g27 p30 0 x9_35 (fun v37 => MJ2_max x5_34 v37 (fun v38 => r36 v38 (x9_35 + 1))))) x5_18 0)))))))) 0 0 g15 ((((0 + c3) + c11) + c16)) ((((0 + s4) + s12) + s17)))))))))) (K v1 g2))
abbrev rmX0_dualFar (bc bs : Nat) : Room := { frames := 15, cells := bc, slots := bs, locals := 329 }
theorem nX0_dualFar : eb_ar yX0_dualFar 1 := by decide +kernel
theorem dX0_dualFar_0 : eb_dc cX0_dualFar 0 (.aload_n 0) 1 1 := by decide +kernel
theorem dX0_dualFar_1 : eb_dc cX0_dualFar 1 (.iload_n 1) 1 2 := by decide +kernel
theorem dX0_dualFar_2 : eb_dc cX0_dualFar 2 (.iconst 1) 1 3 := by decide +kernel
theorem dX0_dualFar_3 : eb_dc cX0_dualFar 3 (.invokevirtual 187) 3 6 := by decide +kernel
theorem dX0_dualFar_6 : eb_dc cX0_dualFar 6 (.istore_n 2) 1 7 := by decide +kernel
theorem dX0_dualFar_7 : eb_dc cX0_dualFar 7 (.iload_n 2) 1 8 := by decide +kernel
theorem dX0_dualFar_8 : eb_dc cX0_dualFar 8 (.iconst 1) 1 9 := by decide +kernel
theorem dX0_dualFar_9 : eb_dj cX0_dualFar 9 (.if_icmp .eq 5) 5 12 14 := by decide +kernel
theorem dX0_dualFar_12 : eb_dc cX0_dualFar 12 (.iload_n 2) 1 13 := by decide +kernel
theorem dX0_dualFar_13 : eb_dc cX0_dualFar 13 (.ireturn) 1 14 := by decide +kernel
theorem dX0_dualFar_14 : eb_dc cX0_dualFar 14 (.aload_n 0) 1 15 := by decide +kernel
theorem dX0_dualFar_15 : eb_dc cX0_dualFar 15 (.getfield 15) 3 18 := by decide +kernel
theorem dX0_dualFar_18 : eb_dc cX0_dualFar 18 (.iload_n 1) 1 19 := by decide +kernel
theorem dX0_dualFar_19 : eb_dc cX0_dualFar 19 (.aaload) 1 20 := by decide +kernel
theorem dX0_dualFar_20 : eb_dc cX0_dualFar 20 (.invokevirtual 190) 3 23 := by decide +kernel
theorem dX0_dualFar_23 : eb_dc cX0_dualFar 23 (.astore_n 3) 1 24 := by decide +kernel
theorem dX0_dualFar_24 : eb_dc cX0_dualFar 24 (.aload_n 3) 1 25 := by decide +kernel
theorem dX0_dualFar_25 : eb_dc cX0_dualFar 25 (.invokevirtual 258) 3 28 := by decide +kernel
theorem dX0_dualFar_28 : eb_dc cX0_dualFar 28 (.astore 4) 2 30 := by decide +kernel
theorem dX0_dualFar_30 : eb_dc cX0_dualFar 30 (.iconst 0) 1 31 := by decide +kernel
theorem dX0_dualFar_31 : eb_dc cX0_dualFar 31 (.istore 5) 2 33 := by decide +kernel
theorem dX0_dualFar_33 : eb_dc cX0_dualFar 33 (.iconst 0) 1 34 := by decide +kernel
theorem dX0_dualFar_34 : eb_dc cX0_dualFar 34 (.istore 6) 2 36 := by decide +kernel
theorem dX0_dualFar_36 : eb_dc cX0_dualFar 36 (.iload 6) 2 38 := by decide +kernel
theorem dX0_dualFar_38 : eb_dc cX0_dualFar 38 (.aload_n 3) 1 39 := by decide +kernel
theorem dX0_dualFar_39 : eb_dc cX0_dualFar 39 (.getfield 256) 3 42 := by decide +kernel
theorem dX0_dualFar_42 : eb_dj cX0_dualFar 42 (.if_icmp .ge 55) 55 45 97 := by decide +kernel
theorem dX0_dualFar_45 : eb_dc cX0_dualFar 45 (.aload 4) 2 47 := by decide +kernel
theorem dX0_dualFar_47 : eb_dc cX0_dualFar 47 (.iload 6) 2 49 := by decide +kernel
theorem dX0_dualFar_49 : eb_dc cX0_dualFar 49 (.invokevirtual 160) 3 52 := by decide +kernel
theorem dX0_dualFar_52 : eb_dc cX0_dualFar 52 (.astore 7) 2 54 := by decide +kernel
theorem dX0_dualFar_54 : eb_dc cX0_dualFar 54 (.aload 7) 2 56 := by decide +kernel
theorem dX0_dualFar_56 : eb_dc cX0_dualFar 56 (.arraylength) 1 57 := by decide +kernel
theorem dX0_dualFar_57 : eb_dc cX0_dualFar 57 (.istore 8) 2 59 := by decide +kernel
theorem dX0_dualFar_59 : eb_dc cX0_dualFar 59 (.iconst 0) 1 60 := by decide +kernel
theorem dX0_dualFar_60 : eb_dc cX0_dualFar 60 (.istore 9) 2 62 := by decide +kernel
theorem dX0_dualFar_62 : eb_dc cX0_dualFar 62 (.iload 9) 2 64 := by decide +kernel
theorem dX0_dualFar_64 : eb_dc cX0_dualFar 64 (.iload 8) 2 66 := by decide +kernel
theorem dX0_dualFar_66 : eb_dj cX0_dualFar 66 (.if_icmp .ge 25) 25 69 91 := by decide +kernel
theorem dX0_dualFar_69 : eb_dc cX0_dualFar 69 (.aload 7) 2 71 := by decide +kernel
theorem dX0_dualFar_71 : eb_dc cX0_dualFar 71 (.iload 9) 2 73 := by decide +kernel
theorem dX0_dualFar_73 : eb_dc cX0_dualFar 73 (.iaload) 1 74 := by decide +kernel
theorem dX0_dualFar_74 : eb_dc cX0_dualFar 74 (.istore 10) 2 76 := by decide +kernel
theorem dX0_dualFar_76 : eb_dc cX0_dualFar 76 (.iload 5) 2 78 := by decide +kernel
theorem dX0_dualFar_78 : eb_dc cX0_dualFar 78 (.iload 10) 2 80 := by decide +kernel
theorem dX0_dualFar_80 : eb_dc cX0_dualFar 80 (.invokestatic 266) 3 83 := by decide +kernel
theorem dX0_dualFar_83 : eb_dc cX0_dualFar 83 (.istore 5) 2 85 := by decide +kernel
theorem dX0_dualFar_85 : eb_dc cX0_dualFar 85 (.iinc 9 1) 3 88 := by decide +kernel
theorem dX0_dualFar_88 : eb_dj cX0_dualFar 88 (.goto (-26)) (-26) 91 62 := by decide +kernel
theorem dX0_dualFar_91 : eb_dc cX0_dualFar 91 (.iinc 6 1) 3 94 := by decide +kernel
theorem dX0_dualFar_94 : eb_dj cX0_dualFar 94 (.goto (-58)) (-58) 97 36 := by decide +kernel
theorem dX0_dualFar_97 : eb_dc cX0_dualFar 97 (.iload 5) 2 99 := by decide +kernel
theorem dX0_dualFar_99 : eb_dc cX0_dualFar 99 (.ireturn) 1 100 := by decide +kernel
theorem ctX0_dualFar {l : Launch} {Γ : eb_C} {bc bs : Nat} {st : eb_S} {a0 : Nat} {a1 : Int32} {K : Int32 → eb_S → Prop} (h : MX0_dualFar Γ bc bs st a0 a1 K) : eb_Ct l Γ yX0_dualFar cX0_dualFar 11 (some .int) (rmX0_dualFar bc bs) [.ref a0, .int a1] st (eb_oI K) := by
  refine eb_of (by decide) (Nat.le_of_ble_eq_true rfl) (fun X P hP hX0 => ?_)
  suffices hgo : (0 ≤ bc ∧ 0 ≤ bs) → eb_G l Γ P X cX0_dualFar RX0 11 (some .int) (rmX0_dualFar bc bs) 0 [(0, .ref a0), (1, .int a1)] [] st 0 0 from hgo ⟨Nat.zero_le _, Nat.zero_le _⟩
  intro hu
  refine eg_aload_n 0 dX0_dualFar_0 rfl rfl ?_
  refine eg_iload_n 1 dX0_dualFar_1 rfl rfl ?_
  refine eg_iconst dX0_dualFar_2 kc_1 ?_
  obtain ⟨hcs, h⟩ := h
  obtain ⟨c3, s4, hca, h⟩ := h
  have hM0 := h
  clear h
  refine ec_VIa (rest := []) (ctX0_whyHull hM0) (lw_V q685 q687 qs15 q74 q688) rfl rfl hcs nX0_whyHull ⟨Nat.le_of_ble_eq_true rfl, Nat.le_of_ble_eq_true rfl⟩ ⟨rfl, rfl⟩ hca rfl rfl (Nat.le_of_ble_eq_true rfl) dX0_dualFar_3 (fun v1 g2 h => ?_)
  clear hM0
  replace hu := hca
  refine eg_istore_n (lv' := [(2, .int v1), (0, .ref a0), (1, .int a1)]) dX0_dualFar_6 rfl (Nat.le_of_ble_eq_true rfl) rfl ?_
  refine eg_iload_n 0 dX0_dualFar_7 rfl rfl ?_
  refine eg_iconst dX0_dualFar_8 kc_1 ?_
  refine eg_icmp_eq dX0_dualFar_9 (fun c44 => ?_) (fun c44 => ?_)
  · replace h := h.1 c44
    refine eg_aload_n 1 dX0_dualFar_14 rfl rfl ?_
    obtain ⟨fs, v5, he, hv, h⟩ := h
    refine eg_get 0 in_X0 he rfl (Nat.le_of_ble_eq_true rfl) q159 rfl hv dX0_dualFar_15 ?_
    refine eg_iload_n 2 dX0_dualFar_18 rfl rfl ?_
    obtain ⟨p6, rfl, h⟩ := h
    obtain ⟨nA, fA, he, hb, h⟩ := h
    refine eg_aald (t := 7) (ty := .object "EvenBodies$Body") rfl rfl he hb dX0_dualFar_19 (fun v7 ev7 => ?_)
    replace h := h v7 ev7
    obtain ⟨p8, rfl, h⟩ := h
    obtain ⟨hcs, h⟩ := h
    obtain ⟨c11, s12, hca, h⟩ := h
    have hM0 := h
    clear h
    refine ec_VRa (rest := []) (ctX1_hull hM0) (lw_V q689 q690 q691 q75 q692) rfl rfl hcs nX1_hull ⟨Nat.le_of_ble_eq_true rfl, Nat.le_of_ble_eq_true rfl⟩ ⟨rfl, rfl⟩ hca rfl rfl (Nat.le_of_ble_eq_true rfl) dX0_dualFar_20 (fun v9 g10 h => ?_)
    clear hM0
    replace hu := hca
    refine eh_astore_n (i := 3) (v := v9) (lv' := [(3, va_rf v9), (2, .int v1), (0, .ref a0), (1, .int a1)]) dX0_dualFar_23 rfl (Nat.le_of_ble_eq_true rfl) rfl ?_
    refine eh_aload_n (v := v9) 0 dX0_dualFar_24 rfl rfl ?_
    obtain ⟨p13, rfl, h⟩ := h
    obtain ⟨hcs, h⟩ := h
    obtain ⟨c16, s17, hca, h⟩ := h
    have hM0 := h
    clear h
    refine ec_VRa (rest := []) (ctX12_dual hM0) (lw_V q1098 q1099 q1100 q89 q1101) rfl rfl hcs nX12_dual ⟨Nat.le_of_ble_eq_true rfl, Nat.le_of_ble_eq_true rfl⟩ ⟨rfl, rfl⟩ hca rfl rfl (Nat.le_of_ble_eq_true rfl) dX0_dualFar_25 (fun v14 g15 h => ?_)
    clear hM0
    replace hu := hca
    refine eh_astore (i := 4) (v := v14) (lv' := [(4, va_rf v14), (3, .ref p13), (2, .int v1), (0, .ref a0), (1, .int a1)]) dX0_dualFar_28 (Nat.le_of_ble_eq_true rfl) rfl ?_
    refine eg_iconst dX0_dualFar_30 kc_0 ?_
    refine eg_istore (i := 5) (lv' := [(5, .int 0), (4, va_rf v14), (3, .ref p13), (2, .int v1), (0, .ref a0), (1, .int a1)]) dX0_dualFar_31 (Nat.le_of_ble_eq_true rfl) (by simp [List.filter_cons, eb_rfc]) ?_
    refine eg_iconst dX0_dualFar_33 kc_0 ?_
    refine eg_istore (lv' := [(6, .int 0), (5, .int 0), (4, va_rf v14), (3, .ref p13), (2, .int v1), (0, .ref a0), (1, .int a1)]) dX0_dualFar_34 (Nat.le_of_ble_eq_true rfl) rfl ?_
    refine eg_sub [3, 2, 1, 0] rfl ?_
    refine eb_loop5_e (J := fun (x5_18 : Int32) (x6_19 : Int32) (g20 : eb_S) (u21 : Nat) (w22 : Nat) => (u21 ≤ bc ∧ w22 ≤ bs) → eb_G l Γ P X cX0_dualFar RX0 11 (some .int) (rmX0_dualFar bc bs) 36 [(3, .ref p13), (4, va_rf v14), (5, .int x5_18), (6, .int x6_19)] [] g20 u21 w22) h ?_ hu
    clear h
    clear hu
    intro r23 hr23 x5_18 x6_19 g20 u21 w22 h hu
    refine eg_iload 3 dX0_dualFar_36 rfl ?_
    refine eg_aload_n 0 dX0_dualFar_38 rfl rfl ?_
    obtain ⟨fs, v24, he, hv, h⟩ := h
    refine eg_getN 2 in_X12 he rfl (Nat.le_of_ble_eq_true rfl) (List.mem_of_getElem? (i := 10) rfl) rfl hv dX0_dualFar_39 ?_
    refine eg_icmp_ge dX0_dualFar_42 (fun c43 => ?_) (fun c43 => ?_)
    · replace h := h.1 c43
      refine eg_iload 2 dX0_dualFar_97 rfl ?_
      exact eg_iret dX0_dualFar_99 hu.1 hu.2 (hP _ _ ⟨_, rfl, h⟩)
    · replace h := h.2 c43
      refine eh_aload (v := v14) 1 dX0_dualFar_45 rfl ?_
      refine eg_iload 3 dX0_dualFar_47 rfl ?_
      obtain ⟨p25, rfl, h⟩ := h
      obtain ⟨hcs, h⟩ := h
      obtain ⟨c28, s29, hca, h⟩ := h
      have hM0 := h
      clear h
      refine ec_URa (rest := []) (ctX10_far hM0) gUX0_160 rfl hcs nX10_far ⟨Nat.le_of_ble_eq_true rfl, Nat.le_of_ble_eq_true rfl⟩ ⟨rfl, rfl⟩ hca rfl rfl (Nat.le_of_ble_eq_true rfl) dX0_dualFar_49 (fun v26 g27 h => ?_)
      clear hM0
      replace hu := hca
      refine eh_astore (i := 7) (v := v26) (lv' := [(7, va_rf v26), (3, .ref p13), (4, .ref p25), (5, .int x5_18), (6, .int x6_19)]) dX0_dualFar_52 (Nat.le_of_ble_eq_true rfl) rfl ?_
      refine eh_aload (v := v26) 0 dX0_dualFar_54 rfl ?_
      obtain ⟨p30, rfl, h⟩ := h
      obtain ⟨xA, he, h⟩ := h
      refine eh_alen (t := 0) (ty := .int) he rfl dX0_dualFar_56 ?_
      generalize Int32.ofNat xA.1 = v31 at h ⊢
      refine eg_istore (lv' := [(8, .int v31), (7, .ref p30), (3, .ref p13), (4, .ref p25), (5, .int x5_18), (6, .int x6_19)]) dX0_dualFar_57 (Nat.le_of_ble_eq_true rfl) rfl ?_
      refine eg_iconst dX0_dualFar_59 kc_0 ?_
      refine eg_istore (lv' := [(9, .int 0), (8, .int v31), (7, .ref p30), (3, .ref p13), (4, .ref p25), (5, .int x5_18), (6, .int x6_19)]) dX0_dualFar_60 (Nat.le_of_ble_eq_true rfl) rfl ?_
      refine eb_jp1_e (J := fun (x5_32 : Int32) => ((u21 + c28) ≤ bc ∧ (w22 + s29) ≤ bs) → eb_G l Γ P X cX0_dualFar RX0 11 (some .int) (rmX0_dualFar bc bs) 91 [(3, .ref p13), (4, .ref p25), (5, .int x5_32), (6, .int x6_19)] [] g27 (u21 + c28) (w22 + s29)) h ?_ ?_
      · clear h
        intro x5_32 h hu
        refine eg_iinc (j := 3) (lv' := [(6, .int (x6_19 + 1)), (3, .ref p13), (4, .ref p25), (5, .int x5_32)]) dX0_dualFar_91 rfl (by rw [kc_1]) (Nat.le_of_ble_eq_true rfl) rfl ?_
        refine eg_goto dX0_dualFar_94 ?_
        exact eg_sub [1, 2, 3, 0] rfl (hr23 x5_32 (x6_19 + 1) g27 (u21 + c28) (w22 + s29) h hu)
      · clear h
        intro k33 hk33 h
        refine eg_sub [3, 4, 5, 6, 2, 1, 0] rfl ?_
        refine eb_loop2_e (J := fun (x5_34 : Int32) (x9_35 : Int32) => ((u21 + c28) ≤ bc ∧ (w22 + s29) ≤ bs) → eb_G l Γ P X cX0_dualFar RX0 11 (some .int) (rmX0_dualFar bc bs) 62 [(3, .ref p13), (4, .ref p25), (5, .int x5_34), (6, .int x6_19), (7, .ref p30), (8, .int v31), (9, .int x9_35)] [] g27 (u21 + c28) (w22 + s29)) h ?_ hu
        clear h
        clear hu
        intro r36 hr36 x5_34 x9_35 h hu
        refine eg_iload 6 dX0_dualFar_62 rfl ?_
        refine eg_iload 5 dX0_dualFar_64 rfl ?_
        refine eg_icmp_ge dX0_dualFar_66 (fun c42 => ?_) (fun c42 => ?_)
        · replace h := h.1 c42
          exact eg_sub [0, 1, 2, 3] rfl (hk33 x5_34 h hu)
        · replace h := h.2 c42
          refine eg_aload 4 dX0_dualFar_69 rfl ?_
          refine eg_iload 6 dX0_dualFar_71 rfl ?_
          obtain ⟨nA, fA, he, hb, h⟩ := h
          refine eh_iald he hb dX0_dualFar_73 (fun v37 ev37 => ?_)
          replace h := h v37 ev37
          refine eg_istore (lv' := [(10, .int v37), (3, .ref p13), (4, .ref p25), (5, .int x5_34), (6, .int x6_19), (7, .ref p30), (8, .int v31), (9, .int x9_35)]) dX0_dualFar_74 (Nat.le_of_ble_eq_true rfl) rfl ?_
          refine eg_iload 3 dX0_dualFar_76 rfl ?_
          refine eg_iload 0 dX0_dualFar_78 rfl ?_
          have hM0 := h
          clear h
          refine ec_SIp (rest := []) (ctJ2_max hM0) (lw_S q1120 q972 q90 q973) nJ2_max ⟨Nat.le_of_ble_eq_true rfl, Nat.le_of_ble_eq_true rfl⟩ ⟨rfl, rfl⟩ hu rfl rfl (Nat.le_of_ble_eq_true rfl) dX0_dualFar_80 (fun v38 h => ?_)
          clear hM0
          refine eg_istore (lv' := [(5, .int v38), (10, .int v37), (3, .ref p13), (4, .ref p25), (6, .int x6_19), (7, .ref p30), (8, .int v31), (9, .int x9_35)]) dX0_dualFar_83 (Nat.le_of_ble_eq_true rfl) rfl ?_
          refine eg_iinc (j := 7) (lv' := [(9, .int (x9_35 + 1)), (5, .int v38), (10, .int v37), (3, .ref p13), (4, .ref p25), (6, .int x6_19), (7, .ref p30), (8, .int v31)]) dX0_dualFar_85 rfl (by rw [kc_1]) (Nat.le_of_ble_eq_true rfl) rfl ?_
          refine eg_goto dX0_dualFar_88 ?_
          exact eg_sub [3, 4, 1, 5, 6, 7, 0] rfl (hr36 v38 (x9_35 + 1) h hu)
  · replace h := h.2 c44
    refine eg_iload_n 0 dX0_dualFar_12 rfl rfl ?_
    exact eg_iret dX0_dualFar_13 hu.1 hu.2 (hP _ _ ⟨_, rfl, h⟩)
def MX0_digest (Γ : eb_C) (bc bs : Nat) (st : eb_S) (a0 : Nat) (K : Int64 → eb_S → Prop) : Prop :=
  eb_jp4 (fun (x1_1 : Int64) (g2 : eb_S) (u3 : Nat) (w4 : Nat) => K x1_1 g2) (fun k5 => eb_loop5 (fun r11 (x1_6 : Int64) (x3_7 : Int32) (g8 : eb_S) (u9 : Nat) (w10 : Nat) => eb_br (4 ≤ x3_7) (k5 x1_6 g8 u9 w10) (eb_gr g8 a0 0 0 (fun v12 => eb_nn v12 (fun p13 => eb_lr Γ g8 p13 7 x3_7 (fun v14 => eb_nn v14 (fun p15 => eb_gi g8 p15 1 0 (fun v16 => eb_jp1 (fun (x1_17 : Int64) => eb_gi g8 p15 1 2 (fun v18 => eb_cs g8 a0 [0] ∧ ∃ c21 s22 : Nat, (u9 + c21 ≤ bc ∧ w10 + s22 ≤ bs) ∧ MX0_size Γ c21 s22 g8 a0 x3_7 (fun v19 g20 => eb_let (((31 * ((31 * x1_17) + (Int32.toInt64 v18))) + (Int32.toInt64 v19))) (fun v23 => r11 v23 (x3_7 + 1) g20 (u9 + c21) (w10 + s22))))) (fun k24 => eb_loop2 (fun r27 (x1_25 : Int64) (x5_26 : Int32) => eb_gi g8 p15 1 0 (fun v28 => eb_br (v28 ≤ x5_26) (k24 x1_25) (eb_jp1 (fun (x1_29 : Int64) => r27 x1_29 (x5_26 + 1)) (fun k30 => eb_loop2 (fun r33 (x1_31 : Int64) (x6_32 : Int32) => eb_gi g8 p15 1 0 (fun v34 => eb_br (v34 ≤ x6_32) (k30 x1_31) (eb_cs g8 p15 [1] ∧ MX1_angle Γ g8 p15 x5_26 x6_32 (fun v35 => r33 (((31 * x1_31) + (Int32.toInt64 v35))) (x6_32 + 1))))) x1_25 (x5_26 + 1))))) (((31 * x1_6) + (Int32.toInt64 v16))) 0)))))))) 271 0 st 0 0)
abbrev rmX0_digest (bc bs : Nat) : Room := { frames := 15, cells := bc, slots := bs, locals := 328 }
theorem nX0_digest : eb_ar yX0_digest 0 := by decide +kernel
theorem dX0_digest_0 : eb_dc cX0_digest 0 (.ldc2_w 271) 3 3 := by decide +kernel
theorem dX0_digest_3 : eb_dc cX0_digest 3 (.lstore_n 1) 1 4 := by decide +kernel
theorem dX0_digest_4 : eb_dc cX0_digest 4 (.iconst 0) 1 5 := by decide +kernel
theorem dX0_digest_5 : eb_dc cX0_digest 5 (.istore_n 3) 1 6 := by decide +kernel
theorem dX0_digest_6 : eb_dc cX0_digest 6 (.iload_n 3) 1 7 := by decide +kernel
theorem dX0_digest_7 : eb_dc cX0_digest 7 (.iconst 4) 1 8 := by decide +kernel
theorem dX0_digest_8 : eb_dj cX0_digest 8 (.if_icmp .ge 112) 112 11 120 := by decide +kernel
theorem dX0_digest_11 : eb_dc cX0_digest 11 (.aload_n 0) 1 12 := by decide +kernel
theorem dX0_digest_12 : eb_dc cX0_digest 12 (.getfield 15) 3 15 := by decide +kernel
theorem dX0_digest_15 : eb_dc cX0_digest 15 (.iload_n 3) 1 16 := by decide +kernel
theorem dX0_digest_16 : eb_dc cX0_digest 16 (.aaload) 1 17 := by decide +kernel
theorem dX0_digest_17 : eb_dc cX0_digest 17 (.astore 4) 2 19 := by decide +kernel
theorem dX0_digest_19 : eb_dc cX0_digest 19 (.ldc2_w 273) 3 22 := by decide +kernel
theorem dX0_digest_22 : eb_dc cX0_digest 22 (.lload_n 1) 1 23 := by decide +kernel
theorem dX0_digest_23 : eb_dc cX0_digest 23 (.lmul) 1 24 := by decide +kernel
theorem dX0_digest_24 : eb_dc cX0_digest 24 (.aload 4) 2 26 := by decide +kernel
theorem dX0_digest_26 : eb_dc cX0_digest 26 (.getfield 34) 3 29 := by decide +kernel
theorem dX0_digest_29 : eb_dc cX0_digest 29 (.i2l) 1 30 := by decide +kernel
theorem dX0_digest_30 : eb_dc cX0_digest 30 (.ladd) 1 31 := by decide +kernel
theorem dX0_digest_31 : eb_dc cX0_digest 31 (.lstore_n 1) 1 32 := by decide +kernel
theorem dX0_digest_32 : eb_dc cX0_digest 32 (.iconst 0) 1 33 := by decide +kernel
theorem dX0_digest_33 : eb_dc cX0_digest 33 (.istore 5) 2 35 := by decide +kernel
theorem dX0_digest_35 : eb_dc cX0_digest 35 (.iload 5) 2 37 := by decide +kernel
theorem dX0_digest_37 : eb_dc cX0_digest 37 (.aload 4) 2 39 := by decide +kernel
theorem dX0_digest_39 : eb_dc cX0_digest 39 (.getfield 34) 3 42 := by decide +kernel
theorem dX0_digest_42 : eb_dj cX0_digest 42 (.if_icmp .ge 48) 48 45 90 := by decide +kernel
theorem dX0_digest_45 : eb_dc cX0_digest 45 (.iload 5) 2 47 := by decide +kernel
theorem dX0_digest_47 : eb_dc cX0_digest 47 (.iconst 1) 1 48 := by decide +kernel
theorem dX0_digest_48 : eb_dc cX0_digest 48 (.iadd) 1 49 := by decide +kernel
theorem dX0_digest_49 : eb_dc cX0_digest 49 (.istore 6) 2 51 := by decide +kernel
theorem dX0_digest_51 : eb_dc cX0_digest 51 (.iload 6) 2 53 := by decide +kernel
theorem dX0_digest_53 : eb_dc cX0_digest 53 (.aload 4) 2 55 := by decide +kernel
theorem dX0_digest_55 : eb_dc cX0_digest 55 (.getfield 34) 3 58 := by decide +kernel
theorem dX0_digest_58 : eb_dj cX0_digest 58 (.if_icmp .ge 26) 26 61 84 := by decide +kernel
theorem dX0_digest_61 : eb_dc cX0_digest 61 (.ldc2_w 273) 3 64 := by decide +kernel
theorem dX0_digest_64 : eb_dc cX0_digest 64 (.lload_n 1) 1 65 := by decide +kernel
theorem dX0_digest_65 : eb_dc cX0_digest 65 (.lmul) 1 66 := by decide +kernel
theorem dX0_digest_66 : eb_dc cX0_digest 66 (.aload 4) 2 68 := by decide +kernel
theorem dX0_digest_68 : eb_dc cX0_digest 68 (.iload 5) 2 70 := by decide +kernel
theorem dX0_digest_70 : eb_dc cX0_digest 70 (.iload 6) 2 72 := by decide +kernel
theorem dX0_digest_72 : eb_dc cX0_digest 72 (.invokevirtual 59) 3 75 := by decide +kernel
theorem dX0_digest_75 : eb_dc cX0_digest 75 (.i2l) 1 76 := by decide +kernel
theorem dX0_digest_76 : eb_dc cX0_digest 76 (.ladd) 1 77 := by decide +kernel
theorem dX0_digest_77 : eb_dc cX0_digest 77 (.lstore_n 1) 1 78 := by decide +kernel
theorem dX0_digest_78 : eb_dc cX0_digest 78 (.iinc 6 1) 3 81 := by decide +kernel
theorem dX0_digest_81 : eb_dj cX0_digest 81 (.goto (-30)) (-30) 84 51 := by decide +kernel
theorem dX0_digest_84 : eb_dc cX0_digest 84 (.iinc 5 1) 3 87 := by decide +kernel
theorem dX0_digest_87 : eb_dj cX0_digest 87 (.goto (-52)) (-52) 90 35 := by decide +kernel
theorem dX0_digest_90 : eb_dc cX0_digest 90 (.ldc2_w 273) 3 93 := by decide +kernel
theorem dX0_digest_93 : eb_dc cX0_digest 93 (.ldc2_w 273) 3 96 := by decide +kernel
theorem dX0_digest_96 : eb_dc cX0_digest 96 (.lload_n 1) 1 97 := by decide +kernel
theorem dX0_digest_97 : eb_dc cX0_digest 97 (.lmul) 1 98 := by decide +kernel
theorem dX0_digest_98 : eb_dc cX0_digest 98 (.aload 4) 2 100 := by decide +kernel
theorem dX0_digest_100 : eb_dc cX0_digest 100 (.getfield 50) 3 103 := by decide +kernel
theorem dX0_digest_103 : eb_dc cX0_digest 103 (.i2l) 1 104 := by decide +kernel
theorem dX0_digest_104 : eb_dc cX0_digest 104 (.ladd) 1 105 := by decide +kernel
theorem dX0_digest_105 : eb_dc cX0_digest 105 (.lmul) 1 106 := by decide +kernel
theorem dX0_digest_106 : eb_dc cX0_digest 106 (.aload_n 0) 1 107 := by decide +kernel
theorem dX0_digest_107 : eb_dc cX0_digest 107 (.iload_n 3) 1 108 := by decide +kernel
theorem dX0_digest_108 : eb_dc cX0_digest 108 (.invokevirtual 275) 3 111 := by decide +kernel
theorem dX0_digest_111 : eb_dc cX0_digest 111 (.i2l) 1 112 := by decide +kernel
theorem dX0_digest_112 : eb_dc cX0_digest 112 (.ladd) 1 113 := by decide +kernel
theorem dX0_digest_113 : eb_dc cX0_digest 113 (.lstore_n 1) 1 114 := by decide +kernel
theorem dX0_digest_114 : eb_dc cX0_digest 114 (.iinc 3 1) 3 117 := by decide +kernel
theorem dX0_digest_117 : eb_dj cX0_digest 117 (.goto (-111)) (-111) 120 6 := by decide +kernel
theorem dX0_digest_120 : eb_dc cX0_digest 120 (.lload_n 1) 1 121 := by decide +kernel
theorem dX0_digest_121 : eb_dc cX0_digest 121 (.lreturn) 1 122 := by decide +kernel
theorem ctX0_digest {l : Launch} {Γ : eb_C} {bc bs : Nat} {st : eb_S} {a0 : Nat} {K : Int64 → eb_S → Prop} (h : MX0_digest Γ bc bs st a0 K) : eb_Ct l Γ yX0_digest cX0_digest 7 (some .long) (rmX0_digest bc bs) [.ref a0] st (eb_oL K) := by
  refine eb_of (by decide) (Nat.le_of_ble_eq_true rfl) (fun X P hP hX0 => ?_)
  suffices hgo : (0 ≤ bc ∧ 0 ≤ bs) → eb_G l Γ P X cX0_digest RX0 7 (some .long) (rmX0_digest bc bs) 0 [(0, .ref a0)] [] st 0 0 from hgo ⟨Nat.zero_le _, Nat.zero_le _⟩
  intro hu
  refine eg_ldc2 dX0_digest_0 q1125 ?_
  refine eg_lstore_n (lv' := [(1, .long 271), (0, .ref a0)]) dX0_digest_3 rfl (Nat.le_of_ble_eq_true rfl) rfl ?_
  refine eg_iconst dX0_digest_4 kc_0 ?_
  refine eg_istore_n (lv' := [(3, .int 0), (1, .long 271), (0, .ref a0)]) dX0_digest_5 rfl (Nat.le_of_ble_eq_true rfl) rfl ?_
  refine eb_jp4_e (J := fun (x1_1 : Int64) (g2 : eb_S) (u3 : Nat) (w4 : Nat) => (u3 ≤ bc ∧ w4 ≤ bs) → eb_G l Γ P X cX0_digest RX0 7 (some .long) (rmX0_digest bc bs) 120 [(1, .long x1_1)] [] g2 u3 w4) h ?_ ?_
  · clear h
    intro x1_1 g2 u3 w4 h hu
    refine eg_lload_n 0 dX0_digest_120 rfl rfl ?_
    exact eg_lret dX0_digest_121 hu.1 hu.2 (hP _ _ ⟨_, rfl, h⟩)
  · clear h
    intro k5 hk5 h
    refine eg_sub [2, 1, 0] rfl ?_
    refine eb_loop5_e (J := fun (x1_6 : Int64) (x3_7 : Int32) (g8 : eb_S) (u9 : Nat) (w10 : Nat) => (u9 ≤ bc ∧ w10 ≤ bs) → eb_G l Γ P X cX0_digest RX0 7 (some .long) (rmX0_digest bc bs) 6 [(0, .ref a0), (1, .long x1_6), (3, .int x3_7)] [] g8 u9 w10) h ?_ hu
    clear h
    clear hu
    intro r11 hr11 x1_6 x3_7 g8 u9 w10 h hu
    refine eg_iload_n 2 dX0_digest_6 rfl rfl ?_
    refine eg_iconst dX0_digest_7 kc_4 ?_
    refine eg_icmp_ge dX0_digest_8 (fun c41 => ?_) (fun c41 => ?_)
    · replace h := h.1 c41
      exact eg_sub [1] rfl (hk5 x1_6 g8 u9 w10 h hu)
    · replace h := h.2 c41
      refine eg_aload_n 0 dX0_digest_11 rfl rfl ?_
      obtain ⟨fs, v12, he, hv, h⟩ := h
      refine eg_get 0 in_X0 he rfl (Nat.le_of_ble_eq_true rfl) q159 rfl hv dX0_digest_12 ?_
      refine eg_iload_n 2 dX0_digest_15 rfl rfl ?_
      obtain ⟨p13, rfl, h⟩ := h
      obtain ⟨nA, fA, he, hb, h⟩ := h
      refine eg_aald (t := 7) (ty := .object "EvenBodies$Body") rfl rfl he hb dX0_digest_16 (fun v14 ev14 => ?_)
      replace h := h v14 ev14
      refine eh_astore (i := 4) (v := v14) (lv' := [(4, va_rf v14), (0, .ref a0), (1, .long x1_6), (3, .int x3_7)]) dX0_digest_17 (Nat.le_of_ble_eq_true rfl) rfl ?_
      refine eg_ldc2 dX0_digest_19 q1126 ?_
      refine eg_lload_n 2 dX0_digest_22 rfl rfl ?_
      refine eg_lmul dX0_digest_23 ?_
      refine eh_aload (v := v14) 0 dX0_digest_24 rfl ?_
      obtain ⟨p15, rfl, h⟩ := h
      obtain ⟨fs, v16, he, hv, h⟩ := h
      refine eg_getN 0 in_X1 he rfl (Nat.le_of_ble_eq_true rfl) (List.mem_of_getElem? (i := 1) rfl) rfl hv dX0_digest_26 ?_
      refine eg_i2l dX0_digest_29 ?_
      refine eg_ladd dX0_digest_30 ?_
      refine eg_lstore_n (lv' := [(1, .long ((31 * x1_6) + (Int32.toInt64 v16))), (4, .ref p15), (0, .ref a0), (3, .int x3_7)]) dX0_digest_31 rfl (Nat.le_of_ble_eq_true rfl) rfl ?_
      refine eg_iconst dX0_digest_32 kc_0 ?_
      refine eg_istore (lv' := [(5, .int 0), (1, .long ((31 * x1_6) + (Int32.toInt64 v16))), (4, .ref p15), (0, .ref a0), (3, .int x3_7)]) dX0_digest_33 (Nat.le_of_ble_eq_true rfl) rfl ?_
      refine eb_jp1_e (J := fun (x1_17 : Int64) => (u9 ≤ bc ∧ w10 ≤ bs) → eb_G l Γ P X cX0_digest RX0 7 (some .long) (rmX0_digest bc bs) 90 [(0, .ref a0), (1, .long x1_17), (3, .int x3_7), (4, .ref p15)] [] g8 u9 w10) h ?_ ?_
      · clear h
        intro x1_17 h hu
        refine eg_ldc2 dX0_digest_90 q1126 ?_
        refine eg_ldc2 dX0_digest_93 q1126 ?_
        refine eg_lload_n 1 dX0_digest_96 rfl rfl ?_
        refine eg_lmul dX0_digest_97 ?_
        refine eg_aload 3 dX0_digest_98 rfl ?_
        obtain ⟨fs, v18, he, hv, h⟩ := h
        refine eg_getN 2 in_X1 he rfl (Nat.le_of_ble_eq_true rfl) (List.mem_of_getElem? (i := 3) rfl) rfl hv dX0_digest_100 ?_
        refine eg_i2l dX0_digest_103 ?_
        refine eg_ladd dX0_digest_104 ?_
        refine eg_lmul dX0_digest_105 ?_
        refine eg_aload_n 0 dX0_digest_106 rfl rfl ?_
        refine eg_iload_n 2 dX0_digest_107 rfl rfl ?_
        obtain ⟨hcs, h⟩ := h
        obtain ⟨c21, s22, hca, h⟩ := h
        have hM0 := h
        clear h
        refine ec_VIa (rest := [.long (31 * ((31 * x1_17) + (Int32.toInt64 v18)))]) (ctX0_size hM0) (lw_V q1127 q234 q235 q74 q236) rfl rfl hcs nX0_size ⟨Nat.le_of_ble_eq_true rfl, Nat.le_of_ble_eq_true rfl⟩ ⟨rfl, rfl⟩ hca rfl rfl (Nat.le_of_ble_eq_true rfl) dX0_digest_108 (fun v19 g20 h => ?_)
        clear hM0
        replace hu := hca
        refine eg_i2l dX0_digest_111 ?_
        refine eg_ladd dX0_digest_112 ?_
        refine eg_letl (fun v23 ev23 => ?_)
        replace h := h v23 ev23
        refine eg_lstore_n (lv' := [(1, .long v23), (0, .ref a0), (3, .int x3_7), (4, .ref p15)]) dX0_digest_113 rfl (Nat.le_of_ble_eq_true rfl) rfl ?_
        refine eg_iinc (j := 2) (lv' := [(3, .int (x3_7 + 1)), (1, .long v23), (0, .ref a0), (4, .ref p15)]) dX0_digest_114 rfl (by rw [kc_1]) (Nat.le_of_ble_eq_true rfl) rfl ?_
        refine eg_goto dX0_digest_117 ?_
        exact eg_sub [2, 1, 0] rfl (hr11 v23 (x3_7 + 1) g20 (u9 + c21) (w10 + s22) h hu)
      · clear h
        intro k24 hk24 h
        refine eg_sub [3, 1, 4, 2, 0] rfl ?_
        refine eb_loop2_e (J := fun (x1_25 : Int64) (x5_26 : Int32) => (u9 ≤ bc ∧ w10 ≤ bs) → eb_G l Γ P X cX0_digest RX0 7 (some .long) (rmX0_digest bc bs) 35 [(0, .ref a0), (1, .long x1_25), (3, .int x3_7), (4, .ref p15), (5, .int x5_26)] [] g8 u9 w10) h ?_ hu
        clear h
        clear hu
        intro r27 hr27 x1_25 x5_26 h hu
        refine eg_iload 4 dX0_digest_35 rfl ?_
        refine eg_aload 3 dX0_digest_37 rfl ?_
        obtain ⟨fs, v28, he, hv, h⟩ := h
        refine eg_getN 0 in_X1 he rfl (Nat.le_of_ble_eq_true rfl) (List.mem_of_getElem? (i := 1) rfl) rfl hv dX0_digest_39 ?_
        refine eg_icmp_ge dX0_digest_42 (fun c40 => ?_) (fun c40 => ?_)
        · replace h := h.1 c40
          exact eg_sub [0, 1, 2, 3] rfl (hk24 x1_25 h hu)
        · replace h := h.2 c40
          refine eg_iload 4 dX0_digest_45 rfl ?_
          refine eg_iconst dX0_digest_47 kc_1 ?_
          refine eg_iadd dX0_digest_48 ?_
          refine eg_istore (lv' := [(6, .int (x5_26 + 1)), (0, .ref a0), (1, .long x1_25), (3, .int x3_7), (4, .ref p15), (5, .int x5_26)]) dX0_digest_49 (Nat.le_of_ble_eq_true rfl) rfl ?_
          refine eb_jp1_e (J := fun (x1_29 : Int64) => (u9 ≤ bc ∧ w10 ≤ bs) → eb_G l Γ P X cX0_digest RX0 7 (some .long) (rmX0_digest bc bs) 84 [(0, .ref a0), (1, .long x1_29), (3, .int x3_7), (4, .ref p15), (5, .int x5_26)] [] g8 u9 w10) h ?_ ?_
          · clear h
            intro x1_29 h hu
            refine eg_iinc (j := 4) (lv' := [(5, .int (x5_26 + 1)), (0, .ref a0), (1, .long x1_29), (3, .int x3_7), (4, .ref p15)]) dX0_digest_84 rfl (by rw [kc_1]) (Nat.le_of_ble_eq_true rfl) rfl ?_
            refine eg_goto dX0_digest_87 ?_
            exact eg_sub [1, 2, 3, 4, 0] rfl (hr27 x1_29 (x5_26 + 1) h hu)
          · clear h
            intro k30 hk30 h
            refine eg_sub [1, 2, 3, 4, 5, 0] rfl ?_
            refine eb_loop2_e (J := fun (x1_31 : Int64) (x6_32 : Int32) => (u9 ≤ bc ∧ w10 ≤ bs) → eb_G l Γ P X cX0_digest RX0 7 (some .long) (rmX0_digest bc bs) 51 [(0, .ref a0), (1, .long x1_31), (3, .int x3_7), (4, .ref p15), (5, .int x5_26), (6, .int x6_32)] [] g8 u9 w10) h ?_ hu
            clear h
            clear hu
            intro r33 hr33 x1_31 x6_32 h hu
            refine eg_iload 5 dX0_digest_51 rfl ?_
            refine eg_aload 3 dX0_digest_53 rfl ?_
            obtain ⟨fs, v34, he, hv, h⟩ := h
            refine eg_getN 0 in_X1 he rfl (Nat.le_of_ble_eq_true rfl) (List.mem_of_getElem? (i := 1) rfl) rfl hv dX0_digest_55 ?_
            refine eg_icmp_ge dX0_digest_58 (fun c39 => ?_) (fun c39 => ?_)
            · replace h := h.1 c39
              exact eg_sub [0, 1, 2, 3, 4] rfl (hk30 x1_31 h hu)
            · replace h := h.2 c39
              refine eg_ldc2 dX0_digest_61 q1126 ?_
              refine eg_lload_n 1 dX0_digest_64 rfl rfl ?_
              refine eg_lmul dX0_digest_65 ?_
              refine eg_aload 3 dX0_digest_66 rfl ?_
              refine eg_iload 4 dX0_digest_68 rfl ?_
              refine eg_iload 5 dX0_digest_70 rfl ?_
              obtain ⟨hcs, h⟩ := h
              have hM0 := h
              clear h
              refine ec_VIp (rest := [.long (31 * x1_31)]) (ctX1_angle hM0) (lw_V q224 q201 q202 q75 q203) rfl rfl hcs nX1_angle ⟨Nat.le_of_ble_eq_true rfl, Nat.le_of_ble_eq_true rfl⟩ ⟨rfl, rfl⟩ hu rfl rfl (Nat.le_of_ble_eq_true rfl) dX0_digest_72 (fun v35 h => ?_)
              clear hM0
              refine eg_i2l dX0_digest_75 ?_
              refine eg_ladd dX0_digest_76 ?_
              refine eg_lstore_n (lv' := [(1, .long ((31 * x1_31) + (Int32.toInt64 v35))), (0, .ref a0), (3, .int x3_7), (4, .ref p15), (5, .int x5_26), (6, .int x6_32)]) dX0_digest_77 rfl (Nat.le_of_ble_eq_true rfl) rfl ?_
              refine eg_iinc (j := 5) (lv' := [(6, .int (x6_32 + 1)), (1, .long ((31 * x1_31) + (Int32.toInt64 v35))), (0, .ref a0), (3, .int x3_7), (4, .ref p15), (5, .int x5_26)]) dX0_digest_78 rfl (by rw [kc_1]) (Nat.le_of_ble_eq_true rfl) rfl ?_
              refine eg_goto dX0_digest_81 ?_
              exact eg_sub [2, 1, 3, 4, 5, 0] rfl (hr33 (((31 * x1_31) + (Int32.toInt64 v35))) (x6_32 + 1) h hu)

set_option maxRecDepth 100000
set_option maxHeartbeats 4000000
def MX0_root (a0 : Int32) (K : Int32 → Prop) : Prop :=
  eb_loop1 (fun r2 (x1_1 : Int32) => eb_br ((eb_rem (x1_1 * x1_1) 1201) = a0) (K x1_1) (r2 (x1_1 + 1))) 0
abbrev rmX0_root : Room := { frames := 1, cells := 0, slots := 0, locals := 12 }
theorem nX0_root : eb_ar yX0_root 1 := by decide +kernel
theorem dX0_root_0 : eb_dc cX0_root 0 (.iconst 0) 1 1 := by decide +kernel
theorem dX0_root_1 : eb_dc cX0_root 1 (.istore_n 1) 1 2 := by decide +kernel
theorem dX0_root_2 : eb_dc cX0_root 2 (.iload_n 1) 1 3 := by decide +kernel
theorem dX0_root_3 : eb_dc cX0_root 3 (.iload_n 1) 1 4 := by decide +kernel
theorem dX0_root_4 : eb_dc cX0_root 4 (.imul) 1 5 := by decide +kernel
theorem dX0_root_5 : eb_dc cX0_root 5 (.sipush 1201) 3 8 := by decide +kernel
theorem dX0_root_8 : eb_dc cX0_root 8 (.irem) 1 9 := by decide +kernel
theorem dX0_root_9 : eb_dc cX0_root 9 (.iload_n 0) 1 10 := by decide +kernel
theorem dX0_root_10 : eb_dj cX0_root 10 (.if_icmp .eq 9) 9 13 19 := by decide +kernel
theorem dX0_root_13 : eb_dc cX0_root 13 (.iinc 1 1) 3 16 := by decide +kernel
theorem dX0_root_16 : eb_dj cX0_root 16 (.goto (-14)) (-14) 19 2 := by decide +kernel
theorem dX0_root_19 : eb_dc cX0_root 19 (.iload_n 1) 1 20 := by decide +kernel
theorem dX0_root_20 : eb_dc cX0_root 20 (.ireturn) 1 21 := by decide +kernel
theorem ctX0_root {l : Launch} {Γ : eb_C} {st : eb_S} {a0 : Int32} {K : Int32 → Prop} (h : MX0_root a0 K) : eb_Ct l Γ yX0_root cX0_root 2 (some .int) rmX0_root [.int a0] st (eb_pI st K) := by
  refine eb_of (by decide) (Nat.le_of_ble_eq_true rfl) (fun X P hP hX0 => ?_)
  show eb_G l Γ P X cX0_root RX0 2 (some .int) rmX0_root 0 [(0, .int a0)] [] st 0 0
  refine eg_iconst dX0_root_0 kc_0 ?_
  refine eg_istore_n (lv' := [(1, .int 0), (0, .int a0)]) dX0_root_1 rfl (Nat.le_of_ble_eq_true rfl) rfl ?_
  refine eg_sub [1, 0] rfl ?_
  refine eb_loop1_e (J := fun (x1_1 : Int32) => eb_G l Γ P X cX0_root RX0 2 (some .int) rmX0_root 2 [(0, .int a0), (1, .int x1_1)] [] st 0 0) h ?_
  clear h
  intro r2 hr2 x1_1 h
  refine eg_iload_n 1 dX0_root_2 rfl rfl ?_
  refine eg_iload_n 1 dX0_root_3 rfl rfl ?_
  refine eg_imul dX0_root_4 ?_
  refine eg_sipush dX0_root_5 ks_1201 ?_
  refine eg_irem dX0_root_8 (by decide) ?_
  refine eg_iload_n 0 dX0_root_9 rfl rfl ?_
  refine eg_icmp_eq dX0_root_10 (fun c3 => ?_) (fun c3 => ?_)
  · replace h := h.1 c3
    refine eg_iload_n 1 dX0_root_19 rfl rfl ?_
    exact eg_iret dX0_root_20 (Nat.zero_le _) (Nat.zero_le _) (hP _ _ ⟨_, rfl, rfl, h⟩)
  · replace h := h.2 c3
    refine eg_iinc (j := 1) (lv' := [(1, .int (x1_1 + 1)), (0, .int a0)]) dX0_root_13 rfl (by rw [kc_1]) (Nat.le_of_ble_eq_true rfl) rfl ?_
    refine eg_goto dX0_root_16 ?_
    exact eg_sub [1, 0] rfl (hr2 (x1_1 + 1) h)
def MX0_cosine (a0 : Int32) (K : Int32 → Prop) : Prop :=
  eb_br (a0 = 2) (K 0) (eb_br (a0 = 3) (K 1) (eb_br (a0 = 4) (MX0_root 2 (fun v1 => K v1)) (eb_br (a0 = 5) (MX0_root 5 (fun v5 => K ((eb_rem (((1 + v5) * 601)) 1201)))) (MX0_root 3 (fun v9 => K v9)))))
abbrev rmX0_cosine : Room := { frames := 2, cells := 0, slots := 0, locals := 33 }
theorem nX0_cosine : eb_ar yX0_cosine 1 := by decide +kernel
theorem dX0_cosine_0 : eb_dc cX0_cosine 0 (.iload_n 0) 1 1 := by decide +kernel
theorem dX0_cosine_1 : decode cX0_cosine 1 = .ok (.tableswitch 55 2 5 #[31, 33, 35, 40], 31) := by decide +kernel
theorem dX0_cosine_32 : eb_dc cX0_cosine 32 (.iconst 0) 1 33 := by decide +kernel
theorem dX0_cosine_33 : eb_dc cX0_cosine 33 (.ireturn) 1 34 := by decide +kernel
theorem dX0_cosine_34 : eb_dc cX0_cosine 34 (.iconst 1) 1 35 := by decide +kernel
theorem dX0_cosine_35 : eb_dc cX0_cosine 35 (.ireturn) 1 36 := by decide +kernel
theorem dX0_cosine_36 : eb_dc cX0_cosine 36 (.iconst 2) 1 37 := by decide +kernel
theorem dX0_cosine_37 : eb_dc cX0_cosine 37 (.invokestatic 1) 3 40 := by decide +kernel
theorem dX0_cosine_40 : eb_dc cX0_cosine 40 (.ireturn) 1 41 := by decide +kernel
theorem dX0_cosine_41 : eb_dc cX0_cosine 41 (.iconst 1) 1 42 := by decide +kernel
theorem dX0_cosine_42 : eb_dc cX0_cosine 42 (.iconst 5) 1 43 := by decide +kernel
theorem dX0_cosine_43 : eb_dc cX0_cosine 43 (.invokestatic 1) 3 46 := by decide +kernel
theorem dX0_cosine_46 : eb_dc cX0_cosine 46 (.iadd) 1 47 := by decide +kernel
theorem dX0_cosine_47 : eb_dc cX0_cosine 47 (.sipush 601) 3 50 := by decide +kernel
theorem dX0_cosine_50 : eb_dc cX0_cosine 50 (.imul) 1 51 := by decide +kernel
theorem dX0_cosine_51 : eb_dc cX0_cosine 51 (.sipush 1201) 3 54 := by decide +kernel
theorem dX0_cosine_54 : eb_dc cX0_cosine 54 (.irem) 1 55 := by decide +kernel
theorem dX0_cosine_55 : eb_dc cX0_cosine 55 (.ireturn) 1 56 := by decide +kernel
theorem dX0_cosine_56 : eb_dc cX0_cosine 56 (.iconst 3) 1 57 := by decide +kernel
theorem dX0_cosine_57 : eb_dc cX0_cosine 57 (.invokestatic 1) 3 60 := by decide +kernel
theorem dX0_cosine_60 : eb_dc cX0_cosine 60 (.ireturn) 1 61 := by decide +kernel
theorem ctX0_cosine {l : Launch} {Γ : eb_C} {st : eb_S} {a0 : Int32} {K : Int32 → Prop} (h : MX0_cosine a0 K) : eb_Ct l Γ yX0_cosine cX0_cosine 1 (some .int) rmX0_cosine [.int a0] st (eb_pI st K) := by
  refine eb_of (by decide) (Nat.le_of_ble_eq_true rfl) (fun X P hP hX0 => ?_)
  show eb_G l Γ P X cX0_cosine RX0 1 (some .int) rmX0_cosine 0 [(0, .int a0)] [] st 0 0
  refine eg_iload_n 0 dX0_cosine_0 rfl rfl ?_
  refine eg_ts4 dX0_cosine_1 ⟨rfl, rfl, rfl, rfl, rfl⟩ (fun ht => ?_) (fun ht => ?_) (fun ht => ?_) (fun ht => ?_) (fun hn2 hn3 hn4 hn5 => ?_)
  · replace h := h.1 ht
    refine eg_iconst dX0_cosine_32 kc_0 ?_
    exact eg_iret dX0_cosine_33 (Nat.zero_le _) (Nat.zero_le _) (hP _ _ ⟨_, rfl, rfl, h⟩)
  · replace h := (h.2 (by rw [ht]; decide)).1 ht
    refine eg_iconst dX0_cosine_34 kc_1 ?_
    exact eg_iret dX0_cosine_35 (Nat.zero_le _) (Nat.zero_le _) (hP _ _ ⟨_, rfl, rfl, h⟩)
  · replace h := ((h.2 (by rw [ht]; decide)).2 (by rw [ht]; decide)).1 ht
    refine eg_iconst dX0_cosine_36 kc_2 ?_
    have hM0 := h
    clear h
    refine ec_SIp (rest := []) (ctX0_root hM0) (lw_S q348 q349 q74 q350) nX0_root ⟨Nat.le_of_ble_eq_true rfl, Nat.le_of_ble_eq_true rfl⟩ ⟨rfl, rfl⟩ ⟨Nat.zero_le _, Nat.zero_le _⟩ rfl rfl (Nat.le_of_ble_eq_true rfl) dX0_cosine_37 (fun v1 h => ?_)
    clear hM0
    exact eg_iret dX0_cosine_40 (Nat.zero_le _) (Nat.zero_le _) (hP _ _ ⟨_, rfl, rfl, h⟩)
  · replace h := (((h.2 (by rw [ht]; decide)).2 (by rw [ht]; decide)).2 (by rw [ht]; decide)).1 ht
    refine eg_iconst dX0_cosine_41 kc_1 ?_
    refine eg_iconst dX0_cosine_42 kc_5 ?_
    have hM0 := h
    clear h
    refine ec_SIp (rest := [.int 1]) (ctX0_root hM0) (lw_S q348 q349 q74 q350) nX0_root ⟨Nat.le_of_ble_eq_true rfl, Nat.le_of_ble_eq_true rfl⟩ ⟨rfl, rfl⟩ ⟨Nat.zero_le _, Nat.zero_le _⟩ rfl rfl (Nat.le_of_ble_eq_true rfl) dX0_cosine_43 (fun v5 h => ?_)
    clear hM0
    refine eg_iadd dX0_cosine_46 ?_
    refine eg_sipush dX0_cosine_47 ks_601 ?_
    refine eg_imul dX0_cosine_50 ?_
    refine eg_sipush dX0_cosine_51 ks_1201 ?_
    refine eg_irem dX0_cosine_54 (by decide) ?_
    exact eg_iret dX0_cosine_55 (Nat.zero_le _) (Nat.zero_le _) (hP _ _ ⟨_, rfl, rfl, h⟩)
  · replace h := ((((h.2 hn2).2 hn3).2 hn4).2 hn5)
    refine eg_iconst dX0_cosine_56 kc_3 ?_
    have hM0 := h
    clear h
    refine ec_SIp (rest := []) (ctX0_root hM0) (lw_S q348 q349 q74 q350) nX0_root ⟨Nat.le_of_ble_eq_true rfl, Nat.le_of_ble_eq_true rfl⟩ ⟨rfl, rfl⟩ ⟨Nat.zero_le _, Nat.zero_le _⟩ rfl rfl (Nat.le_of_ble_eq_true rfl) dX0_cosine_57 (fun v9 h => ?_)
    clear hM0
    exact eg_iret dX0_cosine_60 (Nat.zero_le _) (Nat.zero_le _) (hP _ _ ⟨_, rfl, rfl, h⟩)
def MX9_isMade (Γ : eb_C) (st : eb_S) (a0 : Nat) (a1 : Int32) (K : Int32 → Prop) : Prop :=
  eb_loop1 (fun r2 (x2_1 : Int32) => eb_gi st a0 8 0 (fun v3 => eb_gi st a0 8 0 (fun v4 => eb_br ((v3 * v4) ≤ x2_1) (K 1) (eb_gr st a0 8 2 (fun v5 => eb_gi st a0 8 0 (fun v6 => eb_gi st a0 8 0 (fun v7 => eb_nn v5 (fun p8 => eb_li Γ st p8 0 ((((v6 * v7) * a1) + x2_1)) (fun v9 => eb_gr st a0 8 4 (fun v10 => eb_nn v10 (fun p11 => eb_li Γ st p11 0 x2_1 (fun v12 => eb_br (v9 = v12) (r2 (x2_1 + 1)) (K 0))))))))))))) 0
abbrev rmX9_isMade : Room := { frames := 1, cells := 0, slots := 0, locals := 12 }
theorem nX9_isMade : eb_ar yX9_isMade 1 := by decide +kernel
theorem dX9_isMade_0 : eb_dc cX9_isMade 0 (.iconst 0) 1 1 := by decide +kernel
theorem dX9_isMade_1 : eb_dc cX9_isMade 1 (.istore_n 2) 1 2 := by decide +kernel
theorem dX9_isMade_2 : eb_dc cX9_isMade 2 (.iload_n 2) 1 3 := by decide +kernel
theorem dX9_isMade_3 : eb_dc cX9_isMade 3 (.aload_n 0) 1 4 := by decide +kernel
theorem dX9_isMade_4 : eb_dc cX9_isMade 4 (.getfield 24) 3 7 := by decide +kernel
theorem dX9_isMade_7 : eb_dc cX9_isMade 7 (.aload_n 0) 1 8 := by decide +kernel
theorem dX9_isMade_8 : eb_dc cX9_isMade 8 (.getfield 24) 3 11 := by decide +kernel
theorem dX9_isMade_11 : eb_dc cX9_isMade 11 (.imul) 1 12 := by decide +kernel
theorem dX9_isMade_12 : eb_dj cX9_isMade 12 (.if_icmp .ge 38) 38 15 50 := by decide +kernel
theorem dX9_isMade_15 : eb_dc cX9_isMade 15 (.aload_n 0) 1 16 := by decide +kernel
theorem dX9_isMade_16 : eb_dc cX9_isMade 16 (.getfield 32) 3 19 := by decide +kernel
theorem dX9_isMade_19 : eb_dc cX9_isMade 19 (.aload_n 0) 1 20 := by decide +kernel
theorem dX9_isMade_20 : eb_dc cX9_isMade 20 (.getfield 24) 3 23 := by decide +kernel
theorem dX9_isMade_23 : eb_dc cX9_isMade 23 (.aload_n 0) 1 24 := by decide +kernel
theorem dX9_isMade_24 : eb_dc cX9_isMade 24 (.getfield 24) 3 27 := by decide +kernel
theorem dX9_isMade_27 : eb_dc cX9_isMade 27 (.imul) 1 28 := by decide +kernel
theorem dX9_isMade_28 : eb_dc cX9_isMade 28 (.iload_n 1) 1 29 := by decide +kernel
theorem dX9_isMade_29 : eb_dc cX9_isMade 29 (.imul) 1 30 := by decide +kernel
theorem dX9_isMade_30 : eb_dc cX9_isMade 30 (.iload_n 2) 1 31 := by decide +kernel
theorem dX9_isMade_31 : eb_dc cX9_isMade 31 (.iadd) 1 32 := by decide +kernel
theorem dX9_isMade_32 : eb_dc cX9_isMade 32 (.iaload) 1 33 := by decide +kernel
theorem dX9_isMade_33 : eb_dc cX9_isMade 33 (.aload_n 0) 1 34 := by decide +kernel
theorem dX9_isMade_34 : eb_dc cX9_isMade 34 (.getfield 15) 3 37 := by decide +kernel
theorem dX9_isMade_37 : eb_dc cX9_isMade 37 (.iload_n 2) 1 38 := by decide +kernel
theorem dX9_isMade_38 : eb_dc cX9_isMade 38 (.iaload) 1 39 := by decide +kernel
theorem dX9_isMade_39 : eb_dj cX9_isMade 39 (.if_icmp .eq 5) 5 42 44 := by decide +kernel
theorem dX9_isMade_42 : eb_dc cX9_isMade 42 (.iconst 0) 1 43 := by decide +kernel
theorem dX9_isMade_43 : eb_dc cX9_isMade 43 (.ireturn) 1 44 := by decide +kernel
theorem dX9_isMade_44 : eb_dc cX9_isMade 44 (.iinc 2 1) 3 47 := by decide +kernel
theorem dX9_isMade_47 : eb_dj cX9_isMade 47 (.goto (-45)) (-45) 50 2 := by decide +kernel
theorem dX9_isMade_50 : eb_dc cX9_isMade 50 (.iconst 1) 1 51 := by decide +kernel
theorem dX9_isMade_51 : eb_dc cX9_isMade 51 (.ireturn) 1 52 := by decide +kernel
theorem ctX9_isMade {l : Launch} {Γ : eb_C} {st : eb_S} {a0 : Nat} {a1 : Int32} {K : Int32 → Prop} (h : MX9_isMade Γ st a0 a1 K) : eb_Ct l Γ yX9_isMade cX9_isMade 3 (some .boolean) rmX9_isMade [.ref a0, .int a1] st (eb_pI st K) := by
  refine eb_of (by decide) (Nat.le_of_ble_eq_true rfl) (fun X P hP hX0 => ?_)
  show eb_G l Γ P X cX9_isMade RX9 3 (some .boolean) rmX9_isMade 0 [(0, .ref a0), (1, .int a1)] [] st 0 0
  refine eg_iconst dX9_isMade_0 kc_0 ?_
  refine eg_istore_n (lv' := [(2, .int 0), (0, .ref a0), (1, .int a1)]) dX9_isMade_1 rfl (Nat.le_of_ble_eq_true rfl) rfl ?_
  refine eg_sub [1, 2, 0] rfl ?_
  refine eb_loop1_e (J := fun (x2_1 : Int32) => eb_G l Γ P X cX9_isMade RX9 3 (some .boolean) rmX9_isMade 2 [(0, .ref a0), (1, .int a1), (2, .int x2_1)] [] st 0 0) h ?_
  clear h
  intro r2 hr2 x2_1 h
  refine eg_iload_n 2 dX9_isMade_2 rfl rfl ?_
  refine eg_aload_n 0 dX9_isMade_3 rfl rfl ?_
  obtain ⟨fs, v3, he, hv, h⟩ := h
  refine eg_get 0 in_X9 he rfl (Nat.le_of_ble_eq_true rfl) q364 rfl hv dX9_isMade_4 ?_
  refine eg_aload_n 0 dX9_isMade_7 rfl rfl ?_
  obtain ⟨fs, v4, he, hv, h⟩ := h
  refine eg_get 0 in_X9 he rfl (Nat.le_of_ble_eq_true rfl) q364 rfl hv dX9_isMade_8 ?_
  refine eg_imul dX9_isMade_11 ?_
  refine eg_icmp_ge dX9_isMade_12 (fun c14 => ?_) (fun c14 => ?_)
  · replace h := h.1 c14
    refine eg_iconst dX9_isMade_50 kc_1 ?_
    exact eg_zret dX9_isMade_51 rfl (Nat.zero_le _) (Nat.zero_le _) (hP _ _ ⟨_, rfl, rfl, h⟩)
  · replace h := h.2 c14
    refine eg_aload_n 0 dX9_isMade_15 rfl rfl ?_
    obtain ⟨fs, v5, he, hv, h⟩ := h
    refine eg_get 2 in_X9 he rfl (Nat.le_of_ble_eq_true rfl) q366 rfl hv dX9_isMade_16 ?_
    refine eg_aload_n 0 dX9_isMade_19 rfl rfl ?_
    obtain ⟨fs, v6, he, hv, h⟩ := h
    refine eg_get 0 in_X9 he rfl (Nat.le_of_ble_eq_true rfl) q364 rfl hv dX9_isMade_20 ?_
    refine eg_aload_n 0 dX9_isMade_23 rfl rfl ?_
    obtain ⟨fs, v7, he, hv, h⟩ := h
    refine eg_get 0 in_X9 he rfl (Nat.le_of_ble_eq_true rfl) q364 rfl hv dX9_isMade_24 ?_
    refine eg_imul dX9_isMade_27 ?_
    refine eg_iload_n 1 dX9_isMade_28 rfl rfl ?_
    refine eg_imul dX9_isMade_29 ?_
    refine eg_iload_n 2 dX9_isMade_30 rfl rfl ?_
    refine eg_iadd dX9_isMade_31 ?_
    obtain ⟨p8, rfl, h⟩ := h
    obtain ⟨nA, fA, he, hb, h⟩ := h
    refine eh_iald he hb dX9_isMade_32 (fun v9 ev9 => ?_)
    replace h := h v9 ev9
    refine eg_aload_n 0 dX9_isMade_33 rfl rfl ?_
    obtain ⟨fs, v10, he, hv, h⟩ := h
    refine eg_get 4 in_X9 he rfl (Nat.le_of_ble_eq_true rfl) q368 rfl hv dX9_isMade_34 ?_
    refine eg_iload_n 2 dX9_isMade_37 rfl rfl ?_
    obtain ⟨p11, rfl, h⟩ := h
    obtain ⟨nA, fA, he, hb, h⟩ := h
    refine eh_iald he hb dX9_isMade_38 (fun v12 ev12 => ?_)
    replace h := h v12 ev12
    refine eg_icmp_eq dX9_isMade_39 (fun c13 => ?_) (fun c13 => ?_)
    · replace h := h.1 c13
      refine eg_iinc (j := 2) (lv' := [(2, .int (x2_1 + 1)), (0, .ref a0), (1, .int a1)]) dX9_isMade_44 rfl (by rw [kc_1]) (Nat.le_of_ble_eq_true rfl) rfl ?_
      refine eg_goto dX9_isMade_47 ?_
      exact eg_sub [1, 2, 0] rfl (hr2 (x2_1 + 1) h)
    · replace h := h.2 c13
      refine eg_iconst dX9_isMade_42 kc_0 ?_
      exact eg_zret dX9_isMade_43 rfl (Nat.zero_le _) (Nat.zero_le _) (hP _ _ ⟨_, rfl, rfl, h⟩)
def MX9_place (Γ : eb_C) (st : eb_S) (a0 : Nat) (K : Int32 → eb_S → Prop) : Prop :=
  eb_jp1 (fun (x1_1 : Int32) => eb_gr st a0 8 3 (fun v2 => eb_nn v2 (fun p3 => eb_ln Γ st p3 0 (fun v4 => (¬ v4 = 0) ∧ (eb_jp1 (fun (x2_5 : Int32) => eb_gr st a0 8 3 (fun v6 => eb_gi st a0 8 5 (fun v7 => eb_nn v6 (fun p8 => eb_wi Γ st p8 0 x2_5 v7 (fun g9 => eb_gr g9 a0 8 4 (fun v10 => eb_gr g9 a0 8 2 (fun v11 => eb_gi g9 a0 8 0 (fun v12 => eb_gi g9 a0 8 0 (fun v13 => eb_gi g9 a0 8 5 (fun v14 => eb_gi g9 a0 8 0 (fun v15 => eb_gi g9 a0 8 0 (fun v16 => eb_nn v10 (fun p17 => eb_nn v11 (fun p18 => eb_cp Γ g9 p17 0 p18 (((v12 * v13) * v14)) (v15 * v16) (fun g19 => eb_gi g19 a0 8 5 (fun v20 => eb_pt g19 a0 8 5 (.int (v20 + 1)) (fun g21 => eb_gi g21 a0 8 5 (fun v22 => K (v22 - 1) g21)))))))))))))))))) (fun k23 => eb_loop1 (fun r25 (x2_24 : Int32) => eb_gr st a0 8 3 (fun v26 => eb_nn v26 (fun p27 => eb_li Γ st p27 0 x2_24 (fun v28 => eb_br (v28 = (-1)) (k23 x2_24) (eb_gr st a0 8 3 (fun v29 => eb_nn v29 (fun p30 => eb_li Γ st p30 0 x2_24 (fun v31 => eb_cs st a0 [8] ∧ MX9_isMade Γ st a0 v31 (fun v32 => eb_br (v32 = 0) (eb_gr st a0 8 3 (fun v36 => eb_nn v36 (fun p37 => eb_ln Γ st p37 0 (fun v38 => (¬ v38 = 0) ∧ (r25 ((eb_rem (x2_24 + 1) v38))))))) (eb_gr st a0 8 3 (fun v39 => eb_nn v39 (fun p40 => eb_li Γ st p40 0 x2_24 (fun v41 => K v41 st))))))))))))) ((eb_rem (x1_1 &&& 2147483647) v4)))))))) (fun k44 => eb_loop2 (fun r47 (x1_45 : Int32) (x2_46 : Int32) => eb_gi st a0 8 0 (fun v48 => eb_gi st a0 8 0 (fun v49 => eb_br ((v48 * v49) ≤ x2_46) (k44 x1_45) (eb_gr st a0 8 4 (fun v50 => eb_nn v50 (fun p51 => eb_li Γ st p51 0 x2_46 (fun v52 => r47 (((31 * x1_45) + v52)) (x2_46 + 1)))))))) 7 0)
abbrev rmX9_place : Room := { frames := 2, cells := 0, slots := 0, locals := 80 }
theorem nX9_place : eb_ar yX9_place 0 := by decide +kernel
theorem dX9_place_0 : eb_dc cX9_place 0 (.bipush 7) 2 2 := by decide +kernel
theorem dX9_place_2 : eb_dc cX9_place 2 (.istore_n 1) 1 3 := by decide +kernel
theorem dX9_place_3 : eb_dc cX9_place 3 (.iconst 0) 1 4 := by decide +kernel
theorem dX9_place_4 : eb_dc cX9_place 4 (.istore_n 2) 1 5 := by decide +kernel
theorem dX9_place_5 : eb_dc cX9_place 5 (.iload_n 2) 1 6 := by decide +kernel
theorem dX9_place_6 : eb_dc cX9_place 6 (.aload_n 0) 1 7 := by decide +kernel
theorem dX9_place_7 : eb_dc cX9_place 7 (.getfield 24) 3 10 := by decide +kernel
theorem dX9_place_10 : eb_dc cX9_place 10 (.aload_n 0) 1 11 := by decide +kernel
theorem dX9_place_11 : eb_dc cX9_place 11 (.getfield 24) 3 14 := by decide +kernel
theorem dX9_place_14 : eb_dc cX9_place 14 (.imul) 1 15 := by decide +kernel
theorem dX9_place_15 : eb_dj cX9_place 15 (.if_icmp .ge 21) 21 18 36 := by decide +kernel
theorem dX9_place_18 : eb_dc cX9_place 18 (.bipush 31) 2 20 := by decide +kernel
theorem dX9_place_20 : eb_dc cX9_place 20 (.iload_n 1) 1 21 := by decide +kernel
theorem dX9_place_21 : eb_dc cX9_place 21 (.imul) 1 22 := by decide +kernel
theorem dX9_place_22 : eb_dc cX9_place 22 (.aload_n 0) 1 23 := by decide +kernel
theorem dX9_place_23 : eb_dc cX9_place 23 (.getfield 15) 3 26 := by decide +kernel
theorem dX9_place_26 : eb_dc cX9_place 26 (.iload_n 2) 1 27 := by decide +kernel
theorem dX9_place_27 : eb_dc cX9_place 27 (.iaload) 1 28 := by decide +kernel
theorem dX9_place_28 : eb_dc cX9_place 28 (.iadd) 1 29 := by decide +kernel
theorem dX9_place_29 : eb_dc cX9_place 29 (.istore_n 1) 1 30 := by decide +kernel
theorem dX9_place_30 : eb_dc cX9_place 30 (.iinc 2 1) 3 33 := by decide +kernel
theorem dX9_place_33 : eb_dj cX9_place 33 (.goto (-28)) (-28) 36 5 := by decide +kernel
theorem dX9_place_36 : eb_dc cX9_place 36 (.iload_n 1) 1 37 := by decide +kernel
theorem dX9_place_37 : eb_dc cX9_place 37 (.ldc 53) 2 39 := by decide +kernel
theorem dX9_place_39 : eb_dc cX9_place 39 (.iand) 1 40 := by decide +kernel
theorem dX9_place_40 : eb_dc cX9_place 40 (.aload_n 0) 1 41 := by decide +kernel
theorem dX9_place_41 : eb_dc cX9_place 41 (.getfield 9) 3 44 := by decide +kernel
theorem dX9_place_44 : eb_dc cX9_place 44 (.arraylength) 1 45 := by decide +kernel
theorem dX9_place_45 : eb_dc cX9_place 45 (.irem) 1 46 := by decide +kernel
theorem dX9_place_46 : eb_dc cX9_place 46 (.istore_n 2) 1 47 := by decide +kernel
theorem dX9_place_47 : eb_dc cX9_place 47 (.aload_n 0) 1 48 := by decide +kernel
theorem dX9_place_48 : eb_dc cX9_place 48 (.getfield 9) 3 51 := by decide +kernel
theorem dX9_place_51 : eb_dc cX9_place 51 (.iload_n 2) 1 52 := by decide +kernel
theorem dX9_place_52 : eb_dc cX9_place 52 (.iaload) 1 53 := by decide +kernel
theorem dX9_place_53 : eb_dc cX9_place 53 (.iconst (-1)) 1 54 := by decide +kernel
theorem dX9_place_54 : eb_dj cX9_place 54 (.if_icmp .eq 36) 36 57 90 := by decide +kernel
theorem dX9_place_57 : eb_dc cX9_place 57 (.aload_n 0) 1 58 := by decide +kernel
theorem dX9_place_58 : eb_dc cX9_place 58 (.aload_n 0) 1 59 := by decide +kernel
theorem dX9_place_59 : eb_dc cX9_place 59 (.getfield 9) 3 62 := by decide +kernel
theorem dX9_place_62 : eb_dc cX9_place 62 (.iload_n 2) 1 63 := by decide +kernel
theorem dX9_place_63 : eb_dc cX9_place 63 (.iaload) 1 64 := by decide +kernel
theorem dX9_place_64 : eb_dc cX9_place 64 (.invokevirtual 54) 3 67 := by decide +kernel
theorem dX9_place_67 : eb_dj cX9_place 67 (.ifCond .eq 10) 10 70 77 := by decide +kernel
theorem dX9_place_70 : eb_dc cX9_place 70 (.aload_n 0) 1 71 := by decide +kernel
theorem dX9_place_71 : eb_dc cX9_place 71 (.getfield 9) 3 74 := by decide +kernel
theorem dX9_place_74 : eb_dc cX9_place 74 (.iload_n 2) 1 75 := by decide +kernel
theorem dX9_place_75 : eb_dc cX9_place 75 (.iaload) 1 76 := by decide +kernel
theorem dX9_place_76 : eb_dc cX9_place 76 (.ireturn) 1 77 := by decide +kernel
theorem dX9_place_77 : eb_dc cX9_place 77 (.iload_n 2) 1 78 := by decide +kernel
theorem dX9_place_78 : eb_dc cX9_place 78 (.iconst 1) 1 79 := by decide +kernel
theorem dX9_place_79 : eb_dc cX9_place 79 (.iadd) 1 80 := by decide +kernel
theorem dX9_place_80 : eb_dc cX9_place 80 (.aload_n 0) 1 81 := by decide +kernel
theorem dX9_place_81 : eb_dc cX9_place 81 (.getfield 9) 3 84 := by decide +kernel
theorem dX9_place_84 : eb_dc cX9_place 84 (.arraylength) 1 85 := by decide +kernel
theorem dX9_place_85 : eb_dc cX9_place 85 (.irem) 1 86 := by decide +kernel
theorem dX9_place_86 : eb_dc cX9_place 86 (.istore_n 2) 1 87 := by decide +kernel
theorem dX9_place_87 : eb_dj cX9_place 87 (.goto (-40)) (-40) 90 47 := by decide +kernel
theorem dX9_place_90 : eb_dc cX9_place 90 (.aload_n 0) 1 91 := by decide +kernel
theorem dX9_place_91 : eb_dc cX9_place 91 (.getfield 9) 3 94 := by decide +kernel
theorem dX9_place_94 : eb_dc cX9_place 94 (.iload_n 2) 1 95 := by decide +kernel
theorem dX9_place_95 : eb_dc cX9_place 95 (.aload_n 0) 1 96 := by decide +kernel
theorem dX9_place_96 : eb_dc cX9_place 96 (.getfield 58) 3 99 := by decide +kernel
theorem dX9_place_99 : eb_dc cX9_place 99 (.iastore) 1 100 := by decide +kernel
theorem dX9_place_100 : eb_dc cX9_place 100 (.aload_n 0) 1 101 := by decide +kernel
theorem dX9_place_101 : eb_dc cX9_place 101 (.getfield 15) 3 104 := by decide +kernel
theorem dX9_place_104 : eb_dc cX9_place 104 (.iconst 0) 1 105 := by decide +kernel
theorem dX9_place_105 : eb_dc cX9_place 105 (.aload_n 0) 1 106 := by decide +kernel
theorem dX9_place_106 : eb_dc cX9_place 106 (.getfield 32) 3 109 := by decide +kernel
theorem dX9_place_109 : eb_dc cX9_place 109 (.aload_n 0) 1 110 := by decide +kernel
theorem dX9_place_110 : eb_dc cX9_place 110 (.getfield 24) 3 113 := by decide +kernel
theorem dX9_place_113 : eb_dc cX9_place 113 (.aload_n 0) 1 114 := by decide +kernel
theorem dX9_place_114 : eb_dc cX9_place 114 (.getfield 24) 3 117 := by decide +kernel
theorem dX9_place_117 : eb_dc cX9_place 117 (.imul) 1 118 := by decide +kernel
theorem dX9_place_118 : eb_dc cX9_place 118 (.aload_n 0) 1 119 := by decide +kernel
theorem dX9_place_119 : eb_dc cX9_place 119 (.getfield 58) 3 122 := by decide +kernel
theorem dX9_place_122 : eb_dc cX9_place 122 (.imul) 1 123 := by decide +kernel
theorem dX9_place_123 : eb_dc cX9_place 123 (.aload_n 0) 1 124 := by decide +kernel
theorem dX9_place_124 : eb_dc cX9_place 124 (.getfield 24) 3 127 := by decide +kernel
theorem dX9_place_127 : eb_dc cX9_place 127 (.aload_n 0) 1 128 := by decide +kernel
theorem dX9_place_128 : eb_dc cX9_place 128 (.getfield 24) 3 131 := by decide +kernel
theorem dX9_place_131 : eb_dc cX9_place 131 (.imul) 1 132 := by decide +kernel
theorem dX9_place_132 : eb_dc cX9_place 132 (.invokestatic 61) 3 135 := by decide +kernel
theorem dX9_place_135 : eb_dc cX9_place 135 (.aload_n 0) 1 136 := by decide +kernel
theorem dX9_place_136 : eb_dc cX9_place 136 (.dup) 1 137 := by decide +kernel
theorem dX9_place_137 : eb_dc cX9_place 137 (.getfield 58) 3 140 := by decide +kernel
theorem dX9_place_140 : eb_dc cX9_place 140 (.iconst 1) 1 141 := by decide +kernel
theorem dX9_place_141 : eb_dc cX9_place 141 (.iadd) 1 142 := by decide +kernel
theorem dX9_place_142 : eb_dc cX9_place 142 (.putfield 58) 3 145 := by decide +kernel
theorem dX9_place_145 : eb_dc cX9_place 145 (.aload_n 0) 1 146 := by decide +kernel
theorem dX9_place_146 : eb_dc cX9_place 146 (.getfield 58) 3 149 := by decide +kernel
theorem dX9_place_149 : eb_dc cX9_place 149 (.iconst 1) 1 150 := by decide +kernel
theorem dX9_place_150 : eb_dc cX9_place 150 (.isub) 1 151 := by decide +kernel
theorem dX9_place_151 : eb_dc cX9_place 151 (.ireturn) 1 152 := by decide +kernel
theorem ctX9_place {l : Launch} {Γ : eb_C} {st : eb_S} {a0 : Nat} {K : Int32 → eb_S → Prop} (h : MX9_place Γ st a0 K) : eb_Ct l Γ yX9_place cX9_place 3 (some .int) rmX9_place [.ref a0] st (eb_oI K) := by
  refine eb_of (by decide) (Nat.le_of_ble_eq_true rfl) (fun X P hP hX0 => ?_)
  show eb_G l Γ P X cX9_place RX9 3 (some .int) rmX9_place 0 [(0, .ref a0)] [] st 0 0
  refine eg_bipush dX9_place_0 kb_7 ?_
  refine eg_istore_n (lv' := [(1, .int 7), (0, .ref a0)]) dX9_place_2 rfl (Nat.le_of_ble_eq_true rfl) rfl ?_
  refine eg_iconst dX9_place_3 kc_0 ?_
  refine eg_istore_n (lv' := [(2, .int 0), (1, .int 7), (0, .ref a0)]) dX9_place_4 rfl (Nat.le_of_ble_eq_true rfl) rfl ?_
  refine eb_jp1_e (J := fun (x1_1 : Int32) => eb_G l Γ P X cX9_place RX9 3 (some .int) rmX9_place 36 [(0, .ref a0), (1, .int x1_1)] [] st 0 0) h ?_ ?_
  · clear h
    intro x1_1 h
    refine eg_iload_n 1 dX9_place_36 rfl rfl ?_
    refine eg_ldc dX9_place_37 q356 ?_
    refine eg_iand dX9_place_39 ?_
    refine eg_aload_n 0 dX9_place_40 rfl rfl ?_
    obtain ⟨fs, v2, he, hv, h⟩ := h
    refine eg_get 3 in_X9 he rfl (Nat.le_of_ble_eq_true rfl) q367 rfl hv dX9_place_41 ?_
    obtain ⟨p3, rfl, h⟩ := h
    obtain ⟨xA, he, h⟩ := h
    refine eh_alen (t := 0) (ty := .int) he rfl dX9_place_44 ?_
    generalize Int32.ofNat xA.1 = v4 at h ⊢
    obtain ⟨hne, h⟩ := h
    refine eg_irem dX9_place_45 hne ?_
    refine eg_istore_n (lv' := [(2, .int (eb_rem (x1_1 &&& 2147483647) v4)), (0, .ref a0), (1, .int x1_1)]) dX9_place_46 rfl (Nat.le_of_ble_eq_true rfl) rfl ?_
    refine eb_jp1_e (J := fun (x2_5 : Int32) => eb_G l Γ P X cX9_place RX9 3 (some .int) rmX9_place 90 [(0, .ref a0), (2, .int x2_5)] [] st 0 0) h ?_ ?_
    · clear h
      intro x2_5 h
      refine eg_aload_n 0 dX9_place_90 rfl rfl ?_
      obtain ⟨fs, v6, he, hv, h⟩ := h
      refine eg_get 3 in_X9 he rfl (Nat.le_of_ble_eq_true rfl) q367 rfl hv dX9_place_91 ?_
      refine eg_iload_n 1 dX9_place_94 rfl rfl ?_
      refine eg_aload_n 0 dX9_place_95 rfl rfl ?_
      obtain ⟨fs, v7, he, hv, h⟩ := h
      refine eg_get 5 in_X9 he rfl (Nat.le_of_ble_eq_true rfl) q369 rfl hv dX9_place_96 ?_
      obtain ⟨p8, rfl, h⟩ := h
      obtain ⟨nA, fA, he, hb, h⟩ := h
      refine eh_iast he hb dX9_place_99 (fun g9 eg9 => ?_)
      replace h := h g9 eg9
      refine eg_aload_n 0 dX9_place_100 rfl rfl ?_
      obtain ⟨fs, v10, he, hv, h⟩ := h
      refine eg_get 4 in_X9 he rfl (Nat.le_of_ble_eq_true rfl) q368 rfl hv dX9_place_101 ?_
      refine eg_iconst dX9_place_104 kc_0 ?_
      refine eg_aload_n 0 dX9_place_105 rfl rfl ?_
      obtain ⟨fs, v11, he, hv, h⟩ := h
      refine eg_get 2 in_X9 he rfl (Nat.le_of_ble_eq_true rfl) q366 rfl hv dX9_place_106 ?_
      refine eg_aload_n 0 dX9_place_109 rfl rfl ?_
      obtain ⟨fs, v12, he, hv, h⟩ := h
      refine eg_get 0 in_X9 he rfl (Nat.le_of_ble_eq_true rfl) q364 rfl hv dX9_place_110 ?_
      refine eg_aload_n 0 dX9_place_113 rfl rfl ?_
      obtain ⟨fs, v13, he, hv, h⟩ := h
      refine eg_get 0 in_X9 he rfl (Nat.le_of_ble_eq_true rfl) q364 rfl hv dX9_place_114 ?_
      refine eg_imul dX9_place_117 ?_
      refine eg_aload_n 0 dX9_place_118 rfl rfl ?_
      obtain ⟨fs, v14, he, hv, h⟩ := h
      refine eg_get 5 in_X9 he rfl (Nat.le_of_ble_eq_true rfl) q369 rfl hv dX9_place_119 ?_
      refine eg_imul dX9_place_122 ?_
      refine eg_aload_n 0 dX9_place_123 rfl rfl ?_
      obtain ⟨fs, v15, he, hv, h⟩ := h
      refine eg_get 0 in_X9 he rfl (Nat.le_of_ble_eq_true rfl) q364 rfl hv dX9_place_124 ?_
      refine eg_aload_n 0 dX9_place_127 rfl rfl ?_
      obtain ⟨fs, v16, he, hv, h⟩ := h
      refine eg_get 0 in_X9 he rfl (Nat.le_of_ble_eq_true rfl) q364 rfl hv dX9_place_128 ?_
      refine eg_imul dX9_place_131 ?_
      obtain ⟨p17, rfl, h⟩ := h
      obtain ⟨p18, rfl, h⟩ := h
      have hM0 := h
      clear h
      refine eg_copy (rest := []) q361 q363 q362 q86 rfl (Nat.le_of_ble_eq_true rfl) (Nat.le_of_ble_eq_true rfl) dX9_place_132 hM0 (fun g19 h => ?_)
      clear hM0
      refine eg_aload_n 0 dX9_place_135 rfl rfl ?_
      refine eg_dup dX9_place_136 rfl ?_
      obtain ⟨fs, v20, he, hv, h⟩ := h
      refine eg_get 5 in_X9 he rfl (Nat.le_of_ble_eq_true rfl) q369 rfl hv dX9_place_137 ?_
      refine eg_iconst dX9_place_140 kc_1 ?_
      refine eg_iadd dX9_place_141 ?_
      obtain ⟨fs, he, hlen, h⟩ := h
      refine eh_put 5 in_X9 he rfl (Nat.le_of_ble_eq_true rfl) tyX9 tyX9_ok nmX9 q369 rfl rfl rfl rfl hlen dX9_place_142 (fun g21 eg21 => ?_)
      replace h := h g21 eg21
      refine eg_aload_n 0 dX9_place_145 rfl rfl ?_
      obtain ⟨fs, v22, he, hv, h⟩ := h
      refine eg_get 5 in_X9 he rfl (Nat.le_of_ble_eq_true rfl) q369 rfl hv dX9_place_146 ?_
      refine eg_iconst dX9_place_149 kc_1 ?_
      refine eg_isub dX9_place_150 ?_
      exact eg_iret dX9_place_151 (Nat.zero_le _) (Nat.zero_le _) (hP _ _ ⟨_, rfl, h⟩)
    · clear h
      intro k23 hk23 h
      refine eg_sub [1, 0] rfl ?_
      refine eb_loop1_e (J := fun (x2_24 : Int32) => eb_G l Γ P X cX9_place RX9 3 (some .int) rmX9_place 47 [(0, .ref a0), (2, .int x2_24)] [] st 0 0) h ?_
      clear h
      intro r25 hr25 x2_24 h
      refine eg_aload_n 0 dX9_place_47 rfl rfl ?_
      obtain ⟨fs, v26, he, hv, h⟩ := h
      refine eg_get 3 in_X9 he rfl (Nat.le_of_ble_eq_true rfl) q367 rfl hv dX9_place_48 ?_
      refine eg_iload_n 1 dX9_place_51 rfl rfl ?_
      obtain ⟨p27, rfl, h⟩ := h
      obtain ⟨nA, fA, he, hb, h⟩ := h
      refine eh_iald he hb dX9_place_52 (fun v28 ev28 => ?_)
      replace h := h v28 ev28
      refine eg_iconst dX9_place_53 kc_m1 ?_
      refine eg_icmp_eq dX9_place_54 (fun c43 => ?_) (fun c43 => ?_)
      · replace h := h.1 c43
        exact hk23 x2_24 h
      · replace h := h.2 c43
        refine eg_aload_n 0 dX9_place_57 rfl rfl ?_
        refine eg_aload_n 0 dX9_place_58 rfl rfl ?_
        obtain ⟨fs, v29, he, hv, h⟩ := h
        refine eg_get 3 in_X9 he rfl (Nat.le_of_ble_eq_true rfl) q367 rfl hv dX9_place_59 ?_
        refine eg_iload_n 1 dX9_place_62 rfl rfl ?_
        obtain ⟨p30, rfl, h⟩ := h
        obtain ⟨nA, fA, he, hb, h⟩ := h
        refine eh_iald he hb dX9_place_63 (fun v31 ev31 => ?_)
        replace h := h v31 ev31
        obtain ⟨hcs, h⟩ := h
        have hM0 := h
        clear h
        refine ec_VIp (rest := []) (ctX9_isMade hM0) (lw_V q357 q359 qs4 q85 q360) rfl rfl hcs nX9_isMade ⟨Nat.le_of_ble_eq_true rfl, Nat.le_of_ble_eq_true rfl⟩ ⟨rfl, rfl⟩ ⟨Nat.zero_le _, Nat.zero_le _⟩ rfl rfl (Nat.le_of_ble_eq_true rfl) dX9_place_64 (fun v32 h => ?_)
        clear hM0
        refine eg_if_eq dX9_place_67 (fun c42 => ?_) (fun c42 => ?_)
        · replace h := h.1 c42
          refine eg_iload_n 1 dX9_place_77 rfl rfl ?_
          refine eg_iconst dX9_place_78 kc_1 ?_
          refine eg_iadd dX9_place_79 ?_
          refine eg_aload_n 0 dX9_place_80 rfl rfl ?_
          obtain ⟨fs, v36, he, hv, h⟩ := h
          refine eg_get 3 in_X9 he rfl (Nat.le_of_ble_eq_true rfl) q367 rfl hv dX9_place_81 ?_
          obtain ⟨p37, rfl, h⟩ := h
          obtain ⟨xA, he, h⟩ := h
          refine eh_alen (t := 0) (ty := .int) he rfl dX9_place_84 ?_
          generalize Int32.ofNat xA.1 = v38 at h ⊢
          obtain ⟨hne, h⟩ := h
          refine eg_irem dX9_place_85 hne ?_
          refine eg_istore_n (lv' := [(2, .int (eb_rem (x2_24 + 1) v38)), (0, .ref a0)]) dX9_place_86 rfl (Nat.le_of_ble_eq_true rfl) rfl ?_
          refine eg_goto dX9_place_87 ?_
          exact eg_sub [1, 0] rfl (hr25 ((eb_rem (x2_24 + 1) v38)) h)
        · replace h := h.2 c42
          refine eg_aload_n 0 dX9_place_70 rfl rfl ?_
          obtain ⟨fs, v39, he, hv, h⟩ := h
          refine eg_get 3 in_X9 he rfl (Nat.le_of_ble_eq_true rfl) q367 rfl hv dX9_place_71 ?_
          refine eg_iload_n 1 dX9_place_74 rfl rfl ?_
          obtain ⟨p40, rfl, h⟩ := h
          obtain ⟨nA, fA, he, hb, h⟩ := h
          refine eh_iald he hb dX9_place_75 (fun v41 ev41 => ?_)
          replace h := h v41 ev41
          exact eg_iret dX9_place_76 (Nat.zero_le _) (Nat.zero_le _) (hP _ _ ⟨_, rfl, h⟩)
  · clear h
    intro k44 hk44 h
    refine eg_sub [2, 1, 0] rfl ?_
    refine eb_loop2_e (J := fun (x1_45 : Int32) (x2_46 : Int32) => eb_G l Γ P X cX9_place RX9 3 (some .int) rmX9_place 5 [(0, .ref a0), (1, .int x1_45), (2, .int x2_46)] [] st 0 0) h ?_
    clear h
    intro r47 hr47 x1_45 x2_46 h
    refine eg_iload_n 2 dX9_place_5 rfl rfl ?_
    refine eg_aload_n 0 dX9_place_6 rfl rfl ?_
    obtain ⟨fs, v48, he, hv, h⟩ := h
    refine eg_get 0 in_X9 he rfl (Nat.le_of_ble_eq_true rfl) q364 rfl hv dX9_place_7 ?_
    refine eg_aload_n 0 dX9_place_10 rfl rfl ?_
    obtain ⟨fs, v49, he, hv, h⟩ := h
    refine eg_get 0 in_X9 he rfl (Nat.le_of_ble_eq_true rfl) q364 rfl hv dX9_place_11 ?_
    refine eg_imul dX9_place_14 ?_
    refine eg_icmp_ge dX9_place_15 (fun c53 => ?_) (fun c53 => ?_)
    · replace h := h.1 c53
      exact eg_sub [0, 1] rfl (hk44 x1_45 h)
    · replace h := h.2 c53
      refine eg_bipush dX9_place_18 kb_31 ?_
      refine eg_iload_n 1 dX9_place_20 rfl rfl ?_
      refine eg_imul dX9_place_21 ?_
      refine eg_aload_n 0 dX9_place_22 rfl rfl ?_
      obtain ⟨fs, v50, he, hv, h⟩ := h
      refine eg_get 4 in_X9 he rfl (Nat.le_of_ble_eq_true rfl) q368 rfl hv dX9_place_23 ?_
      refine eg_iload_n 2 dX9_place_26 rfl rfl ?_
      obtain ⟨p51, rfl, h⟩ := h
      obtain ⟨nA, fA, he, hb, h⟩ := h
      refine eh_iald he hb dX9_place_27 (fun v52 ev52 => ?_)
      replace h := h v52 ev52
      refine eg_iadd dX9_place_28 ?_
      refine eg_istore_n (lv' := [(1, .int ((31 * x1_45) + v52)), (0, .ref a0), (2, .int x2_46)]) dX9_place_29 rfl (Nat.le_of_ble_eq_true rfl) rfl ?_
      refine eg_iinc (j := 2) (lv' := [(2, .int (x2_46 + 1)), (1, .int ((31 * x1_45) + v52)), (0, .ref a0)]) dX9_place_30 rfl (by rw [kc_1]) (Nat.le_of_ble_eq_true rfl) rfl ?_
      refine eg_goto dX9_place_33 ?_
      exact eg_sub [2, 1, 0] rfl (hr47 (((31 * x1_45) + v52)) (x2_46 + 1) h)
def MX9_init (Γ : eb_C) (bc bs : Nat) (st : eb_S) (a0 : Nat) (a1 : Nat) (a2 : Int32) (K : eb_S → Prop) : Prop :=
  eb_mk st (eb_ia Γ 0 2048 (fun _ => 0)) 2048 bc bs 0 0 (fun p1 g2 => eb_pt g2 a0 8 3 (.ref p1) (fun g3 => eb_mk g3 (eb_ia Γ 0 16 (fun _ => 0)) 16 bc bs (0 + 1) (0 + 2048) (fun p4 g5 => eb_pt g5 a0 8 4 (.ref p4) (fun g6 => eb_gi g6 a1 1 0 (fun v7 => eb_pt g6 a0 8 0 (.int v7) (fun g8 => eb_gi g8 a0 8 0 (fun v9 => eb_gi g8 a0 8 0 (fun v10 => eb_gi g8 a0 8 0 (fun v11 => eb_mm Γ g8 v9 (v10 * v11) bc bs (((0 + 1) + 1)) (((0 + 2048) + 16)) (fun p12 g13 => eb_pt g13 a0 8 1 (.ref p12) (fun g14 => eb_gi g14 a0 8 0 (fun v15 => eb_gi g14 a0 8 0 (fun v16 => eb_ok1 (((a2 * v15) * v16)) ∧ (eb_mk g14 (eb_ia Γ 0 ((((a2 * v15) * v16)).toNatClampNeg) (fun _ => 0)) ((((a2 * v15) * v16)).toNatClampNeg) bc bs ((((0 + 1) + 1) + (1 + (v9.toNatClampNeg)))) ((((0 + 2048) + 16) + ((v9.toNatClampNeg) + (v9.toNatClampNeg) * ((v10 * v11).toNatClampNeg)))) (fun p17 g18 => eb_pt g18 a0 8 2 (.ref p17) (fun g19 => eb_jp1 (fun (g20 : eb_S) => eb_gr g20 a0 8 3 (fun v21 => eb_nn v21 (fun p22 => MJ0_fill Γ g20 p22 (-1) (fun g24 => eb_jp1 (fun (g27 : eb_S) => eb_cs g27 a0 [8] ∧ MX9_place Γ g27 a0 (fun v28 g29 => K g29)) (fun k32 => eb_loop2 (fun r35 (x3_33 : Int32) (g34 : eb_S) => eb_gi g34 a0 8 0 (fun v36 => eb_br (v36 ≤ x3_33) (k32 g34) (eb_gr g34 a0 8 4 (fun v37 => eb_gi g34 a0 8 0 (fun v38 => eb_nn v37 (fun p39 => eb_wi Γ g34 p39 0 (((v38 * x3_33) + x3_33)) 1 (fun g40 => r35 (x3_33 + 1) g40))))))) 0 g24))))) (fun k42 => eb_loop2 (fun r45 (x3_43 : Int32) (g44 : eb_S) => eb_gi g44 a0 8 0 (fun v46 => eb_br (v46 ≤ x3_43) (k42 g44) (eb_jp1 (fun (g47 : eb_S) => eb_jp1 (fun (g48 : eb_S) => r45 (x3_43 + 1) g48) (fun k49 => eb_loop2 (fun r52 (x4_50 : Int32) (g51 : eb_S) => eb_gi g51 a0 8 0 (fun v53 => eb_br (v53 ≤ x4_50) (k49 g51) (eb_gr g51 a0 8 1 (fun v54 => eb_nn v54 (fun p55 => eb_lr Γ g51 p55 5 x3_43 (fun v56 => eb_gi g51 a0 8 0 (fun v57 => eb_jp1 (fun (s58 : Int32) => eb_nn v56 (fun p59 => eb_wi Γ g51 p59 0 (((v57 * x4_50) + x3_43)) s58 (fun g60 => r52 (x4_50 + 1) g60))) (fun k61 => eb_br (x4_50 = x3_43) (k61 1200) (eb_cs g51 a1 [1] ∧ MX1_angle Γ g51 a1 x3_43 x4_50 (fun v62 => MX0_cosine v62 (fun v66 => k61 v66))))))))))) 0 g47)) (fun k72 => eb_loop2 (fun r75 (x4_73 : Int32) (g74 : eb_S) => eb_gi g74 a0 8 0 (fun v76 => eb_br (v76 ≤ x4_73) (k72 g74) (eb_gr g74 a0 8 1 (fun v77 => eb_nn v77 (fun p78 => eb_lr Γ g74 p78 5 x3_43 (fun v79 => eb_gi g74 a0 8 0 (fun v80 => eb_nn v79 (fun p81 => eb_wi Γ g74 p81 0 (((v80 * x4_73) + x4_73)) 1 (fun g82 => r75 (x4_73 + 1) g82))))))))) 0 g44)))) 0 g19)))))))))))))))))
abbrev rmX9_init (bc bs : Nat) : Room := { frames := 3, cells := bc, slots := bs, locals := 102 }
theorem nX9_init : eb_ar yX9_init 2 := by decide +kernel
theorem dX9_init_0 : eb_dc cX9_init 0 (.aload_n 0) 1 1 := by decide +kernel
theorem dX9_init_1 : eb_dc cX9_init 1 (.invokespecial 3) 3 4 := by decide +kernel
theorem dX9_init_4 : eb_dc cX9_init 4 (.aload_n 0) 1 5 := by decide +kernel
theorem dX9_init_5 : eb_dc cX9_init 5 (.sipush 2048) 3 8 := by decide +kernel
theorem dX9_init_8 : eb_dc cX9_init 8 (.newarray .int) 2 10 := by decide +kernel
theorem dX9_init_10 : eb_dc cX9_init 10 (.putfield 9) 3 13 := by decide +kernel
theorem dX9_init_13 : eb_dc cX9_init 13 (.aload_n 0) 1 14 := by decide +kernel
theorem dX9_init_14 : eb_dc cX9_init 14 (.bipush 16) 2 16 := by decide +kernel
theorem dX9_init_16 : eb_dc cX9_init 16 (.newarray .int) 2 18 := by decide +kernel
theorem dX9_init_18 : eb_dc cX9_init 18 (.putfield 15) 3 21 := by decide +kernel
theorem dX9_init_21 : eb_dc cX9_init 21 (.aload_n 0) 1 22 := by decide +kernel
theorem dX9_init_22 : eb_dc cX9_init 22 (.aload_n 1) 1 23 := by decide +kernel
theorem dX9_init_23 : eb_dc cX9_init 23 (.getfield 18) 3 26 := by decide +kernel
theorem dX9_init_26 : eb_dc cX9_init 26 (.putfield 24) 3 29 := by decide +kernel
theorem dX9_init_29 : eb_dc cX9_init 29 (.aload_n 0) 1 30 := by decide +kernel
theorem dX9_init_30 : eb_dc cX9_init 30 (.aload_n 0) 1 31 := by decide +kernel
theorem dX9_init_31 : eb_dc cX9_init 31 (.getfield 24) 3 34 := by decide +kernel
theorem dX9_init_34 : eb_dc cX9_init 34 (.aload_n 0) 1 35 := by decide +kernel
theorem dX9_init_35 : eb_dc cX9_init 35 (.getfield 24) 3 38 := by decide +kernel
theorem dX9_init_38 : eb_dc cX9_init 38 (.aload_n 0) 1 39 := by decide +kernel
theorem dX9_init_39 : eb_dc cX9_init 39 (.getfield 24) 3 42 := by decide +kernel
theorem dX9_init_42 : eb_dc cX9_init 42 (.imul) 1 43 := by decide +kernel
theorem dX9_init_43 : eb_dc cX9_init 43 (.multianewarray 27 2) 4 47 := by decide +kernel
theorem dX9_init_47 : eb_dc cX9_init 47 (.putfield 29) 3 50 := by decide +kernel
theorem dX9_init_50 : eb_dc cX9_init 50 (.aload_n 0) 1 51 := by decide +kernel
theorem dX9_init_51 : eb_dc cX9_init 51 (.iload_n 2) 1 52 := by decide +kernel
theorem dX9_init_52 : eb_dc cX9_init 52 (.aload_n 0) 1 53 := by decide +kernel
theorem dX9_init_53 : eb_dc cX9_init 53 (.getfield 24) 3 56 := by decide +kernel
theorem dX9_init_56 : eb_dc cX9_init 56 (.imul) 1 57 := by decide +kernel
theorem dX9_init_57 : eb_dc cX9_init 57 (.aload_n 0) 1 58 := by decide +kernel
theorem dX9_init_58 : eb_dc cX9_init 58 (.getfield 24) 3 61 := by decide +kernel
theorem dX9_init_61 : eb_dc cX9_init 61 (.imul) 1 62 := by decide +kernel
theorem dX9_init_62 : eb_dc cX9_init 62 (.newarray .int) 2 64 := by decide +kernel
theorem dX9_init_64 : eb_dc cX9_init 64 (.putfield 32) 3 67 := by decide +kernel
theorem dX9_init_67 : eb_dc cX9_init 67 (.iconst 0) 1 68 := by decide +kernel
theorem dX9_init_68 : eb_dc cX9_init 68 (.istore_n 3) 1 69 := by decide +kernel
theorem dX9_init_69 : eb_dc cX9_init 69 (.iload_n 3) 1 70 := by decide +kernel
theorem dX9_init_70 : eb_dc cX9_init 70 (.aload_n 0) 1 71 := by decide +kernel
theorem dX9_init_71 : eb_dc cX9_init 71 (.getfield 24) 3 74 := by decide +kernel
theorem dX9_init_74 : eb_dj cX9_init 74 (.if_icmp .ge 101) 101 77 175 := by decide +kernel
theorem dX9_init_77 : eb_dc cX9_init 77 (.iconst 0) 1 78 := by decide +kernel
theorem dX9_init_78 : eb_dc cX9_init 78 (.istore 4) 2 80 := by decide +kernel
theorem dX9_init_80 : eb_dc cX9_init 80 (.iload 4) 2 82 := by decide +kernel
theorem dX9_init_82 : eb_dc cX9_init 82 (.aload_n 0) 1 83 := by decide +kernel
theorem dX9_init_83 : eb_dc cX9_init 83 (.getfield 24) 3 86 := by decide +kernel
theorem dX9_init_86 : eb_dj cX9_init 86 (.if_icmp .ge 27) 27 89 113 := by decide +kernel
theorem dX9_init_89 : eb_dc cX9_init 89 (.aload_n 0) 1 90 := by decide +kernel
theorem dX9_init_90 : eb_dc cX9_init 90 (.getfield 29) 3 93 := by decide +kernel
theorem dX9_init_93 : eb_dc cX9_init 93 (.iload_n 3) 1 94 := by decide +kernel
theorem dX9_init_94 : eb_dc cX9_init 94 (.aaload) 1 95 := by decide +kernel
theorem dX9_init_95 : eb_dc cX9_init 95 (.aload_n 0) 1 96 := by decide +kernel
theorem dX9_init_96 : eb_dc cX9_init 96 (.getfield 24) 3 99 := by decide +kernel
theorem dX9_init_99 : eb_dc cX9_init 99 (.iload 4) 2 101 := by decide +kernel
theorem dX9_init_101 : eb_dc cX9_init 101 (.imul) 1 102 := by decide +kernel
theorem dX9_init_102 : eb_dc cX9_init 102 (.iload 4) 2 104 := by decide +kernel
theorem dX9_init_104 : eb_dc cX9_init 104 (.iadd) 1 105 := by decide +kernel
theorem dX9_init_105 : eb_dc cX9_init 105 (.iconst 1) 1 106 := by decide +kernel
theorem dX9_init_106 : eb_dc cX9_init 106 (.iastore) 1 107 := by decide +kernel
theorem dX9_init_107 : eb_dc cX9_init 107 (.iinc 4 1) 3 110 := by decide +kernel
theorem dX9_init_110 : eb_dj cX9_init 110 (.goto (-30)) (-30) 113 80 := by decide +kernel
theorem dX9_init_113 : eb_dc cX9_init 113 (.iconst 0) 1 114 := by decide +kernel
theorem dX9_init_114 : eb_dc cX9_init 114 (.istore 4) 2 116 := by decide +kernel
theorem dX9_init_116 : eb_dc cX9_init 116 (.iload 4) 2 118 := by decide +kernel
theorem dX9_init_118 : eb_dc cX9_init 118 (.aload_n 0) 1 119 := by decide +kernel
theorem dX9_init_119 : eb_dc cX9_init 119 (.getfield 24) 3 122 := by decide +kernel
theorem dX9_init_122 : eb_dj cX9_init 122 (.if_icmp .ge 47) 47 125 169 := by decide +kernel
theorem dX9_init_125 : eb_dc cX9_init 125 (.aload_n 0) 1 126 := by decide +kernel
theorem dX9_init_126 : eb_dc cX9_init 126 (.getfield 29) 3 129 := by decide +kernel
theorem dX9_init_129 : eb_dc cX9_init 129 (.iload_n 3) 1 130 := by decide +kernel
theorem dX9_init_130 : eb_dc cX9_init 130 (.aaload) 1 131 := by decide +kernel
theorem dX9_init_131 : eb_dc cX9_init 131 (.aload_n 0) 1 132 := by decide +kernel
theorem dX9_init_132 : eb_dc cX9_init 132 (.getfield 24) 3 135 := by decide +kernel
theorem dX9_init_135 : eb_dc cX9_init 135 (.iload 4) 2 137 := by decide +kernel
theorem dX9_init_137 : eb_dc cX9_init 137 (.imul) 1 138 := by decide +kernel
theorem dX9_init_138 : eb_dc cX9_init 138 (.iload_n 3) 1 139 := by decide +kernel
theorem dX9_init_139 : eb_dc cX9_init 139 (.iadd) 1 140 := by decide +kernel
theorem dX9_init_140 : eb_dc cX9_init 140 (.iload 4) 2 142 := by decide +kernel
theorem dX9_init_142 : eb_dc cX9_init 142 (.iload_n 3) 1 143 := by decide +kernel
theorem dX9_init_143 : eb_dj cX9_init 143 (.if_icmp .ne 9) 9 146 152 := by decide +kernel
theorem dX9_init_146 : eb_dc cX9_init 146 (.sipush 1200) 3 149 := by decide +kernel
theorem dX9_init_149 : eb_dj cX9_init 149 (.goto 13) 13 152 162 := by decide +kernel
theorem dX9_init_152 : eb_dc cX9_init 152 (.aload_n 1) 1 153 := by decide +kernel
theorem dX9_init_153 : eb_dc cX9_init 153 (.iload_n 3) 1 154 := by decide +kernel
theorem dX9_init_154 : eb_dc cX9_init 154 (.iload 4) 2 156 := by decide +kernel
theorem dX9_init_156 : eb_dc cX9_init 156 (.invokevirtual 35) 3 159 := by decide +kernel
theorem dX9_init_159 : eb_dc cX9_init 159 (.invokestatic 39) 3 162 := by decide +kernel
theorem dX9_init_162 : eb_dc cX9_init 162 (.iastore) 1 163 := by decide +kernel
theorem dX9_init_163 : eb_dc cX9_init 163 (.iinc 4 1) 3 166 := by decide +kernel
theorem dX9_init_166 : eb_dj cX9_init 166 (.goto (-50)) (-50) 169 116 := by decide +kernel
theorem dX9_init_169 : eb_dc cX9_init 169 (.iinc 3 1) 3 172 := by decide +kernel
theorem dX9_init_172 : eb_dj cX9_init 172 (.goto (-103)) (-103) 175 69 := by decide +kernel
theorem dX9_init_175 : eb_dc cX9_init 175 (.aload_n 0) 1 176 := by decide +kernel
theorem dX9_init_176 : eb_dc cX9_init 176 (.getfield 9) 3 179 := by decide +kernel
theorem dX9_init_179 : eb_dc cX9_init 179 (.iconst (-1)) 1 180 := by decide +kernel
theorem dX9_init_180 : eb_dc cX9_init 180 (.invokestatic 43) 3 183 := by decide +kernel
theorem dX9_init_183 : eb_dc cX9_init 183 (.iconst 0) 1 184 := by decide +kernel
theorem dX9_init_184 : eb_dc cX9_init 184 (.istore_n 3) 1 185 := by decide +kernel
theorem dX9_init_185 : eb_dc cX9_init 185 (.iload_n 3) 1 186 := by decide +kernel
theorem dX9_init_186 : eb_dc cX9_init 186 (.aload_n 0) 1 187 := by decide +kernel
theorem dX9_init_187 : eb_dc cX9_init 187 (.getfield 24) 3 190 := by decide +kernel
theorem dX9_init_190 : eb_dj cX9_init 190 (.if_icmp .ge 23) 23 193 213 := by decide +kernel
theorem dX9_init_193 : eb_dc cX9_init 193 (.aload_n 0) 1 194 := by decide +kernel
theorem dX9_init_194 : eb_dc cX9_init 194 (.getfield 15) 3 197 := by decide +kernel
theorem dX9_init_197 : eb_dc cX9_init 197 (.aload_n 0) 1 198 := by decide +kernel
theorem dX9_init_198 : eb_dc cX9_init 198 (.getfield 24) 3 201 := by decide +kernel
theorem dX9_init_201 : eb_dc cX9_init 201 (.iload_n 3) 1 202 := by decide +kernel
theorem dX9_init_202 : eb_dc cX9_init 202 (.imul) 1 203 := by decide +kernel
theorem dX9_init_203 : eb_dc cX9_init 203 (.iload_n 3) 1 204 := by decide +kernel
theorem dX9_init_204 : eb_dc cX9_init 204 (.iadd) 1 205 := by decide +kernel
theorem dX9_init_205 : eb_dc cX9_init 205 (.iconst 1) 1 206 := by decide +kernel
theorem dX9_init_206 : eb_dc cX9_init 206 (.iastore) 1 207 := by decide +kernel
theorem dX9_init_207 : eb_dc cX9_init 207 (.iinc 3 1) 3 210 := by decide +kernel
theorem dX9_init_210 : eb_dj cX9_init 210 (.goto (-25)) (-25) 213 185 := by decide +kernel
theorem dX9_init_213 : eb_dc cX9_init 213 (.aload_n 0) 1 214 := by decide +kernel
theorem dX9_init_214 : eb_dc cX9_init 214 (.invokevirtual 49) 3 217 := by decide +kernel
theorem dX9_init_217 : eb_dc cX9_init 217 (.pop) 1 218 := by decide +kernel
theorem dX9_init_218 : eb_dc cX9_init 218 (.return_) 1 219 := by decide +kernel
theorem ctX9_init {l : Launch} {Γ : eb_C} {bc bs : Nat} {st : eb_S} {a0 : Nat} {a1 : Nat} {a2 : Int32} {K : eb_S → Prop} (h : MX9_init Γ bc bs st a0 a1 a2 K) : eb_Ct l Γ yX9_init cX9_init 5 (none) (rmX9_init bc bs) [.ref a0, .ref a1, .int a2] st (eb_oV K) := by
  refine eb_of (by decide) (Nat.le_of_ble_eq_true rfl) (fun X P hP hX0 => ?_)
  replace hX0 := hX0 rfl
  suffices hgo : (0 ≤ bc ∧ 0 ≤ bs) → eb_G l Γ P X cX9_init RX9 5 (none) (rmX9_init bc bs) 0 [(0, .ref a0), (1, .ref a1), (2, .int a2)] [] st 0 0 from hgo ⟨Nat.zero_le _, Nat.zero_le _⟩
  intro hu
  refine eg_aload_n 0 dX9_init_0 rfl rfl ?_
  refine eg_objInit q341 q104 q105 dX9_init_1 (Nat.le_of_ble_eq_true rfl) (Nat.le_of_ble_eq_true rfl) ?_
  refine eg_aload_n 0 dX9_init_4 rfl rfl ?_
  refine eg_sipush dX9_init_5 ks_2048 ?_
  obtain ⟨hc1, hs1, h⟩ := h
  refine eh_new_i q158 rfl ⟨by decide, by decide⟩ hc1 hs1 dX9_init_8 (fun p1 qp1 g2 eg2 => ?_)
  replace h := h p1 qp1 g2 eg2
  replace hu := And.intro hc1 hs1
  obtain ⟨fs, he, hlen, h⟩ := h
  refine eh_putF 3 in_X9 he rfl (Nat.le_of_ble_eq_true rfl) tyX9 tyX9_ok nmX9 q367 rfl rfl hX0 rfl rfl rfl hlen dX9_init_10 (fun g3 eg3 => ?_)
  replace h := h g3 eg3
  refine eg_aload_n 0 dX9_init_13 rfl rfl ?_
  refine eg_bipush dX9_init_14 kb_16 ?_
  obtain ⟨hc1, hs1, h⟩ := h
  refine eh_new_i q158 rfl ⟨by decide, by decide⟩ hc1 hs1 dX9_init_16 (fun p4 qp4 g5 eg5 => ?_)
  replace h := h p4 qp4 g5 eg5
  replace hu := And.intro hc1 hs1
  obtain ⟨fs, he, hlen, h⟩ := h
  refine eh_putF 4 in_X9 he rfl (Nat.le_of_ble_eq_true rfl) tyX9 tyX9_ok nmX9 q368 rfl rfl hX0 rfl rfl rfl hlen dX9_init_18 (fun g6 eg6 => ?_)
  replace h := h g6 eg6
  refine eg_aload_n 0 dX9_init_21 rfl rfl ?_
  refine eg_aload_n 1 dX9_init_22 rfl rfl ?_
  obtain ⟨fs, v7, he, hv, h⟩ := h
  refine eg_getN 0 in_X1 he rfl (Nat.le_of_ble_eq_true rfl) (List.mem_of_getElem? (i := 22) rfl) rfl hv dX9_init_23 ?_
  obtain ⟨fs, he, hlen, h⟩ := h
  refine eh_putF 0 in_X9 he rfl (Nat.le_of_ble_eq_true rfl) tyX9 tyX9_ok nmX9 q364 rfl rfl hX0 rfl rfl rfl hlen dX9_init_26 (fun g8 eg8 => ?_)
  replace h := h g8 eg8
  refine eg_aload_n 0 dX9_init_29 rfl rfl ?_
  refine eg_aload_n 0 dX9_init_30 rfl rfl ?_
  obtain ⟨fs, v9, he, hv, h⟩ := h
  refine eg_get 0 in_X9 he rfl (Nat.le_of_ble_eq_true rfl) q364 rfl hv dX9_init_31 ?_
  refine eg_aload_n 0 dX9_init_34 rfl rfl ?_
  obtain ⟨fs, v10, he, hv, h⟩ := h
  refine eg_get 0 in_X9 he rfl (Nat.le_of_ble_eq_true rfl) q364 rfl hv dX9_init_35 ?_
  refine eg_aload_n 0 dX9_init_38 rfl rfl ?_
  obtain ⟨fs, v11, he, hv, h⟩ := h
  refine eg_get 0 in_X9 he rfl (Nat.le_of_ble_eq_true rfl) q364 rfl hv dX9_init_39 ?_
  refine eg_imul dX9_init_42 ?_
  have hmm := h.2.2
  have hM0 := h
  clear h
  refine eg_multi q342 hM0 dX9_init_43 (fun p12 g13 h => ?_)
  replace hu := And.intro hmm.1 hmm.2.1
  clear hM0 hmm
  obtain ⟨fs, he, hlen, h⟩ := h
  refine eh_putF 1 in_X9 he rfl (Nat.le_of_ble_eq_true rfl) tyX9 tyX9_ok nmX9 q365 rfl rfl hX0 rfl rfl rfl hlen dX9_init_47 (fun g14 eg14 => ?_)
  replace h := h g14 eg14
  refine eg_aload_n 0 dX9_init_50 rfl rfl ?_
  refine eg_iload_n 2 dX9_init_51 rfl rfl ?_
  refine eg_aload_n 0 dX9_init_52 rfl rfl ?_
  obtain ⟨fs, v15, he, hv, h⟩ := h
  refine eg_get 0 in_X9 he rfl (Nat.le_of_ble_eq_true rfl) q364 rfl hv dX9_init_53 ?_
  refine eg_imul dX9_init_56 ?_
  refine eg_aload_n 0 dX9_init_57 rfl rfl ?_
  obtain ⟨fs, v16, he, hv, h⟩ := h
  refine eg_get 0 in_X9 he rfl (Nat.le_of_ble_eq_true rfl) q364 rfl hv dX9_init_58 ?_
  refine eg_imul dX9_init_61 ?_
  obtain ⟨hok, h⟩ := h
  obtain ⟨hc1, hs1, h⟩ := h
  refine eh_new_i q158 rfl hok hc1 hs1 dX9_init_62 (fun p17 qp17 g18 eg18 => ?_)
  replace h := h p17 qp17 g18 eg18
  replace hu := And.intro hc1 hs1
  obtain ⟨fs, he, hlen, h⟩ := h
  refine eh_putF 2 in_X9 he rfl (Nat.le_of_ble_eq_true rfl) tyX9 tyX9_ok nmX9 q366 rfl rfl hX0 rfl rfl rfl hlen dX9_init_64 (fun g19 eg19 => ?_)
  replace h := h g19 eg19
  refine eg_iconst dX9_init_67 kc_0 ?_
  refine eg_istore_n (lv' := [(3, .int 0), (0, .ref a0), (1, .ref a1), (2, .int a2)]) dX9_init_68 rfl (Nat.le_of_ble_eq_true rfl) rfl ?_
  refine eb_jp1_e (J := fun (g20 : eb_S) => (((((0 + 1) + 1) + (1 + (v9.toNatClampNeg))) + 1) ≤ bc ∧ ((((0 + 2048) + 16) + ((v9.toNatClampNeg) + (v9.toNatClampNeg) * ((v10 * v11).toNatClampNeg))) + ((((a2 * v15) * v16)).toNatClampNeg)) ≤ bs) → eb_G l Γ P X cX9_init RX9 5 (none) (rmX9_init bc bs) 175 [(0, .ref a0)] [] g20 ((((0 + 1) + 1) + (1 + (v9.toNatClampNeg))) + 1) ((((0 + 2048) + 16) + ((v9.toNatClampNeg) + (v9.toNatClampNeg) * ((v10 * v11).toNatClampNeg))) + ((((a2 * v15) * v16)).toNatClampNeg))) h ?_ ?_
  · clear h
    intro g20 h hu
    refine eg_aload_n 0 dX9_init_175 rfl rfl ?_
    obtain ⟨fs, v21, he, hv, h⟩ := h
    refine eg_get 3 in_X9 he rfl (Nat.le_of_ble_eq_true rfl) q367 rfl hv dX9_init_176 ?_
    refine eg_iconst dX9_init_179 kc_m1 ?_
    obtain ⟨p22, rfl, h⟩ := h
    have hM0 := h
    clear h
    refine ec_SVw (rest := []) (ctJ0_fill hM0) (lw_S q351 q116 q76 q117) nJ0_fill ⟨Nat.le_of_ble_eq_true rfl, Nat.le_of_ble_eq_true rfl⟩ ⟨rfl, rfl⟩ hu rfl rfl (Nat.le_of_ble_eq_true rfl) dX9_init_180 (fun g24 h => ?_)
    clear hM0
    refine eg_iconst dX9_init_183 kc_0 ?_
    refine eg_istore_n (lv' := [(3, .int 0), (0, .ref a0)]) dX9_init_184 rfl (Nat.le_of_ble_eq_true rfl) rfl ?_
    refine eb_jp1_e (J := fun (g27 : eb_S) => (((((0 + 1) + 1) + (1 + (v9.toNatClampNeg))) + 1) ≤ bc ∧ ((((0 + 2048) + 16) + ((v9.toNatClampNeg) + (v9.toNatClampNeg) * ((v10 * v11).toNatClampNeg))) + ((((a2 * v15) * v16)).toNatClampNeg)) ≤ bs) → eb_G l Γ P X cX9_init RX9 5 (none) (rmX9_init bc bs) 213 [(0, .ref a0)] [] g27 ((((0 + 1) + 1) + (1 + (v9.toNatClampNeg))) + 1) ((((0 + 2048) + 16) + ((v9.toNatClampNeg) + (v9.toNatClampNeg) * ((v10 * v11).toNatClampNeg))) + ((((a2 * v15) * v16)).toNatClampNeg))) h ?_ ?_
    · clear h
      intro g27 h hu
      refine eg_aload_n 0 dX9_init_213 rfl rfl ?_
      obtain ⟨hcs, h⟩ := h
      have hM0 := h
      clear h
      refine ec_VIw (rest := []) (ctX9_place hM0) (lw_V q352 q354 qs3 q85 q355) rfl rfl hcs nX9_place ⟨Nat.le_of_ble_eq_true rfl, Nat.le_of_ble_eq_true rfl⟩ ⟨rfl, rfl⟩ hu rfl rfl (Nat.le_of_ble_eq_true rfl) dX9_init_214 (fun v28 g29 h => ?_)
      clear hM0
      refine eg_pop dX9_init_217 rfl ?_
      exact eg_vret dX9_init_218 hu.1 hu.2 (hP _ _ ⟨rfl, h⟩)
    · clear h
      intro k32 hk32 h
      refine eg_sub [1, 0] rfl ?_
      refine eb_loop2_e (J := fun (x3_33 : Int32) (g34 : eb_S) => (((((0 + 1) + 1) + (1 + (v9.toNatClampNeg))) + 1) ≤ bc ∧ ((((0 + 2048) + 16) + ((v9.toNatClampNeg) + (v9.toNatClampNeg) * ((v10 * v11).toNatClampNeg))) + ((((a2 * v15) * v16)).toNatClampNeg)) ≤ bs) → eb_G l Γ P X cX9_init RX9 5 (none) (rmX9_init bc bs) 185 [(0, .ref a0), (3, .int x3_33)] [] g34 ((((0 + 1) + 1) + (1 + (v9.toNatClampNeg))) + 1) ((((0 + 2048) + 16) + ((v9.toNatClampNeg) + (v9.toNatClampNeg) * ((v10 * v11).toNatClampNeg))) + ((((a2 * v15) * v16)).toNatClampNeg))) h ?_ hu
      clear h
      clear hu
      intro r35 hr35 x3_33 g34 h hu
      refine eg_iload_n 1 dX9_init_185 rfl rfl ?_
      refine eg_aload_n 0 dX9_init_186 rfl rfl ?_
      obtain ⟨fs, v36, he, hv, h⟩ := h
      refine eg_get 0 in_X9 he rfl (Nat.le_of_ble_eq_true rfl) q364 rfl hv dX9_init_187 ?_
      refine eg_icmp_ge dX9_init_190 (fun c41 => ?_) (fun c41 => ?_)
      · replace h := h.1 c41
        exact eg_sub [0] rfl (hk32 g34 h hu)
      · replace h := h.2 c41
        refine eg_aload_n 0 dX9_init_193 rfl rfl ?_
        obtain ⟨fs, v37, he, hv, h⟩ := h
        refine eg_get 4 in_X9 he rfl (Nat.le_of_ble_eq_true rfl) q368 rfl hv dX9_init_194 ?_
        refine eg_aload_n 0 dX9_init_197 rfl rfl ?_
        obtain ⟨fs, v38, he, hv, h⟩ := h
        refine eg_get 0 in_X9 he rfl (Nat.le_of_ble_eq_true rfl) q364 rfl hv dX9_init_198 ?_
        refine eg_iload_n 1 dX9_init_201 rfl rfl ?_
        refine eg_imul dX9_init_202 ?_
        refine eg_iload_n 1 dX9_init_203 rfl rfl ?_
        refine eg_iadd dX9_init_204 ?_
        refine eg_iconst dX9_init_205 kc_1 ?_
        obtain ⟨p39, rfl, h⟩ := h
        obtain ⟨nA, fA, he, hb, h⟩ := h
        refine eh_iast he hb dX9_init_206 (fun g40 eg40 => ?_)
        replace h := h g40 eg40
        refine eg_iinc (j := 1) (lv' := [(3, .int (x3_33 + 1)), (0, .ref a0)]) dX9_init_207 rfl (by rw [kc_1]) (Nat.le_of_ble_eq_true rfl) rfl ?_
        refine eg_goto dX9_init_210 ?_
        exact eg_sub [1, 0] rfl (hr35 (x3_33 + 1) g40 h hu)
  · clear h
    intro k42 hk42 h
    refine eg_sub [1, 2, 0] rfl ?_
    refine eb_loop2_e (J := fun (x3_43 : Int32) (g44 : eb_S) => (((((0 + 1) + 1) + (1 + (v9.toNatClampNeg))) + 1) ≤ bc ∧ ((((0 + 2048) + 16) + ((v9.toNatClampNeg) + (v9.toNatClampNeg) * ((v10 * v11).toNatClampNeg))) + ((((a2 * v15) * v16)).toNatClampNeg)) ≤ bs) → eb_G l Γ P X cX9_init RX9 5 (none) (rmX9_init bc bs) 69 [(0, .ref a0), (1, .ref a1), (3, .int x3_43)] [] g44 ((((0 + 1) + 1) + (1 + (v9.toNatClampNeg))) + 1) ((((0 + 2048) + 16) + ((v9.toNatClampNeg) + (v9.toNatClampNeg) * ((v10 * v11).toNatClampNeg))) + ((((a2 * v15) * v16)).toNatClampNeg))) h ?_ hu
    clear h
    clear hu
    intro r45 hr45 x3_43 g44 h hu
    refine eg_iload_n 2 dX9_init_69 rfl rfl ?_
    refine eg_aload_n 0 dX9_init_70 rfl rfl ?_
    obtain ⟨fs, v46, he, hv, h⟩ := h
    refine eg_get 0 in_X9 he rfl (Nat.le_of_ble_eq_true rfl) q364 rfl hv dX9_init_71 ?_
    refine eg_icmp_ge dX9_init_74 (fun c84 => ?_) (fun c84 => ?_)
    · replace h := h.1 c84
      exact eg_sub [0] rfl (hk42 g44 h hu)
    · replace h := h.2 c84
      refine eg_iconst dX9_init_77 kc_0 ?_
      refine eg_istore (lv' := [(4, .int 0), (0, .ref a0), (1, .ref a1), (3, .int x3_43)]) dX9_init_78 (Nat.le_of_ble_eq_true rfl) rfl ?_
      refine eb_jp1_e (J := fun (g47 : eb_S) => (((((0 + 1) + 1) + (1 + (v9.toNatClampNeg))) + 1) ≤ bc ∧ ((((0 + 2048) + 16) + ((v9.toNatClampNeg) + (v9.toNatClampNeg) * ((v10 * v11).toNatClampNeg))) + ((((a2 * v15) * v16)).toNatClampNeg)) ≤ bs) → eb_G l Γ P X cX9_init RX9 5 (none) (rmX9_init bc bs) 113 [(0, .ref a0), (1, .ref a1), (3, .int x3_43)] [] g47 ((((0 + 1) + 1) + (1 + (v9.toNatClampNeg))) + 1) ((((0 + 2048) + 16) + ((v9.toNatClampNeg) + (v9.toNatClampNeg) * ((v10 * v11).toNatClampNeg))) + ((((a2 * v15) * v16)).toNatClampNeg))) h ?_ ?_
      · clear h
        intro g47 h hu
        refine eg_iconst dX9_init_113 kc_0 ?_
        refine eg_istore (lv' := [(4, .int 0), (0, .ref a0), (1, .ref a1), (3, .int x3_43)]) dX9_init_114 (Nat.le_of_ble_eq_true rfl) rfl ?_
        refine eb_jp1_e (J := fun (g48 : eb_S) => (((((0 + 1) + 1) + (1 + (v9.toNatClampNeg))) + 1) ≤ bc ∧ ((((0 + 2048) + 16) + ((v9.toNatClampNeg) + (v9.toNatClampNeg) * ((v10 * v11).toNatClampNeg))) + ((((a2 * v15) * v16)).toNatClampNeg)) ≤ bs) → eb_G l Γ P X cX9_init RX9 5 (none) (rmX9_init bc bs) 169 [(0, .ref a0), (1, .ref a1), (3, .int x3_43)] [] g48 ((((0 + 1) + 1) + (1 + (v9.toNatClampNeg))) + 1) ((((0 + 2048) + 16) + ((v9.toNatClampNeg) + (v9.toNatClampNeg) * ((v10 * v11).toNatClampNeg))) + ((((a2 * v15) * v16)).toNatClampNeg))) h ?_ ?_
        · clear h
          intro g48 h hu
          refine eg_iinc (j := 2) (lv' := [(3, .int (x3_43 + 1)), (0, .ref a0), (1, .ref a1)]) dX9_init_169 rfl (by rw [kc_1]) (Nat.le_of_ble_eq_true rfl) rfl ?_
          refine eg_goto dX9_init_172 ?_
          exact eg_sub [1, 2, 0] rfl (hr45 (x3_43 + 1) g48 h hu)
        · clear h
          intro k49 hk49 h
          refine eg_sub [1, 2, 3, 0] rfl ?_
          refine eb_loop2_e (J := fun (x4_50 : Int32) (g51 : eb_S) => (((((0 + 1) + 1) + (1 + (v9.toNatClampNeg))) + 1) ≤ bc ∧ ((((0 + 2048) + 16) + ((v9.toNatClampNeg) + (v9.toNatClampNeg) * ((v10 * v11).toNatClampNeg))) + ((((a2 * v15) * v16)).toNatClampNeg)) ≤ bs) → eb_G l Γ P X cX9_init RX9 5 (none) (rmX9_init bc bs) 116 [(0, .ref a0), (1, .ref a1), (3, .int x3_43), (4, .int x4_50)] [] g51 ((((0 + 1) + 1) + (1 + (v9.toNatClampNeg))) + 1) ((((0 + 2048) + 16) + ((v9.toNatClampNeg) + (v9.toNatClampNeg) * ((v10 * v11).toNatClampNeg))) + ((((a2 * v15) * v16)).toNatClampNeg))) h ?_ hu
          clear h
          clear hu
          intro r52 hr52 x4_50 g51 h hu
          refine eg_iload 3 dX9_init_116 rfl ?_
          refine eg_aload_n 0 dX9_init_118 rfl rfl ?_
          obtain ⟨fs, v53, he, hv, h⟩ := h
          refine eg_get 0 in_X9 he rfl (Nat.le_of_ble_eq_true rfl) q364 rfl hv dX9_init_119 ?_
          refine eg_icmp_ge dX9_init_122 (fun c71 => ?_) (fun c71 => ?_)
          · replace h := h.1 c71
            exact eg_sub [0, 1, 2] rfl (hk49 g51 h hu)
          · replace h := h.2 c71
            refine eg_aload_n 0 dX9_init_125 rfl rfl ?_
            obtain ⟨fs, v54, he, hv, h⟩ := h
            refine eg_get 1 in_X9 he rfl (Nat.le_of_ble_eq_true rfl) q365 rfl hv dX9_init_126 ?_
            refine eg_iload_n 2 dX9_init_129 rfl rfl ?_
            obtain ⟨p55, rfl, h⟩ := h
            obtain ⟨nA, fA, he, hb, h⟩ := h
            refine eg_aald (t := 5) (ty := .array .int) rfl rfl he hb dX9_init_130 (fun v56 ev56 => ?_)
            replace h := h v56 ev56
            refine eg_aload_n 0 dX9_init_131 rfl rfl ?_
            obtain ⟨fs, v57, he, hv, h⟩ := h
            refine eg_get 0 in_X9 he rfl (Nat.le_of_ble_eq_true rfl) q364 rfl hv dX9_init_132 ?_
            refine eg_iload 3 dX9_init_135 rfl ?_
            refine eg_imul dX9_init_137 ?_
            refine eg_iload_n 2 dX9_init_138 rfl rfl ?_
            refine eg_iadd dX9_init_139 ?_
            refine eg_iload 3 dX9_init_140 rfl ?_
            refine eg_iload_n 2 dX9_init_142 rfl rfl ?_
            refine eb_jp1_e (J := fun (s58 : Int32) => (((((0 + 1) + 1) + (1 + (v9.toNatClampNeg))) + 1) ≤ bc ∧ ((((0 + 2048) + 16) + ((v9.toNatClampNeg) + (v9.toNatClampNeg) * ((v10 * v11).toNatClampNeg))) + ((((a2 * v15) * v16)).toNatClampNeg)) ≤ bs) → eb_G l Γ P X cX9_init RX9 5 (none) (rmX9_init bc bs) 162 [(0, .ref a0), (1, .ref a1), (3, .int x3_43), (4, .int x4_50)] [.int s58, .int ((v57 * x4_50) + x3_43), va_rf v56] g51 ((((0 + 1) + 1) + (1 + (v9.toNatClampNeg))) + 1) ((((0 + 2048) + 16) + ((v9.toNatClampNeg) + (v9.toNatClampNeg) * ((v10 * v11).toNatClampNeg))) + ((((a2 * v15) * v16)).toNatClampNeg))) h ?_ ?_
            · clear h
              intro s58 h hu
              obtain ⟨p59, rfl, h⟩ := h
              obtain ⟨nA, fA, he, hb, h⟩ := h
              refine eh_iast he hb dX9_init_162 (fun g60 eg60 => ?_)
              replace h := h g60 eg60
              refine eg_iinc (j := 3) (lv' := [(4, .int (x4_50 + 1)), (0, .ref a0), (1, .ref a1), (3, .int x3_43)]) dX9_init_163 rfl (by rw [kc_1]) (Nat.le_of_ble_eq_true rfl) rfl ?_
              refine eg_goto dX9_init_166 ?_
              exact eg_sub [1, 2, 3, 0] rfl (hr52 (x4_50 + 1) g60 h hu)
            · clear h
              intro k61 hk61 h
              refine eg_icmp_ne dX9_init_143 (fun c70 => ?_) (fun c70 => ?_)
              · replace h := h.2 c70
                refine eg_aload_n 1 dX9_init_152 rfl rfl ?_
                refine eg_iload_n 2 dX9_init_153 rfl rfl ?_
                refine eg_iload 3 dX9_init_154 rfl ?_
                obtain ⟨hcs, h⟩ := h
                have hM0 := h
                clear h
                refine ec_VIp (rest := [.int ((v57 * x4_50) + x3_43), va_rf v56]) (ctX1_angle hM0) (lw_V q344 q201 q202 q75 q203) rfl rfl hcs nX1_angle ⟨Nat.le_of_ble_eq_true rfl, Nat.le_of_ble_eq_true rfl⟩ ⟨rfl, rfl⟩ hu rfl rfl (by simp only [List.map_cons, List.map_nil, eb_rfc]; exact Nat.le_of_ble_eq_true rfl) dX9_init_156 (fun v62 h => ?_)
                clear hM0
                have hM0 := h
                clear h
                refine ec_SNIp (rest := [.int ((v57 * x4_50) + x3_43), va_rf v56]) (ctX0_cosine hM0) q347 (List.mem_of_getElem? (i := 9) rfl) q74 q346 nX0_cosine ⟨Nat.le_of_ble_eq_true rfl, Nat.le_of_ble_eq_true rfl⟩ ⟨rfl, rfl⟩ hu rfl rfl (by simp only [List.map_cons, List.map_nil, eb_rfc]; exact Nat.le_of_ble_eq_true rfl) dX9_init_159 (fun v66 h => ?_)
                clear hM0
                exact hk61 v66 h hu
              · replace h := h.1 c70
                refine eg_sipush dX9_init_146 ks_1200 ?_
                refine eg_goto dX9_init_149 ?_
                exact hk61 1200 h hu
      · clear h
        intro k72 hk72 h
        refine eg_sub [1, 2, 3, 0] rfl ?_
        refine eb_loop2_e (J := fun (x4_73 : Int32) (g74 : eb_S) => (((((0 + 1) + 1) + (1 + (v9.toNatClampNeg))) + 1) ≤ bc ∧ ((((0 + 2048) + 16) + ((v9.toNatClampNeg) + (v9.toNatClampNeg) * ((v10 * v11).toNatClampNeg))) + ((((a2 * v15) * v16)).toNatClampNeg)) ≤ bs) → eb_G l Γ P X cX9_init RX9 5 (none) (rmX9_init bc bs) 80 [(0, .ref a0), (1, .ref a1), (3, .int x3_43), (4, .int x4_73)] [] g74 ((((0 + 1) + 1) + (1 + (v9.toNatClampNeg))) + 1) ((((0 + 2048) + 16) + ((v9.toNatClampNeg) + (v9.toNatClampNeg) * ((v10 * v11).toNatClampNeg))) + ((((a2 * v15) * v16)).toNatClampNeg))) h ?_ hu
        clear h
        clear hu
        intro r75 hr75 x4_73 g74 h hu
        refine eg_iload 3 dX9_init_80 rfl ?_
        refine eg_aload_n 0 dX9_init_82 rfl rfl ?_
        obtain ⟨fs, v76, he, hv, h⟩ := h
        refine eg_get 0 in_X9 he rfl (Nat.le_of_ble_eq_true rfl) q364 rfl hv dX9_init_83 ?_
        refine eg_icmp_ge dX9_init_86 (fun c83 => ?_) (fun c83 => ?_)
        · replace h := h.1 c83
          exact eg_sub [0, 1, 2] rfl (hk72 g74 h hu)
        · replace h := h.2 c83
          refine eg_aload_n 0 dX9_init_89 rfl rfl ?_
          obtain ⟨fs, v77, he, hv, h⟩ := h
          refine eg_get 1 in_X9 he rfl (Nat.le_of_ble_eq_true rfl) q365 rfl hv dX9_init_90 ?_
          refine eg_iload_n 2 dX9_init_93 rfl rfl ?_
          obtain ⟨p78, rfl, h⟩ := h
          obtain ⟨nA, fA, he, hb, h⟩ := h
          refine eg_aald (t := 5) (ty := .array .int) rfl rfl he hb dX9_init_94 (fun v79 ev79 => ?_)
          replace h := h v79 ev79
          refine eg_aload_n 0 dX9_init_95 rfl rfl ?_
          obtain ⟨fs, v80, he, hv, h⟩ := h
          refine eg_get 0 in_X9 he rfl (Nat.le_of_ble_eq_true rfl) q364 rfl hv dX9_init_96 ?_
          refine eg_iload 3 dX9_init_99 rfl ?_
          refine eg_imul dX9_init_101 ?_
          refine eg_iload 3 dX9_init_102 rfl ?_
          refine eg_iadd dX9_init_104 ?_
          refine eg_iconst dX9_init_105 kc_1 ?_
          obtain ⟨p81, rfl, h⟩ := h
          obtain ⟨nA, fA, he, hb, h⟩ := h
          refine eh_iast he hb dX9_init_106 (fun g82 eg82 => ?_)
          replace h := h g82 eg82
          refine eg_iinc (j := 3) (lv' := [(4, .int (x4_73 + 1)), (0, .ref a0), (1, .ref a1), (3, .int x3_43)]) dX9_init_107 rfl (by rw [kc_1]) (Nat.le_of_ble_eq_true rfl) rfl ?_
          refine eg_goto dX9_init_110 ?_
          exact eg_sub [1, 2, 3, 0] rfl (hr75 (x4_73 + 1) g82 h hu)
def MX9_finds (Γ : eb_C) (st : eb_S) (a0 : Nat) (a1 : Int32) (a2 : Int32) (K : Int32 → eb_S → Prop) : Prop :=
  eb_jp1 (fun (g1 : eb_S) => eb_cs g1 a0 [8] ∧ MX9_place Γ g1 a0 (fun v2 g3 => K v2 g3)) (fun k6 => eb_loop2 (fun r9 (x3_7 : Int32) (g8 : eb_S) => eb_gi g8 a0 8 0 (fun v10 => eb_br (v10 ≤ x3_7) (k6 g8) (eb_jp1 (fun (g11 : eb_S) => r9 (x3_7 + 1) g11) (fun k12 => eb_loop2 (fun r15 (x4_13 : Int32) (g14 : eb_S) => eb_gi g14 a0 8 0 (fun v16 => eb_br (v16 ≤ x4_13) (k12 g14) (eb_jp1 (fun (x5_17 : Int32) => eb_gr g14 a0 8 4 (fun v18 => eb_gi g14 a0 8 0 (fun v19 => eb_nn v18 (fun p20 => eb_wi Γ g14 p20 0 (((v19 * x3_7) + x4_13)) (eb_rem x5_17 1201) (fun g21 => r15 (x4_13 + 1) g21))))) (fun k22 => eb_loop2 (fun r25 (x5_23 : Int32) (x6_24 : Int32) => eb_gi g14 a0 8 0 (fun v26 => eb_br (v26 ≤ x6_24) (k22 x5_23) (eb_gr g14 a0 8 2 (fun v27 => eb_gi g14 a0 8 0 (fun v28 => eb_gi g14 a0 8 0 (fun v29 => eb_gi g14 a0 8 0 (fun v30 => eb_nn v27 (fun p31 => eb_li Γ g14 p31 0 (((((v28 * v29) * a1) + (v30 * x3_7)) + x6_24)) (fun v32 => eb_gr g14 a0 8 1 (fun v33 => eb_nn v33 (fun p34 => eb_lr Γ g14 p34 5 a2 (fun v35 => eb_gi g14 a0 8 0 (fun v36 => eb_nn v35 (fun p37 => eb_li Γ g14 p37 0 (((v36 * x6_24) + x4_13)) (fun v38 => r25 ((x5_23 + (v32 * v38))) (x6_24 + 1)))))))))))))))) 0 0)))) 0 g8)))) 0 st)
abbrev rmX9_finds : Room := { frames := 3, cells := 0, slots := 0, locals := 102 }
theorem nX9_finds : eb_ar yX9_finds 2 := by decide +kernel
theorem dX9_finds_0 : eb_dc cX9_finds 0 (.iconst 0) 1 1 := by decide +kernel
theorem dX9_finds_1 : eb_dc cX9_finds 1 (.istore_n 3) 1 2 := by decide +kernel
theorem dX9_finds_2 : eb_dc cX9_finds 2 (.iload_n 3) 1 3 := by decide +kernel
theorem dX9_finds_3 : eb_dc cX9_finds 3 (.aload_n 0) 1 4 := by decide +kernel
theorem dX9_finds_4 : eb_dc cX9_finds 4 (.getfield 24) 3 7 := by decide +kernel
theorem dX9_finds_7 : eb_dj cX9_finds 7 (.if_icmp .ge 117) 117 10 124 := by decide +kernel
theorem dX9_finds_10 : eb_dc cX9_finds 10 (.iconst 0) 1 11 := by decide +kernel
theorem dX9_finds_11 : eb_dc cX9_finds 11 (.istore 4) 2 13 := by decide +kernel
theorem dX9_finds_13 : eb_dc cX9_finds 13 (.iload 4) 2 15 := by decide +kernel
theorem dX9_finds_15 : eb_dc cX9_finds 15 (.aload_n 0) 1 16 := by decide +kernel
theorem dX9_finds_16 : eb_dc cX9_finds 16 (.getfield 24) 3 19 := by decide +kernel
theorem dX9_finds_19 : eb_dj cX9_finds 19 (.if_icmp .ge 99) 99 22 118 := by decide +kernel
theorem dX9_finds_22 : eb_dc cX9_finds 22 (.iconst 0) 1 23 := by decide +kernel
theorem dX9_finds_23 : eb_dc cX9_finds 23 (.istore 5) 2 25 := by decide +kernel
theorem dX9_finds_25 : eb_dc cX9_finds 25 (.iconst 0) 1 26 := by decide +kernel
theorem dX9_finds_26 : eb_dc cX9_finds 26 (.istore 6) 2 28 := by decide +kernel
theorem dX9_finds_28 : eb_dc cX9_finds 28 (.iload 6) 2 30 := by decide +kernel
theorem dX9_finds_30 : eb_dc cX9_finds 30 (.aload_n 0) 1 31 := by decide +kernel
theorem dX9_finds_31 : eb_dc cX9_finds 31 (.getfield 24) 3 34 := by decide +kernel
theorem dX9_finds_34 : eb_dj cX9_finds 34 (.if_icmp .ge 58) 58 37 92 := by decide +kernel
theorem dX9_finds_37 : eb_dc cX9_finds 37 (.iload 5) 2 39 := by decide +kernel
theorem dX9_finds_39 : eb_dc cX9_finds 39 (.aload_n 0) 1 40 := by decide +kernel
theorem dX9_finds_40 : eb_dc cX9_finds 40 (.getfield 32) 3 43 := by decide +kernel
theorem dX9_finds_43 : eb_dc cX9_finds 43 (.aload_n 0) 1 44 := by decide +kernel
theorem dX9_finds_44 : eb_dc cX9_finds 44 (.getfield 24) 3 47 := by decide +kernel
theorem dX9_finds_47 : eb_dc cX9_finds 47 (.aload_n 0) 1 48 := by decide +kernel
theorem dX9_finds_48 : eb_dc cX9_finds 48 (.getfield 24) 3 51 := by decide +kernel
theorem dX9_finds_51 : eb_dc cX9_finds 51 (.imul) 1 52 := by decide +kernel
theorem dX9_finds_52 : eb_dc cX9_finds 52 (.iload_n 1) 1 53 := by decide +kernel
theorem dX9_finds_53 : eb_dc cX9_finds 53 (.imul) 1 54 := by decide +kernel
theorem dX9_finds_54 : eb_dc cX9_finds 54 (.aload_n 0) 1 55 := by decide +kernel
theorem dX9_finds_55 : eb_dc cX9_finds 55 (.getfield 24) 3 58 := by decide +kernel
theorem dX9_finds_58 : eb_dc cX9_finds 58 (.iload_n 3) 1 59 := by decide +kernel
theorem dX9_finds_59 : eb_dc cX9_finds 59 (.imul) 1 60 := by decide +kernel
theorem dX9_finds_60 : eb_dc cX9_finds 60 (.iadd) 1 61 := by decide +kernel
theorem dX9_finds_61 : eb_dc cX9_finds 61 (.iload 6) 2 63 := by decide +kernel
theorem dX9_finds_63 : eb_dc cX9_finds 63 (.iadd) 1 64 := by decide +kernel
theorem dX9_finds_64 : eb_dc cX9_finds 64 (.iaload) 1 65 := by decide +kernel
theorem dX9_finds_65 : eb_dc cX9_finds 65 (.aload_n 0) 1 66 := by decide +kernel
theorem dX9_finds_66 : eb_dc cX9_finds 66 (.getfield 29) 3 69 := by decide +kernel
theorem dX9_finds_69 : eb_dc cX9_finds 69 (.iload_n 2) 1 70 := by decide +kernel
theorem dX9_finds_70 : eb_dc cX9_finds 70 (.aaload) 1 71 := by decide +kernel
theorem dX9_finds_71 : eb_dc cX9_finds 71 (.aload_n 0) 1 72 := by decide +kernel
theorem dX9_finds_72 : eb_dc cX9_finds 72 (.getfield 24) 3 75 := by decide +kernel
theorem dX9_finds_75 : eb_dc cX9_finds 75 (.iload 6) 2 77 := by decide +kernel
theorem dX9_finds_77 : eb_dc cX9_finds 77 (.imul) 1 78 := by decide +kernel
theorem dX9_finds_78 : eb_dc cX9_finds 78 (.iload 4) 2 80 := by decide +kernel
theorem dX9_finds_80 : eb_dc cX9_finds 80 (.iadd) 1 81 := by decide +kernel
theorem dX9_finds_81 : eb_dc cX9_finds 81 (.iaload) 1 82 := by decide +kernel
theorem dX9_finds_82 : eb_dc cX9_finds 82 (.imul) 1 83 := by decide +kernel
theorem dX9_finds_83 : eb_dc cX9_finds 83 (.iadd) 1 84 := by decide +kernel
theorem dX9_finds_84 : eb_dc cX9_finds 84 (.istore 5) 2 86 := by decide +kernel
theorem dX9_finds_86 : eb_dc cX9_finds 86 (.iinc 6 1) 3 89 := by decide +kernel
theorem dX9_finds_89 : eb_dj cX9_finds 89 (.goto (-61)) (-61) 92 28 := by decide +kernel
theorem dX9_finds_92 : eb_dc cX9_finds 92 (.aload_n 0) 1 93 := by decide +kernel
theorem dX9_finds_93 : eb_dc cX9_finds 93 (.getfield 15) 3 96 := by decide +kernel
theorem dX9_finds_96 : eb_dc cX9_finds 96 (.aload_n 0) 1 97 := by decide +kernel
theorem dX9_finds_97 : eb_dc cX9_finds 97 (.getfield 24) 3 100 := by decide +kernel
theorem dX9_finds_100 : eb_dc cX9_finds 100 (.iload_n 3) 1 101 := by decide +kernel
theorem dX9_finds_101 : eb_dc cX9_finds 101 (.imul) 1 102 := by decide +kernel
theorem dX9_finds_102 : eb_dc cX9_finds 102 (.iload 4) 2 104 := by decide +kernel
theorem dX9_finds_104 : eb_dc cX9_finds 104 (.iadd) 1 105 := by decide +kernel
theorem dX9_finds_105 : eb_dc cX9_finds 105 (.iload 5) 2 107 := by decide +kernel
theorem dX9_finds_107 : eb_dc cX9_finds 107 (.sipush 1201) 3 110 := by decide +kernel
theorem dX9_finds_110 : eb_dc cX9_finds 110 (.irem) 1 111 := by decide +kernel
theorem dX9_finds_111 : eb_dc cX9_finds 111 (.iastore) 1 112 := by decide +kernel
theorem dX9_finds_112 : eb_dc cX9_finds 112 (.iinc 4 1) 3 115 := by decide +kernel
theorem dX9_finds_115 : eb_dj cX9_finds 115 (.goto (-102)) (-102) 118 13 := by decide +kernel
theorem dX9_finds_118 : eb_dc cX9_finds 118 (.iinc 3 1) 3 121 := by decide +kernel
theorem dX9_finds_121 : eb_dj cX9_finds 121 (.goto (-119)) (-119) 124 2 := by decide +kernel
theorem dX9_finds_124 : eb_dc cX9_finds 124 (.aload_n 0) 1 125 := by decide +kernel
theorem dX9_finds_125 : eb_dc cX9_finds 125 (.invokevirtual 49) 3 128 := by decide +kernel
theorem dX9_finds_128 : eb_dc cX9_finds 128 (.ireturn) 1 129 := by decide +kernel
theorem ctX9_finds {l : Launch} {Γ : eb_C} {st : eb_S} {a0 : Nat} {a1 : Int32} {a2 : Int32} {K : Int32 → eb_S → Prop} (h : MX9_finds Γ st a0 a1 a2 K) : eb_Ct l Γ yX9_finds cX9_finds 7 (some .int) rmX9_finds [.ref a0, .int a1, .int a2] st (eb_oI K) := by
  refine eb_of (by decide) (Nat.le_of_ble_eq_true rfl) (fun X P hP hX0 => ?_)
  show eb_G l Γ P X cX9_finds RX9 7 (some .int) rmX9_finds 0 [(0, .ref a0), (1, .int a1), (2, .int a2)] [] st 0 0
  refine eg_iconst dX9_finds_0 kc_0 ?_
  refine eg_istore_n (lv' := [(3, .int 0), (0, .ref a0), (1, .int a1), (2, .int a2)]) dX9_finds_1 rfl (Nat.le_of_ble_eq_true rfl) rfl ?_
  refine eb_jp1_e (J := fun (g1 : eb_S) => eb_G l Γ P X cX9_finds RX9 7 (some .int) rmX9_finds 124 [(0, .ref a0)] [] g1 0 0) h ?_ ?_
  · clear h
    intro g1 h
    refine eg_aload_n 0 dX9_finds_124 rfl rfl ?_
    obtain ⟨hcs, h⟩ := h
    have hM0 := h
    clear h
    refine ec_VIw (rest := []) (ctX9_place hM0) (lw_V q352 q354 qs3 q85 q355) rfl rfl hcs nX9_place ⟨Nat.le_of_ble_eq_true rfl, Nat.le_of_ble_eq_true rfl⟩ ⟨rfl, rfl⟩ ⟨Nat.zero_le _, Nat.zero_le _⟩ rfl rfl (Nat.le_of_ble_eq_true rfl) dX9_finds_125 (fun v2 g3 h => ?_)
    clear hM0
    exact eg_iret dX9_finds_128 (Nat.zero_le _) (Nat.zero_le _) (hP _ _ ⟨_, rfl, h⟩)
  · clear h
    intro k6 hk6 h
    refine eg_sub [1, 2, 3, 0] rfl ?_
    refine eb_loop2_e (J := fun (x3_7 : Int32) (g8 : eb_S) => eb_G l Γ P X cX9_finds RX9 7 (some .int) rmX9_finds 2 [(0, .ref a0), (1, .int a1), (2, .int a2), (3, .int x3_7)] [] g8 0 0) h ?_
    clear h
    intro r9 hr9 x3_7 g8 h
    refine eg_iload_n 3 dX9_finds_2 rfl rfl ?_
    refine eg_aload_n 0 dX9_finds_3 rfl rfl ?_
    obtain ⟨fs, v10, he, hv, h⟩ := h
    refine eg_get 0 in_X9 he rfl (Nat.le_of_ble_eq_true rfl) q364 rfl hv dX9_finds_4 ?_
    refine eg_icmp_ge dX9_finds_7 (fun c41 => ?_) (fun c41 => ?_)
    · replace h := h.1 c41
      exact eg_sub [0] rfl (hk6 g8 h)
    · replace h := h.2 c41
      refine eg_iconst dX9_finds_10 kc_0 ?_
      refine eg_istore (lv' := [(4, .int 0), (0, .ref a0), (1, .int a1), (2, .int a2), (3, .int x3_7)]) dX9_finds_11 (Nat.le_of_ble_eq_true rfl) rfl ?_
      refine eb_jp1_e (J := fun (g11 : eb_S) => eb_G l Γ P X cX9_finds RX9 7 (some .int) rmX9_finds 118 [(0, .ref a0), (1, .int a1), (2, .int a2), (3, .int x3_7)] [] g11 0 0) h ?_ ?_
      · clear h
        intro g11 h
        refine eg_iinc (j := 3) (lv' := [(3, .int (x3_7 + 1)), (0, .ref a0), (1, .int a1), (2, .int a2)]) dX9_finds_118 rfl (by rw [kc_1]) (Nat.le_of_ble_eq_true rfl) rfl ?_
        refine eg_goto dX9_finds_121 ?_
        exact eg_sub [1, 2, 3, 0] rfl (hr9 (x3_7 + 1) g11 h)
      · clear h
        intro k12 hk12 h
        refine eg_sub [1, 2, 3, 4, 0] rfl ?_
        refine eb_loop2_e (J := fun (x4_13 : Int32) (g14 : eb_S) => eb_G l Γ P X cX9_finds RX9 7 (some .int) rmX9_finds 13 [(0, .ref a0), (1, .int a1), (2, .int a2), (3, .int x3_7), (4, .int x4_13)] [] g14 0 0) h ?_
        clear h
        intro r15 hr15 x4_13 g14 h
        refine eg_iload 4 dX9_finds_13 rfl ?_
        refine eg_aload_n 0 dX9_finds_15 rfl rfl ?_
        obtain ⟨fs, v16, he, hv, h⟩ := h
        refine eg_get 0 in_X9 he rfl (Nat.le_of_ble_eq_true rfl) q364 rfl hv dX9_finds_16 ?_
        refine eg_icmp_ge dX9_finds_19 (fun c40 => ?_) (fun c40 => ?_)
        · replace h := h.1 c40
          exact eg_sub [0, 1, 2, 3] rfl (hk12 g14 h)
        · replace h := h.2 c40
          refine eg_iconst dX9_finds_22 kc_0 ?_
          refine eg_istore (lv' := [(5, .int 0), (0, .ref a0), (1, .int a1), (2, .int a2), (3, .int x3_7), (4, .int x4_13)]) dX9_finds_23 (Nat.le_of_ble_eq_true rfl) rfl ?_
          refine eg_iconst dX9_finds_25 kc_0 ?_
          refine eg_istore (lv' := [(6, .int 0), (5, .int 0), (0, .ref a0), (1, .int a1), (2, .int a2), (3, .int x3_7), (4, .int x4_13)]) dX9_finds_26 (Nat.le_of_ble_eq_true rfl) rfl ?_
          refine eb_jp1_e (J := fun (x5_17 : Int32) => eb_G l Γ P X cX9_finds RX9 7 (some .int) rmX9_finds 92 [(0, .ref a0), (1, .int a1), (2, .int a2), (3, .int x3_7), (4, .int x4_13), (5, .int x5_17)] [] g14 0 0) h ?_ ?_
          · clear h
            intro x5_17 h
            refine eg_aload_n 0 dX9_finds_92 rfl rfl ?_
            obtain ⟨fs, v18, he, hv, h⟩ := h
            refine eg_get 4 in_X9 he rfl (Nat.le_of_ble_eq_true rfl) q368 rfl hv dX9_finds_93 ?_
            refine eg_aload_n 0 dX9_finds_96 rfl rfl ?_
            obtain ⟨fs, v19, he, hv, h⟩ := h
            refine eg_get 0 in_X9 he rfl (Nat.le_of_ble_eq_true rfl) q364 rfl hv dX9_finds_97 ?_
            refine eg_iload_n 3 dX9_finds_100 rfl rfl ?_
            refine eg_imul dX9_finds_101 ?_
            refine eg_iload 4 dX9_finds_102 rfl ?_
            refine eg_iadd dX9_finds_104 ?_
            refine eg_iload 5 dX9_finds_105 rfl ?_
            refine eg_sipush dX9_finds_107 ks_1201 ?_
            refine eg_irem dX9_finds_110 (by decide) ?_
            obtain ⟨p20, rfl, h⟩ := h
            obtain ⟨nA, fA, he, hb, h⟩ := h
            refine eh_iast he hb dX9_finds_111 (fun g21 eg21 => ?_)
            replace h := h g21 eg21
            refine eg_iinc (j := 4) (lv' := [(4, .int (x4_13 + 1)), (0, .ref a0), (1, .int a1), (2, .int a2), (3, .int x3_7), (5, .int x5_17)]) dX9_finds_112 rfl (by rw [kc_1]) (Nat.le_of_ble_eq_true rfl) rfl ?_
            refine eg_goto dX9_finds_115 ?_
            exact eg_sub [1, 2, 3, 4, 0] rfl (hr15 (x4_13 + 1) g21 h)
          · clear h
            intro k22 hk22 h
            refine eg_sub [2, 3, 4, 5, 6, 1, 0] rfl ?_
            refine eb_loop2_e (J := fun (x5_23 : Int32) (x6_24 : Int32) => eb_G l Γ P X cX9_finds RX9 7 (some .int) rmX9_finds 28 [(0, .ref a0), (1, .int a1), (2, .int a2), (3, .int x3_7), (4, .int x4_13), (5, .int x5_23), (6, .int x6_24)] [] g14 0 0) h ?_
            clear h
            intro r25 hr25 x5_23 x6_24 h
            refine eg_iload 6 dX9_finds_28 rfl ?_
            refine eg_aload_n 0 dX9_finds_30 rfl rfl ?_
            obtain ⟨fs, v26, he, hv, h⟩ := h
            refine eg_get 0 in_X9 he rfl (Nat.le_of_ble_eq_true rfl) q364 rfl hv dX9_finds_31 ?_
            refine eg_icmp_ge dX9_finds_34 (fun c39 => ?_) (fun c39 => ?_)
            · replace h := h.1 c39
              exact eg_sub [0, 1, 2, 3, 4, 5] rfl (hk22 x5_23 h)
            · replace h := h.2 c39
              refine eg_iload 5 dX9_finds_37 rfl ?_
              refine eg_aload_n 0 dX9_finds_39 rfl rfl ?_
              obtain ⟨fs, v27, he, hv, h⟩ := h
              refine eg_get 2 in_X9 he rfl (Nat.le_of_ble_eq_true rfl) q366 rfl hv dX9_finds_40 ?_
              refine eg_aload_n 0 dX9_finds_43 rfl rfl ?_
              obtain ⟨fs, v28, he, hv, h⟩ := h
              refine eg_get 0 in_X9 he rfl (Nat.le_of_ble_eq_true rfl) q364 rfl hv dX9_finds_44 ?_
              refine eg_aload_n 0 dX9_finds_47 rfl rfl ?_
              obtain ⟨fs, v29, he, hv, h⟩ := h
              refine eg_get 0 in_X9 he rfl (Nat.le_of_ble_eq_true rfl) q364 rfl hv dX9_finds_48 ?_
              refine eg_imul dX9_finds_51 ?_
              refine eg_iload_n 1 dX9_finds_52 rfl rfl ?_
              refine eg_imul dX9_finds_53 ?_
              refine eg_aload_n 0 dX9_finds_54 rfl rfl ?_
              obtain ⟨fs, v30, he, hv, h⟩ := h
              refine eg_get 0 in_X9 he rfl (Nat.le_of_ble_eq_true rfl) q364 rfl hv dX9_finds_55 ?_
              refine eg_iload_n 3 dX9_finds_58 rfl rfl ?_
              refine eg_imul dX9_finds_59 ?_
              refine eg_iadd dX9_finds_60 ?_
              refine eg_iload 6 dX9_finds_61 rfl ?_
              refine eg_iadd dX9_finds_63 ?_
              obtain ⟨p31, rfl, h⟩ := h
              obtain ⟨nA, fA, he, hb, h⟩ := h
              refine eh_iald he hb dX9_finds_64 (fun v32 ev32 => ?_)
              replace h := h v32 ev32
              refine eg_aload_n 0 dX9_finds_65 rfl rfl ?_
              obtain ⟨fs, v33, he, hv, h⟩ := h
              refine eg_get 1 in_X9 he rfl (Nat.le_of_ble_eq_true rfl) q365 rfl hv dX9_finds_66 ?_
              refine eg_iload_n 2 dX9_finds_69 rfl rfl ?_
              obtain ⟨p34, rfl, h⟩ := h
              obtain ⟨nA, fA, he, hb, h⟩ := h
              refine eg_aald (t := 5) (ty := .array .int) rfl rfl he hb dX9_finds_70 (fun v35 ev35 => ?_)
              replace h := h v35 ev35
              refine eg_aload_n 0 dX9_finds_71 rfl rfl ?_
              obtain ⟨fs, v36, he, hv, h⟩ := h
              refine eg_get 0 in_X9 he rfl (Nat.le_of_ble_eq_true rfl) q364 rfl hv dX9_finds_72 ?_
              refine eg_iload 6 dX9_finds_75 rfl ?_
              refine eg_imul dX9_finds_77 ?_
              refine eg_iload 4 dX9_finds_78 rfl ?_
              refine eg_iadd dX9_finds_80 ?_
              obtain ⟨p37, rfl, h⟩ := h
              obtain ⟨nA, fA, he, hb, h⟩ := h
              refine eh_iald he hb dX9_finds_81 (fun v38 ev38 => ?_)
              replace h := h v38 ev38
              refine eg_imul dX9_finds_82 ?_
              refine eg_iadd dX9_finds_83 ?_
              refine eg_istore (lv' := [(5, .int (x5_23 + (v32 * v38))), (0, .ref a0), (1, .int a1), (2, .int a2), (3, .int x3_7), (4, .int x4_13), (6, .int x6_24)]) dX9_finds_84 (Nat.le_of_ble_eq_true rfl) rfl ?_
              refine eg_iinc (j := 6) (lv' := [(6, .int (x6_24 + 1)), (5, .int (x5_23 + (v32 * v38))), (0, .ref a0), (1, .int a1), (2, .int a2), (3, .int x3_7), (4, .int x4_13)]) dX9_finds_86 rfl (by rw [kc_1]) (Nat.le_of_ble_eq_true rfl) rfl ?_
              refine eg_goto dX9_finds_89 ?_
              exact eg_sub [2, 3, 4, 5, 6, 1, 0] rfl (hr25 ((x5_23 + (v32 * v38))) (x6_24 + 1) h)
def MX8_init (Γ : eb_C) (bc bs : Nat) (st : eb_S) (a0 : Nat) (a1 : Nat) (a2 : Int32) (K : eb_S → Prop) : Prop :=
  eb_mk st (eb_ia Γ 3 500 (fun _ => 0)) 500 bc bs 0 0 (fun p1 g2 => eb_pt g2 a0 7 3 (.ref p1) (fun g3 => eb_mk g3 (eb_ia Γ 4 500 (fun _ => 0)) 500 bc bs (0 + 1) (0 + 500) (fun p4 g5 => eb_pt g5 a0 7 4 (.ref p4) (fun g6 => eb_mk g6 (eb_ia Γ 4 500 (fun _ => 0)) 500 bc bs (((0 + 1) + 1)) (((0 + 500) + 500)) (fun p7 g8 => eb_pt g8 a0 7 5 (.ref p7) (fun g9 => eb_gi g9 a1 1 0 (fun v10 => eb_pt g9 a0 7 0 (.int v10) (fun g11 => eb_gi g11 a0 7 0 (fun v12 => eb_ok1 (v12 * a2) ∧ (eb_mk g11 (eb_ia Γ 3 ((v12 * a2).toNatClampNeg) (fun _ => 0)) ((v12 * a2).toNatClampNeg) bc bs ((((0 + 1) + 1) + 1)) ((((0 + 500) + 500) + 500)) (fun p13 g14 => eb_pt g14 a0 7 2 (.ref p13) (fun g15 => eb_mk g15 (.inr (8, [.int 0, .null, .null, .null, .null, .int 0])) 6 bc bs (((((0 + 1) + 1) + 1) + 1)) (((((0 + 500) + 500) + 500) + ((v12 * a2).toNatClampNeg))) (fun p16 g17 => ∃ c20 s21 : Nat, (((((((0 + 1) + 1) + 1) + 1) + 1)) + c20 ≤ bc ∧ ((((((0 + 500) + 500) + 500) + ((v12 * a2).toNatClampNeg)) + 6)) + s21 ≤ bs) ∧ MX9_init Γ c20 s21 g17 p16 a1 a2 (fun g19 => eb_pt g19 a0 7 1 (.int 1) (fun g22 => eb_gr g22 a0 7 3 (fun v23 => eb_nn v23 (fun p24 => eb_wi Γ g22 p24 3 0 (vp_nar .short (-1)) (fun g25 => eb_loop2 (fun r28 (x4_26 : Int32) (g27 : eb_S) => eb_gi g27 a0 7 1 (fun v29 => eb_br (v29 ≤ x4_26) (K g27) (eb_jp1 (fun (g30 : eb_S) => r28 (x4_26 + 1) g30) (fun k31 => eb_loop2 (fun r34 (x5_32 : Int32) (g33 : eb_S) => eb_gi g33 a0 7 0 (fun v35 => eb_br (v35 ≤ x5_32) (k31 g33) (eb_cs g33 p16 [8] ∧ MX9_finds Γ g33 p16 x4_26 x5_32 (fun v36 g37 => eb_gi g37 a0 7 1 (fun v40 => eb_jp1 (fun (g41 : eb_S) => eb_gr g41 a0 7 2 (fun v42 => eb_gi g41 a0 7 0 (fun v43 => eb_nn v42 (fun p44 => eb_wi Γ g41 p44 3 (((v43 * x4_26) + x5_32)) (vp_nar .short (v36.toInt16.toInt32)) (fun g45 => r34 (x5_32 + 1) g45))))) (fun k46 => eb_br (v36 = v40) (eb_gr g37 a0 7 3 (fun v47 => eb_gi g37 a0 7 1 (fun v48 => eb_nn v47 (fun p49 => eb_wi Γ g37 p49 3 v48 (vp_nar .short (x4_26.toInt16.toInt32)) (fun g50 => eb_gr g50 a0 7 4 (fun v51 => eb_gi g50 a0 7 1 (fun v52 => eb_nn v51 (fun p53 => eb_wi Γ g50 p53 4 v52 (vp_nar .byte (x5_32.toInt8.toInt32)) (fun g54 => eb_gr g54 a0 7 5 (fun v55 => eb_gi g54 a0 7 1 (fun v56 => eb_gr g54 a0 7 5 (fun v57 => eb_nn v57 (fun p58 => eb_li Γ g54 p58 4 x4_26 (fun v59 => eb_nn v55 (fun p60 => eb_wi Γ g54 p60 4 v56 (vp_nar .byte (((v59 + 1).toInt8.toInt32))) (fun g61 => eb_gi g61 a0 7 1 (fun v62 => eb_pt g61 a0 7 1 (.int (v62 + 1)) (fun g63 => k46 g63)))))))))))))))))) (k46 g37))))))) 0 g27)))) 0 g25))))))))))))))))))
abbrev rmX8_init (bc bs : Nat) : Room := { frames := 4, cells := bc, slots := bs, locals := 128 }
theorem nX8_init : eb_ar yX8_init 2 := by decide +kernel
theorem dX8_init_0 : eb_dc cX8_init 0 (.aload_n 0) 1 1 := by decide +kernel
theorem dX8_init_1 : eb_dc cX8_init 1 (.invokespecial 3) 3 4 := by decide +kernel
theorem dX8_init_4 : eb_dc cX8_init 4 (.aload_n 0) 1 5 := by decide +kernel
theorem dX8_init_5 : eb_dc cX8_init 5 (.sipush 500) 3 8 := by decide +kernel
theorem dX8_init_8 : eb_dc cX8_init 8 (.newarray .short) 2 10 := by decide +kernel
theorem dX8_init_10 : eb_dc cX8_init 10 (.putfield 9) 3 13 := by decide +kernel
theorem dX8_init_13 : eb_dc cX8_init 13 (.aload_n 0) 1 14 := by decide +kernel
theorem dX8_init_14 : eb_dc cX8_init 14 (.sipush 500) 3 17 := by decide +kernel
theorem dX8_init_17 : eb_dc cX8_init 17 (.newarray .byte) 2 19 := by decide +kernel
theorem dX8_init_19 : eb_dc cX8_init 19 (.putfield 15) 3 22 := by decide +kernel
theorem dX8_init_22 : eb_dc cX8_init 22 (.aload_n 0) 1 23 := by decide +kernel
theorem dX8_init_23 : eb_dc cX8_init 23 (.sipush 500) 3 26 := by decide +kernel
theorem dX8_init_26 : eb_dc cX8_init 26 (.newarray .byte) 2 28 := by decide +kernel
theorem dX8_init_28 : eb_dc cX8_init 28 (.putfield 19) 3 31 := by decide +kernel
theorem dX8_init_31 : eb_dc cX8_init 31 (.aload_n 0) 1 32 := by decide +kernel
theorem dX8_init_32 : eb_dc cX8_init 32 (.aload_n 1) 1 33 := by decide +kernel
theorem dX8_init_33 : eb_dc cX8_init 33 (.getfield 22) 3 36 := by decide +kernel
theorem dX8_init_36 : eb_dc cX8_init 36 (.putfield 28) 3 39 := by decide +kernel
theorem dX8_init_39 : eb_dc cX8_init 39 (.aload_n 0) 1 40 := by decide +kernel
theorem dX8_init_40 : eb_dc cX8_init 40 (.aload_n 0) 1 41 := by decide +kernel
theorem dX8_init_41 : eb_dc cX8_init 41 (.getfield 28) 3 44 := by decide +kernel
theorem dX8_init_44 : eb_dc cX8_init 44 (.iload_n 2) 1 45 := by decide +kernel
theorem dX8_init_45 : eb_dc cX8_init 45 (.imul) 1 46 := by decide +kernel
theorem dX8_init_46 : eb_dc cX8_init 46 (.newarray .short) 2 48 := by decide +kernel
theorem dX8_init_48 : eb_dc cX8_init 48 (.putfield 29) 3 51 := by decide +kernel
theorem dX8_init_51 : eb_dc cX8_init 51 (.new 32) 3 54 := by decide +kernel
theorem dX8_init_54 : eb_dc cX8_init 54 (.dup) 1 55 := by decide +kernel
theorem dX8_init_55 : eb_dc cX8_init 55 (.aload_n 1) 1 56 := by decide +kernel
theorem dX8_init_56 : eb_dc cX8_init 56 (.iload_n 2) 1 57 := by decide +kernel
theorem dX8_init_57 : eb_dc cX8_init 57 (.invokespecial 34) 3 60 := by decide +kernel
theorem dX8_init_60 : eb_dc cX8_init 60 (.astore_n 3) 1 61 := by decide +kernel
theorem dX8_init_61 : eb_dc cX8_init 61 (.aload_n 0) 1 62 := by decide +kernel
theorem dX8_init_62 : eb_dc cX8_init 62 (.iconst 1) 1 63 := by decide +kernel
theorem dX8_init_63 : eb_dc cX8_init 63 (.putfield 37) 3 66 := by decide +kernel
theorem dX8_init_66 : eb_dc cX8_init 66 (.aload_n 0) 1 67 := by decide +kernel
theorem dX8_init_67 : eb_dc cX8_init 67 (.getfield 9) 3 70 := by decide +kernel
theorem dX8_init_70 : eb_dc cX8_init 70 (.iconst 0) 1 71 := by decide +kernel
theorem dX8_init_71 : eb_dc cX8_init 71 (.iconst (-1)) 1 72 := by decide +kernel
theorem dX8_init_72 : eb_dc cX8_init 72 (.sastore) 1 73 := by decide +kernel
theorem dX8_init_73 : eb_dc cX8_init 73 (.iconst 0) 1 74 := by decide +kernel
theorem dX8_init_74 : eb_dc cX8_init 74 (.istore 4) 2 76 := by decide +kernel
theorem dX8_init_76 : eb_dc cX8_init 76 (.iload 4) 2 78 := by decide +kernel
theorem dX8_init_78 : eb_dc cX8_init 78 (.aload_n 0) 1 79 := by decide +kernel
theorem dX8_init_79 : eb_dc cX8_init 79 (.getfield 37) 3 82 := by decide +kernel
theorem dX8_init_82 : eb_dj cX8_init 82 (.if_icmp .ge 117) 117 85 199 := by decide +kernel
theorem dX8_init_85 : eb_dc cX8_init 85 (.iconst 0) 1 86 := by decide +kernel
theorem dX8_init_86 : eb_dc cX8_init 86 (.istore 5) 2 88 := by decide +kernel
theorem dX8_init_88 : eb_dc cX8_init 88 (.iload 5) 2 90 := by decide +kernel
theorem dX8_init_90 : eb_dc cX8_init 90 (.aload_n 0) 1 91 := by decide +kernel
theorem dX8_init_91 : eb_dc cX8_init 91 (.getfield 28) 3 94 := by decide +kernel
theorem dX8_init_94 : eb_dj cX8_init 94 (.if_icmp .ge 99) 99 97 193 := by decide +kernel
theorem dX8_init_97 : eb_dc cX8_init 97 (.aload_n 3) 1 98 := by decide +kernel
theorem dX8_init_98 : eb_dc cX8_init 98 (.iload 4) 2 100 := by decide +kernel
theorem dX8_init_100 : eb_dc cX8_init 100 (.iload 5) 2 102 := by decide +kernel
theorem dX8_init_102 : eb_dc cX8_init 102 (.invokevirtual 40) 3 105 := by decide +kernel
theorem dX8_init_105 : eb_dc cX8_init 105 (.istore 6) 2 107 := by decide +kernel
theorem dX8_init_107 : eb_dc cX8_init 107 (.iload 6) 2 109 := by decide +kernel
theorem dX8_init_109 : eb_dc cX8_init 109 (.aload_n 0) 1 110 := by decide +kernel
theorem dX8_init_110 : eb_dc cX8_init 110 (.getfield 37) 3 113 := by decide +kernel
theorem dX8_init_113 : eb_dj cX8_init 113 (.if_icmp .ne 56) 56 116 169 := by decide +kernel
theorem dX8_init_116 : eb_dc cX8_init 116 (.aload_n 0) 1 117 := by decide +kernel
theorem dX8_init_117 : eb_dc cX8_init 117 (.getfield 9) 3 120 := by decide +kernel
theorem dX8_init_120 : eb_dc cX8_init 120 (.aload_n 0) 1 121 := by decide +kernel
theorem dX8_init_121 : eb_dc cX8_init 121 (.getfield 37) 3 124 := by decide +kernel
theorem dX8_init_124 : eb_dc cX8_init 124 (.iload 4) 2 126 := by decide +kernel
theorem dX8_init_126 : eb_dc cX8_init 126 (.i2s) 1 127 := by decide +kernel
theorem dX8_init_127 : eb_dc cX8_init 127 (.sastore) 1 128 := by decide +kernel
theorem dX8_init_128 : eb_dc cX8_init 128 (.aload_n 0) 1 129 := by decide +kernel
theorem dX8_init_129 : eb_dc cX8_init 129 (.getfield 15) 3 132 := by decide +kernel
theorem dX8_init_132 : eb_dc cX8_init 132 (.aload_n 0) 1 133 := by decide +kernel
theorem dX8_init_133 : eb_dc cX8_init 133 (.getfield 37) 3 136 := by decide +kernel
theorem dX8_init_136 : eb_dc cX8_init 136 (.iload 5) 2 138 := by decide +kernel
theorem dX8_init_138 : eb_dc cX8_init 138 (.i2b) 1 139 := by decide +kernel
theorem dX8_init_139 : eb_dc cX8_init 139 (.bastore) 1 140 := by decide +kernel
theorem dX8_init_140 : eb_dc cX8_init 140 (.aload_n 0) 1 141 := by decide +kernel
theorem dX8_init_141 : eb_dc cX8_init 141 (.getfield 19) 3 144 := by decide +kernel
theorem dX8_init_144 : eb_dc cX8_init 144 (.aload_n 0) 1 145 := by decide +kernel
theorem dX8_init_145 : eb_dc cX8_init 145 (.getfield 37) 3 148 := by decide +kernel
theorem dX8_init_148 : eb_dc cX8_init 148 (.aload_n 0) 1 149 := by decide +kernel
theorem dX8_init_149 : eb_dc cX8_init 149 (.getfield 19) 3 152 := by decide +kernel
theorem dX8_init_152 : eb_dc cX8_init 152 (.iload 4) 2 154 := by decide +kernel
theorem dX8_init_154 : eb_dc cX8_init 154 (.baload) 1 155 := by decide +kernel
theorem dX8_init_155 : eb_dc cX8_init 155 (.iconst 1) 1 156 := by decide +kernel
theorem dX8_init_156 : eb_dc cX8_init 156 (.iadd) 1 157 := by decide +kernel
theorem dX8_init_157 : eb_dc cX8_init 157 (.i2b) 1 158 := by decide +kernel
theorem dX8_init_158 : eb_dc cX8_init 158 (.bastore) 1 159 := by decide +kernel
theorem dX8_init_159 : eb_dc cX8_init 159 (.aload_n 0) 1 160 := by decide +kernel
theorem dX8_init_160 : eb_dc cX8_init 160 (.dup) 1 161 := by decide +kernel
theorem dX8_init_161 : eb_dc cX8_init 161 (.getfield 37) 3 164 := by decide +kernel
theorem dX8_init_164 : eb_dc cX8_init 164 (.iconst 1) 1 165 := by decide +kernel
theorem dX8_init_165 : eb_dc cX8_init 165 (.iadd) 1 166 := by decide +kernel
theorem dX8_init_166 : eb_dc cX8_init 166 (.putfield 37) 3 169 := by decide +kernel
theorem dX8_init_169 : eb_dc cX8_init 169 (.aload_n 0) 1 170 := by decide +kernel
theorem dX8_init_170 : eb_dc cX8_init 170 (.getfield 29) 3 173 := by decide +kernel
theorem dX8_init_173 : eb_dc cX8_init 173 (.aload_n 0) 1 174 := by decide +kernel
theorem dX8_init_174 : eb_dc cX8_init 174 (.getfield 28) 3 177 := by decide +kernel
theorem dX8_init_177 : eb_dc cX8_init 177 (.iload 4) 2 179 := by decide +kernel
theorem dX8_init_179 : eb_dc cX8_init 179 (.imul) 1 180 := by decide +kernel
theorem dX8_init_180 : eb_dc cX8_init 180 (.iload 5) 2 182 := by decide +kernel
theorem dX8_init_182 : eb_dc cX8_init 182 (.iadd) 1 183 := by decide +kernel
theorem dX8_init_183 : eb_dc cX8_init 183 (.iload 6) 2 185 := by decide +kernel
theorem dX8_init_185 : eb_dc cX8_init 185 (.i2s) 1 186 := by decide +kernel
theorem dX8_init_186 : eb_dc cX8_init 186 (.sastore) 1 187 := by decide +kernel
theorem dX8_init_187 : eb_dc cX8_init 187 (.iinc 5 1) 3 190 := by decide +kernel
theorem dX8_init_190 : eb_dj cX8_init 190 (.goto (-102)) (-102) 193 88 := by decide +kernel
theorem dX8_init_193 : eb_dc cX8_init 193 (.iinc 4 1) 3 196 := by decide +kernel
theorem dX8_init_196 : eb_dj cX8_init 196 (.goto (-120)) (-120) 199 76 := by decide +kernel
theorem dX8_init_199 : eb_dc cX8_init 199 (.return_) 1 200 := by decide +kernel
theorem ctX8_init {l : Launch} {Γ : eb_C} {bc bs : Nat} {st : eb_S} {a0 : Nat} {a1 : Nat} {a2 : Int32} {K : eb_S → Prop} (h : MX8_init Γ bc bs st a0 a1 a2 K) : eb_Ct l Γ yX8_init cX8_init 7 (none) (rmX8_init bc bs) [.ref a0, .ref a1, .int a2] st (eb_oV K) := by
  refine eb_of (by decide) (Nat.le_of_ble_eq_true rfl) (fun X P hP hX0 => ?_)
  replace hX0 := hX0 rfl
  suffices hgo : (0 ≤ bc ∧ 0 ≤ bs) → eb_G l Γ P X cX8_init RX8 7 (none) (rmX8_init bc bs) 0 [(0, .ref a0), (1, .ref a1), (2, .int a2)] [] st 0 0 from hgo ⟨Nat.zero_le _, Nat.zero_le _⟩
  intro hu
  refine eg_aload_n 0 dX8_init_0 rfl rfl ?_
  refine eg_objInit q335 q104 q105 dX8_init_1 (Nat.le_of_ble_eq_true rfl) (Nat.le_of_ble_eq_true rfl) ?_
  refine eg_aload_n 0 dX8_init_4 rfl rfl ?_
  refine eg_sipush dX8_init_5 ks_500 ?_
  obtain ⟨hc1, hs1, h⟩ := h
  refine eh_new_s q383 rfl ⟨by decide, by decide⟩ hc1 hs1 dX8_init_8 (fun p1 qp1 g2 eg2 => ?_)
  replace h := h p1 qp1 g2 eg2
  replace hu := And.intro hc1 hs1
  obtain ⟨fs, he, hlen, h⟩ := h
  refine eh_putF 3 in_X8 he rfl (Nat.le_of_ble_eq_true rfl) tyX8 tyX8_ok nmX8 q398 rfl rfl hX0 rfl rfl rfl hlen dX8_init_10 (fun g3 eg3 => ?_)
  replace h := h g3 eg3
  refine eg_aload_n 0 dX8_init_13 rfl rfl ?_
  refine eg_sipush dX8_init_14 ks_500 ?_
  obtain ⟨hc1, hs1, h⟩ := h
  refine eh_new_b q384 rfl ⟨by decide, by decide⟩ hc1 hs1 dX8_init_17 (fun p4 qp4 g5 eg5 => ?_)
  replace h := h p4 qp4 g5 eg5
  replace hu := And.intro hc1 hs1
  obtain ⟨fs, he, hlen, h⟩ := h
  refine eh_putF 4 in_X8 he rfl (Nat.le_of_ble_eq_true rfl) tyX8 tyX8_ok nmX8 q399 rfl rfl hX0 rfl rfl rfl hlen dX8_init_19 (fun g6 eg6 => ?_)
  replace h := h g6 eg6
  refine eg_aload_n 0 dX8_init_22 rfl rfl ?_
  refine eg_sipush dX8_init_23 ks_500 ?_
  obtain ⟨hc1, hs1, h⟩ := h
  refine eh_new_b q384 rfl ⟨by decide, by decide⟩ hc1 hs1 dX8_init_26 (fun p7 qp7 g8 eg8 => ?_)
  replace h := h p7 qp7 g8 eg8
  replace hu := And.intro hc1 hs1
  obtain ⟨fs, he, hlen, h⟩ := h
  refine eh_putF 5 in_X8 he rfl (Nat.le_of_ble_eq_true rfl) tyX8 tyX8_ok nmX8 q400 rfl rfl hX0 rfl rfl rfl hlen dX8_init_28 (fun g9 eg9 => ?_)
  replace h := h g9 eg9
  refine eg_aload_n 0 dX8_init_31 rfl rfl ?_
  refine eg_aload_n 1 dX8_init_32 rfl rfl ?_
  obtain ⟨fs, v10, he, hv, h⟩ := h
  refine eg_getN 0 in_X1 he rfl (Nat.le_of_ble_eq_true rfl) (List.mem_of_getElem? (i := 21) rfl) rfl hv dX8_init_33 ?_
  obtain ⟨fs, he, hlen, h⟩ := h
  refine eh_putF 0 in_X8 he rfl (Nat.le_of_ble_eq_true rfl) tyX8 tyX8_ok nmX8 q389 rfl rfl hX0 rfl rfl rfl hlen dX8_init_36 (fun g11 eg11 => ?_)
  replace h := h g11 eg11
  refine eg_aload_n 0 dX8_init_39 rfl rfl ?_
  refine eg_aload_n 0 dX8_init_40 rfl rfl ?_
  obtain ⟨fs, v12, he, hv, h⟩ := h
  refine eg_get 0 in_X8 he rfl (Nat.le_of_ble_eq_true rfl) q389 rfl hv dX8_init_41 ?_
  refine eg_iload_n 2 dX8_init_44 rfl rfl ?_
  refine eg_imul dX8_init_45 ?_
  obtain ⟨hok, h⟩ := h
  obtain ⟨hc1, hs1, h⟩ := h
  refine eh_new_s q383 rfl hok hc1 hs1 dX8_init_46 (fun p13 qp13 g14 eg14 => ?_)
  replace h := h p13 qp13 g14 eg14
  replace hu := And.intro hc1 hs1
  obtain ⟨fs, he, hlen, h⟩ := h
  refine eh_putF 2 in_X8 he rfl (Nat.le_of_ble_eq_true rfl) tyX8 tyX8_ok nmX8 q397 rfl rfl hX0 rfl rfl rfl hlen dX8_init_48 (fun g15 eg15 => ?_)
  replace h := h g15 eg15
  obtain ⟨hc1, hs1, h⟩ := h
  refine eh_new (ci := 8) (fs := [.int 0, .null, .null, .null, .null, .int 0]) in_X9 tyX9 tyX9_ok q336 q337 q85 rfl (by decide +kernel) hc1 hs1 dX8_init_51 (fun p16 qp16 g17 eg17 => ?_)
  replace h := h p16 qp16 g17 eg17
  replace hu := And.intro hc1 hs1
  refine eg_dup dX8_init_54 rfl ?_
  refine eg_aload_n 1 dX8_init_55 rfl rfl ?_
  refine eg_iload_n 2 dX8_init_56 rfl rfl ?_
  obtain ⟨c20, s21, hca, h⟩ := h
  have hM0 := h
  clear h
  refine ec_IVa (rest := [.ref p16]) (ctX9_init hM0) q340 q85 q338 q339 rfl nX9_init ⟨Nat.le_of_ble_eq_true rfl, Nat.le_of_ble_eq_true rfl⟩ ⟨rfl, rfl⟩ hca rfl rfl (Nat.le_of_ble_eq_true rfl) dX8_init_57 (fun g19 h => ?_)
  clear hM0
  replace hu := hca
  refine eg_astore_n (i := 3) (lv' := [(3, .ref p16), (0, .ref a0), (1, .ref a1), (2, .int a2)]) dX8_init_60 rfl (Nat.le_of_ble_eq_true rfl) rfl ?_
  refine eg_aload_n 1 dX8_init_61 rfl rfl ?_
  refine eg_iconst dX8_init_62 kc_1 ?_
  obtain ⟨fs, he, hlen, h⟩ := h
  refine eh_put 1 in_X8 he rfl (Nat.le_of_ble_eq_true rfl) tyX8 tyX8_ok nmX8 q393 rfl rfl rfl rfl hlen dX8_init_63 (fun g22 eg22 => ?_)
  replace h := h g22 eg22
  refine eg_aload_n 1 dX8_init_66 rfl rfl ?_
  obtain ⟨fs, v23, he, hv, h⟩ := h
  refine eg_get 3 in_X8 he rfl (Nat.le_of_ble_eq_true rfl) q398 rfl hv dX8_init_67 ?_
  refine eg_iconst dX8_init_70 kc_0 ?_
  refine eg_iconst dX8_init_71 kc_m1 ?_
  obtain ⟨p24, rfl, h⟩ := h
  obtain ⟨nA, fA, he, hb, h⟩ := h
  refine eh_sast he hb dX8_init_72 (fun g25 eg25 => ?_)
  replace h := h g25 eg25
  refine eg_iconst dX8_init_73 kc_0 ?_
  refine eg_istore (lv' := [(4, .int 0), (3, .ref p16), (0, .ref a0), (1, .ref a1), (2, .int a2)]) dX8_init_74 (Nat.le_of_ble_eq_true rfl) rfl ?_
  refine eg_sub [2, 1, 0] rfl ?_
  refine eb_loop2_e (J := fun (x4_26 : Int32) (g27 : eb_S) => (((((((0 + 1) + 1) + 1) + 1) + 1) + c20) ≤ bc ∧ ((((((0 + 500) + 500) + 500) + ((v12 * a2).toNatClampNeg)) + 6) + s21) ≤ bs) → eb_G l Γ P X cX8_init RX8 7 (none) (rmX8_init bc bs) 76 [(0, .ref a0), (3, .ref p16), (4, .int x4_26)] [] g27 ((((((0 + 1) + 1) + 1) + 1) + 1) + c20) ((((((0 + 500) + 500) + 500) + ((v12 * a2).toNatClampNeg)) + 6) + s21)) h ?_ hu
  clear h
  clear hu
  intro r28 hr28 x4_26 g27 h hu
  refine eg_iload 2 dX8_init_76 rfl ?_
  refine eg_aload_n 0 dX8_init_78 rfl rfl ?_
  obtain ⟨fs, v29, he, hv, h⟩ := h
  refine eg_get 1 in_X8 he rfl (Nat.le_of_ble_eq_true rfl) q393 rfl hv dX8_init_79 ?_
  refine eg_icmp_ge dX8_init_82 (fun c66 => ?_) (fun c66 => ?_)
  · replace h := h.1 c66
    exact eg_vret dX8_init_199 hu.1 hu.2 (hP _ _ ⟨rfl, h⟩)
  · replace h := h.2 c66
    refine eg_iconst dX8_init_85 kc_0 ?_
    refine eg_istore (lv' := [(5, .int 0), (0, .ref a0), (3, .ref p16), (4, .int x4_26)]) dX8_init_86 (Nat.le_of_ble_eq_true rfl) rfl ?_
    refine eb_jp1_e (J := fun (g30 : eb_S) => (((((((0 + 1) + 1) + 1) + 1) + 1) + c20) ≤ bc ∧ ((((((0 + 500) + 500) + 500) + ((v12 * a2).toNatClampNeg)) + 6) + s21) ≤ bs) → eb_G l Γ P X cX8_init RX8 7 (none) (rmX8_init bc bs) 193 [(0, .ref a0), (3, .ref p16), (4, .int x4_26)] [] g30 ((((((0 + 1) + 1) + 1) + 1) + 1) + c20) ((((((0 + 500) + 500) + 500) + ((v12 * a2).toNatClampNeg)) + 6) + s21)) h ?_ ?_
    · clear h
      intro g30 h hu
      refine eg_iinc (j := 2) (lv' := [(4, .int (x4_26 + 1)), (0, .ref a0), (3, .ref p16)]) dX8_init_193 rfl (by rw [kc_1]) (Nat.le_of_ble_eq_true rfl) rfl ?_
      refine eg_goto dX8_init_196 ?_
      exact eg_sub [1, 2, 0] rfl (hr28 (x4_26 + 1) g30 h hu)
    · clear h
      intro k31 hk31 h
      refine eg_sub [1, 2, 3, 0] rfl ?_
      refine eb_loop2_e (J := fun (x5_32 : Int32) (g33 : eb_S) => (((((((0 + 1) + 1) + 1) + 1) + 1) + c20) ≤ bc ∧ ((((((0 + 500) + 500) + 500) + ((v12 * a2).toNatClampNeg)) + 6) + s21) ≤ bs) → eb_G l Γ P X cX8_init RX8 7 (none) (rmX8_init bc bs) 88 [(0, .ref a0), (3, .ref p16), (4, .int x4_26), (5, .int x5_32)] [] g33 ((((((0 + 1) + 1) + 1) + 1) + 1) + c20) ((((((0 + 500) + 500) + 500) + ((v12 * a2).toNatClampNeg)) + 6) + s21)) h ?_ hu
      clear h
      clear hu
      intro r34 hr34 x5_32 g33 h hu
      refine eg_iload 3 dX8_init_88 rfl ?_
      refine eg_aload_n 0 dX8_init_90 rfl rfl ?_
      obtain ⟨fs, v35, he, hv, h⟩ := h
      refine eg_get 0 in_X8 he rfl (Nat.le_of_ble_eq_true rfl) q389 rfl hv dX8_init_91 ?_
      refine eg_icmp_ge dX8_init_94 (fun c65 => ?_) (fun c65 => ?_)
      · replace h := h.1 c65
        exact eg_sub [0, 1, 2] rfl (hk31 g33 h hu)
      · replace h := h.2 c65
        refine eg_aload_n 1 dX8_init_97 rfl rfl ?_
        refine eg_iload 2 dX8_init_98 rfl ?_
        refine eg_iload 3 dX8_init_100 rfl ?_
        obtain ⟨hcs, h⟩ := h
        have hM0 := h
        clear h
        refine ec_VIw (rest := []) (ctX9_finds hM0) (lw_V q385 q386 q387 q85 q388) rfl rfl hcs nX9_finds ⟨Nat.le_of_ble_eq_true rfl, Nat.le_of_ble_eq_true rfl⟩ ⟨rfl, rfl⟩ hu rfl rfl (Nat.le_of_ble_eq_true rfl) dX8_init_102 (fun v36 g37 h => ?_)
        clear hM0
        refine eg_istore (lv' := [(6, .int v36), (0, .ref a0), (3, .ref p16), (4, .int x4_26), (5, .int x5_32)]) dX8_init_105 (Nat.le_of_ble_eq_true rfl) rfl ?_
        refine eg_iload 0 dX8_init_107 rfl ?_
        refine eg_aload_n 1 dX8_init_109 rfl rfl ?_
        obtain ⟨fs, v40, he, hv, h⟩ := h
        refine eg_get 1 in_X8 he rfl (Nat.le_of_ble_eq_true rfl) q393 rfl hv dX8_init_110 ?_
        refine eb_jp1_e (J := fun (g41 : eb_S) => (((((((0 + 1) + 1) + 1) + 1) + 1) + c20) ≤ bc ∧ ((((((0 + 500) + 500) + 500) + ((v12 * a2).toNatClampNeg)) + 6) + s21) ≤ bs) → eb_G l Γ P X cX8_init RX8 7 (none) (rmX8_init bc bs) 169 [(0, .ref a0), (3, .ref p16), (4, .int x4_26), (5, .int x5_32), (6, .int v36)] [] g41 ((((((0 + 1) + 1) + 1) + 1) + 1) + c20) ((((((0 + 500) + 500) + 500) + ((v12 * a2).toNatClampNeg)) + 6) + s21)) h ?_ ?_
        · clear h
          intro g41 h hu
          refine eg_aload_n 0 dX8_init_169 rfl rfl ?_
          obtain ⟨fs, v42, he, hv, h⟩ := h
          refine eg_get 2 in_X8 he rfl (Nat.le_of_ble_eq_true rfl) q397 rfl hv dX8_init_170 ?_
          refine eg_aload_n 0 dX8_init_173 rfl rfl ?_
          obtain ⟨fs, v43, he, hv, h⟩ := h
          refine eg_get 0 in_X8 he rfl (Nat.le_of_ble_eq_true rfl) q389 rfl hv dX8_init_174 ?_
          refine eg_iload 2 dX8_init_177 rfl ?_
          refine eg_imul dX8_init_179 ?_
          refine eg_iload 3 dX8_init_180 rfl ?_
          refine eg_iadd dX8_init_182 ?_
          refine eg_iload 4 dX8_init_183 rfl ?_
          refine eg_i2s dX8_init_185 ?_
          obtain ⟨p44, rfl, h⟩ := h
          obtain ⟨nA, fA, he, hb, h⟩ := h
          refine eh_sast he hb dX8_init_186 (fun g45 eg45 => ?_)
          replace h := h g45 eg45
          refine eg_iinc (j := 3) (lv' := [(5, .int (x5_32 + 1)), (0, .ref a0), (3, .ref p16), (4, .int x4_26), (6, .int v36)]) dX8_init_187 rfl (by rw [kc_1]) (Nat.le_of_ble_eq_true rfl) rfl ?_
          refine eg_goto dX8_init_190 ?_
          exact eg_sub [1, 2, 3, 0] rfl (hr34 (x5_32 + 1) g45 h hu)
        · clear h
          intro k46 hk46 h
          refine eg_icmp_ne dX8_init_113 (fun c64 => ?_) (fun c64 => ?_)
          · replace h := h.2 c64
            exact eg_sub [1, 2, 3, 4, 0] rfl (hk46 g37 h hu)
          · replace h := h.1 c64
            refine eg_aload_n 1 dX8_init_116 rfl rfl ?_
            obtain ⟨fs, v47, he, hv, h⟩ := h
            refine eg_get 3 in_X8 he rfl (Nat.le_of_ble_eq_true rfl) q398 rfl hv dX8_init_117 ?_
            refine eg_aload_n 1 dX8_init_120 rfl rfl ?_
            obtain ⟨fs, v48, he, hv, h⟩ := h
            refine eg_get 1 in_X8 he rfl (Nat.le_of_ble_eq_true rfl) q393 rfl hv dX8_init_121 ?_
            refine eg_iload 3 dX8_init_124 rfl ?_
            refine eg_i2s dX8_init_126 ?_
            obtain ⟨p49, rfl, h⟩ := h
            obtain ⟨nA, fA, he, hb, h⟩ := h
            refine eh_sast he hb dX8_init_127 (fun g50 eg50 => ?_)
            replace h := h g50 eg50
            refine eg_aload_n 1 dX8_init_128 rfl rfl ?_
            obtain ⟨fs, v51, he, hv, h⟩ := h
            refine eg_get 4 in_X8 he rfl (Nat.le_of_ble_eq_true rfl) q399 rfl hv dX8_init_129 ?_
            refine eg_aload_n 1 dX8_init_132 rfl rfl ?_
            obtain ⟨fs, v52, he, hv, h⟩ := h
            refine eg_get 1 in_X8 he rfl (Nat.le_of_ble_eq_true rfl) q393 rfl hv dX8_init_133 ?_
            refine eg_iload 4 dX8_init_136 rfl ?_
            refine eg_i2b dX8_init_138 ?_
            obtain ⟨p53, rfl, h⟩ := h
            obtain ⟨nA, fA, he, hb, h⟩ := h
            refine eh_bast he hb dX8_init_139 (fun g54 eg54 => ?_)
            replace h := h g54 eg54
            refine eg_aload_n 1 dX8_init_140 rfl rfl ?_
            obtain ⟨fs, v55, he, hv, h⟩ := h
            refine eg_get 5 in_X8 he rfl (Nat.le_of_ble_eq_true rfl) q400 rfl hv dX8_init_141 ?_
            refine eg_aload_n 1 dX8_init_144 rfl rfl ?_
            obtain ⟨fs, v56, he, hv, h⟩ := h
            refine eg_get 1 in_X8 he rfl (Nat.le_of_ble_eq_true rfl) q393 rfl hv dX8_init_145 ?_
            refine eg_aload_n 1 dX8_init_148 rfl rfl ?_
            obtain ⟨fs, v57, he, hv, h⟩ := h
            refine eg_get 5 in_X8 he rfl (Nat.le_of_ble_eq_true rfl) q400 rfl hv dX8_init_149 ?_
            refine eg_iload 3 dX8_init_152 rfl ?_
            obtain ⟨p58, rfl, h⟩ := h
            obtain ⟨nA, fA, he, hb, h⟩ := h
            refine eh_bald he hb dX8_init_154 (fun v59 ev59 => ?_)
            replace h := h v59 ev59
            refine eg_iconst dX8_init_155 kc_1 ?_
            refine eg_iadd dX8_init_156 ?_
            refine eg_i2b dX8_init_157 ?_
            obtain ⟨p60, rfl, h⟩ := h
            obtain ⟨nA, fA, he, hb, h⟩ := h
            refine eh_bast he hb dX8_init_158 (fun g61 eg61 => ?_)
            replace h := h g61 eg61
            refine eg_aload_n 1 dX8_init_159 rfl rfl ?_
            refine eg_dup dX8_init_160 rfl ?_
            obtain ⟨fs, v62, he, hv, h⟩ := h
            refine eg_get 1 in_X8 he rfl (Nat.le_of_ble_eq_true rfl) q393 rfl hv dX8_init_161 ?_
            refine eg_iconst dX8_init_164 kc_1 ?_
            refine eg_iadd dX8_init_165 ?_
            obtain ⟨fs, he, hlen, h⟩ := h
            refine eh_put 1 in_X8 he rfl (Nat.le_of_ble_eq_true rfl) tyX8 tyX8_ok nmX8 q393 rfl rfl rfl rfl hlen dX8_init_166 (fun g63 eg63 => ?_)
            replace h := h g63 eg63
            exact eg_sub [1, 2, 3, 4, 0] rfl (hk46 g63 h hu)

set_option maxRecDepth 100000
set_option maxHeartbeats 4000000
def MX12_before (Γ : eb_C) (st : eb_S) (a0 : Nat) (a1 : Int32) (a2 : Int32) (K : Int32 → Prop) : Prop :=
  eb_gr st a0 11 1 (fun v1 => eb_nn v1 (fun p2 => eb_cs st p2 [9, 10, 13] ∧ MX10_degree Γ st p2 a1 (fun v3 => MJ2_floorMod (a2 - 1) v3 (fun v7 => K v7))))
abbrev rmX12_before : Room := { frames := 2, cells := 0, slots := 0, locals := 34 }
theorem nX12_before : eb_ar yX12_before 2 := by decide +kernel
theorem dX12_before_0 : eb_dc cX12_before 0 (.iload_n 2) 1 1 := by decide +kernel
theorem dX12_before_1 : eb_dc cX12_before 1 (.iconst 1) 1 2 := by decide +kernel
theorem dX12_before_2 : eb_dc cX12_before 2 (.isub) 1 3 := by decide +kernel
theorem dX12_before_3 : eb_dc cX12_before 3 (.aload_n 0) 1 4 := by decide +kernel
theorem dX12_before_4 : eb_dc cX12_before 4 (.getfield 27) 3 7 := by decide +kernel
theorem dX12_before_7 : eb_dc cX12_before 7 (.iload_n 1) 1 8 := by decide +kernel
theorem dX12_before_8 : eb_dc cX12_before 8 (.invokevirtual 91) 3 11 := by decide +kernel
theorem dX12_before_11 : eb_dc cX12_before 11 (.invokestatic 111) 3 14 := by decide +kernel
theorem dX12_before_14 : eb_dc cX12_before 14 (.ireturn) 1 15 := by decide +kernel
theorem ctX12_before {l : Launch} {Γ : eb_C} {st : eb_S} {a0 : Nat} {a1 : Int32} {a2 : Int32} {K : Int32 → Prop} (h : MX12_before Γ st a0 a1 a2 K) : eb_Ct l Γ yX12_before cX12_before 3 (some .int) rmX12_before [.ref a0, .int a1, .int a2] st (eb_pI st K) := by
  refine eb_of (by decide) (Nat.le_of_ble_eq_true rfl) (fun X P hP hX0 => ?_)
  show eb_G l Γ P X cX12_before RX12 3 (some .int) rmX12_before 0 [(0, .ref a0), (1, .int a1), (2, .int a2)] [] st 0 0
  refine eg_iload_n 2 dX12_before_0 rfl rfl ?_
  refine eg_iconst dX12_before_1 kc_1 ?_
  refine eg_isub dX12_before_2 ?_
  refine eg_aload_n 0 dX12_before_3 rfl rfl ?_
  obtain ⟨fs, v1, he, hv, h⟩ := h
  refine eg_get 1 in_X12 he rfl (Nat.le_of_ble_eq_true rfl) q758 rfl hv dX12_before_4 ?_
  refine eg_iload_n 1 dX12_before_7 rfl rfl ?_
  obtain ⟨p2, rfl, h⟩ := h
  obtain ⟨hcs, h⟩ := h
  have hM0 := h
  clear h
  refine ec_UIp (rest := [.int (a2 - 1)]) (ctX10_degree hM0) gUX12_91 rfl hcs nX10_degree ⟨Nat.le_of_ble_eq_true rfl, Nat.le_of_ble_eq_true rfl⟩ ⟨rfl, rfl⟩ ⟨Nat.zero_le _, Nat.zero_le _⟩ rfl rfl (Nat.le_of_ble_eq_true rfl) dX12_before_8 (fun v3 h => ?_)
  clear hM0
  have hM0 := h
  clear h
  refine ec_SIp (rest := []) (ctJ2_floorMod hM0) (lw_S q744 q745 q90 q746) nJ2_floorMod ⟨Nat.le_of_ble_eq_true rfl, Nat.le_of_ble_eq_true rfl⟩ ⟨rfl, rfl⟩ ⟨Nat.zero_le _, Nat.zero_le _⟩ rfl rfl (Nat.le_of_ble_eq_true rfl) dX12_before_11 (fun v7 h => ?_)
  clear hM0
  exact eg_iret dX12_before_14 (Nat.zero_le _) (Nat.zero_le _) (hP _ _ ⟨_, rfl, rfl, h⟩)
def MX12_behind (Γ : eb_C) (st : eb_S) (a0 : Nat) (a1 : Int32) (a2 : Int32) (K : Int32 → Prop) : Prop :=
  eb_gr st a0 11 6 (fun v1 => eb_nn v1 (fun p2 => eb_li Γ st p2 0 (((8 * a1) + a2)) (fun v3 => K v3)))
abbrev rmX12_behind : Room := { frames := 1, cells := 0, slots := 0, locals := 12 }
theorem nX12_behind : eb_ar yX12_behind 2 := by decide +kernel
theorem dX12_behind_0 : eb_dc cX12_behind 0 (.aload_n 0) 1 1 := by decide +kernel
theorem dX12_behind_1 : eb_dc cX12_behind 1 (.getfield 40) 3 4 := by decide +kernel
theorem dX12_behind_4 : eb_dc cX12_behind 4 (.bipush 8) 2 6 := by decide +kernel
theorem dX12_behind_6 : eb_dc cX12_behind 6 (.iload_n 1) 1 7 := by decide +kernel
theorem dX12_behind_7 : eb_dc cX12_behind 7 (.imul) 1 8 := by decide +kernel
theorem dX12_behind_8 : eb_dc cX12_behind 8 (.iload_n 2) 1 9 := by decide +kernel
theorem dX12_behind_9 : eb_dc cX12_behind 9 (.iadd) 1 10 := by decide +kernel
theorem dX12_behind_10 : eb_dc cX12_behind 10 (.iaload) 1 11 := by decide +kernel
theorem dX12_behind_11 : eb_dc cX12_behind 11 (.ireturn) 1 12 := by decide +kernel
theorem ctX12_behind {l : Launch} {Γ : eb_C} {st : eb_S} {a0 : Nat} {a1 : Int32} {a2 : Int32} {K : Int32 → Prop} (h : MX12_behind Γ st a0 a1 a2 K) : eb_Ct l Γ yX12_behind cX12_behind 3 (some .int) rmX12_behind [.ref a0, .int a1, .int a2] st (eb_pI st K) := by
  refine eb_of (by decide) (Nat.le_of_ble_eq_true rfl) (fun X P hP hX0 => ?_)
  show eb_G l Γ P X cX12_behind RX12 3 (some .int) rmX12_behind 0 [(0, .ref a0), (1, .int a1), (2, .int a2)] [] st 0 0
  refine eg_aload_n 0 dX12_behind_0 rfl rfl ?_
  obtain ⟨fs, v1, he, hv, h⟩ := h
  refine eg_get 6 in_X12 he rfl (Nat.le_of_ble_eq_true rfl) q765 rfl hv dX12_behind_1 ?_
  refine eg_bipush dX12_behind_4 kb_8 ?_
  refine eg_iload_n 1 dX12_behind_6 rfl rfl ?_
  refine eg_imul dX12_behind_7 ?_
  refine eg_iload_n 2 dX12_behind_8 rfl rfl ?_
  refine eg_iadd dX12_behind_9 ?_
  obtain ⟨p2, rfl, h⟩ := h
  obtain ⟨nA, fA, he, hb, h⟩ := h
  refine eh_iald he hb dX12_behind_10 (fun v3 ev3 => ?_)
  replace h := h v3 ev3
  exact eg_iret dX12_behind_11 (Nat.zero_le _) (Nat.zero_le _) (hP _ _ ⟨_, rfl, rfl, h⟩)
def MX12_turns (Γ : eb_C) (bc bs : Nat) (st : eb_S) (a0 : Nat) (a1 : Int32) (K : eb_S → Prop) : Prop :=
  eb_gr st a0 11 1 (fun v1 => eb_nn v1 (fun p2 => eb_cs st p2 [9, 10, 13] ∧ MX10_degree Γ st p2 a1 (fun v3 => eb_ok1 v3 ∧ (eb_mk st (eb_ia Γ 0 (v3.toNatClampNeg) (fun _ => 0)) (v3.toNatClampNeg) bc bs 0 0 (fun p7 g8 => eb_ok1 v3 ∧ (eb_mk g8 (eb_ia Γ 0 (v3.toNatClampNeg) (fun _ => 0)) (v3.toNatClampNeg) bc bs (0 + 1) ((0 + (v3.toNatClampNeg))) (fun p9 g10 => eb_jp1 (fun (g11 : eb_S) => eb_gr g11 a0 11 5 (fun v12 => eb_nn v12 (fun p13 => eb_cp Γ g11 p7 0 p13 (8 * a1) v3 (fun g14 => eb_gr g14 a0 11 6 (fun v15 => eb_nn v15 (fun p16 => eb_cp Γ g14 p9 0 p16 (8 * a1) v3 (fun g17 => K g17))))))) (fun k18 => eb_loop2 (fun r21 (x5_19 : Int32) (g20 : eb_S) => eb_br (v3 ≤ x5_19) (k18 g20) (eb_cs g20 a0 [11] ∧ MX12_neighbour Γ g20 a0 a1 (((v3 - 1) - x5_19)) (fun v22 => eb_wi Γ g20 p7 0 x5_19 v22 (fun g26 => MJ2_floorMod (((v3 - 2) - x5_19)) v3 (fun v27 => eb_cs g26 a0 [11] ∧ MX12_behind Γ g26 a0 a1 v27 (fun v31 => eb_wi Γ g26 p9 0 x5_19 v31 (fun g35 => r21 (x5_19 + 1) g35))))))) 0 g10))))))))
abbrev rmX12_turns (bc bs : Nat) : Room := { frames := 2, cells := bc, slots := bs, locals := 80 }
theorem nX12_turns : eb_ar yX12_turns 1 := by decide +kernel
theorem dX12_turns_0 : eb_dc cX12_turns 0 (.aload_n 0) 1 1 := by decide +kernel
theorem dX12_turns_1 : eb_dc cX12_turns 1 (.getfield 27) 3 4 := by decide +kernel
theorem dX12_turns_4 : eb_dc cX12_turns 4 (.iload_n 1) 1 5 := by decide +kernel
theorem dX12_turns_5 : eb_dc cX12_turns 5 (.invokevirtual 91) 3 8 := by decide +kernel
theorem dX12_turns_8 : eb_dc cX12_turns 8 (.istore_n 2) 1 9 := by decide +kernel
theorem dX12_turns_9 : eb_dc cX12_turns 9 (.iload_n 2) 1 10 := by decide +kernel
theorem dX12_turns_10 : eb_dc cX12_turns 10 (.newarray .int) 2 12 := by decide +kernel
theorem dX12_turns_12 : eb_dc cX12_turns 12 (.astore_n 3) 1 13 := by decide +kernel
theorem dX12_turns_13 : eb_dc cX12_turns 13 (.iload_n 2) 1 14 := by decide +kernel
theorem dX12_turns_14 : eb_dc cX12_turns 14 (.newarray .int) 2 16 := by decide +kernel
theorem dX12_turns_16 : eb_dc cX12_turns 16 (.astore 4) 2 18 := by decide +kernel
theorem dX12_turns_18 : eb_dc cX12_turns 18 (.iconst 0) 1 19 := by decide +kernel
theorem dX12_turns_19 : eb_dc cX12_turns 19 (.istore 5) 2 21 := by decide +kernel
theorem dX12_turns_21 : eb_dc cX12_turns 21 (.iload 5) 2 23 := by decide +kernel
theorem dX12_turns_23 : eb_dc cX12_turns 23 (.iload_n 2) 1 24 := by decide +kernel
theorem dX12_turns_24 : eb_dj cX12_turns 24 (.if_icmp .ge 44) 44 27 68 := by decide +kernel
theorem dX12_turns_27 : eb_dc cX12_turns 27 (.aload_n 3) 1 28 := by decide +kernel
theorem dX12_turns_28 : eb_dc cX12_turns 28 (.iload 5) 2 30 := by decide +kernel
theorem dX12_turns_30 : eb_dc cX12_turns 30 (.aload_n 0) 1 31 := by decide +kernel
theorem dX12_turns_31 : eb_dc cX12_turns 31 (.iload_n 1) 1 32 := by decide +kernel
theorem dX12_turns_32 : eb_dc cX12_turns 32 (.iload_n 2) 1 33 := by decide +kernel
theorem dX12_turns_33 : eb_dc cX12_turns 33 (.iconst 1) 1 34 := by decide +kernel
theorem dX12_turns_34 : eb_dc cX12_turns 34 (.isub) 1 35 := by decide +kernel
theorem dX12_turns_35 : eb_dc cX12_turns 35 (.iload 5) 2 37 := by decide +kernel
theorem dX12_turns_37 : eb_dc cX12_turns 37 (.isub) 1 38 := by decide +kernel
theorem dX12_turns_38 : eb_dc cX12_turns 38 (.invokevirtual 108) 3 41 := by decide +kernel
theorem dX12_turns_41 : eb_dc cX12_turns 41 (.iastore) 1 42 := by decide +kernel
theorem dX12_turns_42 : eb_dc cX12_turns 42 (.aload 4) 2 44 := by decide +kernel
theorem dX12_turns_44 : eb_dc cX12_turns 44 (.iload 5) 2 46 := by decide +kernel
theorem dX12_turns_46 : eb_dc cX12_turns 46 (.aload_n 0) 1 47 := by decide +kernel
theorem dX12_turns_47 : eb_dc cX12_turns 47 (.iload_n 1) 1 48 := by decide +kernel
theorem dX12_turns_48 : eb_dc cX12_turns 48 (.iload_n 2) 1 49 := by decide +kernel
theorem dX12_turns_49 : eb_dc cX12_turns 49 (.iconst 2) 1 50 := by decide +kernel
theorem dX12_turns_50 : eb_dc cX12_turns 50 (.isub) 1 51 := by decide +kernel
theorem dX12_turns_51 : eb_dc cX12_turns 51 (.iload 5) 2 53 := by decide +kernel
theorem dX12_turns_53 : eb_dc cX12_turns 53 (.isub) 1 54 := by decide +kernel
theorem dX12_turns_54 : eb_dc cX12_turns 54 (.iload_n 2) 1 55 := by decide +kernel
theorem dX12_turns_55 : eb_dc cX12_turns 55 (.invokestatic 111) 3 58 := by decide +kernel
theorem dX12_turns_58 : eb_dc cX12_turns 58 (.invokevirtual 98) 3 61 := by decide +kernel
theorem dX12_turns_61 : eb_dc cX12_turns 61 (.iastore) 1 62 := by decide +kernel
theorem dX12_turns_62 : eb_dc cX12_turns 62 (.iinc 5 1) 3 65 := by decide +kernel
theorem dX12_turns_65 : eb_dj cX12_turns 65 (.goto (-44)) (-44) 68 21 := by decide +kernel
theorem dX12_turns_68 : eb_dc cX12_turns 68 (.aload_n 3) 1 69 := by decide +kernel
theorem dX12_turns_69 : eb_dc cX12_turns 69 (.iconst 0) 1 70 := by decide +kernel
theorem dX12_turns_70 : eb_dc cX12_turns 70 (.aload_n 0) 1 71 := by decide +kernel
theorem dX12_turns_71 : eb_dc cX12_turns 71 (.getfield 37) 3 74 := by decide +kernel
theorem dX12_turns_74 : eb_dc cX12_turns 74 (.bipush 8) 2 76 := by decide +kernel
theorem dX12_turns_76 : eb_dc cX12_turns 76 (.iload_n 1) 1 77 := by decide +kernel
theorem dX12_turns_77 : eb_dc cX12_turns 77 (.imul) 1 78 := by decide +kernel
theorem dX12_turns_78 : eb_dc cX12_turns 78 (.iload_n 2) 1 79 := by decide +kernel
theorem dX12_turns_79 : eb_dc cX12_turns 79 (.invokestatic 125) 3 82 := by decide +kernel
theorem dX12_turns_82 : eb_dc cX12_turns 82 (.aload 4) 2 84 := by decide +kernel
theorem dX12_turns_84 : eb_dc cX12_turns 84 (.iconst 0) 1 85 := by decide +kernel
theorem dX12_turns_85 : eb_dc cX12_turns 85 (.aload_n 0) 1 86 := by decide +kernel
theorem dX12_turns_86 : eb_dc cX12_turns 86 (.getfield 40) 3 89 := by decide +kernel
theorem dX12_turns_89 : eb_dc cX12_turns 89 (.bipush 8) 2 91 := by decide +kernel
theorem dX12_turns_91 : eb_dc cX12_turns 91 (.iload_n 1) 1 92 := by decide +kernel
theorem dX12_turns_92 : eb_dc cX12_turns 92 (.imul) 1 93 := by decide +kernel
theorem dX12_turns_93 : eb_dc cX12_turns 93 (.iload_n 2) 1 94 := by decide +kernel
theorem dX12_turns_94 : eb_dc cX12_turns 94 (.invokestatic 125) 3 97 := by decide +kernel
theorem dX12_turns_97 : eb_dc cX12_turns 97 (.return_) 1 98 := by decide +kernel
theorem ctX12_turns {l : Launch} {Γ : eb_C} {bc bs : Nat} {st : eb_S} {a0 : Nat} {a1 : Int32} {K : eb_S → Prop} (h : MX12_turns Γ bc bs st a0 a1 K) : eb_Ct l Γ yX12_turns cX12_turns 6 (none) (rmX12_turns bc bs) [.ref a0, .int a1] st (eb_oV K) := by
  refine eb_of (by decide) (Nat.le_of_ble_eq_true rfl) (fun X P hP hX0 => ?_)
  suffices hgo : (0 ≤ bc ∧ 0 ≤ bs) → eb_G l Γ P X cX12_turns RX12 6 (none) (rmX12_turns bc bs) 0 [(0, .ref a0), (1, .int a1)] [] st 0 0 from hgo ⟨Nat.zero_le _, Nat.zero_le _⟩
  intro hu
  refine eg_aload_n 0 dX12_turns_0 rfl rfl ?_
  obtain ⟨fs, v1, he, hv, h⟩ := h
  refine eg_get 1 in_X12 he rfl (Nat.le_of_ble_eq_true rfl) q758 rfl hv dX12_turns_1 ?_
  refine eg_iload_n 1 dX12_turns_4 rfl rfl ?_
  obtain ⟨p2, rfl, h⟩ := h
  obtain ⟨hcs, h⟩ := h
  have hM0 := h
  clear h
  refine ec_UIp (rest := []) (ctX10_degree hM0) gUX12_91 rfl hcs nX10_degree ⟨Nat.le_of_ble_eq_true rfl, Nat.le_of_ble_eq_true rfl⟩ ⟨rfl, rfl⟩ hu rfl rfl (Nat.le_of_ble_eq_true rfl) dX12_turns_5 (fun v3 h => ?_)
  clear hM0
  refine eg_istore_n (lv' := [(2, .int v3), (0, .ref a0), (1, .int a1)]) dX12_turns_8 rfl (Nat.le_of_ble_eq_true rfl) rfl ?_
  refine eg_iload_n 0 dX12_turns_9 rfl rfl ?_
  obtain ⟨hok, h⟩ := h
  obtain ⟨hc1, hs1, h⟩ := h
  refine eh_new_i q158 rfl hok hc1 hs1 dX12_turns_10 (fun p7 qp7 g8 eg8 => ?_)
  replace h := h p7 qp7 g8 eg8
  replace hu := And.intro hc1 hs1
  refine eg_astore_n (i := 3) (lv' := [(3, .ref p7), (2, .int v3), (0, .ref a0), (1, .int a1)]) dX12_turns_12 rfl (Nat.le_of_ble_eq_true rfl) rfl ?_
  refine eg_iload_n 1 dX12_turns_13 rfl rfl ?_
  obtain ⟨hok, h⟩ := h
  obtain ⟨hc1, hs1, h⟩ := h
  refine eh_new_i q158 rfl hok hc1 hs1 dX12_turns_14 (fun p9 qp9 g10 eg10 => ?_)
  replace h := h p9 qp9 g10 eg10
  replace hu := And.intro hc1 hs1
  refine eg_astore (i := 4) (lv' := [(4, .ref p9), (3, .ref p7), (2, .int v3), (0, .ref a0), (1, .int a1)]) dX12_turns_16 (Nat.le_of_ble_eq_true rfl) rfl ?_
  refine eg_iconst dX12_turns_18 kc_0 ?_
  refine eg_istore (lv' := [(5, .int 0), (4, .ref p9), (3, .ref p7), (2, .int v3), (0, .ref a0), (1, .int a1)]) dX12_turns_19 (Nat.le_of_ble_eq_true rfl) rfl ?_
  refine eb_jp1_e (J := fun (g11 : eb_S) => (((0 + 1) + 1) ≤ bc ∧ ((0 + (v3.toNatClampNeg)) + (v3.toNatClampNeg)) ≤ bs) → eb_G l Γ P X cX12_turns RX12 6 (none) (rmX12_turns bc bs) 68 [(0, .ref a0), (1, .int a1), (2, .int v3), (3, .ref p7), (4, .ref p9)] [] g11 ((0 + 1) + 1) ((0 + (v3.toNatClampNeg)) + (v3.toNatClampNeg))) h ?_ ?_
  · clear h
    intro g11 h hu
    refine eg_aload_n 3 dX12_turns_68 rfl rfl ?_
    refine eg_iconst dX12_turns_69 kc_0 ?_
    refine eg_aload_n 0 dX12_turns_70 rfl rfl ?_
    obtain ⟨fs, v12, he, hv, h⟩ := h
    refine eg_get 5 in_X12 he rfl (Nat.le_of_ble_eq_true rfl) q764 rfl hv dX12_turns_71 ?_
    refine eg_bipush dX12_turns_74 kb_8 ?_
    refine eg_iload_n 1 dX12_turns_76 rfl rfl ?_
    refine eg_imul dX12_turns_77 ?_
    refine eg_iload_n 2 dX12_turns_78 rfl rfl ?_
    obtain ⟨p13, rfl, h⟩ := h
    have hM0 := h
    clear h
    refine eg_copy (rest := []) q755 q363 q362 q86 rfl (Nat.le_of_ble_eq_true rfl) (Nat.le_of_ble_eq_true rfl) dX12_turns_79 hM0 (fun g14 h => ?_)
    clear hM0
    refine eg_aload 4 dX12_turns_82 rfl ?_
    refine eg_iconst dX12_turns_84 kc_0 ?_
    refine eg_aload_n 0 dX12_turns_85 rfl rfl ?_
    obtain ⟨fs, v15, he, hv, h⟩ := h
    refine eg_get 6 in_X12 he rfl (Nat.le_of_ble_eq_true rfl) q765 rfl hv dX12_turns_86 ?_
    refine eg_bipush dX12_turns_89 kb_8 ?_
    refine eg_iload_n 1 dX12_turns_91 rfl rfl ?_
    refine eg_imul dX12_turns_92 ?_
    refine eg_iload_n 2 dX12_turns_93 rfl rfl ?_
    obtain ⟨p16, rfl, h⟩ := h
    have hM0 := h
    clear h
    refine eg_copy (rest := []) q755 q363 q362 q86 rfl (Nat.le_of_ble_eq_true rfl) (Nat.le_of_ble_eq_true rfl) dX12_turns_94 hM0 (fun g17 h => ?_)
    clear hM0
    exact eg_vret dX12_turns_97 hu.1 hu.2 (hP _ _ ⟨rfl, h⟩)
  · clear h
    intro k18 hk18 h
    refine eg_sub [4, 5, 3, 2, 1, 0] rfl ?_
    refine eb_loop2_e (J := fun (x5_19 : Int32) (g20 : eb_S) => (((0 + 1) + 1) ≤ bc ∧ ((0 + (v3.toNatClampNeg)) + (v3.toNatClampNeg)) ≤ bs) → eb_G l Γ P X cX12_turns RX12 6 (none) (rmX12_turns bc bs) 21 [(0, .ref a0), (1, .int a1), (2, .int v3), (3, .ref p7), (4, .ref p9), (5, .int x5_19)] [] g20 ((0 + 1) + 1) ((0 + (v3.toNatClampNeg)) + (v3.toNatClampNeg))) h ?_ hu
    clear h
    clear hu
    intro r21 hr21 x5_19 g20 h hu
    refine eg_iload 5 dX12_turns_21 rfl ?_
    refine eg_iload_n 2 dX12_turns_23 rfl rfl ?_
    refine eg_icmp_ge dX12_turns_24 (fun c36 => ?_) (fun c36 => ?_)
    · replace h := h.1 c36
      exact eg_sub [0, 1, 2, 3, 4] rfl (hk18 g20 h hu)
    · replace h := h.2 c36
      refine eg_aload_n 3 dX12_turns_27 rfl rfl ?_
      refine eg_iload 5 dX12_turns_28 rfl ?_
      refine eg_aload_n 0 dX12_turns_30 rfl rfl ?_
      refine eg_iload_n 1 dX12_turns_31 rfl rfl ?_
      refine eg_iload_n 2 dX12_turns_32 rfl rfl ?_
      refine eg_iconst dX12_turns_33 kc_1 ?_
      refine eg_isub dX12_turns_34 ?_
      refine eg_iload 5 dX12_turns_35 rfl ?_
      refine eg_isub dX12_turns_37 ?_
      obtain ⟨hcs, h⟩ := h
      have hM0 := h
      clear h
      refine ec_VIp (rest := [.int x5_19, .ref p7]) (ctX12_neighbour hM0) (lw_V q728 q730 qs21 q89 q731) rfl rfl hcs nX12_neighbour ⟨Nat.le_of_ble_eq_true rfl, Nat.le_of_ble_eq_true rfl⟩ ⟨rfl, rfl⟩ hu rfl rfl (Nat.le_of_ble_eq_true rfl) dX12_turns_38 (fun v22 h => ?_)
      clear hM0
      obtain ⟨nA, fA, he, hb, h⟩ := h
      refine eh_iast he hb dX12_turns_41 (fun g26 eg26 => ?_)
      replace h := h g26 eg26
      refine eg_aload 4 dX12_turns_42 rfl ?_
      refine eg_iload 5 dX12_turns_44 rfl ?_
      refine eg_aload_n 0 dX12_turns_46 rfl rfl ?_
      refine eg_iload_n 1 dX12_turns_47 rfl rfl ?_
      refine eg_iload_n 2 dX12_turns_48 rfl rfl ?_
      refine eg_iconst dX12_turns_49 kc_2 ?_
      refine eg_isub dX12_turns_50 ?_
      refine eg_iload 5 dX12_turns_51 rfl ?_
      refine eg_isub dX12_turns_53 ?_
      refine eg_iload_n 2 dX12_turns_54 rfl rfl ?_
      have hM0 := h
      clear h
      refine ec_SIp (rest := [.int a1, .ref a0, .int x5_19, .ref p9]) (ctJ2_floorMod hM0) (lw_S q744 q745 q90 q746) nJ2_floorMod ⟨Nat.le_of_ble_eq_true rfl, Nat.le_of_ble_eq_true rfl⟩ ⟨rfl, rfl⟩ hu rfl rfl (Nat.le_of_ble_eq_true rfl) dX12_turns_55 (fun v27 h => ?_)
      clear hM0
      obtain ⟨hcs, h⟩ := h
      have hM0 := h
      clear h
      refine ec_VIp (rest := [.int x5_19, .ref p9]) (ctX12_behind hM0) (lw_V q747 q749 qs25 q89 q750) rfl rfl hcs nX12_behind ⟨Nat.le_of_ble_eq_true rfl, Nat.le_of_ble_eq_true rfl⟩ ⟨rfl, rfl⟩ hu rfl rfl (Nat.le_of_ble_eq_true rfl) dX12_turns_58 (fun v31 h => ?_)
      clear hM0
      obtain ⟨nA, fA, he, hb, h⟩ := h
      refine eh_iast he hb dX12_turns_61 (fun g35 eg35 => ?_)
      replace h := h g35 eg35
      refine eg_iinc (j := 5) (lv' := [(5, .int (x5_19 + 1)), (0, .ref a0), (1, .int a1), (2, .int v3), (3, .ref p7), (4, .ref p9)]) dX12_turns_62 rfl (by rw [kc_1]) (Nat.le_of_ble_eq_true rfl) rfl ?_
      refine eg_goto dX12_turns_65 ?_
      exact eg_sub [1, 2, 3, 4, 5, 0] rfl (hr21 (x5_19 + 1) g35 h hu)
def MX12_turnsAll (Γ : eb_C) (bc bs : Nat) (st : eb_S) (a0 : Nat) (K : eb_S → Prop) : Prop :=
  eb_gr st a0 11 1 (fun v1 => eb_nn v1 (fun p2 => eb_ni st p2 0 (fun v3 => eb_ok1 v3 ∧ (eb_mk st (eb_ia Γ 1 (v3.toNatClampNeg) (fun _ => 0)) (v3.toNatClampNeg) bc bs 0 0 (fun p4 g5 => eb_gr g5 a0 11 1 (fun v6 => eb_nn v6 (fun p7 => eb_ni g5 p7 0 (fun v8 => eb_ok1 v8 ∧ (eb_mk g5 (eb_ia Γ 0 (v8.toNatClampNeg) (fun _ => 0)) (v8.toNatClampNeg) bc bs (0 + 1) ((0 + (v3.toNatClampNeg))) (fun p9 g10 => eb_wi Γ g10 p4 1 0 (vp_nar .boolean 1) (fun g11 => eb_loop5 (fun r17 (x3_12 : Int32) (x4_13 : Int32) (g14 : eb_S) (u15 : Nat) (w16 : Nat) => eb_br (x3_12 ≤ x4_13) (K g14) (eb_li Γ g14 p9 0 x4_13 (fun v18 => eb_jp4 (fun (x3_19 : Int32) (g20 : eb_S) (u21 : Nat) (w22 : Nat) => r17 x3_19 (x4_13 + 1) g20 u21 w22) (fun k23 => eb_loop5 (fun r29 (x3_24 : Int32) (x6_25 : Int32) (g26 : eb_S) (u27 : Nat) (w28 : Nat) => eb_gr g26 a0 11 1 (fun v30 => eb_nn v30 (fun p31 => eb_cs g26 p31 [9, 10, 13] ∧ MX10_degree Γ g26 p31 v18 (fun v32 => eb_br (v32 ≤ x6_25) (k23 x3_24 g26 u27 w28) (eb_cs g26 a0 [11] ∧ MX12_neighbour Γ g26 a0 v18 x6_25 (fun v36 => eb_li Γ g26 p4 1 v36 (fun v40 => eb_jp4 (fun (x3_41 : Int32) (g42 : eb_S) (u43 : Nat) (w44 : Nat) => r29 x3_41 (x6_25 + 1) g42 u43 w44) (fun k45 => eb_br (v40 = 0) (eb_wi Γ g26 p4 1 v36 (vp_nar .boolean 1) (fun g46 => eb_wi Γ g46 p9 0 x3_24 v36 (fun g47 => eb_cs g47 a0 [11] ∧ MX12_placeOf Γ g47 a0 v36 v18 (fun v48 => eb_cs g47 a0 [11] ∧ MX12_before Γ g47 a0 v36 v48 (fun v52 => eb_cs g47 a0 [11] ∧ MX12_behind Γ g47 a0 v36 v52 (fun v56 => eb_cs g47 a0 [11] ∧ MX12_behind Γ g47 a0 v18 x6_25 (fun v60 => eb_br (v56 = v60) (k45 (x3_24 + 1) g47 u27 w28) (eb_cs g47 a0 [11] ∧ ∃ c66 s67 : Nat, (u27 + c66 ≤ bc ∧ w28 + s67 ≤ bs) ∧ MX12_turns Γ c66 s67 g47 a0 v36 (fun g65 => k45 (x3_24 + 1) g65 (u27 + c66) (w28 + s67)))))))))) (k45 x3_24 g26 u27 w28))))))))) x3_12 0 g14 u15 w16)))) 1 0 g11 (((0 + 1) + 1)) (((0 + (v3.toNatClampNeg)) + (v8.toNatClampNeg))))))))))))))
abbrev rmX12_turnsAll (bc bs : Nat) : Room := { frames := 3, cells := bc, slots := bs, locals := 105 }
theorem nX12_turnsAll : eb_ar yX12_turnsAll 0 := by decide +kernel
theorem dX12_turnsAll_0 : eb_dc cX12_turnsAll 0 (.aload_n 0) 1 1 := by decide +kernel
theorem dX12_turnsAll_1 : eb_dc cX12_turnsAll 1 (.getfield 27) 3 4 := by decide +kernel
theorem dX12_turnsAll_4 : eb_dc cX12_turnsAll 4 (.getfield 31) 3 7 := by decide +kernel
theorem dX12_turnsAll_7 : eb_dc cX12_turnsAll 7 (.newarray .boolean) 2 9 := by decide +kernel
theorem dX12_turnsAll_9 : eb_dc cX12_turnsAll 9 (.astore_n 1) 1 10 := by decide +kernel
theorem dX12_turnsAll_10 : eb_dc cX12_turnsAll 10 (.aload_n 0) 1 11 := by decide +kernel
theorem dX12_turnsAll_11 : eb_dc cX12_turnsAll 11 (.getfield 27) 3 14 := by decide +kernel
theorem dX12_turnsAll_14 : eb_dc cX12_turnsAll 14 (.getfield 31) 3 17 := by decide +kernel
theorem dX12_turnsAll_17 : eb_dc cX12_turnsAll 17 (.newarray .int) 2 19 := by decide +kernel
theorem dX12_turnsAll_19 : eb_dc cX12_turnsAll 19 (.astore_n 2) 1 20 := by decide +kernel
theorem dX12_turnsAll_20 : eb_dc cX12_turnsAll 20 (.aload_n 1) 1 21 := by decide +kernel
theorem dX12_turnsAll_21 : eb_dc cX12_turnsAll 21 (.iconst 0) 1 22 := by decide +kernel
theorem dX12_turnsAll_22 : eb_dc cX12_turnsAll 22 (.iconst 1) 1 23 := by decide +kernel
theorem dX12_turnsAll_23 : eb_dc cX12_turnsAll 23 (.bastore) 1 24 := by decide +kernel
theorem dX12_turnsAll_24 : eb_dc cX12_turnsAll 24 (.iconst 1) 1 25 := by decide +kernel
theorem dX12_turnsAll_25 : eb_dc cX12_turnsAll 25 (.istore_n 3) 1 26 := by decide +kernel
theorem dX12_turnsAll_26 : eb_dc cX12_turnsAll 26 (.iconst 0) 1 27 := by decide +kernel
theorem dX12_turnsAll_27 : eb_dc cX12_turnsAll 27 (.istore 4) 2 29 := by decide +kernel
theorem dX12_turnsAll_29 : eb_dc cX12_turnsAll 29 (.iload 4) 2 31 := by decide +kernel
theorem dX12_turnsAll_31 : eb_dc cX12_turnsAll 31 (.iload_n 3) 1 32 := by decide +kernel
theorem dX12_turnsAll_32 : eb_dj cX12_turnsAll 32 (.if_icmp .ge 109) 109 35 141 := by decide +kernel
theorem dX12_turnsAll_35 : eb_dc cX12_turnsAll 35 (.aload_n 2) 1 36 := by decide +kernel
theorem dX12_turnsAll_36 : eb_dc cX12_turnsAll 36 (.iload 4) 2 38 := by decide +kernel
theorem dX12_turnsAll_38 : eb_dc cX12_turnsAll 38 (.iaload) 1 39 := by decide +kernel
theorem dX12_turnsAll_39 : eb_dc cX12_turnsAll 39 (.istore 5) 2 41 := by decide +kernel
theorem dX12_turnsAll_41 : eb_dc cX12_turnsAll 41 (.iconst 0) 1 42 := by decide +kernel
theorem dX12_turnsAll_42 : eb_dc cX12_turnsAll 42 (.istore 6) 2 44 := by decide +kernel
theorem dX12_turnsAll_44 : eb_dc cX12_turnsAll 44 (.iload 6) 2 46 := by decide +kernel
theorem dX12_turnsAll_46 : eb_dc cX12_turnsAll 46 (.aload_n 0) 1 47 := by decide +kernel
theorem dX12_turnsAll_47 : eb_dc cX12_turnsAll 47 (.getfield 27) 3 50 := by decide +kernel
theorem dX12_turnsAll_50 : eb_dc cX12_turnsAll 50 (.iload 5) 2 52 := by decide +kernel
theorem dX12_turnsAll_52 : eb_dc cX12_turnsAll 52 (.invokevirtual 91) 3 55 := by decide +kernel
theorem dX12_turnsAll_55 : eb_dj cX12_turnsAll 55 (.if_icmp .ge 80) 80 58 135 := by decide +kernel
theorem dX12_turnsAll_58 : eb_dc cX12_turnsAll 58 (.aload_n 0) 1 59 := by decide +kernel
theorem dX12_turnsAll_59 : eb_dc cX12_turnsAll 59 (.iload 5) 2 61 := by decide +kernel
theorem dX12_turnsAll_61 : eb_dc cX12_turnsAll 61 (.iload 6) 2 63 := by decide +kernel
theorem dX12_turnsAll_63 : eb_dc cX12_turnsAll 63 (.invokevirtual 108) 3 66 := by decide +kernel
theorem dX12_turnsAll_66 : eb_dc cX12_turnsAll 66 (.istore 7) 2 68 := by decide +kernel
theorem dX12_turnsAll_68 : eb_dc cX12_turnsAll 68 (.aload_n 1) 1 69 := by decide +kernel
theorem dX12_turnsAll_69 : eb_dc cX12_turnsAll 69 (.iload 7) 2 71 := by decide +kernel
theorem dX12_turnsAll_71 : eb_dc cX12_turnsAll 71 (.baload) 1 72 := by decide +kernel
theorem dX12_turnsAll_72 : eb_dj cX12_turnsAll 72 (.ifCond .ne 57) 57 75 129 := by decide +kernel
theorem dX12_turnsAll_75 : eb_dc cX12_turnsAll 75 (.aload_n 1) 1 76 := by decide +kernel
theorem dX12_turnsAll_76 : eb_dc cX12_turnsAll 76 (.iload 7) 2 78 := by decide +kernel
theorem dX12_turnsAll_78 : eb_dc cX12_turnsAll 78 (.iconst 1) 1 79 := by decide +kernel
theorem dX12_turnsAll_79 : eb_dc cX12_turnsAll 79 (.bastore) 1 80 := by decide +kernel
theorem dX12_turnsAll_80 : eb_dc cX12_turnsAll 80 (.aload_n 2) 1 81 := by decide +kernel
theorem dX12_turnsAll_81 : eb_dc cX12_turnsAll 81 (.iload_n 3) 1 82 := by decide +kernel
theorem dX12_turnsAll_82 : eb_dc cX12_turnsAll 82 (.iload 7) 2 84 := by decide +kernel
theorem dX12_turnsAll_84 : eb_dc cX12_turnsAll 84 (.iastore) 1 85 := by decide +kernel
theorem dX12_turnsAll_85 : eb_dc cX12_turnsAll 85 (.iinc 3 1) 3 88 := by decide +kernel
theorem dX12_turnsAll_88 : eb_dc cX12_turnsAll 88 (.aload_n 0) 1 89 := by decide +kernel
theorem dX12_turnsAll_89 : eb_dc cX12_turnsAll 89 (.iload 7) 2 91 := by decide +kernel
theorem dX12_turnsAll_91 : eb_dc cX12_turnsAll 91 (.iload 5) 2 93 := by decide +kernel
theorem dX12_turnsAll_93 : eb_dc cX12_turnsAll 93 (.invokevirtual 116) 3 96 := by decide +kernel
theorem dX12_turnsAll_96 : eb_dc cX12_turnsAll 96 (.istore 8) 2 98 := by decide +kernel
theorem dX12_turnsAll_98 : eb_dc cX12_turnsAll 98 (.aload_n 0) 1 99 := by decide +kernel
theorem dX12_turnsAll_99 : eb_dc cX12_turnsAll 99 (.iload 7) 2 101 := by decide +kernel
theorem dX12_turnsAll_101 : eb_dc cX12_turnsAll 101 (.aload_n 0) 1 102 := by decide +kernel
theorem dX12_turnsAll_102 : eb_dc cX12_turnsAll 102 (.iload 7) 2 104 := by decide +kernel
theorem dX12_turnsAll_104 : eb_dc cX12_turnsAll 104 (.iload 8) 2 106 := by decide +kernel
theorem dX12_turnsAll_106 : eb_dc cX12_turnsAll 106 (.invokevirtual 119) 3 109 := by decide +kernel
theorem dX12_turnsAll_109 : eb_dc cX12_turnsAll 109 (.invokevirtual 98) 3 112 := by decide +kernel
theorem dX12_turnsAll_112 : eb_dc cX12_turnsAll 112 (.aload_n 0) 1 113 := by decide +kernel
theorem dX12_turnsAll_113 : eb_dc cX12_turnsAll 113 (.iload 5) 2 115 := by decide +kernel
theorem dX12_turnsAll_115 : eb_dc cX12_turnsAll 115 (.iload 6) 2 117 := by decide +kernel
theorem dX12_turnsAll_117 : eb_dc cX12_turnsAll 117 (.invokevirtual 98) 3 120 := by decide +kernel
theorem dX12_turnsAll_120 : eb_dj cX12_turnsAll 120 (.if_icmp .eq 9) 9 123 129 := by decide +kernel
theorem dX12_turnsAll_123 : eb_dc cX12_turnsAll 123 (.aload_n 0) 1 124 := by decide +kernel
theorem dX12_turnsAll_124 : eb_dc cX12_turnsAll 124 (.iload 7) 2 126 := by decide +kernel
theorem dX12_turnsAll_126 : eb_dc cX12_turnsAll 126 (.invokevirtual 122) 3 129 := by decide +kernel
theorem dX12_turnsAll_129 : eb_dc cX12_turnsAll 129 (.iinc 6 1) 3 132 := by decide +kernel
theorem dX12_turnsAll_132 : eb_dj cX12_turnsAll 132 (.goto (-88)) (-88) 135 44 := by decide +kernel
theorem dX12_turnsAll_135 : eb_dc cX12_turnsAll 135 (.iinc 4 1) 3 138 := by decide +kernel
theorem dX12_turnsAll_138 : eb_dj cX12_turnsAll 138 (.goto (-109)) (-109) 141 29 := by decide +kernel
theorem dX12_turnsAll_141 : eb_dc cX12_turnsAll 141 (.return_) 1 142 := by decide +kernel
theorem ctX12_turnsAll {l : Launch} {Γ : eb_C} {bc bs : Nat} {st : eb_S} {a0 : Nat} {K : eb_S → Prop} (h : MX12_turnsAll Γ bc bs st a0 K) : eb_Ct l Γ yX12_turnsAll cX12_turnsAll 9 (none) (rmX12_turnsAll bc bs) [.ref a0] st (eb_oV K) := by
  refine eb_of (by decide) (Nat.le_of_ble_eq_true rfl) (fun X P hP hX0 => ?_)
  suffices hgo : (0 ≤ bc ∧ 0 ≤ bs) → eb_G l Γ P X cX12_turnsAll RX12 9 (none) (rmX12_turnsAll bc bs) 0 [(0, .ref a0)] [] st 0 0 from hgo ⟨Nat.zero_le _, Nat.zero_le _⟩
  intro hu
  refine eg_aload_n 0 dX12_turnsAll_0 rfl rfl ?_
  obtain ⟨fs, v1, he, hv, h⟩ := h
  refine eg_get 1 in_X12 he rfl (Nat.le_of_ble_eq_true rfl) q758 rfl hv dX12_turnsAll_1 ?_
  obtain ⟨p2, rfl, h⟩ := h
  obtain ⟨c0, fs, v3, hc0, he, hv, h⟩ := h
  refine en_get 0 (Nat.le_of_ble_eq_true rfl) hc0 he q631 hv dX12_turnsAll_4 ?_
  obtain ⟨hok, h⟩ := h
  obtain ⟨hc1, hs1, h⟩ := h
  refine eh_new_z q472 rfl hok hc1 hs1 dX12_turnsAll_7 (fun p4 qp4 g5 eg5 => ?_)
  replace h := h p4 qp4 g5 eg5
  replace hu := And.intro hc1 hs1
  refine eg_astore_n (i := 1) (lv' := [(1, .ref p4), (0, .ref a0)]) dX12_turnsAll_9 rfl (Nat.le_of_ble_eq_true rfl) rfl ?_
  refine eg_aload_n 1 dX12_turnsAll_10 rfl rfl ?_
  obtain ⟨fs, v6, he, hv, h⟩ := h
  refine eg_get 1 in_X12 he rfl (Nat.le_of_ble_eq_true rfl) q758 rfl hv dX12_turnsAll_11 ?_
  obtain ⟨p7, rfl, h⟩ := h
  obtain ⟨c0, fs, v8, hc0, he, hv, h⟩ := h
  refine en_get 0 (Nat.le_of_ble_eq_true rfl) hc0 he q631 hv dX12_turnsAll_14 ?_
  obtain ⟨hok, h⟩ := h
  obtain ⟨hc1, hs1, h⟩ := h
  refine eh_new_i q158 rfl hok hc1 hs1 dX12_turnsAll_17 (fun p9 qp9 g10 eg10 => ?_)
  replace h := h p9 qp9 g10 eg10
  replace hu := And.intro hc1 hs1
  refine eg_astore_n (i := 2) (lv' := [(2, .ref p9), (1, .ref p4), (0, .ref a0)]) dX12_turnsAll_19 rfl (Nat.le_of_ble_eq_true rfl) rfl ?_
  refine eg_aload_n 1 dX12_turnsAll_20 rfl rfl ?_
  refine eg_iconst dX12_turnsAll_21 kc_0 ?_
  refine eg_iconst dX12_turnsAll_22 kc_1 ?_
  obtain ⟨nA, fA, he, hb, h⟩ := h
  refine eh_zast he hb dX12_turnsAll_23 (fun g11 eg11 => ?_)
  replace h := h g11 eg11
  refine eg_iconst dX12_turnsAll_24 kc_1 ?_
  refine eg_istore_n (lv' := [(3, .int 1), (2, .ref p9), (1, .ref p4), (0, .ref a0)]) dX12_turnsAll_25 rfl (Nat.le_of_ble_eq_true rfl) rfl ?_
  refine eg_iconst dX12_turnsAll_26 kc_0 ?_
  refine eg_istore (lv' := [(4, .int 0), (3, .int 1), (2, .ref p9), (1, .ref p4), (0, .ref a0)]) dX12_turnsAll_27 (Nat.le_of_ble_eq_true rfl) rfl ?_
  refine eg_sub [4, 3, 2, 1, 0] rfl ?_
  refine eb_loop5_e (J := fun (x3_12 : Int32) (x4_13 : Int32) (g14 : eb_S) (u15 : Nat) (w16 : Nat) => (u15 ≤ bc ∧ w16 ≤ bs) → eb_G l Γ P X cX12_turnsAll RX12 9 (none) (rmX12_turnsAll bc bs) 29 [(0, .ref a0), (1, .ref p4), (2, .ref p9), (3, .int x3_12), (4, .int x4_13)] [] g14 u15 w16) h ?_ hu
  clear h
  clear hu
  intro r17 hr17 x3_12 x4_13 g14 u15 w16 h hu
  refine eg_iload 4 dX12_turnsAll_29 rfl ?_
  refine eg_iload_n 3 dX12_turnsAll_31 rfl rfl ?_
  refine eg_icmp_ge dX12_turnsAll_32 (fun c71 => ?_) (fun c71 => ?_)
  · replace h := h.1 c71
    exact eg_vret dX12_turnsAll_141 hu.1 hu.2 (hP _ _ ⟨rfl, h⟩)
  · replace h := h.2 c71
    refine eg_aload_n 2 dX12_turnsAll_35 rfl rfl ?_
    refine eg_iload 4 dX12_turnsAll_36 rfl ?_
    obtain ⟨nA, fA, he, hb, h⟩ := h
    refine eh_iald he hb dX12_turnsAll_38 (fun v18 ev18 => ?_)
    replace h := h v18 ev18
    refine eg_istore (lv' := [(5, .int v18), (0, .ref a0), (1, .ref p4), (2, .ref p9), (3, .int x3_12), (4, .int x4_13)]) dX12_turnsAll_39 (Nat.le_of_ble_eq_true rfl) rfl ?_
    refine eg_iconst dX12_turnsAll_41 kc_0 ?_
    refine eg_istore (lv' := [(6, .int 0), (5, .int v18), (0, .ref a0), (1, .ref p4), (2, .ref p9), (3, .int x3_12), (4, .int x4_13)]) dX12_turnsAll_42 (Nat.le_of_ble_eq_true rfl) rfl ?_
    refine eb_jp4_e (J := fun (x3_19 : Int32) (g20 : eb_S) (u21 : Nat) (w22 : Nat) => (u21 ≤ bc ∧ w22 ≤ bs) → eb_G l Γ P X cX12_turnsAll RX12 9 (none) (rmX12_turnsAll bc bs) 135 [(0, .ref a0), (1, .ref p4), (2, .ref p9), (3, .int x3_19), (4, .int x4_13)] [] g20 u21 w22) h ?_ ?_
    · clear h
      intro x3_19 g20 u21 w22 h hu
      refine eg_iinc (j := 4) (lv' := [(4, .int (x4_13 + 1)), (0, .ref a0), (1, .ref p4), (2, .ref p9), (3, .int x3_19)]) dX12_turnsAll_135 rfl (by rw [kc_1]) (Nat.le_of_ble_eq_true rfl) rfl ?_
      refine eg_goto dX12_turnsAll_138 ?_
      exact eg_sub [1, 2, 3, 4, 0] rfl (hr17 x3_19 (x4_13 + 1) g20 u21 w22 h hu)
    · clear h
      intro k23 hk23 h
      refine eg_sub [2, 3, 4, 5, 6, 1, 0] rfl ?_
      refine eb_loop5_e (J := fun (x3_24 : Int32) (x6_25 : Int32) (g26 : eb_S) (u27 : Nat) (w28 : Nat) => (u27 ≤ bc ∧ w28 ≤ bs) → eb_G l Γ P X cX12_turnsAll RX12 9 (none) (rmX12_turnsAll bc bs) 44 [(0, .ref a0), (1, .ref p4), (2, .ref p9), (3, .int x3_24), (4, .int x4_13), (5, .int v18), (6, .int x6_25)] [] g26 u27 w28) h ?_ hu
      clear h
      clear hu
      intro r29 hr29 x3_24 x6_25 g26 u27 w28 h hu
      refine eg_iload 6 dX12_turnsAll_44 rfl ?_
      refine eg_aload_n 0 dX12_turnsAll_46 rfl rfl ?_
      obtain ⟨fs, v30, he, hv, h⟩ := h
      refine eg_get 1 in_X12 he rfl (Nat.le_of_ble_eq_true rfl) q758 rfl hv dX12_turnsAll_47 ?_
      refine eg_iload 5 dX12_turnsAll_50 rfl ?_
      obtain ⟨p31, rfl, h⟩ := h
      obtain ⟨hcs, h⟩ := h
      have hM0 := h
      clear h
      refine ec_UIp (rest := [.int x6_25]) (ctX10_degree hM0) gUX12_91 rfl hcs nX10_degree ⟨Nat.le_of_ble_eq_true rfl, Nat.le_of_ble_eq_true rfl⟩ ⟨rfl, rfl⟩ hu rfl rfl (Nat.le_of_ble_eq_true rfl) dX12_turnsAll_52 (fun v32 h => ?_)
      clear hM0
      refine eg_icmp_ge dX12_turnsAll_55 (fun c70 => ?_) (fun c70 => ?_)
      · replace h := h.1 c70
        exact eg_sub [0, 1, 2, 3, 4] rfl (hk23 x3_24 g26 u27 w28 h hu)
      · replace h := h.2 c70
        refine eg_aload_n 0 dX12_turnsAll_58 rfl rfl ?_
        refine eg_iload 5 dX12_turnsAll_59 rfl ?_
        refine eg_iload 6 dX12_turnsAll_61 rfl ?_
        obtain ⟨hcs, h⟩ := h
        have hM0 := h
        clear h
        refine ec_VIp (rest := []) (ctX12_neighbour hM0) (lw_V q728 q730 qs21 q89 q731) rfl rfl hcs nX12_neighbour ⟨Nat.le_of_ble_eq_true rfl, Nat.le_of_ble_eq_true rfl⟩ ⟨rfl, rfl⟩ hu rfl rfl (Nat.le_of_ble_eq_true rfl) dX12_turnsAll_63 (fun v36 h => ?_)
        clear hM0
        refine eg_istore (lv' := [(7, .int v36), (0, .ref a0), (1, .ref p4), (2, .ref p9), (3, .int x3_24), (4, .int x4_13), (5, .int v18), (6, .int x6_25)]) dX12_turnsAll_66 (Nat.le_of_ble_eq_true rfl) rfl ?_
        refine eg_aload_n 2 dX12_turnsAll_68 rfl rfl ?_
        refine eg_iload 0 dX12_turnsAll_69 rfl ?_
        obtain ⟨nA, fA, he, hb, h⟩ := h
        refine eh_zald he hb dX12_turnsAll_71 (fun v40 ev40 => ?_)
        replace h := h v40 ev40
        refine eb_jp4_e (J := fun (x3_41 : Int32) (g42 : eb_S) (u43 : Nat) (w44 : Nat) => (u43 ≤ bc ∧ w44 ≤ bs) → eb_G l Γ P X cX12_turnsAll RX12 9 (none) (rmX12_turnsAll bc bs) 129 [(0, .ref a0), (1, .ref p4), (2, .ref p9), (3, .int x3_41), (4, .int x4_13), (5, .int v18), (6, .int x6_25)] [] g42 u43 w44) h ?_ ?_
        · clear h
          intro x3_41 g42 u43 w44 h hu
          refine eg_iinc (j := 6) (lv' := [(6, .int (x6_25 + 1)), (0, .ref a0), (1, .ref p4), (2, .ref p9), (3, .int x3_41), (4, .int x4_13), (5, .int v18)]) dX12_turnsAll_129 rfl (by rw [kc_1]) (Nat.le_of_ble_eq_true rfl) rfl ?_
          refine eg_goto dX12_turnsAll_132 ?_
          exact eg_sub [1, 2, 3, 4, 5, 6, 0] rfl (hr29 x3_41 (x6_25 + 1) g42 u43 w44 h hu)
        · clear h
          intro k45 hk45 h
          refine eg_if_ne dX12_turnsAll_72 (fun c69 => ?_) (fun c69 => ?_)
          · replace h := h.2 c69
            exact eg_sub [1, 2, 3, 4, 5, 6, 7] rfl (hk45 x3_24 g26 u27 w28 h hu)
          · replace h := h.1 c69
            refine eg_aload_n 2 dX12_turnsAll_75 rfl rfl ?_
            refine eg_iload 0 dX12_turnsAll_76 rfl ?_
            refine eg_iconst dX12_turnsAll_78 kc_1 ?_
            obtain ⟨nA, fA, he, hb, h⟩ := h
            refine eh_zast he hb dX12_turnsAll_79 (fun g46 eg46 => ?_)
            replace h := h g46 eg46
            refine eg_aload_n 3 dX12_turnsAll_80 rfl rfl ?_
            refine eg_iload_n 4 dX12_turnsAll_81 rfl rfl ?_
            refine eg_iload 0 dX12_turnsAll_82 rfl ?_
            obtain ⟨nA, fA, he, hb, h⟩ := h
            refine eh_iast he hb dX12_turnsAll_84 (fun g47 eg47 => ?_)
            replace h := h g47 eg47
            refine eg_iinc (j := 4) (lv' := [(3, .int (x3_24 + 1)), (7, .int v36), (0, .ref a0), (1, .ref p4), (2, .ref p9), (4, .int x4_13), (5, .int v18), (6, .int x6_25)]) dX12_turnsAll_85 rfl (by rw [kc_1]) (Nat.le_of_ble_eq_true rfl) rfl ?_
            refine eg_aload_n 2 dX12_turnsAll_88 rfl rfl ?_
            refine eg_iload 1 dX12_turnsAll_89 rfl ?_
            refine eg_iload 6 dX12_turnsAll_91 rfl ?_
            obtain ⟨hcs, h⟩ := h
            have hM0 := h
            clear h
            refine ec_VIp (rest := []) (ctX12_placeOf hM0) (lw_V q736 q738 qs23 q89 q739) rfl rfl hcs nX12_placeOf ⟨Nat.le_of_ble_eq_true rfl, Nat.le_of_ble_eq_true rfl⟩ ⟨rfl, rfl⟩ hu rfl rfl (Nat.le_of_ble_eq_true rfl) dX12_turnsAll_93 (fun v48 h => ?_)
            clear hM0
            refine eg_istore (lv' := [(8, .int v48), (3, .int (x3_24 + 1)), (7, .int v36), (0, .ref a0), (1, .ref p4), (2, .ref p9), (4, .int x4_13), (5, .int v18), (6, .int x6_25)]) dX12_turnsAll_96 (Nat.le_of_ble_eq_true rfl) rfl ?_
            refine eg_aload_n 3 dX12_turnsAll_98 rfl rfl ?_
            refine eg_iload 2 dX12_turnsAll_99 rfl ?_
            refine eg_aload_n 3 dX12_turnsAll_101 rfl rfl ?_
            refine eg_iload 2 dX12_turnsAll_102 rfl ?_
            refine eg_iload 0 dX12_turnsAll_104 rfl ?_
            obtain ⟨hcs, h⟩ := h
            have hM0 := h
            clear h
            refine ec_VIp (rest := [.int v36, .ref a0]) (ctX12_before hM0) (lw_V q740 q742 qs24 q89 q743) rfl rfl hcs nX12_before ⟨Nat.le_of_ble_eq_true rfl, Nat.le_of_ble_eq_true rfl⟩ ⟨rfl, rfl⟩ hu rfl rfl (Nat.le_of_ble_eq_true rfl) dX12_turnsAll_106 (fun v52 h => ?_)
            clear hM0
            obtain ⟨hcs, h⟩ := h
            have hM0 := h
            clear h
            refine ec_VIp (rest := []) (ctX12_behind hM0) (lw_V q747 q749 qs25 q89 q750) rfl rfl hcs nX12_behind ⟨Nat.le_of_ble_eq_true rfl, Nat.le_of_ble_eq_true rfl⟩ ⟨rfl, rfl⟩ hu rfl rfl (Nat.le_of_ble_eq_true rfl) dX12_turnsAll_109 (fun v56 h => ?_)
            clear hM0
            refine eg_aload_n 3 dX12_turnsAll_112 rfl rfl ?_
            refine eg_iload 7 dX12_turnsAll_113 rfl ?_
            refine eg_iload 8 dX12_turnsAll_115 rfl ?_
            obtain ⟨hcs, h⟩ := h
            have hM0 := h
            clear h
            refine ec_VIp (rest := [.int v56]) (ctX12_behind hM0) (lw_V q747 q749 qs25 q89 q750) rfl rfl hcs nX12_behind ⟨Nat.le_of_ble_eq_true rfl, Nat.le_of_ble_eq_true rfl⟩ ⟨rfl, rfl⟩ hu rfl rfl (Nat.le_of_ble_eq_true rfl) dX12_turnsAll_117 (fun v60 h => ?_)
            clear hM0
            refine eg_icmp_eq dX12_turnsAll_120 (fun c68 => ?_) (fun c68 => ?_)
            · replace h := h.1 c68
              exact eg_sub [3, 4, 5, 1, 6, 7, 8] rfl (hk45 (x3_24 + 1) g47 u27 w28 h hu)
            · replace h := h.2 c68
              refine eg_aload_n 3 dX12_turnsAll_123 rfl rfl ?_
              refine eg_iload 2 dX12_turnsAll_124 rfl ?_
              obtain ⟨hcs, h⟩ := h
              obtain ⟨c66, s67, hca, h⟩ := h
              have hM0 := h
              clear h
              refine ec_VVa (rest := []) (ctX12_turns hM0) (lw_V q751 q753 qs26 q89 q754) rfl rfl hcs nX12_turns ⟨Nat.le_of_ble_eq_true rfl, Nat.le_of_ble_eq_true rfl⟩ ⟨rfl, rfl⟩ hca rfl rfl (Nat.le_of_ble_eq_true rfl) dX12_turnsAll_126 (fun g65 h => ?_)
              clear hM0
              replace hu := hca
              exact eg_sub [3, 4, 5, 1, 6, 7, 8] rfl (hk45 (x3_24 + 1) g65 (u27 + c66) (w28 + s67) h hu)
def MX12_init (Γ : eb_C) (bc bs : Nat) (st : eb_S) (a0 : Nat) (a1 : Nat) (K : eb_S → Prop) : Prop :=
  eb_mk st (eb_ia Γ 0 150 (fun _ => 0)) 150 bc bs 0 0 (fun p1 g2 => eb_pt g2 a0 11 3 (.ref p1) (fun g3 => eb_mk g3 (eb_ia Γ 0 1800 (fun _ => 0)) 1800 bc bs (0 + 1) (0 + 150) (fun p4 g5 => eb_pt g5 a0 11 4 (.ref p4) (fun g6 => eb_pt g6 a0 11 0 (.ref a1) (fun g7 => eb_mk g7 (.inr (10, [.int 0, .int 0, .null, .null])) 4 bc bs (((0 + 1) + 1)) (((0 + 150) + 1800)) (fun p8 g9 => ∃ c12 s13 : Nat, (((((0 + 1) + 1) + 1)) + c12 ≤ bc ∧ ((((0 + 150) + 1800) + 4)) + s13 ≤ bs) ∧ MX11_init Γ c12 s13 g9 p8 a1 (fun g11 => eb_pt g11 a0 11 1 (.ref p8) (fun g14 => eb_gr g14 a0 11 1 (fun v15 => eb_nn v15 (fun p16 => eb_ni g14 p16 0 (fun v17 => eb_ok1 (8 * v17) ∧ (eb_mk g14 (eb_ia Γ 0 ((8 * v17).toNatClampNeg) (fun _ => 0)) ((8 * v17).toNatClampNeg) bc bs (((((0 + 1) + 1) + 1) + c12)) (((((0 + 150) + 1800) + 4) + s13)) (fun p18 g19 => eb_pt g19 a0 11 5 (.ref p18) (fun g20 => eb_gr g20 a0 11 1 (fun v21 => eb_nn v21 (fun p22 => eb_ni g20 p22 0 (fun v23 => eb_ok1 (8 * v23) ∧ (eb_mk g20 (eb_ia Γ 0 ((8 * v23).toNatClampNeg) (fun _ => 0)) ((8 * v23).toNatClampNeg) bc bs ((((((0 + 1) + 1) + 1) + c12) + 1)) ((((((0 + 150) + 1800) + 4) + s13) + ((8 * v17).toNatClampNeg))) (fun p24 g25 => eb_pt g25 a0 11 6 (.ref p24) (fun g26 => eb_cs g26 a1 [1] ∧ ∃ c29 s30 : Nat, ((((((((0 + 1) + 1) + 1) + c12) + 1) + 1)) + c29 ≤ bc ∧ (((((((0 + 150) + 1800) + 4) + s13) + ((8 * v17).toNatClampNeg)) + ((8 * v23).toNatClampNeg))) + s30 ≤ bs) ∧ MX1_parts Γ c29 s30 g26 a1 0 (fun v27 g28 => eb_jp3 (fun (g31 : eb_S) (u32 : Nat) (w33 : Nat) => eb_jp1 (fun (g34 : eb_S) => eb_cs g34 a0 [11] ∧ ∃ c37 s38 : Nat, (u32 + c37 ≤ bc ∧ w33 + s38 ≤ bs) ∧ MX12_turnsAll Γ c37 s38 g34 a0 (fun g36 => K g36)) (fun k39 => eb_loop2 (fun r42 (x3_40 : Int32) (g41 : eb_S) => eb_gr g41 a0 11 1 (fun v43 => eb_nn v43 (fun p44 => eb_ni g41 p44 0 (fun v45 => eb_br (v45 ≤ x3_40) (k39 g41) (eb_cs g41 a0 [11] ∧ MX12_goesRound Γ g41 a0 x3_40 (fun g47 => r42 (x3_40 + 1) g47)))))) 0 g31)) (fun k51 => eb_loop4 (fun r56 (x3_52 : Int32) (g53 : eb_S) (u54 : Nat) (w55 : Nat) => eb_cs g53 a1 [1] ∧ MX1_all Γ g53 a1 (fun v57 => eb_br (v57 < x3_52) (k51 g53 u54 w55) (MJ1_bitCount x3_52 (fun v61 => eb_jp3 (fun (g65 : eb_S) (u66 : Nat) (w67 : Nat) => r56 (x3_52 + 1) g65 u66 w67) (fun k68 => eb_br (v61 = 2) (eb_cs g53 a1 [1] ∧ MX1_isKind Γ g53 a1 x3_52 (fun v69 => eb_br (v69 = 0) (k68 g53 u54 w55) (eb_cs g53 a1 [1] ∧ ∃ c75 s76 : Nat, (u54 + c75 ≤ bc ∧ w55 + s76 ≤ bs) ∧ MX1_parts Γ c75 s76 g53 a1 x3_52 (fun v73 g74 => eb_jp1 (fun (g77 : eb_S) => eb_gi g77 a0 11 2 (fun v78 => eb_cs g77 a1 [1] ∧ ∃ c81 s82 : Nat, ((u54 + c75) + c81 ≤ bc ∧ (w55 + s76) + s82 ≤ bs) ∧ MX1_many Γ c81 s82 g77 a1 x3_52 (fun v79 g80 => eb_pt g80 a0 11 2 (.int (v78 + v79)) (fun g83 => k68 g83 (((u54 + c75) + c81)) (((w55 + s76) + s82)))))) (fun k84 => eb_loop2 (fun r87 (x5_85 : Int32) (g86 : eb_S) => eb_gr g86 a1 1 3 (fun v88 => eb_nn v88 (fun p89 => eb_gi g86 p89 7 1 (fun v90 => eb_br (v90 ≤ x5_85) (k84 g86) (eb_gi g86 a0 11 2 (fun v91 => eb_nn v73 (fun p92 => eb_li Γ g86 p92 3 x5_85 (fun v93 => eb_nn v27 (fun p94 => eb_li Γ g86 p94 3 x5_85 (fun v95 => eb_cs g86 a0 [11] ∧ MX12_comes Γ g86 a0 (v91 + v93) v95 (fun g97 => r87 (x5_85 + 1) g97))))))))))) 0 g74))))) (k68 g53 u54 w55)))))) 0 g28 ((((((((0 + 1) + 1) + 1) + c12) + 1) + 1) + c29)) ((((((((0 + 150) + 1800) + 4) + s13) + ((8 * v17).toNatClampNeg)) + ((8 * v23).toNatClampNeg)) + s30))))))))))))))))))))))))
abbrev rmX12_init (bc bs : Nat) : Room := { frames := 7, cells := bc, slots := bs, locals := 155 }
theorem nX12_init : eb_ar yX12_init 1 := by decide +kernel
theorem dX12_init_0 : eb_dc cX12_init 0 (.aload_n 0) 1 1 := by decide +kernel
theorem dX12_init_1 : eb_dc cX12_init 1 (.invokespecial 3) 3 4 := by decide +kernel
theorem dX12_init_4 : eb_dc cX12_init 4 (.aload_n 0) 1 5 := by decide +kernel
theorem dX12_init_5 : eb_dc cX12_init 5 (.sipush 150) 3 8 := by decide +kernel
theorem dX12_init_8 : eb_dc cX12_init 8 (.newarray .int) 2 10 := by decide +kernel
theorem dX12_init_10 : eb_dc cX12_init 10 (.putfield 9) 3 13 := by decide +kernel
theorem dX12_init_13 : eb_dc cX12_init 13 (.aload_n 0) 1 14 := by decide +kernel
theorem dX12_init_14 : eb_dc cX12_init 14 (.sipush 1800) 3 17 := by decide +kernel
theorem dX12_init_17 : eb_dc cX12_init 17 (.newarray .int) 2 19 := by decide +kernel
theorem dX12_init_19 : eb_dc cX12_init 19 (.putfield 15) 3 22 := by decide +kernel
theorem dX12_init_22 : eb_dc cX12_init 22 (.aload_n 0) 1 23 := by decide +kernel
theorem dX12_init_23 : eb_dc cX12_init 23 (.aload_n 1) 1 24 := by decide +kernel
theorem dX12_init_24 : eb_dc cX12_init 24 (.putfield 18) 3 27 := by decide +kernel
theorem dX12_init_27 : eb_dc cX12_init 27 (.aload_n 0) 1 28 := by decide +kernel
theorem dX12_init_28 : eb_dc cX12_init 28 (.new 22) 3 31 := by decide +kernel
theorem dX12_init_31 : eb_dc cX12_init 31 (.dup) 1 32 := by decide +kernel
theorem dX12_init_32 : eb_dc cX12_init 32 (.aload_n 1) 1 33 := by decide +kernel
theorem dX12_init_33 : eb_dc cX12_init 33 (.invokespecial 24) 3 36 := by decide +kernel
theorem dX12_init_36 : eb_dc cX12_init 36 (.putfield 27) 3 39 := by decide +kernel
theorem dX12_init_39 : eb_dc cX12_init 39 (.aload_n 0) 1 40 := by decide +kernel
theorem dX12_init_40 : eb_dc cX12_init 40 (.bipush 8) 2 42 := by decide +kernel
theorem dX12_init_42 : eb_dc cX12_init 42 (.aload_n 0) 1 43 := by decide +kernel
theorem dX12_init_43 : eb_dc cX12_init 43 (.getfield 27) 3 46 := by decide +kernel
theorem dX12_init_46 : eb_dc cX12_init 46 (.getfield 31) 3 49 := by decide +kernel
theorem dX12_init_49 : eb_dc cX12_init 49 (.imul) 1 50 := by decide +kernel
theorem dX12_init_50 : eb_dc cX12_init 50 (.newarray .int) 2 52 := by decide +kernel
theorem dX12_init_52 : eb_dc cX12_init 52 (.putfield 37) 3 55 := by decide +kernel
theorem dX12_init_55 : eb_dc cX12_init 55 (.aload_n 0) 1 56 := by decide +kernel
theorem dX12_init_56 : eb_dc cX12_init 56 (.bipush 8) 2 58 := by decide +kernel
theorem dX12_init_58 : eb_dc cX12_init 58 (.aload_n 0) 1 59 := by decide +kernel
theorem dX12_init_59 : eb_dc cX12_init 59 (.getfield 27) 3 62 := by decide +kernel
theorem dX12_init_62 : eb_dc cX12_init 62 (.getfield 31) 3 65 := by decide +kernel
theorem dX12_init_65 : eb_dc cX12_init 65 (.imul) 1 66 := by decide +kernel
theorem dX12_init_66 : eb_dc cX12_init 66 (.newarray .int) 2 68 := by decide +kernel
theorem dX12_init_68 : eb_dc cX12_init 68 (.putfield 40) 3 71 := by decide +kernel
theorem dX12_init_71 : eb_dc cX12_init 71 (.aload_n 1) 1 72 := by decide +kernel
theorem dX12_init_72 : eb_dc cX12_init 72 (.iconst 0) 1 73 := by decide +kernel
theorem dX12_init_73 : eb_dc cX12_init 73 (.invokevirtual 43) 3 76 := by decide +kernel
theorem dX12_init_76 : eb_dc cX12_init 76 (.astore_n 2) 1 77 := by decide +kernel
theorem dX12_init_77 : eb_dc cX12_init 77 (.iconst 0) 1 78 := by decide +kernel
theorem dX12_init_78 : eb_dc cX12_init 78 (.istore_n 3) 1 79 := by decide +kernel
theorem dX12_init_79 : eb_dc cX12_init 79 (.iload_n 3) 1 80 := by decide +kernel
theorem dX12_init_80 : eb_dc cX12_init 80 (.aload_n 1) 1 81 := by decide +kernel
theorem dX12_init_81 : eb_dc cX12_init 81 (.invokevirtual 49) 3 84 := by decide +kernel
theorem dX12_init_84 : eb_dj cX12_init 84 (.if_icmp .gt 85) 85 87 169 := by decide +kernel
theorem dX12_init_87 : eb_dc cX12_init 87 (.iload_n 3) 1 88 := by decide +kernel
theorem dX12_init_88 : eb_dc cX12_init 88 (.invokestatic 53) 3 91 := by decide +kernel
theorem dX12_init_91 : eb_dc cX12_init 91 (.iconst 2) 1 92 := by decide +kernel
theorem dX12_init_92 : eb_dj cX12_init 92 (.if_icmp .ne 71) 71 95 163 := by decide +kernel
theorem dX12_init_95 : eb_dc cX12_init 95 (.aload_n 1) 1 96 := by decide +kernel
theorem dX12_init_96 : eb_dc cX12_init 96 (.iload_n 3) 1 97 := by decide +kernel
theorem dX12_init_97 : eb_dc cX12_init 97 (.invokevirtual 59) 3 100 := by decide +kernel
theorem dX12_init_100 : eb_dj cX12_init 100 (.ifCond .eq 63) 63 103 163 := by decide +kernel
theorem dX12_init_103 : eb_dc cX12_init 103 (.aload_n 1) 1 104 := by decide +kernel
theorem dX12_init_104 : eb_dc cX12_init 104 (.iload_n 3) 1 105 := by decide +kernel
theorem dX12_init_105 : eb_dc cX12_init 105 (.invokevirtual 43) 3 108 := by decide +kernel
theorem dX12_init_108 : eb_dc cX12_init 108 (.astore 4) 2 110 := by decide +kernel
theorem dX12_init_110 : eb_dc cX12_init 110 (.iconst 0) 1 111 := by decide +kernel
theorem dX12_init_111 : eb_dc cX12_init 111 (.istore 5) 2 113 := by decide +kernel
theorem dX12_init_113 : eb_dc cX12_init 113 (.iload 5) 2 115 := by decide +kernel
theorem dX12_init_115 : eb_dc cX12_init 115 (.aload_n 1) 1 116 := by decide +kernel
theorem dX12_init_116 : eb_dc cX12_init 116 (.getfield 63) 3 119 := by decide +kernel
theorem dX12_init_119 : eb_dc cX12_init 119 (.getfield 67) 3 122 := by decide +kernel
theorem dX12_init_122 : eb_dj cX12_init 122 (.if_icmp .ge 27) 27 125 149 := by decide +kernel
theorem dX12_init_125 : eb_dc cX12_init 125 (.aload_n 0) 1 126 := by decide +kernel
theorem dX12_init_126 : eb_dc cX12_init 126 (.aload_n 0) 1 127 := by decide +kernel
theorem dX12_init_127 : eb_dc cX12_init 127 (.getfield 70) 3 130 := by decide +kernel
theorem dX12_init_130 : eb_dc cX12_init 130 (.aload 4) 2 132 := by decide +kernel
theorem dX12_init_132 : eb_dc cX12_init 132 (.iload 5) 2 134 := by decide +kernel
theorem dX12_init_134 : eb_dc cX12_init 134 (.saload) 1 135 := by decide +kernel
theorem dX12_init_135 : eb_dc cX12_init 135 (.iadd) 1 136 := by decide +kernel
theorem dX12_init_136 : eb_dc cX12_init 136 (.aload_n 2) 1 137 := by decide +kernel
theorem dX12_init_137 : eb_dc cX12_init 137 (.iload 5) 2 139 := by decide +kernel
theorem dX12_init_139 : eb_dc cX12_init 139 (.saload) 1 140 := by decide +kernel
theorem dX12_init_140 : eb_dc cX12_init 140 (.invokevirtual 73) 3 143 := by decide +kernel
theorem dX12_init_143 : eb_dc cX12_init 143 (.iinc 5 1) 3 146 := by decide +kernel
theorem dX12_init_146 : eb_dj cX12_init 146 (.goto (-33)) (-33) 149 113 := by decide +kernel
theorem dX12_init_149 : eb_dc cX12_init 149 (.aload_n 0) 1 150 := by decide +kernel
theorem dX12_init_150 : eb_dc cX12_init 150 (.dup) 1 151 := by decide +kernel
theorem dX12_init_151 : eb_dc cX12_init 151 (.getfield 70) 3 154 := by decide +kernel
theorem dX12_init_154 : eb_dc cX12_init 154 (.aload_n 1) 1 155 := by decide +kernel
theorem dX12_init_155 : eb_dc cX12_init 155 (.iload_n 3) 1 156 := by decide +kernel
theorem dX12_init_156 : eb_dc cX12_init 156 (.invokevirtual 77) 3 159 := by decide +kernel
theorem dX12_init_159 : eb_dc cX12_init 159 (.iadd) 1 160 := by decide +kernel
theorem dX12_init_160 : eb_dc cX12_init 160 (.putfield 70) 3 163 := by decide +kernel
theorem dX12_init_163 : eb_dc cX12_init 163 (.iinc 3 1) 3 166 := by decide +kernel
theorem dX12_init_166 : eb_dj cX12_init 166 (.goto (-87)) (-87) 169 79 := by decide +kernel
theorem dX12_init_169 : eb_dc cX12_init 169 (.iconst 0) 1 170 := by decide +kernel
theorem dX12_init_170 : eb_dc cX12_init 170 (.istore_n 3) 1 171 := by decide +kernel
theorem dX12_init_171 : eb_dc cX12_init 171 (.iload_n 3) 1 172 := by decide +kernel
theorem dX12_init_172 : eb_dc cX12_init 172 (.aload_n 0) 1 173 := by decide +kernel
theorem dX12_init_173 : eb_dc cX12_init 173 (.getfield 27) 3 176 := by decide +kernel
theorem dX12_init_176 : eb_dc cX12_init 176 (.getfield 31) 3 179 := by decide +kernel
theorem dX12_init_179 : eb_dj cX12_init 179 (.if_icmp .ge 14) 14 182 193 := by decide +kernel
theorem dX12_init_182 : eb_dc cX12_init 182 (.aload_n 0) 1 183 := by decide +kernel
theorem dX12_init_183 : eb_dc cX12_init 183 (.iload_n 3) 1 184 := by decide +kernel
theorem dX12_init_184 : eb_dc cX12_init 184 (.invokevirtual 80) 3 187 := by decide +kernel
theorem dX12_init_187 : eb_dc cX12_init 187 (.iinc 3 1) 3 190 := by decide +kernel
theorem dX12_init_190 : eb_dj cX12_init 190 (.goto (-19)) (-19) 193 171 := by decide +kernel
theorem dX12_init_193 : eb_dc cX12_init 193 (.aload_n 0) 1 194 := by decide +kernel
theorem dX12_init_194 : eb_dc cX12_init 194 (.invokevirtual 84) 3 197 := by decide +kernel
theorem dX12_init_197 : eb_dc cX12_init 197 (.return_) 1 198 := by decide +kernel
theorem ctX12_init {l : Launch} {Γ : eb_C} {bc bs : Nat} {st : eb_S} {a0 : Nat} {a1 : Nat} {K : eb_S → Prop} (h : MX12_init Γ bc bs st a0 a1 K) : eb_Ct l Γ yX12_init cX12_init 6 (none) (rmX12_init bc bs) [.ref a0, .ref a1] st (eb_oV K) := by
  refine eb_of (by decide) (Nat.le_of_ble_eq_true rfl) (fun X P hP hX0 => ?_)
  replace hX0 := hX0 rfl
  suffices hgo : (0 ≤ bc ∧ 0 ≤ bs) → eb_G l Γ P X cX12_init RX12 6 (none) (rmX12_init bc bs) 0 [(0, .ref a0), (1, .ref a1)] [] st 0 0 from hgo ⟨Nat.zero_le _, Nat.zero_le _⟩
  intro hu
  refine eg_aload_n 0 dX12_init_0 rfl rfl ?_
  refine eg_objInit q698 q104 q105 dX12_init_1 (Nat.le_of_ble_eq_true rfl) (Nat.le_of_ble_eq_true rfl) ?_
  refine eg_aload_n 0 dX12_init_4 rfl rfl ?_
  refine eg_sipush dX12_init_5 ks_150 ?_
  obtain ⟨hc1, hs1, h⟩ := h
  refine eh_new_i q158 rfl ⟨by decide, by decide⟩ hc1 hs1 dX12_init_8 (fun p1 qp1 g2 eg2 => ?_)
  replace h := h p1 qp1 g2 eg2
  replace hu := And.intro hc1 hs1
  obtain ⟨fs, he, hlen, h⟩ := h
  refine eh_putF 3 in_X12 he rfl (Nat.le_of_ble_eq_true rfl) tyX12 tyX12_ok nmX12 q762 rfl rfl hX0 rfl rfl rfl hlen dX12_init_10 (fun g3 eg3 => ?_)
  replace h := h g3 eg3
  refine eg_aload_n 0 dX12_init_13 rfl rfl ?_
  refine eg_sipush dX12_init_14 ks_1800 ?_
  obtain ⟨hc1, hs1, h⟩ := h
  refine eh_new_i q158 rfl ⟨by decide, by decide⟩ hc1 hs1 dX12_init_17 (fun p4 qp4 g5 eg5 => ?_)
  replace h := h p4 qp4 g5 eg5
  replace hu := And.intro hc1 hs1
  obtain ⟨fs, he, hlen, h⟩ := h
  refine eh_putF 4 in_X12 he rfl (Nat.le_of_ble_eq_true rfl) tyX12 tyX12_ok nmX12 q763 rfl rfl hX0 rfl rfl rfl hlen dX12_init_19 (fun g6 eg6 => ?_)
  replace h := h g6 eg6
  refine eg_aload_n 0 dX12_init_22 rfl rfl ?_
  refine eg_aload_n 1 dX12_init_23 rfl rfl ?_
  obtain ⟨fs, he, hlen, h⟩ := h
  refine eh_putF 0 in_X12 he rfl (Nat.le_of_ble_eq_true rfl) tyX12 tyX12_ok nmX12 q756 rfl rfl hX0 rfl rfl rfl hlen dX12_init_24 (fun g7 eg7 => ?_)
  replace h := h g7 eg7
  refine eg_aload_n 0 dX12_init_27 rfl rfl ?_
  obtain ⟨hc1, hs1, h⟩ := h
  refine eh_new (ci := 10) (fs := [.int 0, .int 0, .null, .null]) in_X11 tyX11 tyX11_ok q699 q596 q88 rfl (by decide +kernel) hc1 hs1 dX12_init_28 (fun p8 qp8 g9 eg9 => ?_)
  replace h := h p8 qp8 g9 eg9
  replace hu := And.intro hc1 hs1
  refine eg_dup dX12_init_31 rfl ?_
  refine eg_aload_n 1 dX12_init_32 rfl rfl ?_
  obtain ⟨c12, s13, hca, h⟩ := h
  have hM0 := h
  clear h
  refine ec_IVa (rest := [.ref p8, .ref a0]) (ctX11_init hM0) q599 q88 q700 q598 rfl nX11_init ⟨Nat.le_of_ble_eq_true rfl, Nat.le_of_ble_eq_true rfl⟩ ⟨rfl, rfl⟩ hca rfl rfl (Nat.le_of_ble_eq_true rfl) dX12_init_33 (fun g11 h => ?_)
  clear hM0
  replace hu := hca
  obtain ⟨fs, he, hlen, h⟩ := h
  refine eh_putF 1 in_X12 he rfl (Nat.le_of_ble_eq_true rfl) tyX12 tyX12_ok nmX12 q758 rfl rfl hX0 rfl rfl rfl hlen dX12_init_36 (fun g14 eg14 => ?_)
  replace h := h g14 eg14
  refine eg_aload_n 0 dX12_init_39 rfl rfl ?_
  refine eg_bipush dX12_init_40 kb_8 ?_
  refine eg_aload_n 0 dX12_init_42 rfl rfl ?_
  obtain ⟨fs, v15, he, hv, h⟩ := h
  refine eg_get 1 in_X12 he rfl (Nat.le_of_ble_eq_true rfl) q758 rfl hv dX12_init_43 ?_
  obtain ⟨p16, rfl, h⟩ := h
  obtain ⟨c0, fs, v17, hc0, he, hv, h⟩ := h
  refine en_get 0 (Nat.le_of_ble_eq_true rfl) hc0 he q631 hv dX12_init_46 ?_
  refine eg_imul dX12_init_49 ?_
  obtain ⟨hok, h⟩ := h
  obtain ⟨hc1, hs1, h⟩ := h
  refine eh_new_i q158 rfl hok hc1 hs1 dX12_init_50 (fun p18 qp18 g19 eg19 => ?_)
  replace h := h p18 qp18 g19 eg19
  replace hu := And.intro hc1 hs1
  obtain ⟨fs, he, hlen, h⟩ := h
  refine eh_putF 5 in_X12 he rfl (Nat.le_of_ble_eq_true rfl) tyX12 tyX12_ok nmX12 q764 rfl rfl hX0 rfl rfl rfl hlen dX12_init_52 (fun g20 eg20 => ?_)
  replace h := h g20 eg20
  refine eg_aload_n 0 dX12_init_55 rfl rfl ?_
  refine eg_bipush dX12_init_56 kb_8 ?_
  refine eg_aload_n 0 dX12_init_58 rfl rfl ?_
  obtain ⟨fs, v21, he, hv, h⟩ := h
  refine eg_get 1 in_X12 he rfl (Nat.le_of_ble_eq_true rfl) q758 rfl hv dX12_init_59 ?_
  obtain ⟨p22, rfl, h⟩ := h
  obtain ⟨c0, fs, v23, hc0, he, hv, h⟩ := h
  refine en_get 0 (Nat.le_of_ble_eq_true rfl) hc0 he q631 hv dX12_init_62 ?_
  refine eg_imul dX12_init_65 ?_
  obtain ⟨hok, h⟩ := h
  obtain ⟨hc1, hs1, h⟩ := h
  refine eh_new_i q158 rfl hok hc1 hs1 dX12_init_66 (fun p24 qp24 g25 eg25 => ?_)
  replace h := h p24 qp24 g25 eg25
  replace hu := And.intro hc1 hs1
  obtain ⟨fs, he, hlen, h⟩ := h
  refine eh_putF 6 in_X12 he rfl (Nat.le_of_ble_eq_true rfl) tyX12 tyX12_ok nmX12 q765 rfl rfl hX0 rfl rfl rfl hlen dX12_init_68 (fun g26 eg26 => ?_)
  replace h := h g26 eg26
  refine eg_aload_n 1 dX12_init_71 rfl rfl ?_
  refine eg_iconst dX12_init_72 kc_0 ?_
  obtain ⟨hcs, h⟩ := h
  obtain ⟨c29, s30, hca, h⟩ := h
  have hM0 := h
  clear h
  refine ec_VRa (rest := []) (ctX1_parts hM0) (lw_V q701 q515 q516 q75 q517) rfl rfl hcs nX1_parts ⟨Nat.le_of_ble_eq_true rfl, Nat.le_of_ble_eq_true rfl⟩ ⟨rfl, rfl⟩ hca rfl rfl (Nat.le_of_ble_eq_true rfl) dX12_init_73 (fun v27 g28 h => ?_)
  clear hM0
  replace hu := hca
  refine eh_astore_n (i := 2) (v := v27) (lv' := [(2, va_rf v27), (0, .ref a0), (1, .ref a1)]) dX12_init_76 rfl (Nat.le_of_ble_eq_true rfl) rfl ?_
  refine eg_iconst dX12_init_77 kc_0 ?_
  refine eg_istore_n (i := 3) (lv' := [(3, .int 0), (2, va_rf v27), (0, .ref a0), (1, .ref a1)]) dX12_init_78 rfl (Nat.le_of_ble_eq_true rfl) (by simp [List.filter_cons, eb_rfc]) ?_
  refine eb_jp3_e (J := fun (g31 : eb_S) (u32 : Nat) (w33 : Nat) => (u32 ≤ bc ∧ w33 ≤ bs) → eb_G l Γ P X cX12_init RX12 6 (none) (rmX12_init bc bs) 169 [(0, .ref a0)] [] g31 u32 w33) h ?_ ?_
  · clear h
    intro g31 u32 w33 h hu
    refine eg_iconst dX12_init_169 kc_0 ?_
    refine eg_istore_n (lv' := [(3, .int 0), (0, .ref a0)]) dX12_init_170 rfl (Nat.le_of_ble_eq_true rfl) rfl ?_
    refine eb_jp1_e (J := fun (g34 : eb_S) => (u32 ≤ bc ∧ w33 ≤ bs) → eb_G l Γ P X cX12_init RX12 6 (none) (rmX12_init bc bs) 193 [(0, .ref a0)] [] g34 u32 w33) h ?_ ?_
    · clear h
      intro g34 h hu
      refine eg_aload_n 0 dX12_init_193 rfl rfl ?_
      obtain ⟨hcs, h⟩ := h
      obtain ⟨c37, s38, hca, h⟩ := h
      have hM0 := h
      clear h
      refine ec_VVa (rest := []) (ctX12_turnsAll hM0) (lw_V q732 q734 qs22 q89 q735) rfl rfl hcs nX12_turnsAll ⟨Nat.le_of_ble_eq_true rfl, Nat.le_of_ble_eq_true rfl⟩ ⟨rfl, rfl⟩ hca rfl rfl (Nat.le_of_ble_eq_true rfl) dX12_init_194 (fun g36 h => ?_)
      clear hM0
      replace hu := hca
      exact eg_vret dX12_init_197 hu.1 hu.2 (hP _ _ ⟨rfl, h⟩)
    · clear h
      intro k39 hk39 h
      refine eg_sub [1, 0] rfl ?_
      refine eb_loop2_e (J := fun (x3_40 : Int32) (g41 : eb_S) => (u32 ≤ bc ∧ w33 ≤ bs) → eb_G l Γ P X cX12_init RX12 6 (none) (rmX12_init bc bs) 171 [(0, .ref a0), (3, .int x3_40)] [] g41 u32 w33) h ?_ hu
      clear h
      clear hu
      intro r42 hr42 x3_40 g41 h hu
      refine eg_iload_n 1 dX12_init_171 rfl rfl ?_
      refine eg_aload_n 0 dX12_init_172 rfl rfl ?_
      obtain ⟨fs, v43, he, hv, h⟩ := h
      refine eg_get 1 in_X12 he rfl (Nat.le_of_ble_eq_true rfl) q758 rfl hv dX12_init_173 ?_
      obtain ⟨p44, rfl, h⟩ := h
      obtain ⟨c0, fs, v45, hc0, he, hv, h⟩ := h
      refine en_get 0 (Nat.le_of_ble_eq_true rfl) hc0 he q631 hv dX12_init_176 ?_
      refine eg_icmp_ge dX12_init_179 (fun c50 => ?_) (fun c50 => ?_)
      · replace h := h.1 c50
        exact eg_sub [0] rfl (hk39 g41 h hu)
      · replace h := h.2 c50
        refine eg_aload_n 0 dX12_init_182 rfl rfl ?_
        refine eg_iload_n 1 dX12_init_183 rfl rfl ?_
        obtain ⟨hcs, h⟩ := h
        have hM0 := h
        clear h
        refine ec_VVw (rest := []) (ctX12_goesRound hM0) (lw_V q714 q716 qs18 q89 q717) rfl rfl hcs nX12_goesRound ⟨Nat.le_of_ble_eq_true rfl, Nat.le_of_ble_eq_true rfl⟩ ⟨rfl, rfl⟩ hu rfl rfl (Nat.le_of_ble_eq_true rfl) dX12_init_184 (fun g47 h => ?_)
        clear hM0
        refine eg_iinc (j := 1) (lv' := [(3, .int (x3_40 + 1)), (0, .ref a0)]) dX12_init_187 rfl (by rw [kc_1]) (Nat.le_of_ble_eq_true rfl) rfl ?_
        refine eg_goto dX12_init_190 ?_
        exact eg_sub [1, 0] rfl (hr42 (x3_40 + 1) g47 h hu)
  · clear h
    intro k51 hk51 h
    refine eg_sub [2, 3, 1, 0] rfl ?_
    refine eb_loop4_e (J := fun (x3_52 : Int32) (g53 : eb_S) (u54 : Nat) (w55 : Nat) => (u54 ≤ bc ∧ w55 ≤ bs) → eb_G l Γ P X cX12_init RX12 6 (none) (rmX12_init bc bs) 79 [(0, .ref a0), (1, .ref a1), (2, va_rf v27), (3, .int x3_52)] [] g53 u54 w55) h ?_ hu
    clear h
    clear hu
    intro r56 hr56 x3_52 g53 u54 w55 h hu
    refine eg_iload_n 3 dX12_init_79 rfl rfl ?_
    refine eg_aload_n 1 dX12_init_80 rfl rfl ?_
    obtain ⟨hcs, h⟩ := h
    have hM0 := h
    clear h
    refine ec_VIp (rest := [.int x3_52]) (ctX1_all hM0) (lw_V q702 q216 q217 q75 q218) rfl rfl hcs nX1_all ⟨Nat.le_of_ble_eq_true rfl, Nat.le_of_ble_eq_true rfl⟩ ⟨rfl, rfl⟩ hu rfl rfl (Nat.le_of_ble_eq_true rfl) dX12_init_81 (fun v57 h => ?_)
    clear hM0
    refine eg_icmp_gt dX12_init_84 (fun c103 => ?_) (fun c103 => ?_)
    · replace h := h.1 c103
      exact eg_sub [0] rfl (hk51 g53 u54 w55 h hu)
    · replace h := h.2 c103
      refine eg_iload_n 3 dX12_init_87 rfl rfl ?_
      have hM0 := h
      clear h
      refine ec_SIp (rest := []) (ctJ1_bitCount hM0) (lw_S q703 q258 q78 q259) nJ1_bitCount ⟨Nat.le_of_ble_eq_true rfl, Nat.le_of_ble_eq_true rfl⟩ ⟨rfl, rfl⟩ hu rfl rfl (Nat.le_of_ble_eq_true rfl) dX12_init_88 (fun v61 h => ?_)
      clear hM0
      refine eg_iconst dX12_init_91 kc_2 ?_
      refine eb_jp3_e (J := fun (g65 : eb_S) (u66 : Nat) (w67 : Nat) => (u66 ≤ bc ∧ w67 ≤ bs) → eb_G l Γ P X cX12_init RX12 6 (none) (rmX12_init bc bs) 163 [(0, .ref a0), (1, .ref a1), (2, va_rf v27), (3, .int x3_52)] [] g65 u66 w67) h ?_ ?_
      · clear h
        intro g65 u66 w67 h hu
        refine eg_iinc (j := 3) (lv' := [(3, .int (x3_52 + 1)), (0, .ref a0), (1, .ref a1), (2, va_rf v27)]) dX12_init_163 rfl (by rw [kc_1]) (Nat.le_of_ble_eq_true rfl) (by simp [List.filter_cons, eb_rfc]) ?_
        refine eg_goto dX12_init_166 ?_
        exact eg_sub [1, 2, 3, 0] rfl (hr56 (x3_52 + 1) g65 u66 w67 h hu)
      · clear h
        intro k68 hk68 h
        refine eg_icmp_ne dX12_init_92 (fun c102 => ?_) (fun c102 => ?_)
        · replace h := h.2 c102
          exact hk68 g53 u54 w55 h hu
        · replace h := h.1 c102
          refine eg_aload_n 1 dX12_init_95 rfl rfl ?_
          refine eg_iload_n 3 dX12_init_96 rfl rfl ?_
          obtain ⟨hcs, h⟩ := h
          have hM0 := h
          clear h
          refine ec_VIp (rest := []) (ctX1_isKind hM0) (lw_V q704 q495 q496 q75 q497) rfl rfl hcs nX1_isKind ⟨Nat.le_of_ble_eq_true rfl, Nat.le_of_ble_eq_true rfl⟩ ⟨rfl, rfl⟩ hu rfl rfl (Nat.le_of_ble_eq_true rfl) dX12_init_97 (fun v69 h => ?_)
          clear hM0
          refine eg_if_eq dX12_init_100 (fun c101 => ?_) (fun c101 => ?_)
          · replace h := h.1 c101
            exact hk68 g53 u54 w55 h hu
          · replace h := h.2 c101
            refine eg_aload_n 1 dX12_init_103 rfl rfl ?_
            refine eg_iload_n 3 dX12_init_104 rfl rfl ?_
            obtain ⟨hcs, h⟩ := h
            obtain ⟨c75, s76, hca, h⟩ := h
            have hM0 := h
            clear h
            refine ec_VRa (rest := []) (ctX1_parts hM0) (lw_V q701 q515 q516 q75 q517) rfl rfl hcs nX1_parts ⟨Nat.le_of_ble_eq_true rfl, Nat.le_of_ble_eq_true rfl⟩ ⟨rfl, rfl⟩ hca rfl rfl (Nat.le_of_ble_eq_true rfl) dX12_init_105 (fun v73 g74 h => ?_)
            clear hM0
            replace hu := hca
            refine eh_astore (i := 4) (v := v73) (lv' := [(4, va_rf v73), (0, .ref a0), (1, .ref a1), (2, va_rf v27), (3, .int x3_52)]) dX12_init_108 (Nat.le_of_ble_eq_true rfl) rfl ?_
            refine eg_iconst dX12_init_110 kc_0 ?_
            refine eg_istore (i := 5) (lv' := [(5, .int 0), (4, va_rf v73), (0, .ref a0), (1, .ref a1), (2, va_rf v27), (3, .int x3_52)]) dX12_init_111 (Nat.le_of_ble_eq_true rfl) (by simp [List.filter_cons, eb_rfc]) ?_
            refine eb_jp1_e (J := fun (g77 : eb_S) => ((u54 + c75) ≤ bc ∧ (w55 + s76) ≤ bs) → eb_G l Γ P X cX12_init RX12 6 (none) (rmX12_init bc bs) 149 [(0, .ref a0), (1, .ref a1), (2, va_rf v27), (3, .int x3_52)] [] g77 (u54 + c75) (w55 + s76)) h ?_ ?_
            · clear h
              intro g77 h hu
              refine eg_aload_n 0 dX12_init_149 rfl rfl ?_
              refine eg_dup dX12_init_150 rfl ?_
              obtain ⟨fs, v78, he, hv, h⟩ := h
              refine eg_get 2 in_X12 he rfl (Nat.le_of_ble_eq_true rfl) q760 rfl hv dX12_init_151 ?_
              refine eg_aload_n 1 dX12_init_154 rfl rfl ?_
              refine eg_iload_n 3 dX12_init_155 rfl rfl ?_
              obtain ⟨hcs, h⟩ := h
              obtain ⟨c81, s82, hca, h⟩ := h
              have hM0 := h
              clear h
              refine ec_VIa (rest := [.int v78, .ref a0]) (ctX1_many hM0) (lw_V q713 q511 q512 q75 q513) rfl rfl hcs nX1_many ⟨Nat.le_of_ble_eq_true rfl, Nat.le_of_ble_eq_true rfl⟩ ⟨rfl, rfl⟩ hca rfl rfl (Nat.le_of_ble_eq_true rfl) dX12_init_156 (fun v79 g80 h => ?_)
              clear hM0
              replace hu := hca
              refine eg_iadd dX12_init_159 ?_
              obtain ⟨fs, he, hlen, h⟩ := h
              refine eh_put 2 in_X12 he rfl (Nat.le_of_ble_eq_true rfl) tyX12 tyX12_ok nmX12 q760 rfl rfl rfl rfl hlen dX12_init_160 (fun g83 eg83 => ?_)
              replace h := h g83 eg83
              exact hk68 g83 (((u54 + c75) + c81)) (((w55 + s76) + s82)) h hu
            · clear h
              intro k84 hk84 h
              refine eg_sub [2, 3, 4, 5, 1, 0] rfl ?_
              refine eb_loop2_e (J := fun (x5_85 : Int32) (g86 : eb_S) => ((u54 + c75) ≤ bc ∧ (w55 + s76) ≤ bs) → eb_G l Γ P X cX12_init RX12 6 (none) (rmX12_init bc bs) 113 [(0, .ref a0), (1, .ref a1), (2, va_rf v27), (3, .int x3_52), (4, va_rf v73), (5, .int x5_85)] [] g86 (u54 + c75) (w55 + s76)) h ?_ hu
              clear h
              clear hu
              intro r87 hr87 x5_85 g86 h hu
              refine eg_iload 5 dX12_init_113 rfl ?_
              refine eg_aload_n 1 dX12_init_115 rfl rfl ?_
              obtain ⟨fs, v88, he, hv, h⟩ := h
              refine eg_getN 3 in_X1 he rfl (Nat.le_of_ble_eq_true rfl) (List.mem_of_getElem? (i := 16) rfl) rfl hv dX12_init_116 ?_
              obtain ⟨p89, rfl, h⟩ := h
              obtain ⟨fs, v90, he, hv, h⟩ := h
              refine eg_getN 1 in_X8 he rfl (Nat.le_of_ble_eq_true rfl) (List.mem_of_getElem? (i := 17) rfl) rfl hv dX12_init_119 ?_
              refine eg_icmp_ge dX12_init_122 (fun c100 => ?_) (fun c100 => ?_)
              · replace h := h.1 c100
                exact eg_sub [0, 1, 2, 3] rfl (hk84 g86 h hu)
              · replace h := h.2 c100
                refine eg_aload_n 0 dX12_init_125 rfl rfl ?_
                refine eg_aload_n 0 dX12_init_126 rfl rfl ?_
                obtain ⟨fs, v91, he, hv, h⟩ := h
                refine eg_get 2 in_X12 he rfl (Nat.le_of_ble_eq_true rfl) q760 rfl hv dX12_init_127 ?_
                refine eh_aload (v := v73) 4 dX12_init_130 rfl ?_
                refine eg_iload 5 dX12_init_132 rfl ?_
                obtain ⟨p92, rfl, h⟩ := h
                obtain ⟨nA, fA, he, hb, h⟩ := h
                refine eh_sald he hb dX12_init_134 (fun v93 ev93 => ?_)
                replace h := h v93 ev93
                refine eg_iadd dX12_init_135 ?_
                refine eh_aload_n (v := v27) 2 dX12_init_136 rfl rfl ?_
                refine eg_iload 5 dX12_init_137 rfl ?_
                obtain ⟨p94, rfl, h⟩ := h
                obtain ⟨nA, fA, he, hb, h⟩ := h
                refine eh_sald he hb dX12_init_139 (fun v95 ev95 => ?_)
                replace h := h v95 ev95
                obtain ⟨hcs, h⟩ := h
                have hM0 := h
                clear h
                refine ec_VVw (rest := []) (ctX12_comes hM0) (lw_V q705 q707 qs16 q89 q708) rfl rfl hcs nX12_comes ⟨Nat.le_of_ble_eq_true rfl, Nat.le_of_ble_eq_true rfl⟩ ⟨rfl, rfl⟩ hu rfl rfl (Nat.le_of_ble_eq_true rfl) dX12_init_140 (fun g97 h => ?_)
                clear hM0
                refine eg_iinc (j := 5) (lv' := [(5, .int (x5_85 + 1)), (0, .ref a0), (1, .ref a1), (2, .ref p94), (3, .int x3_52), (4, .ref p92)]) dX12_init_143 rfl (by rw [kc_1]) (Nat.le_of_ble_eq_true rfl) rfl ?_
                refine eg_goto dX12_init_146 ?_
                exact eg_sub [1, 2, 3, 4, 5, 0] rfl (hr87 (x5_85 + 1) g97 h hu)
def MX1_hull (Γ : eb_C) (bc bs : Nat) (st : eb_S) (a0 : Nat) (K : Option Nat → eb_S → Prop) : Prop :=
  eb_gr st a0 1 7 (fun v1 => eb_jp3 (fun (g2 : eb_S) (u3 : Nat) (w4 : Nat) => eb_gr g2 a0 1 7 (fun v5 => K v5 g2)) (fun k6 => eb_nb v1 (eb_mk st (.inr (11, [.null, .null, .int 0, .null, .null, .null, .null])) 7 bc bs 0 0 (fun p8 g9 => ∃ c12 s13 : Nat, ((0 + 1) + c12 ≤ bc ∧ (0 + 7) + s13 ≤ bs) ∧ MX12_init Γ c12 s13 g9 p8 a0 (fun g11 => eb_pt g11 a0 1 7 (.ref p8) (fun g14 => k6 g14 (((0 + 1) + c12)) (((0 + 7) + s13)))))) (fun p7 => k6 st 0 0)))
abbrev rmX1_hull (bc bs : Nat) : Room := { frames := 8, cells := bc, slots := bs, locals := 180 }
theorem nX1_hull : eb_ar yX1_hull 0 := by decide +kernel
theorem dX1_hull_0 : eb_dc cX1_hull 0 (.aload_n 0) 1 1 := by decide +kernel
theorem dX1_hull_1 : eb_dc cX1_hull 1 (.getfield 59) 3 4 := by decide +kernel
theorem dX1_hull_4 : eb_dj cX1_hull 4 (.ifnonnull 15) 15 7 19 := by decide +kernel
theorem dX1_hull_7 : eb_dc cX1_hull 7 (.aload_n 0) 1 8 := by decide +kernel
theorem dX1_hull_8 : eb_dc cX1_hull 8 (.new 63) 3 11 := by decide +kernel
theorem dX1_hull_11 : eb_dc cX1_hull 11 (.dup) 1 12 := by decide +kernel
theorem dX1_hull_12 : eb_dc cX1_hull 12 (.aload_n 0) 1 13 := by decide +kernel
theorem dX1_hull_13 : eb_dc cX1_hull 13 (.invokespecial 65) 3 16 := by decide +kernel
theorem dX1_hull_16 : eb_dc cX1_hull 16 (.putfield 59) 3 19 := by decide +kernel
theorem dX1_hull_19 : eb_dc cX1_hull 19 (.aload_n 0) 1 20 := by decide +kernel
theorem dX1_hull_20 : eb_dc cX1_hull 20 (.getfield 59) 3 23 := by decide +kernel
theorem dX1_hull_23 : eb_dc cX1_hull 23 (.areturn) 1 24 := by decide +kernel
theorem ctX1_hull {l : Launch} {Γ : eb_C} {bc bs : Nat} {st : eb_S} {a0 : Nat} {K : Option Nat → eb_S → Prop} (h : MX1_hull Γ bc bs st a0 K) : eb_Ct l Γ yX1_hull cX1_hull 1 (some (.object "EvenBodies$Hull")) (rmX1_hull bc bs) [.ref a0] st (eb_oR K) := by
  refine eb_of (by decide) (Nat.le_of_ble_eq_true rfl) (fun X P hP hX0 => ?_)
  suffices hgo : (0 ≤ bc ∧ 0 ≤ bs) → eb_G l Γ P X cX1_hull RX1 1 (some (.object "EvenBodies$Hull")) (rmX1_hull bc bs) 0 [(0, .ref a0)] [] st 0 0 from hgo ⟨Nat.zero_le _, Nat.zero_le _⟩
  intro hu
  refine eg_aload_n 0 dX1_hull_0 rfl rfl ?_
  obtain ⟨fs, v1, he, hv, h⟩ := h
  refine eg_get 7 in_X1 he rfl (Nat.le_of_ble_eq_true rfl) q136 rfl hv dX1_hull_1 ?_
  refine eb_jp3_e (J := fun (g2 : eb_S) (u3 : Nat) (w4 : Nat) => (u3 ≤ bc ∧ w4 ≤ bs) → eb_G l Γ P X cX1_hull RX1 1 (some (.object "EvenBodies$Hull")) (rmX1_hull bc bs) 19 [(0, .ref a0)] [] g2 u3 w4) h ?_ ?_
  · clear h
    intro g2 u3 w4 h hu
    refine eg_aload_n 0 dX1_hull_19 rfl rfl ?_
    obtain ⟨fs, v5, he, hv, h⟩ := h
    refine eg_get 7 in_X1 he rfl (Nat.le_of_ble_eq_true rfl) q136 rfl hv dX1_hull_20 ?_
    exact eg_aret dX1_hull_23 (Or.inl ⟨_, rfl⟩) (eb_rfz v5) hu.1 hu.2 (hP _ _ ⟨v5, rfl, h⟩)
  · clear h
    intro k6 hk6 h
    refine eg_ifnonnull (v := v1) dX1_hull_4 (fun p7 hnon => ?_) (fun hnul => ?_)
    · subst hnon
      replace h := h.2 p7 rfl
      exact hk6 st 0 0 h hu
    · subst hnul
      replace h := h.1 rfl
      refine eg_aload_n 0 dX1_hull_7 rfl rfl ?_
      obtain ⟨hc1, hs1, h⟩ := h
      refine eh_new (ci := 11) (fs := [.null, .null, .int 0, .null, .null, .null, .null]) in_X12 tyX12 tyX12_ok q693 q694 q89 rfl (by decide +kernel) hc1 hs1 dX1_hull_8 (fun p8 qp8 g9 eg9 => ?_)
      replace h := h p8 qp8 g9 eg9
      replace hu := And.intro hc1 hs1
      refine eg_dup dX1_hull_11 rfl ?_
      refine eg_aload_n 0 dX1_hull_12 rfl rfl ?_
      obtain ⟨c12, s13, hca, h⟩ := h
      have hM0 := h
      clear h
      refine ec_IVa (rest := [.ref p8, .ref a0]) (ctX12_init hM0) q697 q89 q695 q696 rfl nX12_init ⟨Nat.le_of_ble_eq_true rfl, Nat.le_of_ble_eq_true rfl⟩ ⟨rfl, rfl⟩ hca rfl rfl (Nat.le_of_ble_eq_true rfl) dX1_hull_13 (fun g11 h => ?_)
      clear hM0
      replace hu := hca
      obtain ⟨fs, he, hlen, h⟩ := h
      refine eh_put 7 in_X1 he rfl (Nat.le_of_ble_eq_true rfl) tyX1 tyX1_ok nmX1 q136 rfl rfl rfl rfl hlen dX1_hull_16 (fun g14 eg14 => ?_)
      replace h := h g14 eg14
      exact hk6 g14 (((0 + 1) + c12)) (((0 + 7) + s13)) h hu
def MX12_sizeBehind (Γ : eb_C) (st : eb_S) (a0 : Nat) (a1 : Int32) (a2 : Int32) (K : Int32 → Prop) : Prop :=
  eb_cs st a0 [11] ∧ MX12_behind Γ st a0 a1 a2 (fun v1 => eb_br (v1 = (-1)) (K 0) (eb_gr st a0 11 3 (fun v5 => eb_cs st a0 [11] ∧ MX12_behind Γ st a0 a1 a2 (fun v6 => eb_nn v5 (fun p10 => eb_li Γ st p10 0 v6 (fun v11 => K v11))))))
abbrev rmX12_sizeBehind : Room := { frames := 2, cells := 0, slots := 0, locals := 34 }
theorem nX12_sizeBehind : eb_ar yX12_sizeBehind 2 := by decide +kernel
theorem dX12_sizeBehind_0 : eb_dc cX12_sizeBehind 0 (.aload_n 0) 1 1 := by decide +kernel
theorem dX12_sizeBehind_1 : eb_dc cX12_sizeBehind 1 (.iload_n 1) 1 2 := by decide +kernel
theorem dX12_sizeBehind_2 : eb_dc cX12_sizeBehind 2 (.iload_n 2) 1 3 := by decide +kernel
theorem dX12_sizeBehind_3 : eb_dc cX12_sizeBehind 3 (.invokevirtual 98) 3 6 := by decide +kernel
theorem dX12_sizeBehind_6 : eb_dc cX12_sizeBehind 6 (.iconst (-1)) 1 7 := by decide +kernel
theorem dX12_sizeBehind_7 : eb_dj cX12_sizeBehind 7 (.if_icmp .ne 7) 7 10 14 := by decide +kernel
theorem dX12_sizeBehind_10 : eb_dc cX12_sizeBehind 10 (.iconst 0) 1 11 := by decide +kernel
theorem dX12_sizeBehind_11 : eb_dj cX12_sizeBehind 11 (.goto 14) 14 14 25 := by decide +kernel
theorem dX12_sizeBehind_14 : eb_dc cX12_sizeBehind 14 (.aload_n 0) 1 15 := by decide +kernel
theorem dX12_sizeBehind_15 : eb_dc cX12_sizeBehind 15 (.getfield 9) 3 18 := by decide +kernel
theorem dX12_sizeBehind_18 : eb_dc cX12_sizeBehind 18 (.aload_n 0) 1 19 := by decide +kernel
theorem dX12_sizeBehind_19 : eb_dc cX12_sizeBehind 19 (.iload_n 1) 1 20 := by decide +kernel
theorem dX12_sizeBehind_20 : eb_dc cX12_sizeBehind 20 (.iload_n 2) 1 21 := by decide +kernel
theorem dX12_sizeBehind_21 : eb_dc cX12_sizeBehind 21 (.invokevirtual 98) 3 24 := by decide +kernel
theorem dX12_sizeBehind_24 : eb_dc cX12_sizeBehind 24 (.iaload) 1 25 := by decide +kernel
theorem dX12_sizeBehind_25 : eb_dc cX12_sizeBehind 25 (.ireturn) 1 26 := by decide +kernel
theorem ctX12_sizeBehind {l : Launch} {Γ : eb_C} {st : eb_S} {a0 : Nat} {a1 : Int32} {a2 : Int32} {K : Int32 → Prop} (h : MX12_sizeBehind Γ st a0 a1 a2 K) : eb_Ct l Γ yX12_sizeBehind cX12_sizeBehind 3 (some .int) rmX12_sizeBehind [.ref a0, .int a1, .int a2] st (eb_pI st K) := by
  refine eb_of (by decide) (Nat.le_of_ble_eq_true rfl) (fun X P hP hX0 => ?_)
  show eb_G l Γ P X cX12_sizeBehind RX12 3 (some .int) rmX12_sizeBehind 0 [(0, .ref a0), (1, .int a1), (2, .int a2)] [] st 0 0
  refine eg_aload_n 0 dX12_sizeBehind_0 rfl rfl ?_
  refine eg_iload_n 1 dX12_sizeBehind_1 rfl rfl ?_
  refine eg_iload_n 2 dX12_sizeBehind_2 rfl rfl ?_
  obtain ⟨hcs, h⟩ := h
  have hM0 := h
  clear h
  refine ec_VIp (rest := []) (ctX12_behind hM0) (lw_V q747 q749 qs25 q89 q750) rfl rfl hcs nX12_behind ⟨Nat.le_of_ble_eq_true rfl, Nat.le_of_ble_eq_true rfl⟩ ⟨rfl, rfl⟩ ⟨Nat.zero_le _, Nat.zero_le _⟩ rfl rfl (Nat.le_of_ble_eq_true rfl) dX12_sizeBehind_3 (fun v1 h => ?_)
  clear hM0
  refine eg_iconst dX12_sizeBehind_6 kc_m1 ?_
  refine eg_icmp_ne dX12_sizeBehind_7 (fun c12 => ?_) (fun c12 => ?_)
  · replace h := h.2 c12
    refine eg_aload_n 0 dX12_sizeBehind_14 rfl rfl ?_
    obtain ⟨fs, v5, he, hv, h⟩ := h
    refine eg_get 3 in_X12 he rfl (Nat.le_of_ble_eq_true rfl) q762 rfl hv dX12_sizeBehind_15 ?_
    refine eg_aload_n 0 dX12_sizeBehind_18 rfl rfl ?_
    refine eg_iload_n 1 dX12_sizeBehind_19 rfl rfl ?_
    refine eg_iload_n 2 dX12_sizeBehind_20 rfl rfl ?_
    obtain ⟨hcs, h⟩ := h
    have hM0 := h
    clear h
    refine ec_VIp (rest := [va_rf v5]) (ctX12_behind hM0) (lw_V q747 q749 qs25 q89 q750) rfl rfl hcs nX12_behind ⟨Nat.le_of_ble_eq_true rfl, Nat.le_of_ble_eq_true rfl⟩ ⟨rfl, rfl⟩ ⟨Nat.zero_le _, Nat.zero_le _⟩ rfl rfl (by simp only [List.map_cons, List.map_nil, eb_rfc]; exact Nat.le_of_ble_eq_true rfl) dX12_sizeBehind_21 (fun v6 h => ?_)
    clear hM0
    obtain ⟨p10, rfl, h⟩ := h
    obtain ⟨nA, fA, he, hb, h⟩ := h
    refine eh_iald he hb dX12_sizeBehind_24 (fun v11 ev11 => ?_)
    replace h := h v11 ev11
    exact eg_iret dX12_sizeBehind_25 (Nat.zero_le _) (Nat.zero_le _) (hP _ _ ⟨_, rfl, rfl, h⟩)
  · replace h := h.1 c12
    refine eg_iconst dX12_sizeBehind_10 kc_0 ?_
    refine eg_goto dX12_sizeBehind_11 ?_
    exact eg_iret dX12_sizeBehind_25 (Nat.zero_le _) (Nat.zero_le _) (hP _ _ ⟨_, rfl, rfl, h⟩)
def MX12_isLess (Γ : eb_C) (st : eb_S) (a0 : Nat) (a1 : Nat) (K : Int32 → Prop) : Prop :=
  eb_loop1 (fun r2 (x2_1 : Int32) => eb_ln Γ st a0 0 (fun v3 => eb_br (v3 ≤ x2_1) (K 0) (eb_li Γ st a0 0 x2_1 (fun v4 => eb_li Γ st a1 0 x2_1 (fun v5 => eb_br (v4 = v5) (r2 (x2_1 + 1)) (eb_li Γ st a0 0 x2_1 (fun v6 => eb_li Γ st a1 0 x2_1 (fun v7 => eb_br (v7 ≤ v6) (K 0) (K 1))))))))) 0
abbrev rmX12_isLess : Room := { frames := 1, cells := 0, slots := 0, locals := 12 }
theorem nX12_isLess : eb_ar yX12_isLess 2 := by decide +kernel
theorem dX12_isLess_0 : eb_dc cX12_isLess 0 (.iconst 0) 1 1 := by decide +kernel
theorem dX12_isLess_1 : eb_dc cX12_isLess 1 (.istore_n 2) 1 2 := by decide +kernel
theorem dX12_isLess_2 : eb_dc cX12_isLess 2 (.iload_n 2) 1 3 := by decide +kernel
theorem dX12_isLess_3 : eb_dc cX12_isLess 3 (.aload_n 0) 1 4 := by decide +kernel
theorem dX12_isLess_4 : eb_dc cX12_isLess 4 (.arraylength) 1 5 := by decide +kernel
theorem dX12_isLess_5 : eb_dj cX12_isLess 5 (.if_icmp .ge 33) 33 8 38 := by decide +kernel
theorem dX12_isLess_8 : eb_dc cX12_isLess 8 (.aload_n 0) 1 9 := by decide +kernel
theorem dX12_isLess_9 : eb_dc cX12_isLess 9 (.iload_n 2) 1 10 := by decide +kernel
theorem dX12_isLess_10 : eb_dc cX12_isLess 10 (.iaload) 1 11 := by decide +kernel
theorem dX12_isLess_11 : eb_dc cX12_isLess 11 (.aload_n 1) 1 12 := by decide +kernel
theorem dX12_isLess_12 : eb_dc cX12_isLess 12 (.iload_n 2) 1 13 := by decide +kernel
theorem dX12_isLess_13 : eb_dc cX12_isLess 13 (.iaload) 1 14 := by decide +kernel
theorem dX12_isLess_14 : eb_dj cX12_isLess 14 (.if_icmp .eq 18) 18 17 32 := by decide +kernel
theorem dX12_isLess_17 : eb_dc cX12_isLess 17 (.aload_n 0) 1 18 := by decide +kernel
theorem dX12_isLess_18 : eb_dc cX12_isLess 18 (.iload_n 2) 1 19 := by decide +kernel
theorem dX12_isLess_19 : eb_dc cX12_isLess 19 (.iaload) 1 20 := by decide +kernel
theorem dX12_isLess_20 : eb_dc cX12_isLess 20 (.aload_n 1) 1 21 := by decide +kernel
theorem dX12_isLess_21 : eb_dc cX12_isLess 21 (.iload_n 2) 1 22 := by decide +kernel
theorem dX12_isLess_22 : eb_dc cX12_isLess 22 (.iaload) 1 23 := by decide +kernel
theorem dX12_isLess_23 : eb_dj cX12_isLess 23 (.if_icmp .ge 7) 7 26 30 := by decide +kernel
theorem dX12_isLess_26 : eb_dc cX12_isLess 26 (.iconst 1) 1 27 := by decide +kernel
theorem dX12_isLess_27 : eb_dj cX12_isLess 27 (.goto 4) 4 30 31 := by decide +kernel
theorem dX12_isLess_30 : eb_dc cX12_isLess 30 (.iconst 0) 1 31 := by decide +kernel
theorem dX12_isLess_31 : eb_dc cX12_isLess 31 (.ireturn) 1 32 := by decide +kernel
theorem dX12_isLess_32 : eb_dc cX12_isLess 32 (.iinc 2 1) 3 35 := by decide +kernel
theorem dX12_isLess_35 : eb_dj cX12_isLess 35 (.goto (-33)) (-33) 38 2 := by decide +kernel
theorem dX12_isLess_38 : eb_dc cX12_isLess 38 (.iconst 0) 1 39 := by decide +kernel
theorem dX12_isLess_39 : eb_dc cX12_isLess 39 (.ireturn) 1 40 := by decide +kernel
theorem ctX12_isLess {l : Launch} {Γ : eb_C} {st : eb_S} {a0 : Nat} {a1 : Nat} {K : Int32 → Prop} (h : MX12_isLess Γ st a0 a1 K) : eb_Ct l Γ yX12_isLess cX12_isLess 3 (some .boolean) rmX12_isLess [.ref a0, .ref a1] st (eb_pI st K) := by
  refine eb_of (by decide) (Nat.le_of_ble_eq_true rfl) (fun X P hP hX0 => ?_)
  show eb_G l Γ P X cX12_isLess RX12 3 (some .boolean) rmX12_isLess 0 [(0, .ref a0), (1, .ref a1)] [] st 0 0
  refine eg_iconst dX12_isLess_0 kc_0 ?_
  refine eg_istore_n (lv' := [(2, .int 0), (0, .ref a0), (1, .ref a1)]) dX12_isLess_1 rfl (Nat.le_of_ble_eq_true rfl) rfl ?_
  refine eg_sub [1, 2, 0] rfl ?_
  refine eb_loop1_e (J := fun (x2_1 : Int32) => eb_G l Γ P X cX12_isLess RX12 3 (some .boolean) rmX12_isLess 2 [(0, .ref a0), (1, .ref a1), (2, .int x2_1)] [] st 0 0) h ?_
  clear h
  intro r2 hr2 x2_1 h
  refine eg_iload_n 2 dX12_isLess_2 rfl rfl ?_
  refine eg_aload_n 0 dX12_isLess_3 rfl rfl ?_
  obtain ⟨xA, he, h⟩ := h
  refine eh_alen (t := 0) (ty := .int) he rfl dX12_isLess_4 ?_
  generalize Int32.ofNat xA.1 = v3 at h ⊢
  refine eg_icmp_ge dX12_isLess_5 (fun c10 => ?_) (fun c10 => ?_)
  · replace h := h.1 c10
    refine eg_iconst dX12_isLess_38 kc_0 ?_
    exact eg_zret dX12_isLess_39 rfl (Nat.zero_le _) (Nat.zero_le _) (hP _ _ ⟨_, rfl, rfl, h⟩)
  · replace h := h.2 c10
    refine eg_aload_n 0 dX12_isLess_8 rfl rfl ?_
    refine eg_iload_n 2 dX12_isLess_9 rfl rfl ?_
    obtain ⟨nA, fA, he, hb, h⟩ := h
    refine eh_iald he hb dX12_isLess_10 (fun v4 ev4 => ?_)
    replace h := h v4 ev4
    refine eg_aload_n 1 dX12_isLess_11 rfl rfl ?_
    refine eg_iload_n 2 dX12_isLess_12 rfl rfl ?_
    obtain ⟨nA, fA, he, hb, h⟩ := h
    refine eh_iald he hb dX12_isLess_13 (fun v5 ev5 => ?_)
    replace h := h v5 ev5
    refine eg_icmp_eq dX12_isLess_14 (fun c9 => ?_) (fun c9 => ?_)
    · replace h := h.1 c9
      refine eg_iinc (j := 2) (lv' := [(2, .int (x2_1 + 1)), (0, .ref a0), (1, .ref a1)]) dX12_isLess_32 rfl (by rw [kc_1]) (Nat.le_of_ble_eq_true rfl) rfl ?_
      refine eg_goto dX12_isLess_35 ?_
      exact eg_sub [1, 2, 0] rfl (hr2 (x2_1 + 1) h)
    · replace h := h.2 c9
      refine eg_aload_n 0 dX12_isLess_17 rfl rfl ?_
      refine eg_iload_n 2 dX12_isLess_18 rfl rfl ?_
      obtain ⟨nA, fA, he, hb, h⟩ := h
      refine eh_iald he hb dX12_isLess_19 (fun v6 ev6 => ?_)
      replace h := h v6 ev6
      refine eg_aload_n 1 dX12_isLess_20 rfl rfl ?_
      refine eg_iload_n 2 dX12_isLess_21 rfl rfl ?_
      obtain ⟨nA, fA, he, hb, h⟩ := h
      refine eh_iald he hb dX12_isLess_22 (fun v7 ev7 => ?_)
      replace h := h v7 ev7
      refine eg_icmp_ge dX12_isLess_23 (fun c8 => ?_) (fun c8 => ?_)
      · replace h := h.1 c8
        refine eg_iconst dX12_isLess_30 kc_0 ?_
        exact eg_zret dX12_isLess_31 rfl (Nat.zero_le _) (Nat.zero_le _) (hP _ _ ⟨_, rfl, rfl, h⟩)
      · replace h := h.2 c8
        refine eg_iconst dX12_isLess_26 kc_1 ?_
        refine eg_goto dX12_isLess_27 ?_
        exact eg_zret dX12_isLess_31 rfl (Nat.zero_le _) (Nat.zero_le _) (hP _ _ ⟨_, rfl, rfl, h⟩)
def MX12_told (Γ : eb_C) (bc bs : Nat) (st : eb_S) (a0 : Nat) (K : Option Nat → eb_S → Prop) : Prop :=
  eb_jp1 (fun (x1_1 : Int32) => eb_ok1 x1_1 ∧ (eb_mk st (eb_ia Γ 0 (x1_1.toNatClampNeg) (fun _ => 0)) (x1_1.toNatClampNeg) bc bs 0 0 (fun p2 g3 => eb_ok1 x1_1 ∧ (eb_mk g3 (eb_ia Γ 0 (x1_1.toNatClampNeg) (fun _ => 0)) (x1_1.toNatClampNeg) bc bs (0 + 1) ((0 + (x1_1.toNatClampNeg))) (fun p4 g5 => eb_jp1 (fun (g6 : eb_S) => K (some p2) g6) (fun k7 => eb_loop2 (fun r10 (x4_8 : Int32) (g9 : eb_S) => eb_br (x1_1 ≤ x4_8) (k7 g9) (eb_jp1 (fun (g11 : eb_S) => r10 (x4_8 + 1) g11) (fun k12 => eb_loop2 (fun r15 (x5_13 : Int32) (g14 : eb_S) => eb_br (2 ≤ x5_13) (k12 g14) (eb_jp1 (fun (g16 : eb_S) => eb_li Γ g16 p2 0 0 (fun v17 => eb_jp1 (fun (g18 : eb_S) => r15 (x5_13 + 2) g18) (fun k19 => eb_jp0 (eb_cp Γ g16 p4 0 p2 0 x1_1 (fun g20 => k19 g20)) (fun k21 => eb_br (v17 = 0) (k21) (MX12_isLess Γ g16 p4 p2 (fun v22 => eb_br (v22 = 0) (k19 g16) (k21))))))) (fun k28 => eb_loop2 (fun r31 (x6_29 : Int32) (g30 : eb_S) => eb_br (x1_1 ≤ x6_29) (k28 g30) (MJ2_floorMod ((x4_8 + (x5_13 * x6_29))) x1_1 (fun v32 => eb_cs g30 a0 [11] ∧ MX12_sizeBehind Γ g30 a0 0 v32 (fun v36 => eb_wi Γ g30 p4 0 x6_29 v36 (fun g40 => r31 (x6_29 + 1) g40))))) 0 g14))) (-1) g9))) 0 g5)))))) (fun k44 => eb_loop2 (fun r47 (x1_45 : Int32) (x2_46 : Int32) => eb_gi st a0 11 2 (fun v48 => eb_br (v48 ≤ x2_46) (k44 x1_45) (eb_cs st a0 [11] ∧ MX12_has Γ st a0 x2_46 0 (fun v49 => eb_jp1 (fun (s53 : Int32) => r47 (x1_45 + s53) (x2_46 + 1)) (fun k54 => eb_br (v49 = 0) (k54 0) (k54 1)))))) 0 0)
abbrev rmX12_told (bc bs : Nat) : Room := { frames := 3, cells := bc, slots := bs, locals := 80 }
theorem nX12_told : eb_ar yX12_told 0 := by decide +kernel
theorem dX12_told_0 : eb_dc cX12_told 0 (.iconst 0) 1 1 := by decide +kernel
theorem dX12_told_1 : eb_dc cX12_told 1 (.istore_n 1) 1 2 := by decide +kernel
theorem dX12_told_2 : eb_dc cX12_told 2 (.iconst 0) 1 3 := by decide +kernel
theorem dX12_told_3 : eb_dc cX12_told 3 (.istore_n 2) 1 4 := by decide +kernel
theorem dX12_told_4 : eb_dc cX12_told 4 (.iload_n 2) 1 5 := by decide +kernel
theorem dX12_told_5 : eb_dc cX12_told 5 (.aload_n 0) 1 6 := by decide +kernel
theorem dX12_told_6 : eb_dc cX12_told 6 (.getfield 70) 3 9 := by decide +kernel
theorem dX12_told_9 : eb_dj cX12_told 9 (.if_icmp .ge 26) 26 12 35 := by decide +kernel
theorem dX12_told_12 : eb_dc cX12_told 12 (.iload_n 1) 1 13 := by decide +kernel
theorem dX12_told_13 : eb_dc cX12_told 13 (.aload_n 0) 1 14 := by decide +kernel
theorem dX12_told_14 : eb_dc cX12_told 14 (.iload_n 2) 1 15 := by decide +kernel
theorem dX12_told_15 : eb_dc cX12_told 15 (.iconst 0) 1 16 := by decide +kernel
theorem dX12_told_16 : eb_dc cX12_told 16 (.invokevirtual 87) 3 19 := by decide +kernel
theorem dX12_told_19 : eb_dj cX12_told 19 (.ifCond .eq 7) 7 22 26 := by decide +kernel
theorem dX12_told_22 : eb_dc cX12_told 22 (.iconst 1) 1 23 := by decide +kernel
theorem dX12_told_23 : eb_dj cX12_told 23 (.goto 4) 4 26 27 := by decide +kernel
theorem dX12_told_26 : eb_dc cX12_told 26 (.iconst 0) 1 27 := by decide +kernel
theorem dX12_told_27 : eb_dc cX12_told 27 (.iadd) 1 28 := by decide +kernel
theorem dX12_told_28 : eb_dc cX12_told 28 (.istore_n 1) 1 29 := by decide +kernel
theorem dX12_told_29 : eb_dc cX12_told 29 (.iinc 2 1) 3 32 := by decide +kernel
theorem dX12_told_32 : eb_dj cX12_told 32 (.goto (-28)) (-28) 35 4 := by decide +kernel
theorem dX12_told_35 : eb_dc cX12_told 35 (.iload_n 1) 1 36 := by decide +kernel
theorem dX12_told_36 : eb_dc cX12_told 36 (.newarray .int) 2 38 := by decide +kernel
theorem dX12_told_38 : eb_dc cX12_told 38 (.astore_n 2) 1 39 := by decide +kernel
theorem dX12_told_39 : eb_dc cX12_told 39 (.iload_n 1) 1 40 := by decide +kernel
theorem dX12_told_40 : eb_dc cX12_told 40 (.newarray .int) 2 42 := by decide +kernel
theorem dX12_told_42 : eb_dc cX12_told 42 (.astore_n 3) 1 43 := by decide +kernel
theorem dX12_told_43 : eb_dc cX12_told 43 (.iconst 0) 1 44 := by decide +kernel
theorem dX12_told_44 : eb_dc cX12_told 44 (.istore 4) 2 46 := by decide +kernel
theorem dX12_told_46 : eb_dc cX12_told 46 (.iload 4) 2 48 := by decide +kernel
theorem dX12_told_48 : eb_dc cX12_told 48 (.iload_n 1) 1 49 := by decide +kernel
theorem dX12_told_49 : eb_dj cX12_told 49 (.if_icmp .ge 82) 82 52 131 := by decide +kernel
theorem dX12_told_52 : eb_dc cX12_told 52 (.iconst (-1)) 1 53 := by decide +kernel
theorem dX12_told_53 : eb_dc cX12_told 53 (.istore 5) 2 55 := by decide +kernel
theorem dX12_told_55 : eb_dc cX12_told 55 (.iload 5) 2 57 := by decide +kernel
theorem dX12_told_57 : eb_dc cX12_told 57 (.iconst 2) 1 58 := by decide +kernel
theorem dX12_told_58 : eb_dj cX12_told 58 (.if_icmp .ge 67) 67 61 125 := by decide +kernel
theorem dX12_told_61 : eb_dc cX12_told 61 (.iconst 0) 1 62 := by decide +kernel
theorem dX12_told_62 : eb_dc cX12_told 62 (.istore 6) 2 64 := by decide +kernel
theorem dX12_told_64 : eb_dc cX12_told 64 (.iload 6) 2 66 := by decide +kernel
theorem dX12_told_66 : eb_dc cX12_told 66 (.iload_n 1) 1 67 := by decide +kernel
theorem dX12_told_67 : eb_dj cX12_told 67 (.if_icmp .ge 30) 30 70 97 := by decide +kernel
theorem dX12_told_70 : eb_dc cX12_told 70 (.aload_n 3) 1 71 := by decide +kernel
theorem dX12_told_71 : eb_dc cX12_told 71 (.iload 6) 2 73 := by decide +kernel
theorem dX12_told_73 : eb_dc cX12_told 73 (.aload_n 0) 1 74 := by decide +kernel
theorem dX12_told_74 : eb_dc cX12_told 74 (.iconst 0) 1 75 := by decide +kernel
theorem dX12_told_75 : eb_dc cX12_told 75 (.iload 4) 2 77 := by decide +kernel
theorem dX12_told_77 : eb_dc cX12_told 77 (.iload 5) 2 79 := by decide +kernel
theorem dX12_told_79 : eb_dc cX12_told 79 (.iload 6) 2 81 := by decide +kernel
theorem dX12_told_81 : eb_dc cX12_told 81 (.imul) 1 82 := by decide +kernel
theorem dX12_told_82 : eb_dc cX12_told 82 (.iadd) 1 83 := by decide +kernel
theorem dX12_told_83 : eb_dc cX12_told 83 (.iload_n 1) 1 84 := by decide +kernel
theorem dX12_told_84 : eb_dc cX12_told 84 (.invokestatic 111) 3 87 := by decide +kernel
theorem dX12_told_87 : eb_dc cX12_told 87 (.invokevirtual 131) 3 90 := by decide +kernel
theorem dX12_told_90 : eb_dc cX12_told 90 (.iastore) 1 91 := by decide +kernel
theorem dX12_told_91 : eb_dc cX12_told 91 (.iinc 6 1) 3 94 := by decide +kernel
theorem dX12_told_94 : eb_dj cX12_told 94 (.goto (-30)) (-30) 97 64 := by decide +kernel
theorem dX12_told_97 : eb_dc cX12_told 97 (.aload_n 2) 1 98 := by decide +kernel
theorem dX12_told_98 : eb_dc cX12_told 98 (.iconst 0) 1 99 := by decide +kernel
theorem dX12_told_99 : eb_dc cX12_told 99 (.iaload) 1 100 := by decide +kernel
theorem dX12_told_100 : eb_dj cX12_told 100 (.ifCond .eq 11) 11 103 111 := by decide +kernel
theorem dX12_told_103 : eb_dc cX12_told 103 (.aload_n 3) 1 104 := by decide +kernel
theorem dX12_told_104 : eb_dc cX12_told 104 (.aload_n 2) 1 105 := by decide +kernel
theorem dX12_told_105 : eb_dc cX12_told 105 (.invokestatic 134) 3 108 := by decide +kernel
theorem dX12_told_108 : eb_dj cX12_told 108 (.ifCond .eq 11) 11 111 119 := by decide +kernel
theorem dX12_told_111 : eb_dc cX12_told 111 (.aload_n 3) 1 112 := by decide +kernel
theorem dX12_told_112 : eb_dc cX12_told 112 (.iconst 0) 1 113 := by decide +kernel
theorem dX12_told_113 : eb_dc cX12_told 113 (.aload_n 2) 1 114 := by decide +kernel
theorem dX12_told_114 : eb_dc cX12_told 114 (.iconst 0) 1 115 := by decide +kernel
theorem dX12_told_115 : eb_dc cX12_told 115 (.iload_n 1) 1 116 := by decide +kernel
theorem dX12_told_116 : eb_dc cX12_told 116 (.invokestatic 125) 3 119 := by decide +kernel
theorem dX12_told_119 : eb_dc cX12_told 119 (.iinc 5 2) 3 122 := by decide +kernel
theorem dX12_told_122 : eb_dj cX12_told 122 (.goto (-67)) (-67) 125 55 := by decide +kernel
theorem dX12_told_125 : eb_dc cX12_told 125 (.iinc 4 1) 3 128 := by decide +kernel
theorem dX12_told_128 : eb_dj cX12_told 128 (.goto (-82)) (-82) 131 46 := by decide +kernel
theorem dX12_told_131 : eb_dc cX12_told 131 (.aload_n 2) 1 132 := by decide +kernel
theorem dX12_told_132 : eb_dc cX12_told 132 (.areturn) 1 133 := by decide +kernel
theorem ctX12_told {l : Launch} {Γ : eb_C} {bc bs : Nat} {st : eb_S} {a0 : Nat} {K : Option Nat → eb_S → Prop} (h : MX12_told Γ bc bs st a0 K) : eb_Ct l Γ yX12_told cX12_told 7 (some (.array .int)) (rmX12_told bc bs) [.ref a0] st (eb_oR K) := by
  refine eb_of (by decide) (Nat.le_of_ble_eq_true rfl) (fun X P hP hX0 => ?_)
  suffices hgo : (0 ≤ bc ∧ 0 ≤ bs) → eb_G l Γ P X cX12_told RX12 7 (some (.array .int)) (rmX12_told bc bs) 0 [(0, .ref a0)] [] st 0 0 from hgo ⟨Nat.zero_le _, Nat.zero_le _⟩
  intro hu
  refine eg_iconst dX12_told_0 kc_0 ?_
  refine eg_istore_n (lv' := [(1, .int 0), (0, .ref a0)]) dX12_told_1 rfl (Nat.le_of_ble_eq_true rfl) rfl ?_
  refine eg_iconst dX12_told_2 kc_0 ?_
  refine eg_istore_n (lv' := [(2, .int 0), (1, .int 0), (0, .ref a0)]) dX12_told_3 rfl (Nat.le_of_ble_eq_true rfl) rfl ?_
  refine eb_jp1_e (J := fun (x1_1 : Int32) => (0 ≤ bc ∧ 0 ≤ bs) → eb_G l Γ P X cX12_told RX12 7 (some (.array .int)) (rmX12_told bc bs) 35 [(0, .ref a0), (1, .int x1_1)] [] st 0 0) h ?_ ?_
  · clear h
    intro x1_1 h hu
    refine eg_iload_n 1 dX12_told_35 rfl rfl ?_
    obtain ⟨hok, h⟩ := h
    obtain ⟨hc1, hs1, h⟩ := h
    refine eh_new_i q158 rfl hok hc1 hs1 dX12_told_36 (fun p2 qp2 g3 eg3 => ?_)
    replace h := h p2 qp2 g3 eg3
    replace hu := And.intro hc1 hs1
    refine eg_astore_n (i := 2) (lv' := [(2, .ref p2), (0, .ref a0), (1, .int x1_1)]) dX12_told_38 rfl (Nat.le_of_ble_eq_true rfl) rfl ?_
    refine eg_iload_n 2 dX12_told_39 rfl rfl ?_
    obtain ⟨hok, h⟩ := h
    obtain ⟨hc1, hs1, h⟩ := h
    refine eh_new_i q158 rfl hok hc1 hs1 dX12_told_40 (fun p4 qp4 g5 eg5 => ?_)
    replace h := h p4 qp4 g5 eg5
    replace hu := And.intro hc1 hs1
    refine eg_astore_n (i := 3) (lv' := [(3, .ref p4), (2, .ref p2), (0, .ref a0), (1, .int x1_1)]) dX12_told_42 rfl (Nat.le_of_ble_eq_true rfl) rfl ?_
    refine eg_iconst dX12_told_43 kc_0 ?_
    refine eg_istore (lv' := [(4, .int 0), (3, .ref p4), (2, .ref p2), (0, .ref a0), (1, .int x1_1)]) dX12_told_44 (Nat.le_of_ble_eq_true rfl) rfl ?_
    refine eb_jp1_e (J := fun (g6 : eb_S) => (((0 + 1) + 1) ≤ bc ∧ ((0 + (x1_1.toNatClampNeg)) + (x1_1.toNatClampNeg)) ≤ bs) → eb_G l Γ P X cX12_told RX12 7 (some (.array .int)) (rmX12_told bc bs) 131 [(2, .ref p2)] [] g6 ((0 + 1) + 1) ((0 + (x1_1.toNatClampNeg)) + (x1_1.toNatClampNeg))) h ?_ ?_
    · clear h
      intro g6 h hu
      refine eg_aload_n 0 dX12_told_131 rfl rfl ?_
      exact eg_aret dX12_told_132 (Or.inr ⟨_, rfl⟩) (Or.inr ⟨_, rfl⟩) hu.1 hu.2 (hP _ _ ⟨(some p2), rfl, h⟩)
    · clear h
      intro k7 hk7 h
      refine eg_sub [3, 4, 2, 1, 0] rfl ?_
      refine eb_loop2_e (J := fun (x4_8 : Int32) (g9 : eb_S) => (((0 + 1) + 1) ≤ bc ∧ ((0 + (x1_1.toNatClampNeg)) + (x1_1.toNatClampNeg)) ≤ bs) → eb_G l Γ P X cX12_told RX12 7 (some (.array .int)) (rmX12_told bc bs) 46 [(0, .ref a0), (1, .int x1_1), (2, .ref p2), (3, .ref p4), (4, .int x4_8)] [] g9 ((0 + 1) + 1) ((0 + (x1_1.toNatClampNeg)) + (x1_1.toNatClampNeg))) h ?_ hu
      clear h
      clear hu
      intro r10 hr10 x4_8 g9 h hu
      refine eg_iload 4 dX12_told_46 rfl ?_
      refine eg_iload_n 1 dX12_told_48 rfl rfl ?_
      refine eg_icmp_ge dX12_told_49 (fun c43 => ?_) (fun c43 => ?_)
      · replace h := h.1 c43
        exact eg_sub [2] rfl (hk7 g9 h hu)
      · replace h := h.2 c43
        refine eg_iconst dX12_told_52 kc_m1 ?_
        refine eg_istore (lv' := [(5, .int (-1)), (0, .ref a0), (1, .int x1_1), (2, .ref p2), (3, .ref p4), (4, .int x4_8)]) dX12_told_53 (Nat.le_of_ble_eq_true rfl) rfl ?_
        refine eb_jp1_e (J := fun (g11 : eb_S) => (((0 + 1) + 1) ≤ bc ∧ ((0 + (x1_1.toNatClampNeg)) + (x1_1.toNatClampNeg)) ≤ bs) → eb_G l Γ P X cX12_told RX12 7 (some (.array .int)) (rmX12_told bc bs) 125 [(0, .ref a0), (1, .int x1_1), (2, .ref p2), (3, .ref p4), (4, .int x4_8)] [] g11 ((0 + 1) + 1) ((0 + (x1_1.toNatClampNeg)) + (x1_1.toNatClampNeg))) h ?_ ?_
        · clear h
          intro g11 h hu
          refine eg_iinc (j := 4) (lv' := [(4, .int (x4_8 + 1)), (0, .ref a0), (1, .int x1_1), (2, .ref p2), (3, .ref p4)]) dX12_told_125 rfl (by rw [kc_1]) (Nat.le_of_ble_eq_true rfl) rfl ?_
          refine eg_goto dX12_told_128 ?_
          exact eg_sub [1, 2, 3, 4, 0] rfl (hr10 (x4_8 + 1) g11 h hu)
        · clear h
          intro k12 hk12 h
          refine eg_sub [1, 2, 3, 4, 5, 0] rfl ?_
          refine eb_loop2_e (J := fun (x5_13 : Int32) (g14 : eb_S) => (((0 + 1) + 1) ≤ bc ∧ ((0 + (x1_1.toNatClampNeg)) + (x1_1.toNatClampNeg)) ≤ bs) → eb_G l Γ P X cX12_told RX12 7 (some (.array .int)) (rmX12_told bc bs) 55 [(0, .ref a0), (1, .int x1_1), (2, .ref p2), (3, .ref p4), (4, .int x4_8), (5, .int x5_13)] [] g14 ((0 + 1) + 1) ((0 + (x1_1.toNatClampNeg)) + (x1_1.toNatClampNeg))) h ?_ hu
          clear h
          clear hu
          intro r15 hr15 x5_13 g14 h hu
          refine eg_iload 5 dX12_told_55 rfl ?_
          refine eg_iconst dX12_told_57 kc_2 ?_
          refine eg_icmp_ge dX12_told_58 (fun c42 => ?_) (fun c42 => ?_)
          · replace h := h.1 c42
            exact eg_sub [0, 1, 2, 3, 4] rfl (hk12 g14 h hu)
          · replace h := h.2 c42
            refine eg_iconst dX12_told_61 kc_0 ?_
            refine eg_istore (lv' := [(6, .int 0), (0, .ref a0), (1, .int x1_1), (2, .ref p2), (3, .ref p4), (4, .int x4_8), (5, .int x5_13)]) dX12_told_62 (Nat.le_of_ble_eq_true rfl) rfl ?_
            refine eb_jp1_e (J := fun (g16 : eb_S) => (((0 + 1) + 1) ≤ bc ∧ ((0 + (x1_1.toNatClampNeg)) + (x1_1.toNatClampNeg)) ≤ bs) → eb_G l Γ P X cX12_told RX12 7 (some (.array .int)) (rmX12_told bc bs) 97 [(0, .ref a0), (1, .int x1_1), (2, .ref p2), (3, .ref p4), (4, .int x4_8), (5, .int x5_13)] [] g16 ((0 + 1) + 1) ((0 + (x1_1.toNatClampNeg)) + (x1_1.toNatClampNeg))) h ?_ ?_
            · clear h
              intro g16 h hu
              refine eg_aload_n 2 dX12_told_97 rfl rfl ?_
              refine eg_iconst dX12_told_98 kc_0 ?_
              obtain ⟨nA, fA, he, hb, h⟩ := h
              refine eh_iald he hb dX12_told_99 (fun v17 ev17 => ?_)
              replace h := h v17 ev17
              refine eb_jp1_e (J := fun (g18 : eb_S) => (((0 + 1) + 1) ≤ bc ∧ ((0 + (x1_1.toNatClampNeg)) + (x1_1.toNatClampNeg)) ≤ bs) → eb_G l Γ P X cX12_told RX12 7 (some (.array .int)) (rmX12_told bc bs) 119 [(0, .ref a0), (1, .int x1_1), (2, .ref p2), (3, .ref p4), (4, .int x4_8), (5, .int x5_13)] [] g18 ((0 + 1) + 1) ((0 + (x1_1.toNatClampNeg)) + (x1_1.toNatClampNeg))) h ?_ ?_
              · clear h
                intro g18 h hu
                refine eg_iinc (j := 5) (lv' := [(5, .int (x5_13 + 2)), (0, .ref a0), (1, .int x1_1), (2, .ref p2), (3, .ref p4), (4, .int x4_8)]) dX12_told_119 rfl (by rw [kc_2]) (Nat.le_of_ble_eq_true rfl) rfl ?_
                refine eg_goto dX12_told_122 ?_
                exact eg_sub [1, 2, 3, 4, 5, 0] rfl (hr15 (x5_13 + 2) g18 h hu)
              · clear h
                intro k19 hk19 h
                refine eb_jp0_e (J := (((0 + 1) + 1) ≤ bc ∧ ((0 + (x1_1.toNatClampNeg)) + (x1_1.toNatClampNeg)) ≤ bs) → eb_G l Γ P X cX12_told RX12 7 (some (.array .int)) (rmX12_told bc bs) 111 [(0, .ref a0), (1, .int x1_1), (2, .ref p2), (3, .ref p4), (4, .int x4_8), (5, .int x5_13)] [] g16 ((0 + 1) + 1) ((0 + (x1_1.toNatClampNeg)) + (x1_1.toNatClampNeg))) h ?_ ?_
                · clear h
                  intro  h hu
                  refine eg_aload_n 3 dX12_told_111 rfl rfl ?_
                  refine eg_iconst dX12_told_112 kc_0 ?_
                  refine eg_aload_n 2 dX12_told_113 rfl rfl ?_
                  refine eg_iconst dX12_told_114 kc_0 ?_
                  refine eg_iload_n 1 dX12_told_115 rfl rfl ?_
                  have hM0 := h
                  clear h
                  refine eg_copy (rest := []) q755 q363 q362 q86 rfl (Nat.le_of_ble_eq_true rfl) (Nat.le_of_ble_eq_true rfl) dX12_told_116 hM0 (fun g20 h => ?_)
                  clear hM0
                  exact hk19 g20 h hu
                · clear h
                  intro k21 hk21 h
                  refine eg_if_eq dX12_told_100 (fun c27 => ?_) (fun c27 => ?_)
                  · replace h := h.1 c27
                    exact hk21 h hu
                  · replace h := h.2 c27
                    refine eg_aload_n 3 dX12_told_103 rfl rfl ?_
                    refine eg_aload_n 2 dX12_told_104 rfl rfl ?_
                    have hM0 := h
                    clear h
                    refine ec_SIp (rest := []) (ctX12_isLess hM0) (lw_S q789 q790 q89 q791) nX12_isLess ⟨Nat.le_of_ble_eq_true rfl, Nat.le_of_ble_eq_true rfl⟩ ⟨rfl, rfl⟩ hu rfl rfl (Nat.le_of_ble_eq_true rfl) dX12_told_105 (fun v22 h => ?_)
                    clear hM0
                    refine eg_if_eq dX12_told_108 (fun c26 => ?_) (fun c26 => ?_)
                    · replace h := h.1 c26
                      exact hk19 g16 h hu
                    · replace h := h.2 c26
                      exact hk21 h hu
            · clear h
              intro k28 hk28 h
              refine eg_sub [1, 2, 3, 4, 5, 6, 0] rfl ?_
              refine eb_loop2_e (J := fun (x6_29 : Int32) (g30 : eb_S) => (((0 + 1) + 1) ≤ bc ∧ ((0 + (x1_1.toNatClampNeg)) + (x1_1.toNatClampNeg)) ≤ bs) → eb_G l Γ P X cX12_told RX12 7 (some (.array .int)) (rmX12_told bc bs) 64 [(0, .ref a0), (1, .int x1_1), (2, .ref p2), (3, .ref p4), (4, .int x4_8), (5, .int x5_13), (6, .int x6_29)] [] g30 ((0 + 1) + 1) ((0 + (x1_1.toNatClampNeg)) + (x1_1.toNatClampNeg))) h ?_ hu
              clear h
              clear hu
              intro r31 hr31 x6_29 g30 h hu
              refine eg_iload 6 dX12_told_64 rfl ?_
              refine eg_iload_n 1 dX12_told_66 rfl rfl ?_
              refine eg_icmp_ge dX12_told_67 (fun c41 => ?_) (fun c41 => ?_)
              · replace h := h.1 c41
                exact eg_sub [0, 1, 2, 3, 4, 5] rfl (hk28 g30 h hu)
              · replace h := h.2 c41
                refine eg_aload_n 3 dX12_told_70 rfl rfl ?_
                refine eg_iload 6 dX12_told_71 rfl ?_
                refine eg_aload_n 0 dX12_told_73 rfl rfl ?_
                refine eg_iconst dX12_told_74 kc_0 ?_
                refine eg_iload 4 dX12_told_75 rfl ?_
                refine eg_iload 5 dX12_told_77 rfl ?_
                refine eg_iload 6 dX12_told_79 rfl ?_
                refine eg_imul dX12_told_81 ?_
                refine eg_iadd dX12_told_82 ?_
                refine eg_iload_n 1 dX12_told_83 rfl rfl ?_
                have hM0 := h
                clear h
                refine ec_SIp (rest := [.int 0, .ref a0, .int x6_29, .ref p4]) (ctJ2_floorMod hM0) (lw_S q744 q745 q90 q746) nJ2_floorMod ⟨Nat.le_of_ble_eq_true rfl, Nat.le_of_ble_eq_true rfl⟩ ⟨rfl, rfl⟩ hu rfl rfl (Nat.le_of_ble_eq_true rfl) dX12_told_84 (fun v32 h => ?_)
                clear hM0
                obtain ⟨hcs, h⟩ := h
                have hM0 := h
                clear h
                refine ec_VIp (rest := [.int x6_29, .ref p4]) (ctX12_sizeBehind hM0) (lw_V q785 q787 qs27 q89 q788) rfl rfl hcs nX12_sizeBehind ⟨Nat.le_of_ble_eq_true rfl, Nat.le_of_ble_eq_true rfl⟩ ⟨rfl, rfl⟩ hu rfl rfl (Nat.le_of_ble_eq_true rfl) dX12_told_87 (fun v36 h => ?_)
                clear hM0
                obtain ⟨nA, fA, he, hb, h⟩ := h
                refine eh_iast he hb dX12_told_90 (fun g40 eg40 => ?_)
                replace h := h g40 eg40
                refine eg_iinc (j := 6) (lv' := [(6, .int (x6_29 + 1)), (0, .ref a0), (1, .int x1_1), (2, .ref p2), (3, .ref p4), (4, .int x4_8), (5, .int x5_13)]) dX12_told_91 rfl (by rw [kc_1]) (Nat.le_of_ble_eq_true rfl) rfl ?_
                refine eg_goto dX12_told_94 ?_
                exact eg_sub [1, 2, 3, 4, 5, 6, 0] rfl (hr31 (x6_29 + 1) g40 h hu)
  · clear h
    intro k44 hk44 h
    refine eg_sub [2, 1, 0] rfl ?_
    refine eb_loop2_e (J := fun (x1_45 : Int32) (x2_46 : Int32) => (0 ≤ bc ∧ 0 ≤ bs) → eb_G l Γ P X cX12_told RX12 7 (some (.array .int)) (rmX12_told bc bs) 4 [(0, .ref a0), (1, .int x1_45), (2, .int x2_46)] [] st 0 0) h ?_ hu
    clear h
    clear hu
    intro r47 hr47 x1_45 x2_46 h hu
    refine eg_iload_n 2 dX12_told_4 rfl rfl ?_
    refine eg_aload_n 0 dX12_told_5 rfl rfl ?_
    obtain ⟨fs, v48, he, hv, h⟩ := h
    refine eg_get 2 in_X12 he rfl (Nat.le_of_ble_eq_true rfl) q760 rfl hv dX12_told_6 ?_
    refine eg_icmp_ge dX12_told_9 (fun c56 => ?_) (fun c56 => ?_)
    · replace h := h.1 c56
      exact eg_sub [0, 1] rfl (hk44 x1_45 h hu)
    · replace h := h.2 c56
      refine eg_iload_n 1 dX12_told_12 rfl rfl ?_
      refine eg_aload_n 0 dX12_told_13 rfl rfl ?_
      refine eg_iload_n 2 dX12_told_14 rfl rfl ?_
      refine eg_iconst dX12_told_15 kc_0 ?_
      obtain ⟨hcs, h⟩ := h
      have hM0 := h
      clear h
      refine ec_VIp (rest := [.int x1_45]) (ctX12_has hM0) (lw_V q709 q711 qs17 q89 q712) rfl rfl hcs nX12_has ⟨Nat.le_of_ble_eq_true rfl, Nat.le_of_ble_eq_true rfl⟩ ⟨rfl, rfl⟩ hu rfl rfl (Nat.le_of_ble_eq_true rfl) dX12_told_16 (fun v49 h => ?_)
      clear hM0
      refine eb_jp1_e (J := fun (s53 : Int32) => (0 ≤ bc ∧ 0 ≤ bs) → eb_G l Γ P X cX12_told RX12 7 (some (.array .int)) (rmX12_told bc bs) 27 [(0, .ref a0), (2, .int x2_46)] [.int s53, .int x1_45] st 0 0) h ?_ ?_
      · clear h
        intro s53 h hu
        refine eg_iadd dX12_told_27 ?_
        refine eg_istore_n (lv' := [(1, .int (x1_45 + s53)), (0, .ref a0), (2, .int x2_46)]) dX12_told_28 rfl (Nat.le_of_ble_eq_true rfl) rfl ?_
        refine eg_iinc (j := 2) (lv' := [(2, .int (x2_46 + 1)), (1, .int (x1_45 + s53)), (0, .ref a0)]) dX12_told_29 rfl (by rw [kc_1]) (Nat.le_of_ble_eq_true rfl) rfl ?_
        refine eg_goto dX12_told_32 ?_
        exact eg_sub [2, 1, 0] rfl (hr47 (x1_45 + s53) (x2_46 + 1) h hu)
      · clear h
        intro k54 hk54 h
        refine eg_if_eq dX12_told_19 (fun c55 => ?_) (fun c55 => ?_)
        · replace h := h.1 c55
          refine eg_iconst dX12_told_26 kc_0 ?_
          exact eg_sub [0, 2] rfl (hk54 0 h hu)
        · replace h := h.2 c55
          refine eg_iconst dX12_told_22 kc_1 ?_
          refine eg_goto dX12_told_23 ?_
          exact eg_sub [0, 2] rfl (hk54 1 h hu)
def MX0_round (Γ : eb_C) (bc bs : Nat) (st : eb_S) (a0 : Nat) (a1 : Int32) (a2 : Int32) (K : Int32 → eb_S → Prop) : Prop :=
  eb_jp1 (fun (s1 : Int32) => eb_cs st a0 [0] ∧ ∃ c4 s5 : Nat, (0 + c4 ≤ bc ∧ 0 + s5 ≤ bs) ∧ MX0_whyHull Γ c4 s5 st a0 a1 s1 (fun v2 g3 => eb_br (v2 = 1) (eb_gr g3 a0 0 0 (fun v6 => eb_nn v6 (fun p7 => eb_lr Γ g3 p7 7 a1 (fun v8 => eb_nn v8 (fun p9 => eb_cs g3 p9 [1] ∧ ∃ c12 s13 : Nat, ((0 + c4) + c12 ≤ bc ∧ (0 + s5) + s13 ≤ bs) ∧ MX1_hull Γ c12 s13 g3 p9 (fun v10 g11 => eb_nn v10 (fun p14 => eb_cs g11 p14 [11] ∧ ∃ c17 s18 : Nat, ((((0 + c4) + c12)) + c17 ≤ bc ∧ (((0 + s5) + s13)) + s18 ≤ bs) ∧ MX12_told Γ c17 s18 g11 p14 (fun v15 g16 => eb_br (a2 = (-1)) (eb_nn v15 (fun p27 => eb_ln Γ g16 p27 0 (fun v28 => K v28 g16))) (eb_nn v15 (fun p19 => eb_ln Γ g16 p19 0 (fun v20 => MX0_in a2 0 (v20 - 1) (fun v21 => eb_br (v21 = 0) (K (-1) g16) (eb_li Γ g16 p19 0 a2 (fun v25 => K v25 g16)))))))))))))) (K v2 g3))) (fun k31 => eb_br (a2 < (-1)) (k31 0) (k31 1))
abbrev rmX0_round (bc bs : Nat) : Room := { frames := 15, cells := bc, slots := bs, locals := 329 }
theorem nX0_round : eb_ar yX0_round 2 := by decide +kernel
theorem dX0_round_0 : eb_dc cX0_round 0 (.aload_n 0) 1 1 := by decide +kernel
theorem dX0_round_1 : eb_dc cX0_round 1 (.iload_n 1) 1 2 := by decide +kernel
theorem dX0_round_2 : eb_dc cX0_round 2 (.iload_n 2) 1 3 := by decide +kernel
theorem dX0_round_3 : eb_dc cX0_round 3 (.iconst (-1)) 1 4 := by decide +kernel
theorem dX0_round_4 : eb_dj cX0_round 4 (.if_icmp .lt 7) 7 7 11 := by decide +kernel
theorem dX0_round_7 : eb_dc cX0_round 7 (.iconst 1) 1 8 := by decide +kernel
theorem dX0_round_8 : eb_dj cX0_round 8 (.goto 4) 4 11 12 := by decide +kernel
theorem dX0_round_11 : eb_dc cX0_round 11 (.iconst 0) 1 12 := by decide +kernel
theorem dX0_round_12 : eb_dc cX0_round 12 (.invokevirtual 187) 3 15 := by decide +kernel
theorem dX0_round_15 : eb_dc cX0_round 15 (.istore_n 3) 1 16 := by decide +kernel
theorem dX0_round_16 : eb_dc cX0_round 16 (.iload_n 3) 1 17 := by decide +kernel
theorem dX0_round_17 : eb_dc cX0_round 17 (.iconst 1) 1 18 := by decide +kernel
theorem dX0_round_18 : eb_dj cX0_round 18 (.if_icmp .eq 5) 5 21 23 := by decide +kernel
theorem dX0_round_21 : eb_dc cX0_round 21 (.iload_n 3) 1 22 := by decide +kernel
theorem dX0_round_22 : eb_dc cX0_round 22 (.ireturn) 1 23 := by decide +kernel
theorem dX0_round_23 : eb_dc cX0_round 23 (.aload_n 0) 1 24 := by decide +kernel
theorem dX0_round_24 : eb_dc cX0_round 24 (.getfield 15) 3 27 := by decide +kernel
theorem dX0_round_27 : eb_dc cX0_round 27 (.iload_n 1) 1 28 := by decide +kernel
theorem dX0_round_28 : eb_dc cX0_round 28 (.aaload) 1 29 := by decide +kernel
theorem dX0_round_29 : eb_dc cX0_round 29 (.invokevirtual 190) 3 32 := by decide +kernel
theorem dX0_round_32 : eb_dc cX0_round 32 (.invokevirtual 194) 3 35 := by decide +kernel
theorem dX0_round_35 : eb_dc cX0_round 35 (.astore 4) 2 37 := by decide +kernel
theorem dX0_round_37 : eb_dc cX0_round 37 (.iload_n 2) 1 38 := by decide +kernel
theorem dX0_round_38 : eb_dc cX0_round 38 (.iconst (-1)) 1 39 := by decide +kernel
theorem dX0_round_39 : eb_dj cX0_round 39 (.if_icmp .ne 9) 9 42 48 := by decide +kernel
theorem dX0_round_42 : eb_dc cX0_round 42 (.aload 4) 2 44 := by decide +kernel
theorem dX0_round_44 : eb_dc cX0_round 44 (.arraylength) 1 45 := by decide +kernel
theorem dX0_round_45 : eb_dj cX0_round 45 (.goto 24) 24 48 69 := by decide +kernel
theorem dX0_round_48 : eb_dc cX0_round 48 (.iload_n 2) 1 49 := by decide +kernel
theorem dX0_round_49 : eb_dc cX0_round 49 (.iconst 0) 1 50 := by decide +kernel
theorem dX0_round_50 : eb_dc cX0_round 50 (.aload 4) 2 52 := by decide +kernel
theorem dX0_round_52 : eb_dc cX0_round 52 (.arraylength) 1 53 := by decide +kernel
theorem dX0_round_53 : eb_dc cX0_round 53 (.iconst 1) 1 54 := by decide +kernel
theorem dX0_round_54 : eb_dc cX0_round 54 (.isub) 1 55 := by decide +kernel
theorem dX0_round_55 : eb_dc cX0_round 55 (.invokestatic 26) 3 58 := by decide +kernel
theorem dX0_round_58 : eb_dj cX0_round 58 (.ifCond .eq 10) 10 61 68 := by decide +kernel
theorem dX0_round_61 : eb_dc cX0_round 61 (.aload 4) 2 63 := by decide +kernel
theorem dX0_round_63 : eb_dc cX0_round 63 (.iload_n 2) 1 64 := by decide +kernel
theorem dX0_round_64 : eb_dc cX0_round 64 (.iaload) 1 65 := by decide +kernel
theorem dX0_round_65 : eb_dj cX0_round 65 (.goto 4) 4 68 69 := by decide +kernel
theorem dX0_round_68 : eb_dc cX0_round 68 (.iconst (-1)) 1 69 := by decide +kernel
theorem dX0_round_69 : eb_dc cX0_round 69 (.ireturn) 1 70 := by decide +kernel
theorem ctX0_round {l : Launch} {Γ : eb_C} {bc bs : Nat} {st : eb_S} {a0 : Nat} {a1 : Int32} {a2 : Int32} {K : Int32 → eb_S → Prop} (h : MX0_round Γ bc bs st a0 a1 a2 K) : eb_Ct l Γ yX0_round cX0_round 5 (some .int) (rmX0_round bc bs) [.ref a0, .int a1, .int a2] st (eb_oI K) := by
  refine eb_of (by decide) (Nat.le_of_ble_eq_true rfl) (fun X P hP hX0 => ?_)
  suffices hgo : (0 ≤ bc ∧ 0 ≤ bs) → eb_G l Γ P X cX0_round RX0 5 (some .int) (rmX0_round bc bs) 0 [(0, .ref a0), (1, .int a1), (2, .int a2)] [] st 0 0 from hgo ⟨Nat.zero_le _, Nat.zero_le _⟩
  intro hu
  refine eg_aload_n 0 dX0_round_0 rfl rfl ?_
  refine eg_iload_n 1 dX0_round_1 rfl rfl ?_
  refine eg_iload_n 2 dX0_round_2 rfl rfl ?_
  refine eg_iconst dX0_round_3 kc_m1 ?_
  refine eb_jp1_e (J := fun (s1 : Int32) => (0 ≤ bc ∧ 0 ≤ bs) → eb_G l Γ P X cX0_round RX0 5 (some .int) (rmX0_round bc bs) 12 [(0, .ref a0), (1, .int a1), (2, .int a2)] [.int s1, .int a1, .ref a0] st 0 0) h ?_ ?_
  · clear h
    intro s1 h hu
    obtain ⟨hcs, h⟩ := h
    obtain ⟨c4, s5, hca, h⟩ := h
    have hM0 := h
    clear h
    refine ec_VIa (rest := []) (ctX0_whyHull hM0) (lw_V q685 q687 qs15 q74 q688) rfl rfl hcs nX0_whyHull ⟨Nat.le_of_ble_eq_true rfl, Nat.le_of_ble_eq_true rfl⟩ ⟨rfl, rfl⟩ hca rfl rfl (Nat.le_of_ble_eq_true rfl) dX0_round_12 (fun v2 g3 h => ?_)
    clear hM0
    replace hu := hca
    refine eg_istore_n (lv' := [(3, .int v2), (0, .ref a0), (1, .int a1), (2, .int a2)]) dX0_round_15 rfl (Nat.le_of_ble_eq_true rfl) rfl ?_
    refine eg_iload_n 0 dX0_round_16 rfl rfl ?_
    refine eg_iconst dX0_round_17 kc_1 ?_
    refine eg_icmp_eq dX0_round_18 (fun c30 => ?_) (fun c30 => ?_)
    · replace h := h.1 c30
      refine eg_aload_n 1 dX0_round_23 rfl rfl ?_
      obtain ⟨fs, v6, he, hv, h⟩ := h
      refine eg_get 0 in_X0 he rfl (Nat.le_of_ble_eq_true rfl) q159 rfl hv dX0_round_24 ?_
      refine eg_iload_n 2 dX0_round_27 rfl rfl ?_
      obtain ⟨p7, rfl, h⟩ := h
      obtain ⟨nA, fA, he, hb, h⟩ := h
      refine eg_aald (t := 7) (ty := .object "EvenBodies$Body") rfl rfl he hb dX0_round_28 (fun v8 ev8 => ?_)
      replace h := h v8 ev8
      obtain ⟨p9, rfl, h⟩ := h
      obtain ⟨hcs, h⟩ := h
      obtain ⟨c12, s13, hca, h⟩ := h
      have hM0 := h
      clear h
      refine ec_VRa (rest := []) (ctX1_hull hM0) (lw_V q689 q690 q691 q75 q692) rfl rfl hcs nX1_hull ⟨Nat.le_of_ble_eq_true rfl, Nat.le_of_ble_eq_true rfl⟩ ⟨rfl, rfl⟩ hca rfl rfl (Nat.le_of_ble_eq_true rfl) dX0_round_29 (fun v10 g11 h => ?_)
      clear hM0
      replace hu := hca
      obtain ⟨p14, rfl, h⟩ := h
      obtain ⟨hcs, h⟩ := h
      obtain ⟨c17, s18, hca, h⟩ := h
      have hM0 := h
      clear h
      refine ec_VRa (rest := []) (ctX12_told hM0) (lw_V q781 q782 q783 q89 q784) rfl rfl hcs nX12_told ⟨Nat.le_of_ble_eq_true rfl, Nat.le_of_ble_eq_true rfl⟩ ⟨rfl, rfl⟩ hca rfl rfl (Nat.le_of_ble_eq_true rfl) dX0_round_32 (fun v15 g16 h => ?_)
      clear hM0
      replace hu := hca
      refine eh_astore (i := 4) (v := v15) (lv' := [(4, va_rf v15), (3, .int v2), (0, .ref a0), (1, .int a1), (2, .int a2)]) dX0_round_35 (Nat.le_of_ble_eq_true rfl) rfl ?_
      refine eg_iload_n 4 dX0_round_37 rfl rfl ?_
      refine eg_iconst dX0_round_38 kc_m1 ?_
      refine eg_icmp_ne dX0_round_39 (fun c29 => ?_) (fun c29 => ?_)
      · replace h := h.2 c29
        refine eg_iload_n 4 dX0_round_48 rfl rfl ?_
        refine eg_iconst dX0_round_49 kc_0 ?_
        refine eh_aload (v := v15) 0 dX0_round_50 rfl ?_
        obtain ⟨p19, rfl, h⟩ := h
        obtain ⟨xA, he, h⟩ := h
        refine eh_alen (t := 0) (ty := .int) he rfl dX0_round_52 ?_
        generalize Int32.ofNat xA.1 = v20 at h ⊢
        refine eg_iconst dX0_round_53 kc_1 ?_
        refine eg_isub dX0_round_54 ?_
        have hM0 := h
        clear h
        refine ec_SIp (rest := []) (ctX0_in hM0) (lw_S q185 q186 q74 q187) nX0_in ⟨Nat.le_of_ble_eq_true rfl, Nat.le_of_ble_eq_true rfl⟩ ⟨rfl, rfl⟩ hu rfl rfl (Nat.le_of_ble_eq_true rfl) dX0_round_55 (fun v21 h => ?_)
        clear hM0
        refine eg_if_eq dX0_round_58 (fun c26 => ?_) (fun c26 => ?_)
        · replace h := h.1 c26
          refine eg_iconst dX0_round_68 kc_m1 ?_
          exact eg_iret dX0_round_69 hu.1 hu.2 (hP _ _ ⟨_, rfl, h⟩)
        · replace h := h.2 c26
          refine eg_aload 0 dX0_round_61 rfl ?_
          refine eg_iload_n 4 dX0_round_63 rfl rfl ?_
          obtain ⟨nA, fA, he, hb, h⟩ := h
          refine eh_iald he hb dX0_round_64 (fun v25 ev25 => ?_)
          replace h := h v25 ev25
          refine eg_goto dX0_round_65 ?_
          exact eg_iret dX0_round_69 hu.1 hu.2 (hP _ _ ⟨_, rfl, h⟩)
      · replace h := h.1 c29
        refine eh_aload (v := v15) 0 dX0_round_42 rfl ?_
        obtain ⟨p27, rfl, h⟩ := h
        obtain ⟨xA, he, h⟩ := h
        refine eh_alen (t := 0) (ty := .int) he rfl dX0_round_44 ?_
        generalize Int32.ofNat xA.1 = v28 at h ⊢
        refine eg_goto dX0_round_45 ?_
        exact eg_iret dX0_round_69 hu.1 hu.2 (hP _ _ ⟨_, rfl, h⟩)
    · replace h := h.2 c30
      refine eg_iload_n 0 dX0_round_21 rfl rfl ?_
      exact eg_iret dX0_round_22 hu.1 hu.2 (hP _ _ ⟨_, rfl, h⟩)
  · clear h
    intro k31 hk31 h
    refine eg_icmp_lt dX0_round_4 (fun c32 => ?_) (fun c32 => ?_)
    · replace h := h.1 c32
      refine eg_iconst dX0_round_11 kc_0 ?_
      exact hk31 0 h hu
    · replace h := h.2 c32
      refine eg_iconst dX0_round_7 kc_1 ?_
      refine eg_goto dX0_round_8 ?_
      exact hk31 1 h hu

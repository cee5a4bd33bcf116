set_option maxRecDepth 100000
set_option maxHeartbeats 4000000
def MX2_walks (σ : eb_MS) (a1 : Int32) (a2 : Int32) (K : eb_MS → Prop) : Prop :=
  eb_jp1 (fun (g1 : eb_MS) => ms_wr g1 22 500 a1 0 (fun g2 => ms_wr g2 21 500 0 a1 (fun g3 => eb_loop3 (fun r7 (x3_4 : Int32) (x4_5 : Int32) (g6 : eb_MS) => eb_br (x3_4 ≤ x4_5) (K g6) (eb_jp2 (fun (x3_8 : Int32) (g9 : eb_MS) => r7 x3_8 (x4_5 + 1) g9) (fun k10 => eb_loop3 (fun r14 (x3_11 : Int32) (x5_12 : Int32) (g13 : eb_MS) => eb_br (a2 ≤ x5_12) (k10 x3_11 g13) (eb_rd (g13.2.1 22) 500 x5_12 (fun v15 => eb_jp2 (fun (x3_16 : Int32) (g17 : eb_MS) => r14 x3_16 (x5_12 + 1) g17) (fun k18 => eb_br (v15 = (-1)) (eb_rd (g13.2.1 21) 500 x4_5 (fun v19 => eb_rd (g13.2.1 26) 250000 (((500 * v19) + x5_12)) (fun v20 => eb_br (v20 = 0) (k18 x3_11 g13) (eb_rd (g13.2.1 21) 500 x4_5 (fun v21 => eb_rd (g13.2.1 22) 500 v21 (fun v22 => ms_wr g13 22 500 x5_12 (v22 + 1) (fun g23 => ms_wr g23 21 500 x3_11 x5_12 (fun g24 => k18 (x3_11 + 1) g24)))))))) (k18 x3_11 g13))))) x3_4 0 g6))) 1 0 g3))) (fun k29 => eb_loop2 (fun r32 (x3_30 : Int32) (g31 : eb_MS) => eb_br (a2 ≤ x3_30) (k29 g31) (ms_wr g31 22 500 x3_30 (-1) (fun g33 => r32 (x3_30 + 1) g33))) 0 σ)
abbrev rmX2_walks : Room := { frames := 1, cells := 0, slots := 0, locals := 12 }
theorem nX2_walks : eb_ar yX2_walks 2 := by decide +kernel
theorem dX2_walks_0 : eb_dc cX2_walks 0 (.iconst 0) 1 1 := by decide +kernel
theorem dX2_walks_1 : eb_dc cX2_walks 1 (.istore_n 3) 1 2 := by decide +kernel
theorem dX2_walks_2 : eb_dc cX2_walks 2 (.iload_n 3) 1 3 := by decide +kernel
theorem dX2_walks_3 : eb_dc cX2_walks 3 (.iload_n 2) 1 4 := by decide +kernel
theorem dX2_walks_4 : eb_dj cX2_walks 4 (.if_icmp .ge 16) 16 7 20 := by decide +kernel
theorem dX2_walks_7 : eb_dc cX2_walks 7 (.aload_n 0) 1 8 := by decide +kernel
theorem dX2_walks_8 : eb_dc cX2_walks 8 (.getfield 59) 3 11 := by decide +kernel
theorem dX2_walks_11 : eb_dc cX2_walks 11 (.iload_n 3) 1 12 := by decide +kernel
theorem dX2_walks_12 : eb_dc cX2_walks 12 (.iconst (-1)) 1 13 := by decide +kernel
theorem dX2_walks_13 : eb_dc cX2_walks 13 (.iastore) 1 14 := by decide +kernel
theorem dX2_walks_14 : eb_dc cX2_walks 14 (.iinc 3 1) 3 17 := by decide +kernel
theorem dX2_walks_17 : eb_dj cX2_walks 17 (.goto (-15)) (-15) 20 2 := by decide +kernel
theorem dX2_walks_20 : eb_dc cX2_walks 20 (.aload_n 0) 1 21 := by decide +kernel
theorem dX2_walks_21 : eb_dc cX2_walks 21 (.getfield 59) 3 24 := by decide +kernel
theorem dX2_walks_24 : eb_dc cX2_walks 24 (.iload_n 1) 1 25 := by decide +kernel
theorem dX2_walks_25 : eb_dc cX2_walks 25 (.iconst 0) 1 26 := by decide +kernel
theorem dX2_walks_26 : eb_dc cX2_walks 26 (.iastore) 1 27 := by decide +kernel
theorem dX2_walks_27 : eb_dc cX2_walks 27 (.aload_n 0) 1 28 := by decide +kernel
theorem dX2_walks_28 : eb_dc cX2_walks 28 (.getfield 56) 3 31 := by decide +kernel
theorem dX2_walks_31 : eb_dc cX2_walks 31 (.iconst 0) 1 32 := by decide +kernel
theorem dX2_walks_32 : eb_dc cX2_walks 32 (.iload_n 1) 1 33 := by decide +kernel
theorem dX2_walks_33 : eb_dc cX2_walks 33 (.iastore) 1 34 := by decide +kernel
theorem dX2_walks_34 : eb_dc cX2_walks 34 (.iconst 1) 1 35 := by decide +kernel
theorem dX2_walks_35 : eb_dc cX2_walks 35 (.istore_n 3) 1 36 := by decide +kernel
theorem dX2_walks_36 : eb_dc cX2_walks 36 (.iconst 0) 1 37 := by decide +kernel
theorem dX2_walks_37 : eb_dc cX2_walks 37 (.istore 4) 2 39 := by decide +kernel
theorem dX2_walks_39 : eb_dc cX2_walks 39 (.iload 4) 2 41 := by decide +kernel
theorem dX2_walks_41 : eb_dc cX2_walks 41 (.iload_n 3) 1 42 := by decide +kernel
theorem dX2_walks_42 : eb_dj cX2_walks 42 (.if_icmp .ge 89) 89 45 131 := by decide +kernel
theorem dX2_walks_45 : eb_dc cX2_walks 45 (.iconst 0) 1 46 := by decide +kernel
theorem dX2_walks_46 : eb_dc cX2_walks 46 (.istore 5) 2 48 := by decide +kernel
theorem dX2_walks_48 : eb_dc cX2_walks 48 (.iload 5) 2 50 := by decide +kernel
theorem dX2_walks_50 : eb_dc cX2_walks 50 (.iload_n 2) 1 51 := by decide +kernel
theorem dX2_walks_51 : eb_dj cX2_walks 51 (.if_icmp .ge 74) 74 54 125 := by decide +kernel
theorem dX2_walks_54 : eb_dc cX2_walks 54 (.aload_n 0) 1 55 := by decide +kernel
theorem dX2_walks_55 : eb_dc cX2_walks 55 (.getfield 59) 3 58 := by decide +kernel
theorem dX2_walks_58 : eb_dc cX2_walks 58 (.iload 5) 2 60 := by decide +kernel
theorem dX2_walks_60 : eb_dc cX2_walks 60 (.iaload) 1 61 := by decide +kernel
theorem dX2_walks_61 : eb_dc cX2_walks 61 (.iconst (-1)) 1 62 := by decide +kernel
theorem dX2_walks_62 : eb_dj cX2_walks 62 (.if_icmp .ne 57) 57 65 119 := by decide +kernel
theorem dX2_walks_65 : eb_dc cX2_walks 65 (.aload_n 0) 1 66 := by decide +kernel
theorem dX2_walks_66 : eb_dc cX2_walks 66 (.getfield 74) 3 69 := by decide +kernel
theorem dX2_walks_69 : eb_dc cX2_walks 69 (.sipush 500) 3 72 := by decide +kernel
theorem dX2_walks_72 : eb_dc cX2_walks 72 (.aload_n 0) 1 73 := by decide +kernel
theorem dX2_walks_73 : eb_dc cX2_walks 73 (.getfield 56) 3 76 := by decide +kernel
theorem dX2_walks_76 : eb_dc cX2_walks 76 (.iload 4) 2 78 := by decide +kernel
theorem dX2_walks_78 : eb_dc cX2_walks 78 (.iaload) 1 79 := by decide +kernel
theorem dX2_walks_79 : eb_dc cX2_walks 79 (.imul) 1 80 := by decide +kernel
theorem dX2_walks_80 : eb_dc cX2_walks 80 (.iload 5) 2 82 := by decide +kernel
theorem dX2_walks_82 : eb_dc cX2_walks 82 (.iadd) 1 83 := by decide +kernel
theorem dX2_walks_83 : eb_dc cX2_walks 83 (.baload) 1 84 := by decide +kernel
theorem dX2_walks_84 : eb_dj cX2_walks 84 (.ifCond .eq 35) 35 87 119 := by decide +kernel
theorem dX2_walks_87 : eb_dc cX2_walks 87 (.aload_n 0) 1 88 := by decide +kernel
theorem dX2_walks_88 : eb_dc cX2_walks 88 (.getfield 59) 3 91 := by decide +kernel
theorem dX2_walks_91 : eb_dc cX2_walks 91 (.iload 5) 2 93 := by decide +kernel
theorem dX2_walks_93 : eb_dc cX2_walks 93 (.aload_n 0) 1 94 := by decide +kernel
theorem dX2_walks_94 : eb_dc cX2_walks 94 (.getfield 59) 3 97 := by decide +kernel
theorem dX2_walks_97 : eb_dc cX2_walks 97 (.aload_n 0) 1 98 := by decide +kernel
theorem dX2_walks_98 : eb_dc cX2_walks 98 (.getfield 56) 3 101 := by decide +kernel
theorem dX2_walks_101 : eb_dc cX2_walks 101 (.iload 4) 2 103 := by decide +kernel
theorem dX2_walks_103 : eb_dc cX2_walks 103 (.iaload) 1 104 := by decide +kernel
theorem dX2_walks_104 : eb_dc cX2_walks 104 (.iaload) 1 105 := by decide +kernel
theorem dX2_walks_105 : eb_dc cX2_walks 105 (.iconst 1) 1 106 := by decide +kernel
theorem dX2_walks_106 : eb_dc cX2_walks 106 (.iadd) 1 107 := by decide +kernel
theorem dX2_walks_107 : eb_dc cX2_walks 107 (.iastore) 1 108 := by decide +kernel
theorem dX2_walks_108 : eb_dc cX2_walks 108 (.aload_n 0) 1 109 := by decide +kernel
theorem dX2_walks_109 : eb_dc cX2_walks 109 (.getfield 56) 3 112 := by decide +kernel
theorem dX2_walks_112 : eb_dc cX2_walks 112 (.iload_n 3) 1 113 := by decide +kernel
theorem dX2_walks_113 : eb_dc cX2_walks 113 (.iload 5) 2 115 := by decide +kernel
theorem dX2_walks_115 : eb_dc cX2_walks 115 (.iastore) 1 116 := by decide +kernel
theorem dX2_walks_116 : eb_dc cX2_walks 116 (.iinc 3 1) 3 119 := by decide +kernel
theorem dX2_walks_119 : eb_dc cX2_walks 119 (.iinc 5 1) 3 122 := by decide +kernel
theorem dX2_walks_122 : eb_dj cX2_walks 122 (.goto (-74)) (-74) 125 48 := by decide +kernel
theorem dX2_walks_125 : eb_dc cX2_walks 125 (.iinc 4 1) 3 128 := by decide +kernel
theorem dX2_walks_128 : eb_dj cX2_walks 128 (.goto (-89)) (-89) 131 39 := by decide +kernel
theorem dX2_walks_131 : eb_dc cX2_walks 131 (.return_) 1 132 := by decide +kernel
theorem ctX2_walks {l : Launch} {Γ : eb_C} {ad : Nat → Nat} {ix : Nat → Option Nat} {σ : eb_MS} {a1 : Int32} {a2 : Int32} {K : eb_MS → Prop} (hi : ms_inv ad ix) (h : MX2_walks σ a1 a2 K) : eb_Ct l Γ yX2_walks cX2_walks 6 (none) rmX2_walks [.ref (ad 0), .int a1, .int a2] (ms_st Γ ad ix σ) (em_V Γ ad ix K) := by
  refine eb_of (by decide) (Nat.le_of_ble_eq_true rfl) (fun X P hP _ => ?_)
  show eb_G l Γ P X cX2_walks RX2 6 (none) rmX2_walks 0 [(0, .ref (ad 0)), (1, .int a1), (2, .int a2)] [] (ms_st Γ ad ix σ) 0 0
  refine eg_iconst dX2_walks_0 kc_0 ?_
  refine eg_istore_n (lv' := [(3, .int 0), (0, .ref (ad 0)), (1, .int a1), (2, .int a2)]) dX2_walks_1 rfl (Nat.le_of_ble_eq_true rfl) rfl ?_
  refine eb_jp1_e (J := fun (g1 : eb_MS) => eb_G l Γ P X cX2_walks RX2 6 (none) rmX2_walks 20 [(0, .ref (ad 0)), (1, .int a1), (2, .int a2)] [] (ms_st Γ ad ix g1) 0 0) h ?_ ?_
  · intro g1 h
    refine eg_aload_n 0 dX2_walks_20 rfl rfl ?_
    refine em_geta 22 rfl q1164 dX2_walks_21 hi ?_
    refine eg_iload_n 1 dX2_walks_24 rfl rfl ?_
    refine eg_iconst dX2_walks_25 kc_0 ?_
    obtain ⟨hb, h⟩ := h
    refine em_iast 22 rfl hb dX2_walks_26 hi (fun g2 eg2 => ?_)
    replace h := h g2 eg2
    refine eg_aload_n 0 dX2_walks_27 rfl rfl ?_
    refine em_geta 21 rfl q1163 dX2_walks_28 hi ?_
    refine eg_iconst dX2_walks_31 kc_0 ?_
    refine eg_iload_n 1 dX2_walks_32 rfl rfl ?_
    obtain ⟨hb, h⟩ := h
    refine em_iast 21 rfl hb dX2_walks_33 hi (fun g3 eg3 => ?_)
    replace h := h g3 eg3
    refine eg_iconst dX2_walks_34 kc_1 ?_
    refine eg_istore_n (lv' := [(3, .int 1), (0, .ref (ad 0)), (1, .int a1), (2, .int a2)]) dX2_walks_35 rfl (Nat.le_of_ble_eq_true rfl) rfl ?_
    refine eg_iconst dX2_walks_36 kc_0 ?_
    refine eg_istore (lv' := [(4, .int 0), (3, .int 1), (0, .ref (ad 0)), (1, .int a1), (2, .int a2)]) dX2_walks_37 (Nat.le_of_ble_eq_true rfl) rfl ?_
    refine eg_sub [2, 4, 1, 0] rfl ?_
    refine eb_loop3_e (J := fun (x3_4 : Int32) (x4_5 : Int32) (g6 : eb_MS) => eb_G l Γ P X cX2_walks RX2 6 (none) rmX2_walks 39 [(0, .ref (ad 0)), (2, .int a2), (3, .int x3_4), (4, .int x4_5)] [] (ms_st Γ ad ix g6) 0 0) h ?_
    intro r7 hr7 x3_4 x4_5 g6 h
    refine eg_iload 3 dX2_walks_39 rfl ?_
    refine eg_iload_n 2 dX2_walks_41 rfl rfl ?_
    refine eg_icmp_ge dX2_walks_42 (fun c28 => ?_) (fun c28 => ?_)
    · replace h := h.1 c28
      exact eg_vret dX2_walks_131 (Nat.zero_le _) (Nat.zero_le _) (hP _ _ ⟨_, rfl, rfl, h⟩)
    · replace h := h.2 c28
      refine eg_iconst dX2_walks_45 kc_0 ?_
      refine eg_istore (lv' := [(5, .int 0), (0, .ref (ad 0)), (2, .int a2), (3, .int x3_4), (4, .int x4_5)]) dX2_walks_46 (Nat.le_of_ble_eq_true rfl) rfl ?_
      refine eb_jp2_e (J := fun (x3_8 : Int32) (g9 : eb_MS) => eb_G l Γ P X cX2_walks RX2 6 (none) rmX2_walks 125 [(0, .ref (ad 0)), (2, .int a2), (3, .int x3_8), (4, .int x4_5)] [] (ms_st Γ ad ix g9) 0 0) h ?_ ?_
      · intro x3_8 g9 h
        refine eg_iinc (j := 3) (lv' := [(4, .int (x4_5 + 1)), (0, .ref (ad 0)), (2, .int a2), (3, .int x3_8)]) dX2_walks_125 rfl (by rw [kc_1]) (Nat.le_of_ble_eq_true rfl) rfl ?_
        refine eg_goto dX2_walks_128 ?_
        exact eg_sub [1, 2, 3, 0] rfl (hr7 x3_8 (x4_5 + 1) g9 h)
      · intro k10 hk10 h
        refine eg_sub [1, 2, 3, 4, 0] rfl ?_
        refine eb_loop3_e (J := fun (x3_11 : Int32) (x5_12 : Int32) (g13 : eb_MS) => eb_G l Γ P X cX2_walks RX2 6 (none) rmX2_walks 48 [(0, .ref (ad 0)), (2, .int a2), (3, .int x3_11), (4, .int x4_5), (5, .int x5_12)] [] (ms_st Γ ad ix g13) 0 0) h ?_
        intro r14 hr14 x3_11 x5_12 g13 h
        refine eg_iload 4 dX2_walks_48 rfl ?_
        refine eg_iload_n 1 dX2_walks_50 rfl rfl ?_
        refine eg_icmp_ge dX2_walks_51 (fun c27 => ?_) (fun c27 => ?_)
        · replace h := h.1 c27
          exact eg_sub [0, 1, 2, 3] rfl (hk10 x3_11 g13 h)
        · replace h := h.2 c27
          refine eg_aload_n 0 dX2_walks_54 rfl rfl ?_
          refine em_geta 22 rfl q1164 dX2_walks_55 hi ?_
          refine eg_iload 4 dX2_walks_58 rfl ?_
          obtain ⟨hb, h⟩ := h
          refine em_iald 22 rfl hb dX2_walks_60 hi (fun v15 ev15 => ?_)
          replace h := h v15 ev15
          refine eg_iconst dX2_walks_61 kc_m1 ?_
          refine eb_jp2_e (J := fun (x3_16 : Int32) (g17 : eb_MS) => eb_G l Γ P X cX2_walks RX2 6 (none) rmX2_walks 119 [(0, .ref (ad 0)), (2, .int a2), (3, .int x3_16), (4, .int x4_5), (5, .int x5_12)] [] (ms_st Γ ad ix g17) 0 0) h ?_ ?_
          · intro x3_16 g17 h
            refine eg_iinc (j := 4) (lv' := [(5, .int (x5_12 + 1)), (0, .ref (ad 0)), (2, .int a2), (3, .int x3_16), (4, .int x4_5)]) dX2_walks_119 rfl (by rw [kc_1]) (Nat.le_of_ble_eq_true rfl) rfl ?_
            refine eg_goto dX2_walks_122 ?_
            exact eg_sub [1, 2, 3, 4, 0] rfl (hr14 x3_16 (x5_12 + 1) g17 h)
          · intro k18 hk18 h
            refine eg_icmp_ne dX2_walks_62 (fun c26 => ?_) (fun c26 => ?_)
            · replace h := h.2 c26
              exact hk18 x3_11 g13 h
            · replace h := h.1 c26
              refine eg_aload_n 0 dX2_walks_65 rfl rfl ?_
              refine em_geta 26 rfl q1168 dX2_walks_66 hi ?_
              refine eg_sipush dX2_walks_69 ks_500 ?_
              refine eg_aload_n 0 dX2_walks_72 rfl rfl ?_
              refine em_geta 21 rfl q1163 dX2_walks_73 hi ?_
              refine eg_iload 3 dX2_walks_76 rfl ?_
              obtain ⟨hb, h⟩ := h
              refine em_iald 21 rfl hb dX2_walks_78 hi (fun v19 ev19 => ?_)
              replace h := h v19 ev19
              refine eg_imul dX2_walks_79 ?_
              refine eg_iload 4 dX2_walks_80 rfl ?_
              refine eg_iadd dX2_walks_82 ?_
              obtain ⟨hb, h⟩ := h
              refine em_zald 26 rfl hb dX2_walks_83 hi (fun v20 ev20 => ?_)
              replace h := h v20 ev20
              refine eg_if_eq dX2_walks_84 (fun c25 => ?_) (fun c25 => ?_)
              · replace h := h.1 c25
                exact hk18 x3_11 g13 h
              · replace h := h.2 c25
                refine eg_aload_n 0 dX2_walks_87 rfl rfl ?_
                refine em_geta 22 rfl q1164 dX2_walks_88 hi ?_
                refine eg_iload 4 dX2_walks_91 rfl ?_
                refine eg_aload_n 0 dX2_walks_93 rfl rfl ?_
                refine em_geta 22 rfl q1164 dX2_walks_94 hi ?_
                refine eg_aload_n 0 dX2_walks_97 rfl rfl ?_
                refine em_geta 21 rfl q1163 dX2_walks_98 hi ?_
                refine eg_iload 3 dX2_walks_101 rfl ?_
                obtain ⟨hb, h⟩ := h
                refine em_iald 21 rfl hb dX2_walks_103 hi (fun v21 ev21 => ?_)
                replace h := h v21 ev21
                obtain ⟨hb, h⟩ := h
                refine em_iald 22 rfl hb dX2_walks_104 hi (fun v22 ev22 => ?_)
                replace h := h v22 ev22
                refine eg_iconst dX2_walks_105 kc_1 ?_
                refine eg_iadd dX2_walks_106 ?_
                obtain ⟨hb, h⟩ := h
                refine em_iast 22 rfl hb dX2_walks_107 hi (fun g23 eg23 => ?_)
                replace h := h g23 eg23
                refine eg_aload_n 0 dX2_walks_108 rfl rfl ?_
                refine em_geta 21 rfl q1163 dX2_walks_109 hi ?_
                refine eg_iload_n 2 dX2_walks_112 rfl rfl ?_
                refine eg_iload 4 dX2_walks_113 rfl ?_
                obtain ⟨hb, h⟩ := h
                refine em_iast 21 rfl hb dX2_walks_115 hi (fun g24 eg24 => ?_)
                replace h := h g24 eg24
                refine eg_iinc (j := 2) (lv' := [(3, .int (x3_11 + 1)), (0, .ref (ad 0)), (2, .int a2), (4, .int x4_5), (5, .int x5_12)]) dX2_walks_116 rfl (by rw [kc_1]) (Nat.le_of_ble_eq_true rfl) rfl ?_
                exact eg_sub [1, 2, 0, 3, 4] rfl (hk18 (x3_11 + 1) g24 h)
  · intro k29 hk29 h
    refine eg_sub [1, 2, 3, 0] rfl ?_
    refine eb_loop2_e (J := fun (x3_30 : Int32) (g31 : eb_MS) => eb_G l Γ P X cX2_walks RX2 6 (none) rmX2_walks 2 [(0, .ref (ad 0)), (1, .int a1), (2, .int a2), (3, .int x3_30)] [] (ms_st Γ ad ix g31) 0 0) h ?_
    intro r32 hr32 x3_30 g31 h
    refine eg_iload_n 3 dX2_walks_2 rfl rfl ?_
    refine eg_iload_n 2 dX2_walks_3 rfl rfl ?_
    refine eg_icmp_ge dX2_walks_4 (fun c34 => ?_) (fun c34 => ?_)
    · replace h := h.1 c34
      exact eg_sub [0, 1, 2] rfl (hk29 g31 h)
    · replace h := h.2 c34
      refine eg_aload_n 0 dX2_walks_7 rfl rfl ?_
      refine em_geta 22 rfl q1164 dX2_walks_8 hi ?_
      refine eg_iload_n 3 dX2_walks_11 rfl rfl ?_
      refine eg_iconst dX2_walks_12 kc_m1 ?_
      obtain ⟨hb, h⟩ := h
      refine em_iast 22 rfl hb dX2_walks_13 hi (fun g33 eg33 => ?_)
      replace h := h g33 eg33
      refine eg_iinc (j := 3) (lv' := [(3, .int (x3_30 + 1)), (0, .ref (ad 0)), (1, .int a1), (2, .int a2)]) dX2_walks_14 rfl (by rw [kc_1]) (Nat.le_of_ble_eq_true rfl) rfl ?_
      refine eg_goto dX2_walks_17 ?_
      exact eg_sub [1, 2, 3, 0] rfl (hr32 (x3_30 + 1) g33 h)
def MX2_far (σ : eb_MS) (a1 : Int32) (a2 : Int32) (a3 : Int32) (K : Int32 → eb_MS → Prop) : Prop :=
  ms_ws σ 0 0 (fun g1 => eb_jp1 (fun (s2 : Int32) => MX2_refusesOf g1 a1 s2 (fun v3 g4 => eb_br (0 ≤ v3) (eb_br ((g4.1 16) ≤ a2) (K (-2) g4) (eb_br (a3 < (g4.1 16)) (MX2_joins g4  (fun g6 => MX2_walks g6 a2 (g6.1 16) (fun g8 => eb_rd (g8.2.1 22) 500 a3 (fun v9 => K v9 g8)))) (K (-2) g4))) (K v3 g4))) (fun k13 => eb_br (a3 ≤ a2) (k13 a3) (k13 a2)))
abbrev rmX2_far : Room := { frames := 7, cells := 0, slots := 0, locals := 166 }
theorem nX2_far : eb_ar yX2_far 3 := by decide +kernel
theorem dX2_far_0 : eb_dc cX2_far 0 (.aload_n 0) 1 1 := by decide +kernel
theorem dX2_far_1 : eb_dc cX2_far 1 (.iconst 0) 1 2 := by decide +kernel
theorem dX2_far_2 : eb_dc cX2_far 2 (.putfield 106) 3 5 := by decide +kernel
theorem dX2_far_5 : eb_dc cX2_far 5 (.aload_n 0) 1 6 := by decide +kernel
theorem dX2_far_6 : eb_dc cX2_far 6 (.iload_n 1) 1 7 := by decide +kernel
theorem dX2_far_7 : eb_dc cX2_far 7 (.iload_n 2) 1 8 := by decide +kernel
theorem dX2_far_8 : eb_dc cX2_far 8 (.iload_n 3) 1 9 := by decide +kernel
theorem dX2_far_9 : eb_dj cX2_far 9 (.if_icmp .ge 7) 7 12 16 := by decide +kernel
theorem dX2_far_12 : eb_dc cX2_far 12 (.iload_n 2) 1 13 := by decide +kernel
theorem dX2_far_13 : eb_dj cX2_far 13 (.goto 4) 4 16 17 := by decide +kernel
theorem dX2_far_16 : eb_dc cX2_far 16 (.iload_n 3) 1 17 := by decide +kernel
theorem dX2_far_17 : eb_dc cX2_far 17 (.invokevirtual 173) 3 20 := by decide +kernel
theorem dX2_far_20 : eb_dc cX2_far 20 (.istore 4) 2 22 := by decide +kernel
theorem dX2_far_22 : eb_dc cX2_far 22 (.iload 4) 2 24 := by decide +kernel
theorem dX2_far_24 : eb_dj cX2_far 24 (.ifCond .ge 6) 6 27 30 := by decide +kernel
theorem dX2_far_27 : eb_dc cX2_far 27 (.iload 4) 2 29 := by decide +kernel
theorem dX2_far_29 : eb_dc cX2_far 29 (.ireturn) 1 30 := by decide +kernel
theorem dX2_far_30 : eb_dc cX2_far 30 (.iload_n 2) 1 31 := by decide +kernel
theorem dX2_far_31 : eb_dc cX2_far 31 (.aload_n 0) 1 32 := by decide +kernel
theorem dX2_far_32 : eb_dc cX2_far 32 (.getfield 161) 3 35 := by decide +kernel
theorem dX2_far_35 : eb_dj cX2_far 35 (.if_icmp .ge 11) 11 38 46 := by decide +kernel
theorem dX2_far_38 : eb_dc cX2_far 38 (.iload_n 3) 1 39 := by decide +kernel
theorem dX2_far_39 : eb_dc cX2_far 39 (.aload_n 0) 1 40 := by decide +kernel
theorem dX2_far_40 : eb_dc cX2_far 40 (.getfield 161) 3 43 := by decide +kernel
theorem dX2_far_43 : eb_dj cX2_far 43 (.if_icmp .lt 6) 6 46 49 := by decide +kernel
theorem dX2_far_46 : eb_dc cX2_far 46 (.bipush (-2)) 2 48 := by decide +kernel
theorem dX2_far_48 : eb_dc cX2_far 48 (.ireturn) 1 49 := by decide +kernel
theorem dX2_far_49 : eb_dc cX2_far 49 (.aload_n 0) 1 50 := by decide +kernel
theorem dX2_far_50 : eb_dc cX2_far 50 (.invokevirtual 203) 3 53 := by decide +kernel
theorem dX2_far_53 : eb_dc cX2_far 53 (.aload_n 0) 1 54 := by decide +kernel
theorem dX2_far_54 : eb_dc cX2_far 54 (.iload_n 2) 1 55 := by decide +kernel
theorem dX2_far_55 : eb_dc cX2_far 55 (.aload_n 0) 1 56 := by decide +kernel
theorem dX2_far_56 : eb_dc cX2_far 56 (.getfield 161) 3 59 := by decide +kernel
theorem dX2_far_59 : eb_dc cX2_far 59 (.invokevirtual 209) 3 62 := by decide +kernel
theorem dX2_far_62 : eb_dc cX2_far 62 (.aload_n 0) 1 63 := by decide +kernel
theorem dX2_far_63 : eb_dc cX2_far 63 (.getfield 59) 3 66 := by decide +kernel
theorem dX2_far_66 : eb_dc cX2_far 66 (.iload_n 3) 1 67 := by decide +kernel
theorem dX2_far_67 : eb_dc cX2_far 67 (.iaload) 1 68 := by decide +kernel
theorem dX2_far_68 : eb_dc cX2_far 68 (.ireturn) 1 69 := by decide +kernel
theorem ctX2_far {l : Launch} {Γ : eb_C} {ad : Nat → Nat} {ix : Nat → Option Nat} {σ : eb_MS} {a1 : Int32} {a2 : Int32} {a3 : Int32} {K : Int32 → eb_MS → Prop} (hi : ms_inv ad ix) (h : MX2_far σ a1 a2 a3 K) : eb_Ct l Γ yX2_far cX2_far 5 (some .int) rmX2_far [.ref (ad 0), .int a1, .int a2, .int a3] (ms_st Γ ad ix σ) (em_I Γ ad ix K) := by
  refine eb_of (by decide) (Nat.le_of_ble_eq_true rfl) (fun X P hP _ => ?_)
  show eb_G l Γ P X cX2_far RX2 5 (some .int) rmX2_far 0 [(0, .ref (ad 0)), (1, .int a1), (2, .int a2), (3, .int a3)] [] (ms_st Γ ad ix σ) 0 0
  refine eg_aload_n 0 dX2_far_0 rfl rfl ?_
  refine eg_iconst dX2_far_1 kc_0 ?_
  refine em_puts 0 rfl q1142 dX2_far_2 hi (fun g1 eg1 => ?_)
  replace h := h g1 eg1
  refine eg_aload_n 0 dX2_far_5 rfl rfl ?_
  refine eg_iload_n 1 dX2_far_6 rfl rfl ?_
  refine eg_iload_n 2 dX2_far_7 rfl rfl ?_
  refine eg_iload_n 3 dX2_far_8 rfl rfl ?_
  refine eb_jp1_e (J := fun (s2 : Int32) => eb_G l Γ P X cX2_far RX2 5 (some .int) rmX2_far 17 [(0, .ref (ad 0)), (2, .int a2), (3, .int a3)] [.int s2, .int a1, .ref (ad 0)] (ms_st Γ ad ix g1) 0 0) h ?_ ?_
  · intro s2 h
    refine em_cvi (rest := []) (ctX2_refusesOf hi h) hi (lw_V q1329 q1331 qs47 q77 q1332) rfl nX2_refusesOf ⟨Nat.le_of_ble_eq_true rfl, Nat.le_of_ble_eq_true rfl⟩ ⟨rfl, rfl⟩ ⟨Nat.zero_le _, Nat.zero_le _⟩ rfl rfl (Nat.le_of_ble_eq_true rfl) dX2_far_17 (fun v3 g4 h => ?_)
    refine eg_istore (lv' := [(4, .int v3), (0, .ref (ad 0)), (2, .int a2), (3, .int a3)]) dX2_far_20 (Nat.le_of_ble_eq_true rfl) rfl ?_
    refine eg_iload 0 dX2_far_22 rfl ?_
    refine eg_if_ge dX2_far_24 (fun c12 => ?_) (fun c12 => ?_)
    · replace h := h.1 c12
      refine eg_iload_n 2 dX2_far_30 rfl rfl ?_
      refine eg_aload_n 1 dX2_far_31 rfl rfl ?_
      refine em_gets 16 rfl q1158 dX2_far_32 hi ?_
      refine eg_icmp_ge dX2_far_35 (fun c11 => ?_) (fun c11 => ?_)
      · replace h := h.1 c11
        refine eg_bipush dX2_far_46 kb_m2 ?_
        exact eg_iret dX2_far_48 (Nat.zero_le _) (Nat.zero_le _) (hP _ _ ⟨_, _, rfl, rfl, h⟩)
      · replace h := h.2 c11
        refine eg_iload_n 3 dX2_far_38 rfl rfl ?_
        refine eg_aload_n 1 dX2_far_39 rfl rfl ?_
        refine em_gets 16 rfl q1158 dX2_far_40 hi ?_
        refine eg_icmp_lt dX2_far_43 (fun c10 => ?_) (fun c10 => ?_)
        · replace h := h.1 c10
          refine eg_aload_n 1 dX2_far_49 rfl rfl ?_
          refine em_cvv (rest := []) (ctX2_joins hi h) hi (lw_V q1452 q1454 qs56 q77 q1455) rfl nX2_joins ⟨Nat.le_of_ble_eq_true rfl, Nat.le_of_ble_eq_true rfl⟩ ⟨rfl, rfl⟩ ⟨Nat.zero_le _, Nat.zero_le _⟩ rfl rfl (Nat.le_of_ble_eq_true rfl) dX2_far_50 (fun g6 h => ?_)
          refine eg_aload_n 1 dX2_far_53 rfl rfl ?_
          refine eg_iload_n 2 dX2_far_54 rfl rfl ?_
          refine eg_aload_n 1 dX2_far_55 rfl rfl ?_
          refine em_gets 16 rfl q1158 dX2_far_56 hi ?_
          refine em_cvv (rest := []) (ctX2_walks hi h) hi (lw_V q1464 q1466 qs58 q77 q1467) rfl nX2_walks ⟨Nat.le_of_ble_eq_true rfl, Nat.le_of_ble_eq_true rfl⟩ ⟨rfl, rfl⟩ ⟨Nat.zero_le _, Nat.zero_le _⟩ rfl rfl (Nat.le_of_ble_eq_true rfl) dX2_far_59 (fun g8 h => ?_)
          refine eg_aload_n 1 dX2_far_62 rfl rfl ?_
          refine em_geta 22 rfl q1164 dX2_far_63 hi ?_
          refine eg_iload_n 3 dX2_far_66 rfl rfl ?_
          obtain ⟨hb, h⟩ := h
          refine em_iald 22 rfl hb dX2_far_67 hi (fun v9 ev9 => ?_)
          replace h := h v9 ev9
          exact eg_iret dX2_far_68 (Nat.zero_le _) (Nat.zero_le _) (hP _ _ ⟨_, _, rfl, rfl, h⟩)
        · replace h := h.2 c10
          refine eg_bipush dX2_far_46 kb_m2 ?_
          exact eg_iret dX2_far_48 (Nat.zero_le _) (Nat.zero_le _) (hP _ _ ⟨_, _, rfl, rfl, h⟩)
    · replace h := h.2 c12
      refine eg_iload 0 dX2_far_27 rfl ?_
      exact eg_iret dX2_far_29 (Nat.zero_le _) (Nat.zero_le _) (hP _ _ ⟨_, _, rfl, rfl, h⟩)
  · intro k13 hk13 h
    refine eg_icmp_ge dX2_far_9 (fun c14 => ?_) (fun c14 => ?_)
    · replace h := h.1 c14
      refine eg_iload_n 3 dX2_far_16 rfl rfl ?_
      exact eg_sub [0, 2, 3] rfl (hk13 a3 h)
    · replace h := h.2 c14
      refine eg_iload_n 2 dX2_far_12 rfl rfl ?_
      refine eg_goto dX2_far_13 ?_
      exact eg_sub [0, 2, 3] rfl (hk13 a2 h)
def MX2_layer (σ : eb_MS) (a1 : Int32) (a2 : Int32) (K : Int32 → eb_MS → Prop) : Prop :=
  ms_ws σ 0 0 (fun g1 => MX2_refusesOf g1 a1 a2 (fun v2 g3 => eb_br (0 ≤ v2) (MX2_joins g3  (fun g5 => MX2_walks g5 0 (g5.1 16) (fun g7 => eb_loop2 (fun r10 (x4_8 : Int32) (x5_9 : Int32) => eb_br ((g7.1 16) ≤ x5_9) (K x4_8 g7) (eb_rd (g7.2.1 22) 500 x5_9 (fun v11 => eb_jp1 (fun (s12 : Int32) => r10 (x4_8 + s12) (x5_9 + 1)) (fun k13 => eb_br (v11 = a2) (k13 1) (k13 0))))) 0 0))) (K v2 g3)))
abbrev rmX2_layer : Room := { frames := 7, cells := 0, slots := 0, locals := 166 }
theorem nX2_layer : eb_ar yX2_layer 2 := by decide +kernel
theorem dX2_layer_0 : eb_dc cX2_layer 0 (.aload_n 0) 1 1 := by decide +kernel
theorem dX2_layer_1 : eb_dc cX2_layer 1 (.iconst 0) 1 2 := by decide +kernel
theorem dX2_layer_2 : eb_dc cX2_layer 2 (.putfield 106) 3 5 := by decide +kernel
theorem dX2_layer_5 : eb_dc cX2_layer 5 (.aload_n 0) 1 6 := by decide +kernel
theorem dX2_layer_6 : eb_dc cX2_layer 6 (.iload_n 1) 1 7 := by decide +kernel
theorem dX2_layer_7 : eb_dc cX2_layer 7 (.iload_n 2) 1 8 := by decide +kernel
theorem dX2_layer_8 : eb_dc cX2_layer 8 (.invokevirtual 173) 3 11 := by decide +kernel
theorem dX2_layer_11 : eb_dc cX2_layer 11 (.istore_n 3) 1 12 := by decide +kernel
theorem dX2_layer_12 : eb_dc cX2_layer 12 (.iload_n 3) 1 13 := by decide +kernel
theorem dX2_layer_13 : eb_dj cX2_layer 13 (.ifCond .ge 5) 5 16 18 := by decide +kernel
theorem dX2_layer_16 : eb_dc cX2_layer 16 (.iload_n 3) 1 17 := by decide +kernel
theorem dX2_layer_17 : eb_dc cX2_layer 17 (.ireturn) 1 18 := by decide +kernel
theorem dX2_layer_18 : eb_dc cX2_layer 18 (.aload_n 0) 1 19 := by decide +kernel
theorem dX2_layer_19 : eb_dc cX2_layer 19 (.invokevirtual 203) 3 22 := by decide +kernel
theorem dX2_layer_22 : eb_dc cX2_layer 22 (.aload_n 0) 1 23 := by decide +kernel
theorem dX2_layer_23 : eb_dc cX2_layer 23 (.iconst 0) 1 24 := by decide +kernel
theorem dX2_layer_24 : eb_dc cX2_layer 24 (.aload_n 0) 1 25 := by decide +kernel
theorem dX2_layer_25 : eb_dc cX2_layer 25 (.getfield 161) 3 28 := by decide +kernel
theorem dX2_layer_28 : eb_dc cX2_layer 28 (.invokevirtual 209) 3 31 := by decide +kernel
theorem dX2_layer_31 : eb_dc cX2_layer 31 (.iconst 0) 1 32 := by decide +kernel
theorem dX2_layer_32 : eb_dc cX2_layer 32 (.istore 4) 2 34 := by decide +kernel
theorem dX2_layer_34 : eb_dc cX2_layer 34 (.iconst 0) 1 35 := by decide +kernel
theorem dX2_layer_35 : eb_dc cX2_layer 35 (.istore 5) 2 37 := by decide +kernel
theorem dX2_layer_37 : eb_dc cX2_layer 37 (.iload 5) 2 39 := by decide +kernel
theorem dX2_layer_39 : eb_dc cX2_layer 39 (.aload_n 0) 1 40 := by decide +kernel
theorem dX2_layer_40 : eb_dc cX2_layer 40 (.getfield 161) 3 43 := by decide +kernel
theorem dX2_layer_43 : eb_dj cX2_layer 43 (.if_icmp .ge 30) 30 46 73 := by decide +kernel
theorem dX2_layer_46 : eb_dc cX2_layer 46 (.iload 4) 2 48 := by decide +kernel
theorem dX2_layer_48 : eb_dc cX2_layer 48 (.aload_n 0) 1 49 := by decide +kernel
theorem dX2_layer_49 : eb_dc cX2_layer 49 (.getfield 59) 3 52 := by decide +kernel
theorem dX2_layer_52 : eb_dc cX2_layer 52 (.iload 5) 2 54 := by decide +kernel
theorem dX2_layer_54 : eb_dc cX2_layer 54 (.iaload) 1 55 := by decide +kernel
theorem dX2_layer_55 : eb_dc cX2_layer 55 (.iload_n 2) 1 56 := by decide +kernel
theorem dX2_layer_56 : eb_dj cX2_layer 56 (.if_icmp .ne 7) 7 59 63 := by decide +kernel
theorem dX2_layer_59 : eb_dc cX2_layer 59 (.iconst 1) 1 60 := by decide +kernel
theorem dX2_layer_60 : eb_dj cX2_layer 60 (.goto 4) 4 63 64 := by decide +kernel
theorem dX2_layer_63 : eb_dc cX2_layer 63 (.iconst 0) 1 64 := by decide +kernel
theorem dX2_layer_64 : eb_dc cX2_layer 64 (.iadd) 1 65 := by decide +kernel
theorem dX2_layer_65 : eb_dc cX2_layer 65 (.istore 4) 2 67 := by decide +kernel
theorem dX2_layer_67 : eb_dc cX2_layer 67 (.iinc 5 1) 3 70 := by decide +kernel
theorem dX2_layer_70 : eb_dj cX2_layer 70 (.goto (-33)) (-33) 73 37 := by decide +kernel
theorem dX2_layer_73 : eb_dc cX2_layer 73 (.iload 4) 2 75 := by decide +kernel
theorem dX2_layer_75 : eb_dc cX2_layer 75 (.ireturn) 1 76 := by decide +kernel
theorem ctX2_layer {l : Launch} {Γ : eb_C} {ad : Nat → Nat} {ix : Nat → Option Nat} {σ : eb_MS} {a1 : Int32} {a2 : Int32} {K : Int32 → eb_MS → Prop} (hi : ms_inv ad ix) (h : MX2_layer σ a1 a2 K) : eb_Ct l Γ yX2_layer cX2_layer 6 (some .int) rmX2_layer [.ref (ad 0), .int a1, .int a2] (ms_st Γ ad ix σ) (em_I Γ ad ix K) := by
  refine eb_of (by decide) (Nat.le_of_ble_eq_true rfl) (fun X P hP _ => ?_)
  show eb_G l Γ P X cX2_layer RX2 6 (some .int) rmX2_layer 0 [(0, .ref (ad 0)), (1, .int a1), (2, .int a2)] [] (ms_st Γ ad ix σ) 0 0
  refine eg_aload_n 0 dX2_layer_0 rfl rfl ?_
  refine eg_iconst dX2_layer_1 kc_0 ?_
  refine em_puts 0 rfl q1142 dX2_layer_2 hi (fun g1 eg1 => ?_)
  replace h := h g1 eg1
  refine eg_aload_n 0 dX2_layer_5 rfl rfl ?_
  refine eg_iload_n 1 dX2_layer_6 rfl rfl ?_
  refine eg_iload_n 2 dX2_layer_7 rfl rfl ?_
  refine em_cvi (rest := []) (ctX2_refusesOf hi h) hi (lw_V q1329 q1331 qs47 q77 q1332) rfl nX2_refusesOf ⟨Nat.le_of_ble_eq_true rfl, Nat.le_of_ble_eq_true rfl⟩ ⟨rfl, rfl⟩ ⟨Nat.zero_le _, Nat.zero_le _⟩ rfl rfl (Nat.le_of_ble_eq_true rfl) dX2_layer_8 (fun v2 g3 h => ?_)
  refine eg_istore_n (lv' := [(3, .int v2), (0, .ref (ad 0)), (1, .int a1), (2, .int a2)]) dX2_layer_11 rfl (Nat.le_of_ble_eq_true rfl) rfl ?_
  refine eg_iload_n 0 dX2_layer_12 rfl rfl ?_
  refine eg_if_ge dX2_layer_13 (fun c16 => ?_) (fun c16 => ?_)
  · replace h := h.1 c16
    refine eg_aload_n 1 dX2_layer_18 rfl rfl ?_
    refine em_cvv (rest := []) (ctX2_joins hi h) hi (lw_V q1452 q1454 qs56 q77 q1455) rfl nX2_joins ⟨Nat.le_of_ble_eq_true rfl, Nat.le_of_ble_eq_true rfl⟩ ⟨rfl, rfl⟩ ⟨Nat.zero_le _, Nat.zero_le _⟩ rfl rfl (Nat.le_of_ble_eq_true rfl) dX2_layer_19 (fun g5 h => ?_)
    refine eg_aload_n 1 dX2_layer_22 rfl rfl ?_
    refine eg_iconst dX2_layer_23 kc_0 ?_
    refine eg_aload_n 1 dX2_layer_24 rfl rfl ?_
    refine em_gets 16 rfl q1158 dX2_layer_25 hi ?_
    refine em_cvv (rest := []) (ctX2_walks hi h) hi (lw_V q1464 q1466 qs58 q77 q1467) rfl nX2_walks ⟨Nat.le_of_ble_eq_true rfl, Nat.le_of_ble_eq_true rfl⟩ ⟨rfl, rfl⟩ ⟨Nat.zero_le _, Nat.zero_le _⟩ rfl rfl (Nat.le_of_ble_eq_true rfl) dX2_layer_28 (fun g7 h => ?_)
    refine eg_iconst dX2_layer_31 kc_0 ?_
    refine eg_istore (lv' := [(4, .int 0), (3, .int v2), (0, .ref (ad 0)), (1, .int a1), (2, .int a2)]) dX2_layer_32 (Nat.le_of_ble_eq_true rfl) rfl ?_
    refine eg_iconst dX2_layer_34 kc_0 ?_
    refine eg_istore (lv' := [(5, .int 0), (4, .int 0), (3, .int v2), (0, .ref (ad 0)), (1, .int a1), (2, .int a2)]) dX2_layer_35 (Nat.le_of_ble_eq_true rfl) rfl ?_
    refine eg_sub [3, 5, 1, 0] rfl ?_
    refine eb_loop2_e (J := fun (x4_8 : Int32) (x5_9 : Int32) => eb_G l Γ P X cX2_layer RX2 6 (some .int) rmX2_layer 37 [(0, .ref (ad 0)), (2, .int a2), (4, .int x4_8), (5, .int x5_9)] [] (ms_st Γ ad ix g7) 0 0) h ?_
    intro r10 hr10 x4_8 x5_9 h
    refine eg_iload 3 dX2_layer_37 rfl ?_
    refine eg_aload_n 0 dX2_layer_39 rfl rfl ?_
    refine em_gets 16 rfl q1158 dX2_layer_40 hi ?_
    refine eg_icmp_ge dX2_layer_43 (fun c15 => ?_) (fun c15 => ?_)
    · replace h := h.1 c15
      refine eg_iload 2 dX2_layer_73 rfl ?_
      exact eg_iret dX2_layer_75 (Nat.zero_le _) (Nat.zero_le _) (hP _ _ ⟨_, _, rfl, rfl, h⟩)
    · replace h := h.2 c15
      refine eg_iload 2 dX2_layer_46 rfl ?_
      refine eg_aload_n 0 dX2_layer_48 rfl rfl ?_
      refine em_geta 22 rfl q1164 dX2_layer_49 hi ?_
      refine eg_iload 3 dX2_layer_52 rfl ?_
      obtain ⟨hb, h⟩ := h
      refine em_iald 22 rfl hb dX2_layer_54 hi (fun v11 ev11 => ?_)
      replace h := h v11 ev11
      refine eg_iload_n 1 dX2_layer_55 rfl rfl ?_
      refine eb_jp1_e (J := fun (s12 : Int32) => eb_G l Γ P X cX2_layer RX2 6 (some .int) rmX2_layer 64 [(0, .ref (ad 0)), (2, .int a2), (5, .int x5_9)] [.int s12, .int x4_8] (ms_st Γ ad ix g7) 0 0) h ?_ ?_
      · intro s12 h
        refine eg_iadd dX2_layer_64 ?_
        refine eg_istore (lv' := [(4, .int (x4_8 + s12)), (0, .ref (ad 0)), (2, .int a2), (5, .int x5_9)]) dX2_layer_65 (Nat.le_of_ble_eq_true rfl) rfl ?_
        refine eg_iinc (j := 3) (lv' := [(5, .int (x5_9 + 1)), (4, .int (x4_8 + s12)), (0, .ref (ad 0)), (2, .int a2)]) dX2_layer_67 rfl (by rw [kc_1]) (Nat.le_of_ble_eq_true rfl) rfl ?_
        refine eg_goto dX2_layer_70 ?_
        exact eg_sub [2, 3, 1, 0] rfl (hr10 (x4_8 + s12) (x5_9 + 1) h)
      · intro k13 hk13 h
        refine eg_icmp_ne dX2_layer_56 (fun c14 => ?_) (fun c14 => ?_)
        · replace h := h.2 c14
          refine eg_iconst dX2_layer_63 kc_0 ?_
          exact eg_sub [0, 1, 3] rfl (hk13 0 h)
        · replace h := h.1 c14
          refine eg_iconst dX2_layer_59 kc_1 ?_
          refine eg_goto dX2_layer_60 ?_
          exact eg_sub [0, 1, 3] rfl (hk13 1 h)
  · replace h := h.2 c16
    refine eg_iload_n 0 dX2_layer_16 rfl rfl ?_
    exact eg_iret dX2_layer_17 (Nat.zero_le _) (Nat.zero_le _) (hP _ _ ⟨_, _, rfl, rfl, h⟩)
def MX2_ways (σ : eb_MS) (a1 : Int32) (a2 : Int32) (a3 : Int32) (a4 : Int32) (K : Int64 → eb_MS → Prop) : Prop :=
  ms_ws σ 0 0 (fun g1 => MX2_in a4 0 12 (fun v2 => eb_br (v2 = 0) (K (-2) g1) (eb_jp1 (fun (s4 : Int32) => MX2_refusesOf g1 a1 s4 (fun v5 g6 => eb_br (0 ≤ v5) (eb_jp0 (K (-2) g6) (fun k7 => eb_br ((g6.1 16) ≤ a2) (k7) (eb_br (a3 < (g6.1 16)) (MX2_joins g6  (fun g9 => eb_jp1 (fun (g10 : eb_MS) => eb_jp1 (fun (g11 : eb_MS) => eb_rd (g11.2.2 24) 500 a3 (fun v12 => K v12 g11)) (fun k13 => eb_loop2 (fun r16 (x6_14 : Int32) (g15 : eb_MS) => eb_br (a4 ≤ x6_14) (k13 g15) (eb_jp1 (fun (g17 : eb_MS) => eb_jp1 (fun (g18 : eb_MS) => r16 (x6_14 + 1) g18) (fun k19 => eb_loop2 (fun r22 (x7_20 : Int32) (g21 : eb_MS) => eb_br ((g21.1 16) ≤ x7_20) (k19 g21) (eb_rd (g21.2.2 25) 500 x7_20 (fun v23 => ms_wl g21 24 500 x7_20 v23 (fun g24 => r22 (x7_20 + 1) g24)))) 0 g17)) (fun k26 => eb_loop2 (fun r29 (x7_27 : Int32) (g28 : eb_MS) => eb_br ((g28.1 16) ≤ x7_27) (k26 g28) (ms_wl g28 25 500 x7_27 0 (fun g30 => eb_jp1 (fun (g31 : eb_MS) => r29 (x7_27 + 1) g31) (fun k32 => eb_loop2 (fun r35 (x8_33 : Int32) (g34 : eb_MS) => eb_br ((g34.1 16) ≤ x8_33) (k32 g34) (eb_rd (g34.2.2 25) 500 x7_27 (fun v36 => eb_rd (g34.2.1 26) 250000 (((500 * x8_33) + x7_27)) (fun v37 => eb_jp1 (fun (s38 : Int64) => ms_wl g34 25 500 x7_27 (v36 + s38) (fun g39 => r35 (x8_33 + 1) g39)) (fun k40 => eb_br (v37 = 0) (k40 0) (eb_rd (g34.2.2 24) 500 x8_33 (fun v41 => k40 v41))))))) 0 g30)))) 0 g15))) 0 g10)) (fun k46 => eb_loop2 (fun r49 (x6_47 : Int32) (g48 : eb_MS) => eb_br ((g48.1 16) ≤ x6_47) (k46 g48) (eb_jp1 (fun (s50 : Int64) => ms_wl g48 24 500 x6_47 s50 (fun g51 => r49 (x6_47 + 1) g51)) (fun k52 => eb_br (x6_47 = a2) (k52 1) (k52 0)))) 0 g9))) (k7)))) (K (Int32.toInt64 v5) g6))) (fun k58 => eb_br (a3 ≤ a2) (k58 a3) (k58 a2)))))
abbrev rmX2_ways : Room := { frames := 7, cells := 0, slots := 0, locals := 166 }
theorem nX2_ways : eb_ar yX2_ways 4 := by decide +kernel
theorem dX2_ways_0 : eb_dc cX2_ways 0 (.aload_n 0) 1 1 := by decide +kernel
theorem dX2_ways_1 : eb_dc cX2_ways 1 (.iconst 0) 1 2 := by decide +kernel
theorem dX2_ways_2 : eb_dc cX2_ways 2 (.putfield 106) 3 5 := by decide +kernel
theorem dX2_ways_5 : eb_dc cX2_ways 5 (.iload 4) 2 7 := by decide +kernel
theorem dX2_ways_7 : eb_dc cX2_ways 7 (.iconst 0) 1 8 := by decide +kernel
theorem dX2_ways_8 : eb_dc cX2_ways 8 (.bipush 12) 2 10 := by decide +kernel
theorem dX2_ways_10 : eb_dc cX2_ways 10 (.invokestatic 109) 3 13 := by decide +kernel
theorem dX2_ways_13 : eb_dj cX2_ways 13 (.ifCond .ne 7) 7 16 20 := by decide +kernel
theorem dX2_ways_16 : eb_dc cX2_ways 16 (.ldc2_w 212) 3 19 := by decide +kernel
theorem dX2_ways_19 : eb_dc cX2_ways 19 (.lreturn) 1 20 := by decide +kernel
theorem dX2_ways_20 : eb_dc cX2_ways 20 (.aload_n 0) 1 21 := by decide +kernel
theorem dX2_ways_21 : eb_dc cX2_ways 21 (.iload_n 1) 1 22 := by decide +kernel
theorem dX2_ways_22 : eb_dc cX2_ways 22 (.iload_n 2) 1 23 := by decide +kernel
theorem dX2_ways_23 : eb_dc cX2_ways 23 (.iload_n 3) 1 24 := by decide +kernel
theorem dX2_ways_24 : eb_dj cX2_ways 24 (.if_icmp .ge 7) 7 27 31 := by decide +kernel
theorem dX2_ways_27 : eb_dc cX2_ways 27 (.iload_n 2) 1 28 := by decide +kernel
theorem dX2_ways_28 : eb_dj cX2_ways 28 (.goto 4) 4 31 32 := by decide +kernel
theorem dX2_ways_31 : eb_dc cX2_ways 31 (.iload_n 3) 1 32 := by decide +kernel
theorem dX2_ways_32 : eb_dc cX2_ways 32 (.invokevirtual 173) 3 35 := by decide +kernel
theorem dX2_ways_35 : eb_dc cX2_ways 35 (.istore 5) 2 37 := by decide +kernel
theorem dX2_ways_37 : eb_dc cX2_ways 37 (.iload 5) 2 39 := by decide +kernel
theorem dX2_ways_39 : eb_dj cX2_ways 39 (.ifCond .ge 7) 7 42 46 := by decide +kernel
theorem dX2_ways_42 : eb_dc cX2_ways 42 (.iload 5) 2 44 := by decide +kernel
theorem dX2_ways_44 : eb_dc cX2_ways 44 (.i2l) 1 45 := by decide +kernel
theorem dX2_ways_45 : eb_dc cX2_ways 45 (.lreturn) 1 46 := by decide +kernel
theorem dX2_ways_46 : eb_dc cX2_ways 46 (.iload_n 2) 1 47 := by decide +kernel
theorem dX2_ways_47 : eb_dc cX2_ways 47 (.aload_n 0) 1 48 := by decide +kernel
theorem dX2_ways_48 : eb_dc cX2_ways 48 (.getfield 161) 3 51 := by decide +kernel
theorem dX2_ways_51 : eb_dj cX2_ways 51 (.if_icmp .ge 11) 11 54 62 := by decide +kernel
theorem dX2_ways_54 : eb_dc cX2_ways 54 (.iload_n 3) 1 55 := by decide +kernel
theorem dX2_ways_55 : eb_dc cX2_ways 55 (.aload_n 0) 1 56 := by decide +kernel
theorem dX2_ways_56 : eb_dc cX2_ways 56 (.getfield 161) 3 59 := by decide +kernel
theorem dX2_ways_59 : eb_dj cX2_ways 59 (.if_icmp .lt 7) 7 62 66 := by decide +kernel
theorem dX2_ways_62 : eb_dc cX2_ways 62 (.ldc2_w 212) 3 65 := by decide +kernel
theorem dX2_ways_65 : eb_dc cX2_ways 65 (.lreturn) 1 66 := by decide +kernel
theorem dX2_ways_66 : eb_dc cX2_ways 66 (.aload_n 0) 1 67 := by decide +kernel
theorem dX2_ways_67 : eb_dc cX2_ways 67 (.invokevirtual 203) 3 70 := by decide +kernel
theorem dX2_ways_70 : eb_dc cX2_ways 70 (.iconst 0) 1 71 := by decide +kernel
theorem dX2_ways_71 : eb_dc cX2_ways 71 (.istore 6) 2 73 := by decide +kernel
theorem dX2_ways_73 : eb_dc cX2_ways 73 (.iload 6) 2 75 := by decide +kernel
theorem dX2_ways_75 : eb_dc cX2_ways 75 (.aload_n 0) 1 76 := by decide +kernel
theorem dX2_ways_76 : eb_dc cX2_ways 76 (.getfield 161) 3 79 := by decide +kernel
theorem dX2_ways_79 : eb_dj cX2_ways 79 (.if_icmp .ge 27) 27 82 106 := by decide +kernel
theorem dX2_ways_82 : eb_dc cX2_ways 82 (.aload_n 0) 1 83 := by decide +kernel
theorem dX2_ways_83 : eb_dc cX2_ways 83 (.getfield 66) 3 86 := by decide +kernel
theorem dX2_ways_86 : eb_dc cX2_ways 86 (.iload 6) 2 88 := by decide +kernel
theorem dX2_ways_88 : eb_dc cX2_ways 88 (.iload 6) 2 90 := by decide +kernel
theorem dX2_ways_90 : eb_dc cX2_ways 90 (.iload_n 2) 1 91 := by decide +kernel
theorem dX2_ways_91 : eb_dj cX2_ways 91 (.if_icmp .ne 7) 7 94 98 := by decide +kernel
theorem dX2_ways_94 : eb_dc cX2_ways 94 (.lconst 1) 1 95 := by decide +kernel
theorem dX2_ways_95 : eb_dj cX2_ways 95 (.goto 4) 4 98 99 := by decide +kernel
theorem dX2_ways_98 : eb_dc cX2_ways 98 (.lconst 0) 1 99 := by decide +kernel
theorem dX2_ways_99 : eb_dc cX2_ways 99 (.lastore) 1 100 := by decide +kernel
theorem dX2_ways_100 : eb_dc cX2_ways 100 (.iinc 6 1) 3 103 := by decide +kernel
theorem dX2_ways_103 : eb_dj cX2_ways 103 (.goto (-30)) (-30) 106 73 := by decide +kernel
theorem dX2_ways_106 : eb_dc cX2_ways 106 (.iconst 0) 1 107 := by decide +kernel
theorem dX2_ways_107 : eb_dc cX2_ways 107 (.istore 6) 2 109 := by decide +kernel
theorem dX2_ways_109 : eb_dc cX2_ways 109 (.iload 6) 2 111 := by decide +kernel
theorem dX2_ways_111 : eb_dc cX2_ways 111 (.iload 4) 2 113 := by decide +kernel
theorem dX2_ways_113 : eb_dj cX2_ways 113 (.if_icmp .ge 123) 123 116 236 := by decide +kernel
theorem dX2_ways_116 : eb_dc cX2_ways 116 (.iconst 0) 1 117 := by decide +kernel
theorem dX2_ways_117 : eb_dc cX2_ways 117 (.istore 7) 2 119 := by decide +kernel
theorem dX2_ways_119 : eb_dc cX2_ways 119 (.iload 7) 2 121 := by decide +kernel
theorem dX2_ways_121 : eb_dc cX2_ways 121 (.aload_n 0) 1 122 := by decide +kernel
theorem dX2_ways_122 : eb_dc cX2_ways 122 (.getfield 161) 3 125 := by decide +kernel
theorem dX2_ways_125 : eb_dj cX2_ways 125 (.if_icmp .ge 73) 73 128 198 := by decide +kernel
theorem dX2_ways_128 : eb_dc cX2_ways 128 (.aload_n 0) 1 129 := by decide +kernel
theorem dX2_ways_129 : eb_dc cX2_ways 129 (.getfield 70) 3 132 := by decide +kernel
theorem dX2_ways_132 : eb_dc cX2_ways 132 (.iload 7) 2 134 := by decide +kernel
theorem dX2_ways_134 : eb_dc cX2_ways 134 (.lconst 0) 1 135 := by decide +kernel
theorem dX2_ways_135 : eb_dc cX2_ways 135 (.lastore) 1 136 := by decide +kernel
theorem dX2_ways_136 : eb_dc cX2_ways 136 (.iconst 0) 1 137 := by decide +kernel
theorem dX2_ways_137 : eb_dc cX2_ways 137 (.istore 8) 2 139 := by decide +kernel
theorem dX2_ways_139 : eb_dc cX2_ways 139 (.iload 8) 2 141 := by decide +kernel
theorem dX2_ways_141 : eb_dc cX2_ways 141 (.aload_n 0) 1 142 := by decide +kernel
theorem dX2_ways_142 : eb_dc cX2_ways 142 (.getfield 161) 3 145 := by decide +kernel
theorem dX2_ways_145 : eb_dj cX2_ways 145 (.if_icmp .ge 47) 47 148 192 := by decide +kernel
theorem dX2_ways_148 : eb_dc cX2_ways 148 (.aload_n 0) 1 149 := by decide +kernel
theorem dX2_ways_149 : eb_dc cX2_ways 149 (.getfield 70) 3 152 := by decide +kernel
theorem dX2_ways_152 : eb_dc cX2_ways 152 (.iload 7) 2 154 := by decide +kernel
theorem dX2_ways_154 : eb_dc cX2_ways 154 (.dup2) 1 155 := by decide +kernel
theorem dX2_ways_155 : eb_dc cX2_ways 155 (.laload) 1 156 := by decide +kernel
theorem dX2_ways_156 : eb_dc cX2_ways 156 (.aload_n 0) 1 157 := by decide +kernel
theorem dX2_ways_157 : eb_dc cX2_ways 157 (.getfield 74) 3 160 := by decide +kernel
theorem dX2_ways_160 : eb_dc cX2_ways 160 (.sipush 500) 3 163 := by decide +kernel
theorem dX2_ways_163 : eb_dc cX2_ways 163 (.iload 8) 2 165 := by decide +kernel
theorem dX2_ways_165 : eb_dc cX2_ways 165 (.imul) 1 166 := by decide +kernel
theorem dX2_ways_166 : eb_dc cX2_ways 166 (.iload 7) 2 168 := by decide +kernel
theorem dX2_ways_168 : eb_dc cX2_ways 168 (.iadd) 1 169 := by decide +kernel
theorem dX2_ways_169 : eb_dc cX2_ways 169 (.baload) 1 170 := by decide +kernel
theorem dX2_ways_170 : eb_dj cX2_ways 170 (.ifCond .eq 13) 13 173 183 := by decide +kernel
theorem dX2_ways_173 : eb_dc cX2_ways 173 (.aload_n 0) 1 174 := by decide +kernel
theorem dX2_ways_174 : eb_dc cX2_ways 174 (.getfield 66) 3 177 := by decide +kernel
theorem dX2_ways_177 : eb_dc cX2_ways 177 (.iload 8) 2 179 := by decide +kernel
theorem dX2_ways_179 : eb_dc cX2_ways 179 (.laload) 1 180 := by decide +kernel
theorem dX2_ways_180 : eb_dj cX2_ways 180 (.goto 4) 4 183 184 := by decide +kernel
theorem dX2_ways_183 : eb_dc cX2_ways 183 (.lconst 0) 1 184 := by decide +kernel
theorem dX2_ways_184 : eb_dc cX2_ways 184 (.ladd) 1 185 := by decide +kernel
theorem dX2_ways_185 : eb_dc cX2_ways 185 (.lastore) 1 186 := by decide +kernel
theorem dX2_ways_186 : eb_dc cX2_ways 186 (.iinc 8 1) 3 189 := by decide +kernel
theorem dX2_ways_189 : eb_dj cX2_ways 189 (.goto (-50)) (-50) 192 139 := by decide +kernel
theorem dX2_ways_192 : eb_dc cX2_ways 192 (.iinc 7 1) 3 195 := by decide +kernel
theorem dX2_ways_195 : eb_dj cX2_ways 195 (.goto (-76)) (-76) 198 119 := by decide +kernel
theorem dX2_ways_198 : eb_dc cX2_ways 198 (.iconst 0) 1 199 := by decide +kernel
theorem dX2_ways_199 : eb_dc cX2_ways 199 (.istore 7) 2 201 := by decide +kernel
theorem dX2_ways_201 : eb_dc cX2_ways 201 (.iload 7) 2 203 := by decide +kernel
theorem dX2_ways_203 : eb_dc cX2_ways 203 (.aload_n 0) 1 204 := by decide +kernel
theorem dX2_ways_204 : eb_dc cX2_ways 204 (.getfield 161) 3 207 := by decide +kernel
theorem dX2_ways_207 : eb_dj cX2_ways 207 (.if_icmp .ge 23) 23 210 230 := by decide +kernel
theorem dX2_ways_210 : eb_dc cX2_ways 210 (.aload_n 0) 1 211 := by decide +kernel
theorem dX2_ways_211 : eb_dc cX2_ways 211 (.getfield 66) 3 214 := by decide +kernel
theorem dX2_ways_214 : eb_dc cX2_ways 214 (.iload 7) 2 216 := by decide +kernel
theorem dX2_ways_216 : eb_dc cX2_ways 216 (.aload_n 0) 1 217 := by decide +kernel
theorem dX2_ways_217 : eb_dc cX2_ways 217 (.getfield 70) 3 220 := by decide +kernel
theorem dX2_ways_220 : eb_dc cX2_ways 220 (.iload 7) 2 222 := by decide +kernel
theorem dX2_ways_222 : eb_dc cX2_ways 222 (.laload) 1 223 := by decide +kernel
theorem dX2_ways_223 : eb_dc cX2_ways 223 (.lastore) 1 224 := by decide +kernel
theorem dX2_ways_224 : eb_dc cX2_ways 224 (.iinc 7 1) 3 227 := by decide +kernel
theorem dX2_ways_227 : eb_dj cX2_ways 227 (.goto (-26)) (-26) 230 201 := by decide +kernel
theorem dX2_ways_230 : eb_dc cX2_ways 230 (.iinc 6 1) 3 233 := by decide +kernel
theorem dX2_ways_233 : eb_dj cX2_ways 233 (.goto (-124)) (-124) 236 109 := by decide +kernel
theorem dX2_ways_236 : eb_dc cX2_ways 236 (.aload_n 0) 1 237 := by decide +kernel
theorem dX2_ways_237 : eb_dc cX2_ways 237 (.getfield 66) 3 240 := by decide +kernel
theorem dX2_ways_240 : eb_dc cX2_ways 240 (.iload_n 3) 1 241 := by decide +kernel
theorem dX2_ways_241 : eb_dc cX2_ways 241 (.laload) 1 242 := by decide +kernel
theorem dX2_ways_242 : eb_dc cX2_ways 242 (.lreturn) 1 243 := by decide +kernel
theorem ctX2_ways {l : Launch} {Γ : eb_C} {ad : Nat → Nat} {ix : Nat → Option Nat} {σ : eb_MS} {a1 : Int32} {a2 : Int32} {a3 : Int32} {a4 : Int32} {K : Int64 → eb_MS → Prop} (hi : ms_inv ad ix) (h : MX2_ways σ a1 a2 a3 a4 K) : eb_Ct l Γ yX2_ways cX2_ways 9 (some .long) rmX2_ways [.ref (ad 0), .int a1, .int a2, .int a3, .int a4] (ms_st Γ ad ix σ) (em_L Γ ad ix K) := by
  refine eb_of (by decide) (Nat.le_of_ble_eq_true rfl) (fun X P hP _ => ?_)
  show eb_G l Γ P X cX2_ways RX2 9 (some .long) rmX2_ways 0 [(0, .ref (ad 0)), (1, .int a1), (2, .int a2), (3, .int a3), (4, .int a4)] [] (ms_st Γ ad ix σ) 0 0
  refine eg_aload_n 0 dX2_ways_0 rfl rfl ?_
  refine eg_iconst dX2_ways_1 kc_0 ?_
  refine em_puts 0 rfl q1142 dX2_ways_2 hi (fun g1 eg1 => ?_)
  replace h := h g1 eg1
  refine eg_iload 4 dX2_ways_5 rfl ?_
  refine eg_iconst dX2_ways_7 kc_0 ?_
  refine eg_bipush dX2_ways_8 kb_12 ?_
  refine eg_csp (rest := []) (ctX2_in h) (lw_S q1255 q1256 q77 q1257) nX2_in ⟨Nat.le_of_ble_eq_true rfl, Nat.le_of_ble_eq_true rfl⟩ ⟨rfl, rfl⟩ ⟨Nat.zero_le _, Nat.zero_le _⟩ rfl rfl (Nat.le_of_ble_eq_true rfl) dX2_ways_10 (fun v2 h => ?_)
  refine eg_if_ne dX2_ways_13 (fun c60 => ?_) (fun c60 => ?_)
  · replace h := h.2 c60
    refine eg_aload_n 0 dX2_ways_20 rfl rfl ?_
    refine eg_iload_n 1 dX2_ways_21 rfl rfl ?_
    refine eg_iload_n 2 dX2_ways_22 rfl rfl ?_
    refine eg_iload_n 3 dX2_ways_23 rfl rfl ?_
    refine eb_jp1_e (J := fun (s4 : Int32) => eb_G l Γ P X cX2_ways RX2 9 (some .long) rmX2_ways 32 [(0, .ref (ad 0)), (2, .int a2), (3, .int a3), (4, .int a4)] [.int s4, .int a1, .ref (ad 0)] (ms_st Γ ad ix g1) 0 0) h ?_ ?_
    · intro s4 h
      refine em_cvi (rest := []) (ctX2_refusesOf hi h) hi (lw_V q1329 q1331 qs47 q77 q1332) rfl nX2_refusesOf ⟨Nat.le_of_ble_eq_true rfl, Nat.le_of_ble_eq_true rfl⟩ ⟨rfl, rfl⟩ ⟨Nat.zero_le _, Nat.zero_le _⟩ rfl rfl (Nat.le_of_ble_eq_true rfl) dX2_ways_32 (fun v5 g6 h => ?_)
      refine eg_istore (lv' := [(5, .int v5), (0, .ref (ad 0)), (2, .int a2), (3, .int a3), (4, .int a4)]) dX2_ways_35 (Nat.le_of_ble_eq_true rfl) rfl ?_
      refine eg_iload 0 dX2_ways_37 rfl ?_
      refine eg_if_ge dX2_ways_39 (fun c57 => ?_) (fun c57 => ?_)
      · replace h := h.1 c57
        refine eg_iload_n 2 dX2_ways_46 rfl rfl ?_
        refine eg_aload_n 1 dX2_ways_47 rfl rfl ?_
        refine em_gets 16 rfl q1158 dX2_ways_48 hi ?_
        refine eb_jp0_e (J := eb_G l Γ P X cX2_ways RX2 9 (some .long) rmX2_ways 62 [] [] (ms_st Γ ad ix g6) 0 0) h ?_ ?_
        · intro  h
          refine eg_ldc2 dX2_ways_62 q1476 ?_
          exact eg_lret dX2_ways_65 (Nat.zero_le _) (Nat.zero_le _) (hP _ _ ⟨_, _, rfl, rfl, h⟩)
        · intro k7 hk7 h
          refine eg_icmp_ge dX2_ways_51 (fun c56 => ?_) (fun c56 => ?_)
          · replace h := h.1 c56
            exact eg_sub [] rfl (hk7 h)
          · replace h := h.2 c56
            refine eg_iload_n 3 dX2_ways_54 rfl rfl ?_
            refine eg_aload_n 1 dX2_ways_55 rfl rfl ?_
            refine em_gets 16 rfl q1158 dX2_ways_56 hi ?_
            refine eg_icmp_lt dX2_ways_59 (fun c55 => ?_) (fun c55 => ?_)
            · replace h := h.1 c55
              refine eg_aload_n 1 dX2_ways_66 rfl rfl ?_
              refine em_cvv (rest := []) (ctX2_joins hi h) hi (lw_V q1452 q1454 qs56 q77 q1455) rfl nX2_joins ⟨Nat.le_of_ble_eq_true rfl, Nat.le_of_ble_eq_true rfl⟩ ⟨rfl, rfl⟩ ⟨Nat.zero_le _, Nat.zero_le _⟩ rfl rfl (Nat.le_of_ble_eq_true rfl) dX2_ways_67 (fun g9 h => ?_)
              refine eg_iconst dX2_ways_70 kc_0 ?_
              refine eg_istore (lv' := [(6, .int 0), (5, .int v5), (0, .ref (ad 0)), (2, .int a2), (3, .int a3), (4, .int a4)]) dX2_ways_71 (Nat.le_of_ble_eq_true rfl) rfl ?_
              refine eb_jp1_e (J := fun (g10 : eb_MS) => eb_G l Γ P X cX2_ways RX2 9 (some .long) rmX2_ways 106 [(0, .ref (ad 0)), (3, .int a3), (4, .int a4)] [] (ms_st Γ ad ix g10) 0 0) h ?_ ?_
              · intro g10 h
                refine eg_iconst dX2_ways_106 kc_0 ?_
                refine eg_istore (lv' := [(6, .int 0), (0, .ref (ad 0)), (3, .int a3), (4, .int a4)]) dX2_ways_107 (Nat.le_of_ble_eq_true rfl) rfl ?_
                refine eb_jp1_e (J := fun (g11 : eb_MS) => eb_G l Γ P X cX2_ways RX2 9 (some .long) rmX2_ways 236 [(0, .ref (ad 0)), (3, .int a3)] [] (ms_st Γ ad ix g11) 0 0) h ?_ ?_
                · intro g11 h
                  refine eg_aload_n 0 dX2_ways_236 rfl rfl ?_
                  refine em_geta 24 rfl q1166 dX2_ways_237 hi ?_
                  refine eg_iload_n 1 dX2_ways_240 rfl rfl ?_
                  obtain ⟨hb, h⟩ := h
                  refine em_lald 24 rfl hb dX2_ways_241 hi (fun v12 ev12 => ?_)
                  replace h := h v12 ev12
                  exact eg_lret dX2_ways_242 (Nat.zero_le _) (Nat.zero_le _) (hP _ _ ⟨_, _, rfl, rfl, h⟩)
                · intro k13 hk13 h
                  refine eg_sub [1, 2, 3, 0] rfl ?_
                  refine eb_loop2_e (J := fun (x6_14 : Int32) (g15 : eb_MS) => eb_G l Γ P X cX2_ways RX2 9 (some .long) rmX2_ways 109 [(0, .ref (ad 0)), (3, .int a3), (4, .int a4), (6, .int x6_14)] [] (ms_st Γ ad ix g15) 0 0) h ?_
                  intro r16 hr16 x6_14 g15 h
                  refine eg_iload 3 dX2_ways_109 rfl ?_
                  refine eg_iload 2 dX2_ways_111 rfl ?_
                  refine eg_icmp_ge dX2_ways_113 (fun c45 => ?_) (fun c45 => ?_)
                  · replace h := h.1 c45
                    exact eg_sub [0, 1] rfl (hk13 g15 h)
                  · replace h := h.2 c45
                    refine eg_iconst dX2_ways_116 kc_0 ?_
                    refine eg_istore (lv' := [(7, .int 0), (0, .ref (ad 0)), (3, .int a3), (4, .int a4), (6, .int x6_14)]) dX2_ways_117 (Nat.le_of_ble_eq_true rfl) rfl ?_
                    refine eb_jp1_e (J := fun (g17 : eb_MS) => eb_G l Γ P X cX2_ways RX2 9 (some .long) rmX2_ways 198 [(0, .ref (ad 0)), (3, .int a3), (4, .int a4), (6, .int x6_14)] [] (ms_st Γ ad ix g17) 0 0) h ?_ ?_
                    · intro g17 h
                      refine eg_iconst dX2_ways_198 kc_0 ?_
                      refine eg_istore (lv' := [(7, .int 0), (0, .ref (ad 0)), (3, .int a3), (4, .int a4), (6, .int x6_14)]) dX2_ways_199 (Nat.le_of_ble_eq_true rfl) rfl ?_
                      refine eb_jp1_e (J := fun (g18 : eb_MS) => eb_G l Γ P X cX2_ways RX2 9 (some .long) rmX2_ways 230 [(0, .ref (ad 0)), (3, .int a3), (4, .int a4), (6, .int x6_14)] [] (ms_st Γ ad ix g18) 0 0) h ?_ ?_
                      · intro g18 h
                        refine eg_iinc (j := 3) (lv' := [(6, .int (x6_14 + 1)), (0, .ref (ad 0)), (3, .int a3), (4, .int a4)]) dX2_ways_230 rfl (by rw [kc_1]) (Nat.le_of_ble_eq_true rfl) rfl ?_
                        refine eg_goto dX2_ways_233 ?_
                        exact eg_sub [1, 2, 3, 0] rfl (hr16 (x6_14 + 1) g18 h)
                      · intro k19 hk19 h
                        refine eg_sub [1, 2, 3, 4, 0] rfl ?_
                        refine eb_loop2_e (J := fun (x7_20 : Int32) (g21 : eb_MS) => eb_G l Γ P X cX2_ways RX2 9 (some .long) rmX2_ways 201 [(0, .ref (ad 0)), (3, .int a3), (4, .int a4), (6, .int x6_14), (7, .int x7_20)] [] (ms_st Γ ad ix g21) 0 0) h ?_
                        intro r22 hr22 x7_20 g21 h
                        refine eg_iload 4 dX2_ways_201 rfl ?_
                        refine eg_aload_n 0 dX2_ways_203 rfl rfl ?_
                        refine em_gets 16 rfl q1158 dX2_ways_204 hi ?_
                        refine eg_icmp_ge dX2_ways_207 (fun c25 => ?_) (fun c25 => ?_)
                        · replace h := h.1 c25
                          exact eg_sub [0, 1, 2, 3] rfl (hk19 g21 h)
                        · replace h := h.2 c25
                          refine eg_aload_n 0 dX2_ways_210 rfl rfl ?_
                          refine em_geta 24 rfl q1166 dX2_ways_211 hi ?_
                          refine eg_iload 4 dX2_ways_214 rfl ?_
                          refine eg_aload_n 0 dX2_ways_216 rfl rfl ?_
                          refine em_geta 25 rfl q1167 dX2_ways_217 hi ?_
                          refine eg_iload 4 dX2_ways_220 rfl ?_
                          obtain ⟨hb, h⟩ := h
                          refine em_lald 25 rfl hb dX2_ways_222 hi (fun v23 ev23 => ?_)
                          replace h := h v23 ev23
                          obtain ⟨hb, h⟩ := h
                          refine em_last 24 rfl hb dX2_ways_223 hi (fun g24 eg24 => ?_)
                          replace h := h g24 eg24
                          refine eg_iinc (j := 4) (lv' := [(7, .int (x7_20 + 1)), (0, .ref (ad 0)), (3, .int a3), (4, .int a4), (6, .int x6_14)]) dX2_ways_224 rfl (by rw [kc_1]) (Nat.le_of_ble_eq_true rfl) rfl ?_
                          refine eg_goto dX2_ways_227 ?_
                          exact eg_sub [1, 2, 3, 4, 0] rfl (hr22 (x7_20 + 1) g24 h)
                    · intro k26 hk26 h
                      refine eg_sub [1, 2, 3, 4, 0] rfl ?_
                      refine eb_loop2_e (J := fun (x7_27 : Int32) (g28 : eb_MS) => eb_G l Γ P X cX2_ways RX2 9 (some .long) rmX2_ways 119 [(0, .ref (ad 0)), (3, .int a3), (4, .int a4), (6, .int x6_14), (7, .int x7_27)] [] (ms_st Γ ad ix g28) 0 0) h ?_
                      intro r29 hr29 x7_27 g28 h
                      refine eg_iload 4 dX2_ways_119 rfl ?_
                      refine eg_aload_n 0 dX2_ways_121 rfl rfl ?_
                      refine em_gets 16 rfl q1158 dX2_ways_122 hi ?_
                      refine eg_icmp_ge dX2_ways_125 (fun c44 => ?_) (fun c44 => ?_)
                      · replace h := h.1 c44
                        exact eg_sub [0, 1, 2, 3] rfl (hk26 g28 h)
                      · replace h := h.2 c44
                        refine eg_aload_n 0 dX2_ways_128 rfl rfl ?_
                        refine em_geta 25 rfl q1167 dX2_ways_129 hi ?_
                        refine eg_iload 4 dX2_ways_132 rfl ?_
                        refine eg_lconst (v := 0) dX2_ways_134 rfl ?_
                        obtain ⟨hb, h⟩ := h
                        refine em_last 25 rfl hb dX2_ways_135 hi (fun g30 eg30 => ?_)
                        replace h := h g30 eg30
                        refine eg_iconst dX2_ways_136 kc_0 ?_
                        refine eg_istore (lv' := [(8, .int 0), (0, .ref (ad 0)), (3, .int a3), (4, .int a4), (6, .int x6_14), (7, .int x7_27)]) dX2_ways_137 (Nat.le_of_ble_eq_true rfl) rfl ?_
                        refine eb_jp1_e (J := fun (g31 : eb_MS) => eb_G l Γ P X cX2_ways RX2 9 (some .long) rmX2_ways 192 [(0, .ref (ad 0)), (3, .int a3), (4, .int a4), (6, .int x6_14), (7, .int x7_27)] [] (ms_st Γ ad ix g31) 0 0) h ?_ ?_
                        · intro g31 h
                          refine eg_iinc (j := 4) (lv' := [(7, .int (x7_27 + 1)), (0, .ref (ad 0)), (3, .int a3), (4, .int a4), (6, .int x6_14)]) dX2_ways_192 rfl (by rw [kc_1]) (Nat.le_of_ble_eq_true rfl) rfl ?_
                          refine eg_goto dX2_ways_195 ?_
                          exact eg_sub [1, 2, 3, 4, 0] rfl (hr29 (x7_27 + 1) g31 h)
                        · intro k32 hk32 h
                          refine eg_sub [1, 2, 3, 4, 5, 0] rfl ?_
                          refine eb_loop2_e (J := fun (x8_33 : Int32) (g34 : eb_MS) => eb_G l Γ P X cX2_ways RX2 9 (some .long) rmX2_ways 139 [(0, .ref (ad 0)), (3, .int a3), (4, .int a4), (6, .int x6_14), (7, .int x7_27), (8, .int x8_33)] [] (ms_st Γ ad ix g34) 0 0) h ?_
                          intro r35 hr35 x8_33 g34 h
                          refine eg_iload 5 dX2_ways_139 rfl ?_
                          refine eg_aload_n 0 dX2_ways_141 rfl rfl ?_
                          refine em_gets 16 rfl q1158 dX2_ways_142 hi ?_
                          refine eg_icmp_ge dX2_ways_145 (fun c43 => ?_) (fun c43 => ?_)
                          · replace h := h.1 c43
                            exact eg_sub [0, 1, 2, 3, 4] rfl (hk32 g34 h)
                          · replace h := h.2 c43
                            refine eg_aload_n 0 dX2_ways_148 rfl rfl ?_
                            refine em_geta 25 rfl q1167 dX2_ways_149 hi ?_
                            refine eg_iload 4 dX2_ways_152 rfl ?_
                            refine eg_dup2 dX2_ways_154 rfl rfl ?_
                            obtain ⟨hb, h⟩ := h
                            refine em_lald 25 rfl hb dX2_ways_155 hi (fun v36 ev36 => ?_)
                            replace h := h v36 ev36
                            refine eg_aload_n 0 dX2_ways_156 rfl rfl ?_
                            refine em_geta 26 rfl q1168 dX2_ways_157 hi ?_
                            refine eg_sipush dX2_ways_160 ks_500 ?_
                            refine eg_iload 5 dX2_ways_163 rfl ?_
                            refine eg_imul dX2_ways_165 ?_
                            refine eg_iload 4 dX2_ways_166 rfl ?_
                            refine eg_iadd dX2_ways_168 ?_
                            obtain ⟨hb, h⟩ := h
                            refine em_zald 26 rfl hb dX2_ways_169 hi (fun v37 ev37 => ?_)
                            replace h := h v37 ev37
                            refine eb_jp1_e (J := fun (s38 : Int64) => eb_G l Γ P X cX2_ways RX2 9 (some .long) rmX2_ways 184 [(0, .ref (ad 0)), (3, .int a3), (4, .int a4), (6, .int x6_14), (7, .int x7_27), (8, .int x8_33)] [.long s38, .long v36, .int x7_27, .ref (ad 25)] (ms_st Γ ad ix g34) 0 0) h ?_ ?_
                            · intro s38 h
                              refine eg_ladd dX2_ways_184 ?_
                              obtain ⟨hb, h⟩ := h
                              refine em_last 25 rfl hb dX2_ways_185 hi (fun g39 eg39 => ?_)
                              replace h := h g39 eg39
                              refine eg_iinc (j := 5) (lv' := [(8, .int (x8_33 + 1)), (0, .ref (ad 0)), (3, .int a3), (4, .int a4), (6, .int x6_14), (7, .int x7_27)]) dX2_ways_186 rfl (by rw [kc_1]) (Nat.le_of_ble_eq_true rfl) rfl ?_
                              refine eg_goto dX2_ways_189 ?_
                              exact eg_sub [1, 2, 3, 4, 5, 0] rfl (hr35 (x8_33 + 1) g39 h)
                            · intro k40 hk40 h
                              refine eg_if_eq dX2_ways_170 (fun c42 => ?_) (fun c42 => ?_)
                              · replace h := h.1 c42
                                refine eg_lconst (v := 0) dX2_ways_183 rfl ?_
                                exact hk40 0 h
                              · replace h := h.2 c42
                                refine eg_aload_n 0 dX2_ways_173 rfl rfl ?_
                                refine em_geta 24 rfl q1166 dX2_ways_174 hi ?_
                                refine eg_iload 5 dX2_ways_177 rfl ?_
                                obtain ⟨hb, h⟩ := h
                                refine em_lald 24 rfl hb dX2_ways_179 hi (fun v41 ev41 => ?_)
                                replace h := h v41 ev41
                                refine eg_goto dX2_ways_180 ?_
                                exact hk40 v41 h
              · intro k46 hk46 h
                refine eg_sub [2, 3, 4, 5, 0] rfl ?_
                refine eb_loop2_e (J := fun (x6_47 : Int32) (g48 : eb_MS) => eb_G l Γ P X cX2_ways RX2 9 (some .long) rmX2_ways 73 [(0, .ref (ad 0)), (2, .int a2), (3, .int a3), (4, .int a4), (6, .int x6_47)] [] (ms_st Γ ad ix g48) 0 0) h ?_
                intro r49 hr49 x6_47 g48 h
                refine eg_iload 4 dX2_ways_73 rfl ?_
                refine eg_aload_n 0 dX2_ways_75 rfl rfl ?_
                refine em_gets 16 rfl q1158 dX2_ways_76 hi ?_
                refine eg_icmp_ge dX2_ways_79 (fun c54 => ?_) (fun c54 => ?_)
                · replace h := h.1 c54
                  exact eg_sub [0, 2, 3] rfl (hk46 g48 h)
                · replace h := h.2 c54
                  refine eg_aload_n 0 dX2_ways_82 rfl rfl ?_
                  refine em_geta 24 rfl q1166 dX2_ways_83 hi ?_
                  refine eg_iload 4 dX2_ways_86 rfl ?_
                  refine eg_iload 4 dX2_ways_88 rfl ?_
                  refine eg_iload_n 1 dX2_ways_90 rfl rfl ?_
                  refine eb_jp1_e (J := fun (s50 : Int64) => eb_G l Γ P X cX2_ways RX2 9 (some .long) rmX2_ways 99 [(0, .ref (ad 0)), (2, .int a2), (3, .int a3), (4, .int a4), (6, .int x6_47)] [.long s50, .int x6_47, .ref (ad 24)] (ms_st Γ ad ix g48) 0 0) h ?_ ?_
                  · intro s50 h
                    obtain ⟨hb, h⟩ := h
                    refine em_last 24 rfl hb dX2_ways_99 hi (fun g51 eg51 => ?_)
                    replace h := h g51 eg51
                    refine eg_iinc (j := 4) (lv' := [(6, .int (x6_47 + 1)), (0, .ref (ad 0)), (2, .int a2), (3, .int a3), (4, .int a4)]) dX2_ways_100 rfl (by rw [kc_1]) (Nat.le_of_ble_eq_true rfl) rfl ?_
                    refine eg_goto dX2_ways_103 ?_
                    exact eg_sub [1, 2, 3, 4, 0] rfl (hr49 (x6_47 + 1) g51 h)
                  · intro k52 hk52 h
                    refine eg_icmp_ne dX2_ways_91 (fun c53 => ?_) (fun c53 => ?_)
                    · replace h := h.2 c53
                      refine eg_lconst (v := 0) dX2_ways_98 rfl ?_
                      exact hk52 0 h
                    · replace h := h.1 c53
                      refine eg_lconst (v := 1) dX2_ways_94 rfl ?_
                      refine eg_goto dX2_ways_95 ?_
                      exact hk52 1 h
            · replace h := h.2 c55
              exact eg_sub [] rfl (hk7 h)
      · replace h := h.2 c57
        refine eg_iload 0 dX2_ways_42 rfl ?_
        refine eg_i2l dX2_ways_44 ?_
        exact eg_lret dX2_ways_45 (Nat.zero_le _) (Nat.zero_le _) (hP _ _ ⟨_, _, rfl, rfl, h⟩)
    · intro k58 hk58 h
      refine eg_icmp_ge dX2_ways_24 (fun c59 => ?_) (fun c59 => ?_)
      · replace h := h.1 c59
        refine eg_iload_n 3 dX2_ways_31 rfl rfl ?_
        exact eg_sub [0, 2, 3, 4] rfl (hk58 a3 h)
      · replace h := h.2 c59
        refine eg_iload_n 2 dX2_ways_27 rfl rfl ?_
        refine eg_goto dX2_ways_28 ?_
        exact eg_sub [0, 2, 3, 4] rfl (hk58 a2 h)
  · replace h := h.1 c60
    refine eg_ldc2 dX2_ways_16 q1476 ?_
    exact eg_lret dX2_ways_19 (Nat.zero_le _) (Nat.zero_le _) (hP _ _ ⟨_, _, rfl, rfl, h⟩)
def MX2_coloured (σ : eb_MS) (a1 : Int32) (K : Int32 → eb_MS → Prop) : Prop :=
  ms_ws σ 0 0 (fun g1 => MX2_refuses g1 a1 (fun v2 g3 => eb_br (0 ≤ v2) (MX2_joins g3  (fun g5 => MX2_walks g5 0 (g5.1 16) (fun g7 => eb_jp1 (fun (x3_8 : Int32) => eb_br (x3_8 = 0) (K 0 g7) (K 1 g7)) (fun k10 => eb_loop2 (fun r13 (x3_11 : Int32) (x4_12 : Int32) => eb_br ((g7.1 16) ≤ x4_12) (k10 x3_11) (eb_jp1 (fun (x3_14 : Int32) => r13 x3_14 (x4_12 + 1)) (fun k15 => eb_loop2 (fun r18 (x3_16 : Int32) (x5_17 : Int32) => eb_br ((g7.1 16) ≤ x5_17) (k15 x3_16) (eb_rd (g7.2.1 26) 250000 (((500 * x4_12) + x5_17)) (fun v19 => eb_jp1 (fun (s20 : Int32) => r18 (x3_16 &&& s20) (x5_17 + 1)) (fun k21 => eb_br (v19 = 0) (k21 1) (eb_rd (g7.2.1 22) 500 x4_12 (fun v22 => eb_rd (g7.2.1 22) 500 x5_17 (fun v23 => eb_br ((eb_rem v22 2) = (eb_rem v23 2)) (k21 0) (k21 1)))))))) x3_11 0))) 1 0)))) (K v2 g3)))
abbrev rmX2_coloured : Room := { frames := 7, cells := 0, slots := 0, locals := 165 }
theorem nX2_coloured : eb_ar yX2_coloured 1 := by decide +kernel
theorem dX2_coloured_0 : eb_dc cX2_coloured 0 (.aload_n 0) 1 1 := by decide +kernel
theorem dX2_coloured_1 : eb_dc cX2_coloured 1 (.iconst 0) 1 2 := by decide +kernel
theorem dX2_coloured_2 : eb_dc cX2_coloured 2 (.putfield 106) 3 5 := by decide +kernel
theorem dX2_coloured_5 : eb_dc cX2_coloured 5 (.aload_n 0) 1 6 := by decide +kernel
theorem dX2_coloured_6 : eb_dc cX2_coloured 6 (.iload_n 1) 1 7 := by decide +kernel
theorem dX2_coloured_7 : eb_dc cX2_coloured 7 (.invokevirtual 170) 3 10 := by decide +kernel
theorem dX2_coloured_10 : eb_dc cX2_coloured 10 (.istore_n 2) 1 11 := by decide +kernel
theorem dX2_coloured_11 : eb_dc cX2_coloured 11 (.iload_n 2) 1 12 := by decide +kernel
theorem dX2_coloured_12 : eb_dj cX2_coloured 12 (.ifCond .ge 5) 5 15 17 := by decide +kernel
theorem dX2_coloured_15 : eb_dc cX2_coloured 15 (.iload_n 2) 1 16 := by decide +kernel
theorem dX2_coloured_16 : eb_dc cX2_coloured 16 (.ireturn) 1 17 := by decide +kernel
theorem dX2_coloured_17 : eb_dc cX2_coloured 17 (.aload_n 0) 1 18 := by decide +kernel
theorem dX2_coloured_18 : eb_dc cX2_coloured 18 (.invokevirtual 203) 3 21 := by decide +kernel
theorem dX2_coloured_21 : eb_dc cX2_coloured 21 (.aload_n 0) 1 22 := by decide +kernel
theorem dX2_coloured_22 : eb_dc cX2_coloured 22 (.iconst 0) 1 23 := by decide +kernel
theorem dX2_coloured_23 : eb_dc cX2_coloured 23 (.aload_n 0) 1 24 := by decide +kernel
theorem dX2_coloured_24 : eb_dc cX2_coloured 24 (.getfield 161) 3 27 := by decide +kernel
theorem dX2_coloured_27 : eb_dc cX2_coloured 27 (.invokevirtual 209) 3 30 := by decide +kernel
theorem dX2_coloured_30 : eb_dc cX2_coloured 30 (.iconst 1) 1 31 := by decide +kernel
theorem dX2_coloured_31 : eb_dc cX2_coloured 31 (.istore_n 3) 1 32 := by decide +kernel
theorem dX2_coloured_32 : eb_dc cX2_coloured 32 (.iconst 0) 1 33 := by decide +kernel
theorem dX2_coloured_33 : eb_dc cX2_coloured 33 (.istore 4) 2 35 := by decide +kernel
theorem dX2_coloured_35 : eb_dc cX2_coloured 35 (.iload 4) 2 37 := by decide +kernel
theorem dX2_coloured_37 : eb_dc cX2_coloured 37 (.aload_n 0) 1 38 := by decide +kernel
theorem dX2_coloured_38 : eb_dc cX2_coloured 38 (.getfield 161) 3 41 := by decide +kernel
theorem dX2_coloured_41 : eb_dj cX2_coloured 41 (.if_icmp .ge 73) 73 44 114 := by decide +kernel
theorem dX2_coloured_44 : eb_dc cX2_coloured 44 (.iconst 0) 1 45 := by decide +kernel
theorem dX2_coloured_45 : eb_dc cX2_coloured 45 (.istore 5) 2 47 := by decide +kernel
theorem dX2_coloured_47 : eb_dc cX2_coloured 47 (.iload 5) 2 49 := by decide +kernel
theorem dX2_coloured_49 : eb_dc cX2_coloured 49 (.aload_n 0) 1 50 := by decide +kernel
theorem dX2_coloured_50 : eb_dc cX2_coloured 50 (.getfield 161) 3 53 := by decide +kernel
theorem dX2_coloured_53 : eb_dj cX2_coloured 53 (.if_icmp .ge 55) 55 56 108 := by decide +kernel
theorem dX2_coloured_56 : eb_dc cX2_coloured 56 (.iload_n 3) 1 57 := by decide +kernel
theorem dX2_coloured_57 : eb_dc cX2_coloured 57 (.aload_n 0) 1 58 := by decide +kernel
theorem dX2_coloured_58 : eb_dc cX2_coloured 58 (.getfield 74) 3 61 := by decide +kernel
theorem dX2_coloured_61 : eb_dc cX2_coloured 61 (.sipush 500) 3 64 := by decide +kernel
theorem dX2_coloured_64 : eb_dc cX2_coloured 64 (.iload 4) 2 66 := by decide +kernel
theorem dX2_coloured_66 : eb_dc cX2_coloured 66 (.imul) 1 67 := by decide +kernel
theorem dX2_coloured_67 : eb_dc cX2_coloured 67 (.iload 5) 2 69 := by decide +kernel
theorem dX2_coloured_69 : eb_dc cX2_coloured 69 (.iadd) 1 70 := by decide +kernel
theorem dX2_coloured_70 : eb_dc cX2_coloured 70 (.baload) 1 71 := by decide +kernel
theorem dX2_coloured_71 : eb_dj cX2_coloured 71 (.ifCond .eq 24) 24 74 95 := by decide +kernel
theorem dX2_coloured_74 : eb_dc cX2_coloured 74 (.aload_n 0) 1 75 := by decide +kernel
theorem dX2_coloured_75 : eb_dc cX2_coloured 75 (.getfield 59) 3 78 := by decide +kernel
theorem dX2_coloured_78 : eb_dc cX2_coloured 78 (.iload 4) 2 80 := by decide +kernel
theorem dX2_coloured_80 : eb_dc cX2_coloured 80 (.iaload) 1 81 := by decide +kernel
theorem dX2_coloured_81 : eb_dc cX2_coloured 81 (.iconst 2) 1 82 := by decide +kernel
theorem dX2_coloured_82 : eb_dc cX2_coloured 82 (.irem) 1 83 := by decide +kernel
theorem dX2_coloured_83 : eb_dc cX2_coloured 83 (.aload_n 0) 1 84 := by decide +kernel
theorem dX2_coloured_84 : eb_dc cX2_coloured 84 (.getfield 59) 3 87 := by decide +kernel
theorem dX2_coloured_87 : eb_dc cX2_coloured 87 (.iload 5) 2 89 := by decide +kernel
theorem dX2_coloured_89 : eb_dc cX2_coloured 89 (.iaload) 1 90 := by decide +kernel
theorem dX2_coloured_90 : eb_dc cX2_coloured 90 (.iconst 2) 1 91 := by decide +kernel
theorem dX2_coloured_91 : eb_dc cX2_coloured 91 (.irem) 1 92 := by decide +kernel
theorem dX2_coloured_92 : eb_dj cX2_coloured 92 (.if_icmp .eq 7) 7 95 99 := by decide +kernel
theorem dX2_coloured_95 : eb_dc cX2_coloured 95 (.iconst 1) 1 96 := by decide +kernel
theorem dX2_coloured_96 : eb_dj cX2_coloured 96 (.goto 4) 4 99 100 := by decide +kernel
theorem dX2_coloured_99 : eb_dc cX2_coloured 99 (.iconst 0) 1 100 := by decide +kernel
theorem dX2_coloured_100 : eb_dc cX2_coloured 100 (.iand) 1 101 := by decide +kernel
theorem dX2_coloured_101 : eb_dc cX2_coloured 101 (.istore_n 3) 1 102 := by decide +kernel
theorem dX2_coloured_102 : eb_dc cX2_coloured 102 (.iinc 5 1) 3 105 := by decide +kernel
theorem dX2_coloured_105 : eb_dj cX2_coloured 105 (.goto (-58)) (-58) 108 47 := by decide +kernel
theorem dX2_coloured_108 : eb_dc cX2_coloured 108 (.iinc 4 1) 3 111 := by decide +kernel
theorem dX2_coloured_111 : eb_dj cX2_coloured 111 (.goto (-76)) (-76) 114 35 := by decide +kernel
theorem dX2_coloured_114 : eb_dc cX2_coloured 114 (.iload_n 3) 1 115 := by decide +kernel
theorem dX2_coloured_115 : eb_dj cX2_coloured 115 (.ifCond .eq 7) 7 118 122 := by decide +kernel
theorem dX2_coloured_118 : eb_dc cX2_coloured 118 (.iconst 1) 1 119 := by decide +kernel
theorem dX2_coloured_119 : eb_dj cX2_coloured 119 (.goto 4) 4 122 123 := by decide +kernel
theorem dX2_coloured_122 : eb_dc cX2_coloured 122 (.iconst 0) 1 123 := by decide +kernel
theorem dX2_coloured_123 : eb_dc cX2_coloured 123 (.ireturn) 1 124 := by decide +kernel
theorem ctX2_coloured {l : Launch} {Γ : eb_C} {ad : Nat → Nat} {ix : Nat → Option Nat} {σ : eb_MS} {a1 : Int32} {K : Int32 → eb_MS → Prop} (hi : ms_inv ad ix) (h : MX2_coloured σ a1 K) : eb_Ct l Γ yX2_coloured cX2_coloured 6 (some .int) rmX2_coloured [.ref (ad 0), .int a1] (ms_st Γ ad ix σ) (em_I Γ ad ix K) := by
  refine eb_of (by decide) (Nat.le_of_ble_eq_true rfl) (fun X P hP _ => ?_)
  show eb_G l Γ P X cX2_coloured RX2 6 (some .int) rmX2_coloured 0 [(0, .ref (ad 0)), (1, .int a1)] [] (ms_st Γ ad ix σ) 0 0
  refine eg_aload_n 0 dX2_coloured_0 rfl rfl ?_
  refine eg_iconst dX2_coloured_1 kc_0 ?_
  refine em_puts 0 rfl q1142 dX2_coloured_2 hi (fun g1 eg1 => ?_)
  replace h := h g1 eg1
  refine eg_aload_n 0 dX2_coloured_5 rfl rfl ?_
  refine eg_iload_n 1 dX2_coloured_6 rfl rfl ?_
  refine em_cvi (rest := []) (ctX2_refuses hi h) hi (lw_V q1290 q1292 qs39 q77 q1293) rfl nX2_refuses ⟨Nat.le_of_ble_eq_true rfl, Nat.le_of_ble_eq_true rfl⟩ ⟨rfl, rfl⟩ ⟨Nat.zero_le _, Nat.zero_le _⟩ rfl rfl (Nat.le_of_ble_eq_true rfl) dX2_coloured_7 (fun v2 g3 h => ?_)
  refine eg_istore_n (lv' := [(2, .int v2), (0, .ref (ad 0)), (1, .int a1)]) dX2_coloured_10 rfl (Nat.le_of_ble_eq_true rfl) rfl ?_
  refine eg_iload_n 0 dX2_coloured_11 rfl rfl ?_
  refine eg_if_ge dX2_coloured_12 (fun c28 => ?_) (fun c28 => ?_)
  · replace h := h.1 c28
    refine eg_aload_n 1 dX2_coloured_17 rfl rfl ?_
    refine em_cvv (rest := []) (ctX2_joins hi h) hi (lw_V q1452 q1454 qs56 q77 q1455) rfl nX2_joins ⟨Nat.le_of_ble_eq_true rfl, Nat.le_of_ble_eq_true rfl⟩ ⟨rfl, rfl⟩ ⟨Nat.zero_le _, Nat.zero_le _⟩ rfl rfl (Nat.le_of_ble_eq_true rfl) dX2_coloured_18 (fun g5 h => ?_)
    refine eg_aload_n 1 dX2_coloured_21 rfl rfl ?_
    refine eg_iconst dX2_coloured_22 kc_0 ?_
    refine eg_aload_n 1 dX2_coloured_23 rfl rfl ?_
    refine em_gets 16 rfl q1158 dX2_coloured_24 hi ?_
    refine em_cvv (rest := []) (ctX2_walks hi h) hi (lw_V q1464 q1466 qs58 q77 q1467) rfl nX2_walks ⟨Nat.le_of_ble_eq_true rfl, Nat.le_of_ble_eq_true rfl⟩ ⟨rfl, rfl⟩ ⟨Nat.zero_le _, Nat.zero_le _⟩ rfl rfl (Nat.le_of_ble_eq_true rfl) dX2_coloured_27 (fun g7 h => ?_)
    refine eg_iconst dX2_coloured_30 kc_1 ?_
    refine eg_istore_n (lv' := [(3, .int 1), (2, .int v2), (0, .ref (ad 0)), (1, .int a1)]) dX2_coloured_31 rfl (Nat.le_of_ble_eq_true rfl) rfl ?_
    refine eg_iconst dX2_coloured_32 kc_0 ?_
    refine eg_istore (lv' := [(4, .int 0), (3, .int 1), (2, .int v2), (0, .ref (ad 0)), (1, .int a1)]) dX2_coloured_33 (Nat.le_of_ble_eq_true rfl) rfl ?_
    refine eb_jp1_e (J := fun (x3_8 : Int32) => eb_G l Γ P X cX2_coloured RX2 6 (some .int) rmX2_coloured 114 [(3, .int x3_8)] [] (ms_st Γ ad ix g7) 0 0) h ?_ ?_
    · intro x3_8 h
      refine eg_iload_n 0 dX2_coloured_114 rfl rfl ?_
      refine eg_if_eq dX2_coloured_115 (fun c9 => ?_) (fun c9 => ?_)
      · replace h := h.1 c9
        refine eg_iconst dX2_coloured_122 kc_0 ?_
        exact eg_iret dX2_coloured_123 (Nat.zero_le _) (Nat.zero_le _) (hP _ _ ⟨_, _, rfl, rfl, h⟩)
      · replace h := h.2 c9
        refine eg_iconst dX2_coloured_118 kc_1 ?_
        refine eg_goto dX2_coloured_119 ?_
        exact eg_iret dX2_coloured_123 (Nat.zero_le _) (Nat.zero_le _) (hP _ _ ⟨_, _, rfl, rfl, h⟩)
    · intro k10 hk10 h
      refine eg_sub [3, 1, 0] rfl ?_
      refine eb_loop2_e (J := fun (x3_11 : Int32) (x4_12 : Int32) => eb_G l Γ P X cX2_coloured RX2 6 (some .int) rmX2_coloured 35 [(0, .ref (ad 0)), (3, .int x3_11), (4, .int x4_12)] [] (ms_st Γ ad ix g7) 0 0) h ?_
      intro r13 hr13 x3_11 x4_12 h
      refine eg_iload 2 dX2_coloured_35 rfl ?_
      refine eg_aload_n 0 dX2_coloured_37 rfl rfl ?_
      refine em_gets 16 rfl q1158 dX2_coloured_38 hi ?_
      refine eg_icmp_ge dX2_coloured_41 (fun c27 => ?_) (fun c27 => ?_)
      · replace h := h.1 c27
        exact eg_sub [1] rfl (hk10 x3_11 h)
      · replace h := h.2 c27
        refine eg_iconst dX2_coloured_44 kc_0 ?_
        refine eg_istore (lv' := [(5, .int 0), (0, .ref (ad 0)), (3, .int x3_11), (4, .int x4_12)]) dX2_coloured_45 (Nat.le_of_ble_eq_true rfl) rfl ?_
        refine eb_jp1_e (J := fun (x3_14 : Int32) => eb_G l Γ P X cX2_coloured RX2 6 (some .int) rmX2_coloured 108 [(0, .ref (ad 0)), (3, .int x3_14), (4, .int x4_12)] [] (ms_st Γ ad ix g7) 0 0) h ?_ ?_
        · intro x3_14 h
          refine eg_iinc (j := 2) (lv' := [(4, .int (x4_12 + 1)), (0, .ref (ad 0)), (3, .int x3_14)]) dX2_coloured_108 rfl (by rw [kc_1]) (Nat.le_of_ble_eq_true rfl) rfl ?_
          refine eg_goto dX2_coloured_111 ?_
          exact eg_sub [1, 2, 0] rfl (hr13 x3_14 (x4_12 + 1) h)
        · intro k15 hk15 h
          refine eg_sub [1, 2, 3, 0] rfl ?_
          refine eb_loop2_e (J := fun (x3_16 : Int32) (x5_17 : Int32) => eb_G l Γ P X cX2_coloured RX2 6 (some .int) rmX2_coloured 47 [(0, .ref (ad 0)), (3, .int x3_16), (4, .int x4_12), (5, .int x5_17)] [] (ms_st Γ ad ix g7) 0 0) h ?_
          intro r18 hr18 x3_16 x5_17 h
          refine eg_iload 3 dX2_coloured_47 rfl ?_
          refine eg_aload_n 0 dX2_coloured_49 rfl rfl ?_
          refine em_gets 16 rfl q1158 dX2_coloured_50 hi ?_
          refine eg_icmp_ge dX2_coloured_53 (fun c26 => ?_) (fun c26 => ?_)
          · replace h := h.1 c26
            exact eg_sub [0, 1, 2] rfl (hk15 x3_16 h)
          · replace h := h.2 c26
            refine eg_iload_n 1 dX2_coloured_56 rfl rfl ?_
            refine eg_aload_n 0 dX2_coloured_57 rfl rfl ?_
            refine em_geta 26 rfl q1168 dX2_coloured_58 hi ?_
            refine eg_sipush dX2_coloured_61 ks_500 ?_
            refine eg_iload 2 dX2_coloured_64 rfl ?_
            refine eg_imul dX2_coloured_66 ?_
            refine eg_iload 3 dX2_coloured_67 rfl ?_
            refine eg_iadd dX2_coloured_69 ?_
            obtain ⟨hb, h⟩ := h
            refine em_zald 26 rfl hb dX2_coloured_70 hi (fun v19 ev19 => ?_)
            replace h := h v19 ev19
            refine eb_jp1_e (J := fun (s20 : Int32) => eb_G l Γ P X cX2_coloured RX2 6 (some .int) rmX2_coloured 100 [(0, .ref (ad 0)), (4, .int x4_12), (5, .int x5_17)] [.int s20, .int x3_16] (ms_st Γ ad ix g7) 0 0) h ?_ ?_
            · intro s20 h
              refine eg_iand dX2_coloured_100 ?_
              refine eg_istore_n (lv' := [(3, .int (x3_16 &&& s20)), (0, .ref (ad 0)), (4, .int x4_12), (5, .int x5_17)]) dX2_coloured_101 rfl (Nat.le_of_ble_eq_true rfl) rfl ?_
              refine eg_iinc (j := 3) (lv' := [(5, .int (x5_17 + 1)), (3, .int (x3_16 &&& s20)), (0, .ref (ad 0)), (4, .int x4_12)]) dX2_coloured_102 rfl (by rw [kc_1]) (Nat.le_of_ble_eq_true rfl) rfl ?_
              refine eg_goto dX2_coloured_105 ?_
              exact eg_sub [2, 1, 3, 0] rfl (hr18 (x3_16 &&& s20) (x5_17 + 1) h)
            · intro k21 hk21 h
              refine eg_if_eq dX2_coloured_71 (fun c25 => ?_) (fun c25 => ?_)
              · replace h := h.1 c25
                refine eg_iconst dX2_coloured_95 kc_1 ?_
                refine eg_goto dX2_coloured_96 ?_
                exact eg_sub [0, 2, 3] rfl (hk21 1 h)
              · replace h := h.2 c25
                refine eg_aload_n 0 dX2_coloured_74 rfl rfl ?_
                refine em_geta 22 rfl q1164 dX2_coloured_75 hi ?_
                refine eg_iload 2 dX2_coloured_78 rfl ?_
                obtain ⟨hb, h⟩ := h
                refine em_iald 22 rfl hb dX2_coloured_80 hi (fun v22 ev22 => ?_)
                replace h := h v22 ev22
                refine eg_iconst dX2_coloured_81 kc_2 ?_
                refine eg_irem dX2_coloured_82 (by decide) ?_
                refine eg_aload_n 0 dX2_coloured_83 rfl rfl ?_
                refine em_geta 22 rfl q1164 dX2_coloured_84 hi ?_
                refine eg_iload 3 dX2_coloured_87 rfl ?_
                obtain ⟨hb, h⟩ := h
                refine em_iald 22 rfl hb dX2_coloured_89 hi (fun v23 ev23 => ?_)
                replace h := h v23 ev23
                refine eg_iconst dX2_coloured_90 kc_2 ?_
                refine eg_irem dX2_coloured_91 (by decide) ?_
                refine eg_icmp_eq dX2_coloured_92 (fun c24 => ?_) (fun c24 => ?_)
                · replace h := h.1 c24
                  refine eg_iconst dX2_coloured_99 kc_0 ?_
                  exact eg_sub [0, 2, 3] rfl (hk21 0 h)
                · replace h := h.2 c24
                  refine eg_iconst dX2_coloured_95 kc_1 ?_
                  refine eg_goto dX2_coloured_96 ?_
                  exact eg_sub [0, 2, 3] rfl (hk21 1 h)
  · replace h := h.2 c28
    refine eg_iload_n 0 dX2_coloured_15 rfl rfl ?_
    exact eg_iret dX2_coloured_16 (Nat.zero_le _) (Nat.zero_le _) (hP _ _ ⟨_, _, rfl, rfl, h⟩)
def MX2_refusesThree (σ : eb_MS) (a1 : Int32) (K : Int32 → eb_MS → Prop) : Prop :=
  MX2_isBody a1 (fun v1 => eb_br (v1 = 0) (K (-2) σ) (MX2_loads σ a1 (fun v3 g4 => eb_br (v3 = 0) (K (-5) g4) (eb_rd (g4.2.1 1) 4 a1 (fun v5 => eb_br (v5 = 3) (K 0 g4) (K (-3) g4))))))
abbrev rmX2_refusesThree : Room := { frames := 6, cells := 0, slots := 0, locals := 144 }
theorem nX2_refusesThree : eb_ar yX2_refusesThree 1 := by decide +kernel
theorem dX2_refusesThree_0 : eb_dc cX2_refusesThree 0 (.iload_n 1) 1 1 := by decide +kernel
theorem dX2_refusesThree_1 : eb_dc cX2_refusesThree 1 (.invokestatic 113) 3 4 := by decide +kernel
theorem dX2_refusesThree_4 : eb_dj cX2_refusesThree 4 (.ifCond .ne 8) 8 7 12 := by decide +kernel
theorem dX2_refusesThree_7 : eb_dc cX2_refusesThree 7 (.bipush (-2)) 2 9 := by decide +kernel
theorem dX2_refusesThree_9 : eb_dj cX2_refusesThree 9 (.goto 32) 32 12 41 := by decide +kernel
theorem dX2_refusesThree_12 : eb_dc cX2_refusesThree 12 (.aload_n 0) 1 13 := by decide +kernel
theorem dX2_refusesThree_13 : eb_dc cX2_refusesThree 13 (.iload_n 1) 1 14 := by decide +kernel
theorem dX2_refusesThree_14 : eb_dc cX2_refusesThree 14 (.invokevirtual 164) 3 17 := by decide +kernel
theorem dX2_refusesThree_17 : eb_dj cX2_refusesThree 17 (.ifCond .ne 8) 8 20 25 := by decide +kernel
theorem dX2_refusesThree_20 : eb_dc cX2_refusesThree 20 (.bipush (-5)) 2 22 := by decide +kernel
theorem dX2_refusesThree_22 : eb_dj cX2_refusesThree 22 (.goto 19) 19 25 41 := by decide +kernel
theorem dX2_refusesThree_25 : eb_dc cX2_refusesThree 25 (.aload_n 0) 1 26 := by decide +kernel
theorem dX2_refusesThree_26 : eb_dc cX2_refusesThree 26 (.getfield 7) 3 29 := by decide +kernel
theorem dX2_refusesThree_29 : eb_dc cX2_refusesThree 29 (.iload_n 1) 1 30 := by decide +kernel
theorem dX2_refusesThree_30 : eb_dc cX2_refusesThree 30 (.iaload) 1 31 := by decide +kernel
theorem dX2_refusesThree_31 : eb_dc cX2_refusesThree 31 (.iconst 3) 1 32 := by decide +kernel
theorem dX2_refusesThree_32 : eb_dj cX2_refusesThree 32 (.if_icmp .eq 8) 8 35 40 := by decide +kernel
theorem dX2_refusesThree_35 : eb_dc cX2_refusesThree 35 (.bipush (-3)) 2 37 := by decide +kernel
theorem dX2_refusesThree_37 : eb_dj cX2_refusesThree 37 (.goto 4) 4 40 41 := by decide +kernel
theorem dX2_refusesThree_40 : eb_dc cX2_refusesThree 40 (.iconst 0) 1 41 := by decide +kernel
theorem dX2_refusesThree_41 : eb_dc cX2_refusesThree 41 (.ireturn) 1 42 := by decide +kernel
theorem ctX2_refusesThree {l : Launch} {Γ : eb_C} {ad : Nat → Nat} {ix : Nat → Option Nat} {σ : eb_MS} {a1 : Int32} {K : Int32 → eb_MS → Prop} (hi : ms_inv ad ix) (h : MX2_refusesThree σ a1 K) : eb_Ct l Γ yX2_refusesThree cX2_refusesThree 2 (some .int) rmX2_refusesThree [.ref (ad 0), .int a1] (ms_st Γ ad ix σ) (em_I Γ ad ix K) := by
  refine eb_of (by decide) (Nat.le_of_ble_eq_true rfl) (fun X P hP _ => ?_)
  show eb_G l Γ P X cX2_refusesThree RX2 2 (some .int) rmX2_refusesThree 0 [(0, .ref (ad 0)), (1, .int a1)] [] (ms_st Γ ad ix σ) 0 0
  refine eg_iload_n 1 dX2_refusesThree_0 rfl rfl ?_
  refine eg_csp (rest := []) (ctX2_isBody h) (lw_S q1252 q1253 q77 q1254) nX2_isBody ⟨Nat.le_of_ble_eq_true rfl, Nat.le_of_ble_eq_true rfl⟩ ⟨rfl, rfl⟩ ⟨Nat.zero_le _, Nat.zero_le _⟩ rfl rfl (Nat.le_of_ble_eq_true rfl) dX2_refusesThree_1 (fun v1 h => ?_)
  refine eg_if_ne dX2_refusesThree_4 (fun c8 => ?_) (fun c8 => ?_)
  · replace h := h.2 c8
    refine eg_aload_n 0 dX2_refusesThree_12 rfl rfl ?_
    refine eg_iload_n 1 dX2_refusesThree_13 rfl rfl ?_
    refine em_cvi (rest := []) (ctX2_loads hi h) hi (lw_V q1294 q1296 qs40 q77 q1297) rfl nX2_loads ⟨Nat.le_of_ble_eq_true rfl, Nat.le_of_ble_eq_true rfl⟩ ⟨rfl, rfl⟩ ⟨Nat.zero_le _, Nat.zero_le _⟩ rfl rfl (Nat.le_of_ble_eq_true rfl) dX2_refusesThree_14 (fun v3 g4 h => ?_)
    refine eg_if_ne dX2_refusesThree_17 (fun c7 => ?_) (fun c7 => ?_)
    · replace h := h.2 c7
      refine eg_aload_n 0 dX2_refusesThree_25 rfl rfl ?_
      refine em_geta 1 rfl q1143 dX2_refusesThree_26 hi ?_
      refine eg_iload_n 1 dX2_refusesThree_29 rfl rfl ?_
      obtain ⟨hb, h⟩ := h
      refine em_iald 1 rfl hb dX2_refusesThree_30 hi (fun v5 ev5 => ?_)
      replace h := h v5 ev5
      refine eg_iconst dX2_refusesThree_31 kc_3 ?_
      refine eg_icmp_eq dX2_refusesThree_32 (fun c6 => ?_) (fun c6 => ?_)
      · replace h := h.1 c6
        refine eg_iconst dX2_refusesThree_40 kc_0 ?_
        exact eg_iret dX2_refusesThree_41 (Nat.zero_le _) (Nat.zero_le _) (hP _ _ ⟨_, _, rfl, rfl, h⟩)
      · replace h := h.2 c6
        refine eg_bipush dX2_refusesThree_35 kb_m3 ?_
        refine eg_goto dX2_refusesThree_37 ?_
        exact eg_iret dX2_refusesThree_41 (Nat.zero_le _) (Nat.zero_le _) (hP _ _ ⟨_, _, rfl, rfl, h⟩)
    · replace h := h.1 c7
      refine eg_bipush dX2_refusesThree_20 kb_m5 ?_
      refine eg_goto dX2_refusesThree_22 ?_
      exact eg_iret dX2_refusesThree_41 (Nat.zero_le _) (Nat.zero_le _) (hP _ _ ⟨_, _, rfl, rfl, h⟩)
  · replace h := h.1 c8
    refine eg_bipush dX2_refusesThree_7 kb_m2 ?_
    refine eg_goto dX2_refusesThree_9 ?_
    exact eg_iret dX2_refusesThree_41 (Nat.zero_le _) (Nat.zero_le _) (hP _ _ ⟨_, _, rfl, rfl, h⟩)
def MX2_faces (σ : eb_MS) (K : eb_MS → Prop) : Prop :=
  eb_loop2 (fun r3 (x1_1 : Int32) (g2 : eb_MS) => eb_br (3 ≤ x1_1) (K g2) (MX2_isKind g2 (g2.1 5) (eb_shl 1 x1_1) (fun v4 => eb_jp1 (fun (g6 : eb_MS) => eb_jp1 (fun (g7 : eb_MS) => MX2_isKind g7 (g7.1 5) ((7 &&& ((eb_shl 1 x1_1) ^^^ (-1)))) (fun v8 => ms_wr g7 29 3 x1_1 0 (fun g10 => eb_jp1 (fun (g11 : eb_MS) => eb_jp1 (fun (g12 : eb_MS) => r3 (x1_1 + 1) g12) (fun k13 => eb_loop2 (fun r16 (x3_14 : Int32) (g15 : eb_MS) => eb_br ((g15.1 8) ≤ x3_14) (k13 g15) (eb_jp1 (fun (s17 : Int32) => ms_wr g15 28 1500 (((500 * x1_1) + x3_14)) s17 (fun g18 => r16 (x3_14 + 1) g18)) (fun k19 => eb_br (v8 = 0) (k19 (-1)) (eb_rd (g15.2.1 17) 500 x3_14 (fun v20 => k19 v20))))) 0 g11)) (fun k23 => eb_br (v8 = 0) (k23 g10) (MX2_tellsParts g10 ((7 &&& ((eb_shl 1 x1_1) ^^^ (-1)))) (fun g25 => ms_wr g25 29 3 x1_1 (g25.1 18) (fun g26 => k23 g26))))))) (fun k28 => eb_loop2 (fun r31 (x3_29 : Int32) (g30 : eb_MS) => eb_br ((g30.1 8) ≤ x3_29) (k28 g30) (eb_jp1 (fun (s32 : Int32) => ms_wr g30 27 1500 (((500 * x1_1) + x3_29)) s32 (fun g33 => r31 (x3_29 + 1) g33)) (fun k34 => eb_br (v4 = 0) (k34 (-1)) (eb_rd (g30.2.1 17) 500 x3_29 (fun v35 => k34 v35))))) 0 g6)) (fun k38 => eb_br (v4 = 0) (k38 g2) (MX2_tellsParts g2 (eb_shl 1 x1_1) (fun g40 => k38 g40)))))) 0 σ
abbrev rmX2_faces : Room := { frames := 5, cells := 0, slots := 0, locals := 111 }
theorem nX2_faces : eb_ar yX2_faces 0 := by decide +kernel
theorem dX2_faces_0 : eb_dc cX2_faces 0 (.iconst 0) 1 1 := by decide +kernel
theorem dX2_faces_1 : eb_dc cX2_faces 1 (.istore_n 1) 1 2 := by decide +kernel
theorem dX2_faces_2 : eb_dc cX2_faces 2 (.iload_n 1) 1 3 := by decide +kernel
theorem dX2_faces_3 : eb_dc cX2_faces 3 (.iconst 3) 1 4 := by decide +kernel
theorem dX2_faces_4 : eb_dj cX2_faces 4 (.if_icmp .ge 166) 166 7 170 := by decide +kernel
theorem dX2_faces_7 : eb_dc cX2_faces 7 (.aload_n 0) 1 8 := by decide +kernel
theorem dX2_faces_8 : eb_dc cX2_faces 8 (.aload_n 0) 1 9 := by decide +kernel
theorem dX2_faces_9 : eb_dc cX2_faces 9 (.getfield 22) 3 12 := by decide +kernel
theorem dX2_faces_12 : eb_dc cX2_faces 12 (.iconst 1) 1 13 := by decide +kernel
theorem dX2_faces_13 : eb_dc cX2_faces 13 (.iload_n 1) 1 14 := by decide +kernel
theorem dX2_faces_14 : eb_dc cX2_faces 14 (.ishl) 1 15 := by decide +kernel
theorem dX2_faces_15 : eb_dc cX2_faces 15 (.invokevirtual 188) 3 18 := by decide +kernel
theorem dX2_faces_18 : eb_dc cX2_faces 18 (.istore_n 2) 1 19 := by decide +kernel
theorem dX2_faces_19 : eb_dc cX2_faces 19 (.iload_n 2) 1 20 := by decide +kernel
theorem dX2_faces_20 : eb_dj cX2_faces 20 (.ifCond .eq 10) 10 23 30 := by decide +kernel
theorem dX2_faces_23 : eb_dc cX2_faces 23 (.aload_n 0) 1 24 := by decide +kernel
theorem dX2_faces_24 : eb_dc cX2_faces 24 (.iconst 1) 1 25 := by decide +kernel
theorem dX2_faces_25 : eb_dc cX2_faces 25 (.iload_n 1) 1 26 := by decide +kernel
theorem dX2_faces_26 : eb_dc cX2_faces 26 (.ishl) 1 27 := by decide +kernel
theorem dX2_faces_27 : eb_dc cX2_faces 27 (.invokevirtual 154) 3 30 := by decide +kernel
theorem dX2_faces_30 : eb_dc cX2_faces 30 (.iconst 0) 1 31 := by decide +kernel
theorem dX2_faces_31 : eb_dc cX2_faces 31 (.istore_n 3) 1 32 := by decide +kernel
theorem dX2_faces_32 : eb_dc cX2_faces 32 (.iload_n 3) 1 33 := by decide +kernel
theorem dX2_faces_33 : eb_dc cX2_faces 33 (.aload_n 0) 1 34 := by decide +kernel
theorem dX2_faces_34 : eb_dc cX2_faces 34 (.getfield 135) 3 37 := by decide +kernel
theorem dX2_faces_37 : eb_dj cX2_faces 37 (.if_icmp .ge 35) 35 40 72 := by decide +kernel
theorem dX2_faces_40 : eb_dc cX2_faces 40 (.aload_n 0) 1 41 := by decide +kernel
theorem dX2_faces_41 : eb_dc cX2_faces 41 (.getfield 77) 3 44 := by decide +kernel
theorem dX2_faces_44 : eb_dc cX2_faces 44 (.sipush 500) 3 47 := by decide +kernel
theorem dX2_faces_47 : eb_dc cX2_faces 47 (.iload_n 1) 1 48 := by decide +kernel
theorem dX2_faces_48 : eb_dc cX2_faces 48 (.imul) 1 49 := by decide +kernel
theorem dX2_faces_49 : eb_dc cX2_faces 49 (.iload_n 3) 1 50 := by decide +kernel
theorem dX2_faces_50 : eb_dc cX2_faces 50 (.iadd) 1 51 := by decide +kernel
theorem dX2_faces_51 : eb_dc cX2_faces 51 (.iload_n 2) 1 52 := by decide +kernel
theorem dX2_faces_52 : eb_dj cX2_faces 52 (.ifCond .eq 12) 12 55 64 := by decide +kernel
theorem dX2_faces_55 : eb_dc cX2_faces 55 (.aload_n 0) 1 56 := by decide +kernel
theorem dX2_faces_56 : eb_dc cX2_faces 56 (.getfield 47) 3 59 := by decide +kernel
theorem dX2_faces_59 : eb_dc cX2_faces 59 (.iload_n 3) 1 60 := by decide +kernel
theorem dX2_faces_60 : eb_dc cX2_faces 60 (.iaload) 1 61 := by decide +kernel
theorem dX2_faces_61 : eb_dj cX2_faces 61 (.goto 4) 4 64 65 := by decide +kernel
theorem dX2_faces_64 : eb_dc cX2_faces 64 (.iconst (-1)) 1 65 := by decide +kernel
theorem dX2_faces_65 : eb_dc cX2_faces 65 (.iastore) 1 66 := by decide +kernel
theorem dX2_faces_66 : eb_dc cX2_faces 66 (.iinc 3 1) 3 69 := by decide +kernel
theorem dX2_faces_69 : eb_dj cX2_faces 69 (.goto (-37)) (-37) 72 32 := by decide +kernel
theorem dX2_faces_72 : eb_dc cX2_faces 72 (.aload_n 0) 1 73 := by decide +kernel
theorem dX2_faces_73 : eb_dc cX2_faces 73 (.aload_n 0) 1 74 := by decide +kernel
theorem dX2_faces_74 : eb_dc cX2_faces 74 (.getfield 22) 3 77 := by decide +kernel
theorem dX2_faces_77 : eb_dc cX2_faces 77 (.bipush 7) 2 79 := by decide +kernel
theorem dX2_faces_79 : eb_dc cX2_faces 79 (.iconst 1) 1 80 := by decide +kernel
theorem dX2_faces_80 : eb_dc cX2_faces 80 (.iload_n 1) 1 81 := by decide +kernel
theorem dX2_faces_81 : eb_dc cX2_faces 81 (.ishl) 1 82 := by decide +kernel
theorem dX2_faces_82 : eb_dc cX2_faces 82 (.iconst (-1)) 1 83 := by decide +kernel
theorem dX2_faces_83 : eb_dc cX2_faces 83 (.ixor) 1 84 := by decide +kernel
theorem dX2_faces_84 : eb_dc cX2_faces 84 (.iand) 1 85 := by decide +kernel
theorem dX2_faces_85 : eb_dc cX2_faces 85 (.invokevirtual 188) 3 88 := by decide +kernel
theorem dX2_faces_88 : eb_dc cX2_faces 88 (.istore_n 2) 1 89 := by decide +kernel
theorem dX2_faces_89 : eb_dc cX2_faces 89 (.aload_n 0) 1 90 := by decide +kernel
theorem dX2_faces_90 : eb_dc cX2_faces 90 (.getfield 83) 3 93 := by decide +kernel
theorem dX2_faces_93 : eb_dc cX2_faces 93 (.iload_n 1) 1 94 := by decide +kernel
theorem dX2_faces_94 : eb_dc cX2_faces 94 (.iconst 0) 1 95 := by decide +kernel
theorem dX2_faces_95 : eb_dc cX2_faces 95 (.iastore) 1 96 := by decide +kernel
theorem dX2_faces_96 : eb_dc cX2_faces 96 (.iload_n 2) 1 97 := by decide +kernel
theorem dX2_faces_97 : eb_dj cX2_faces 97 (.ifCond .eq 25) 25 100 122 := by decide +kernel
theorem dX2_faces_100 : eb_dc cX2_faces 100 (.aload_n 0) 1 101 := by decide +kernel
theorem dX2_faces_101 : eb_dc cX2_faces 101 (.bipush 7) 2 103 := by decide +kernel
theorem dX2_faces_103 : eb_dc cX2_faces 103 (.iconst 1) 1 104 := by decide +kernel
theorem dX2_faces_104 : eb_dc cX2_faces 104 (.iload_n 1) 1 105 := by decide +kernel
theorem dX2_faces_105 : eb_dc cX2_faces 105 (.ishl) 1 106 := by decide +kernel
theorem dX2_faces_106 : eb_dc cX2_faces 106 (.iconst (-1)) 1 107 := by decide +kernel
theorem dX2_faces_107 : eb_dc cX2_faces 107 (.ixor) 1 108 := by decide +kernel
theorem dX2_faces_108 : eb_dc cX2_faces 108 (.iand) 1 109 := by decide +kernel
theorem dX2_faces_109 : eb_dc cX2_faces 109 (.invokevirtual 154) 3 112 := by decide +kernel
theorem dX2_faces_112 : eb_dc cX2_faces 112 (.aload_n 0) 1 113 := by decide +kernel
theorem dX2_faces_113 : eb_dc cX2_faces 113 (.getfield 83) 3 116 := by decide +kernel
theorem dX2_faces_116 : eb_dc cX2_faces 116 (.iload_n 1) 1 117 := by decide +kernel
theorem dX2_faces_117 : eb_dc cX2_faces 117 (.aload_n 0) 1 118 := by decide +kernel
theorem dX2_faces_118 : eb_dc cX2_faces 118 (.getfield 158) 3 121 := by decide +kernel
theorem dX2_faces_121 : eb_dc cX2_faces 121 (.iastore) 1 122 := by decide +kernel
theorem dX2_faces_122 : eb_dc cX2_faces 122 (.iconst 0) 1 123 := by decide +kernel
theorem dX2_faces_123 : eb_dc cX2_faces 123 (.istore_n 3) 1 124 := by decide +kernel
theorem dX2_faces_124 : eb_dc cX2_faces 124 (.iload_n 3) 1 125 := by decide +kernel
theorem dX2_faces_125 : eb_dc cX2_faces 125 (.aload_n 0) 1 126 := by decide +kernel
theorem dX2_faces_126 : eb_dc cX2_faces 126 (.getfield 135) 3 129 := by decide +kernel
theorem dX2_faces_129 : eb_dj cX2_faces 129 (.if_icmp .ge 35) 35 132 164 := by decide +kernel
theorem dX2_faces_132 : eb_dc cX2_faces 132 (.aload_n 0) 1 133 := by decide +kernel
theorem dX2_faces_133 : eb_dc cX2_faces 133 (.getfield 80) 3 136 := by decide +kernel
theorem dX2_faces_136 : eb_dc cX2_faces 136 (.sipush 500) 3 139 := by decide +kernel
theorem dX2_faces_139 : eb_dc cX2_faces 139 (.iload_n 1) 1 140 := by decide +kernel
theorem dX2_faces_140 : eb_dc cX2_faces 140 (.imul) 1 141 := by decide +kernel
theorem dX2_faces_141 : eb_dc cX2_faces 141 (.iload_n 3) 1 142 := by decide +kernel
theorem dX2_faces_142 : eb_dc cX2_faces 142 (.iadd) 1 143 := by decide +kernel
theorem dX2_faces_143 : eb_dc cX2_faces 143 (.iload_n 2) 1 144 := by decide +kernel
theorem dX2_faces_144 : eb_dj cX2_faces 144 (.ifCond .eq 12) 12 147 156 := by decide +kernel
theorem dX2_faces_147 : eb_dc cX2_faces 147 (.aload_n 0) 1 148 := by decide +kernel
theorem dX2_faces_148 : eb_dc cX2_faces 148 (.getfield 47) 3 151 := by decide +kernel
theorem dX2_faces_151 : eb_dc cX2_faces 151 (.iload_n 3) 1 152 := by decide +kernel
theorem dX2_faces_152 : eb_dc cX2_faces 152 (.iaload) 1 153 := by decide +kernel
theorem dX2_faces_153 : eb_dj cX2_faces 153 (.goto 4) 4 156 157 := by decide +kernel
theorem dX2_faces_156 : eb_dc cX2_faces 156 (.iconst (-1)) 1 157 := by decide +kernel
theorem dX2_faces_157 : eb_dc cX2_faces 157 (.iastore) 1 158 := by decide +kernel
theorem dX2_faces_158 : eb_dc cX2_faces 158 (.iinc 3 1) 3 161 := by decide +kernel
theorem dX2_faces_161 : eb_dj cX2_faces 161 (.goto (-37)) (-37) 164 124 := by decide +kernel
theorem dX2_faces_164 : eb_dc cX2_faces 164 (.iinc 1 1) 3 167 := by decide +kernel
theorem dX2_faces_167 : eb_dj cX2_faces 167 (.goto (-165)) (-165) 170 2 := by decide +kernel
theorem dX2_faces_170 : eb_dc cX2_faces 170 (.return_) 1 171 := by decide +kernel
theorem ctX2_faces {l : Launch} {Γ : eb_C} {ad : Nat → Nat} {ix : Nat → Option Nat} {σ : eb_MS} {K : eb_MS → Prop} (hi : ms_inv ad ix) (h : MX2_faces σ K) : eb_Ct l Γ yX2_faces cX2_faces 4 (none) rmX2_faces [.ref (ad 0)] (ms_st Γ ad ix σ) (em_V Γ ad ix K) := by
  refine eb_of (by decide) (Nat.le_of_ble_eq_true rfl) (fun X P hP _ => ?_)
  show eb_G l Γ P X cX2_faces RX2 4 (none) rmX2_faces 0 [(0, .ref (ad 0))] [] (ms_st Γ ad ix σ) 0 0
  refine eg_iconst dX2_faces_0 kc_0 ?_
  refine eg_istore_n (lv' := [(1, .int 0), (0, .ref (ad 0))]) dX2_faces_1 rfl (Nat.le_of_ble_eq_true rfl) rfl ?_
  refine eg_sub [1, 0] rfl ?_
  refine eb_loop2_e (J := fun (x1_1 : Int32) (g2 : eb_MS) => eb_G l Γ P X cX2_faces RX2 4 (none) rmX2_faces 2 [(0, .ref (ad 0)), (1, .int x1_1)] [] (ms_st Γ ad ix g2) 0 0) h ?_
  intro r3 hr3 x1_1 g2 h
  refine eg_iload_n 1 dX2_faces_2 rfl rfl ?_
  refine eg_iconst dX2_faces_3 kc_3 ?_
  refine eg_icmp_ge dX2_faces_4 (fun c42 => ?_) (fun c42 => ?_)
  · replace h := h.1 c42
    exact eg_vret dX2_faces_170 (Nat.zero_le _) (Nat.zero_le _) (hP _ _ ⟨_, rfl, rfl, h⟩)
  · replace h := h.2 c42
    refine eg_aload_n 0 dX2_faces_7 rfl rfl ?_
    refine eg_aload_n 0 dX2_faces_8 rfl rfl ?_
    refine em_gets 5 rfl q1147 dX2_faces_9 hi ?_
    refine eg_iconst dX2_faces_12 kc_1 ?_
    refine eg_iload_n 1 dX2_faces_13 rfl rfl ?_
    refine eg_ishl dX2_faces_14 ?_
    refine em_cvp (rest := []) (ctX2_isKind hi h) hi (lw_V q1385 q1387 qs52 q77 q1388) rfl nX2_isKind ⟨Nat.le_of_ble_eq_true rfl, Nat.le_of_ble_eq_true rfl⟩ ⟨rfl, rfl⟩ ⟨Nat.zero_le _, Nat.zero_le _⟩ rfl rfl (Nat.le_of_ble_eq_true rfl) dX2_faces_15 (fun v4 h => ?_)
    refine eg_istore_n (lv' := [(2, .int v4), (0, .ref (ad 0)), (1, .int x1_1)]) dX2_faces_18 rfl (Nat.le_of_ble_eq_true rfl) rfl ?_
    refine eg_iload_n 0 dX2_faces_19 rfl rfl ?_
    refine eb_jp1_e (J := fun (g6 : eb_MS) => eb_G l Γ P X cX2_faces RX2 4 (none) rmX2_faces 30 [(0, .ref (ad 0)), (1, .int x1_1), (2, .int v4)] [] (ms_st Γ ad ix g6) 0 0) h ?_ ?_
    · intro g6 h
      refine eg_iconst dX2_faces_30 kc_0 ?_
      refine eg_istore_n (lv' := [(3, .int 0), (0, .ref (ad 0)), (1, .int x1_1), (2, .int v4)]) dX2_faces_31 rfl (Nat.le_of_ble_eq_true rfl) rfl ?_
      refine eb_jp1_e (J := fun (g7 : eb_MS) => eb_G l Γ P X cX2_faces RX2 4 (none) rmX2_faces 72 [(0, .ref (ad 0)), (1, .int x1_1)] [] (ms_st Γ ad ix g7) 0 0) h ?_ ?_
      · intro g7 h
        refine eg_aload_n 0 dX2_faces_72 rfl rfl ?_
        refine eg_aload_n 0 dX2_faces_73 rfl rfl ?_
        refine em_gets 5 rfl q1147 dX2_faces_74 hi ?_
        refine eg_bipush dX2_faces_77 kb_7 ?_
        refine eg_iconst dX2_faces_79 kc_1 ?_
        refine eg_iload_n 1 dX2_faces_80 rfl rfl ?_
        refine eg_ishl dX2_faces_81 ?_
        refine eg_iconst dX2_faces_82 kc_m1 ?_
        refine eg_ixor dX2_faces_83 ?_
        refine eg_iand dX2_faces_84 ?_
        refine em_cvp (rest := []) (ctX2_isKind hi h) hi (lw_V q1385 q1387 qs52 q77 q1388) rfl nX2_isKind ⟨Nat.le_of_ble_eq_true rfl, Nat.le_of_ble_eq_true rfl⟩ ⟨rfl, rfl⟩ ⟨Nat.zero_le _, Nat.zero_le _⟩ rfl rfl (Nat.le_of_ble_eq_true rfl) dX2_faces_85 (fun v8 h => ?_)
        refine eg_istore_n (lv' := [(2, .int v8), (0, .ref (ad 0)), (1, .int x1_1)]) dX2_faces_88 rfl (Nat.le_of_ble_eq_true rfl) rfl ?_
        refine eg_aload_n 1 dX2_faces_89 rfl rfl ?_
        refine em_geta 29 rfl q1171 dX2_faces_90 hi ?_
        refine eg_iload_n 2 dX2_faces_93 rfl rfl ?_
        refine eg_iconst dX2_faces_94 kc_0 ?_
        obtain ⟨hb, h⟩ := h
        refine em_iast 29 rfl hb dX2_faces_95 hi (fun g10 eg10 => ?_)
        replace h := h g10 eg10
        refine eg_iload_n 0 dX2_faces_96 rfl rfl ?_
        refine eb_jp1_e (J := fun (g11 : eb_MS) => eb_G l Γ P X cX2_faces RX2 4 (none) rmX2_faces 122 [(0, .ref (ad 0)), (1, .int x1_1), (2, .int v8)] [] (ms_st Γ ad ix g11) 0 0) h ?_ ?_
        · intro g11 h
          refine eg_iconst dX2_faces_122 kc_0 ?_
          refine eg_istore_n (lv' := [(3, .int 0), (0, .ref (ad 0)), (1, .int x1_1), (2, .int v8)]) dX2_faces_123 rfl (Nat.le_of_ble_eq_true rfl) rfl ?_
          refine eb_jp1_e (J := fun (g12 : eb_MS) => eb_G l Γ P X cX2_faces RX2 4 (none) rmX2_faces 164 [(0, .ref (ad 0)), (1, .int x1_1)] [] (ms_st Γ ad ix g12) 0 0) h ?_ ?_
          · intro g12 h
            refine eg_iinc (j := 1) (lv' := [(1, .int (x1_1 + 1)), (0, .ref (ad 0))]) dX2_faces_164 rfl (by rw [kc_1]) (Nat.le_of_ble_eq_true rfl) rfl ?_
            refine eg_goto dX2_faces_167 ?_
            exact eg_sub [1, 0] rfl (hr3 (x1_1 + 1) g12 h)
          · intro k13 hk13 h
            refine eg_sub [1, 2, 3, 0] rfl ?_
            refine eb_loop2_e (J := fun (x3_14 : Int32) (g15 : eb_MS) => eb_G l Γ P X cX2_faces RX2 4 (none) rmX2_faces 124 [(0, .ref (ad 0)), (1, .int x1_1), (2, .int v8), (3, .int x3_14)] [] (ms_st Γ ad ix g15) 0 0) h ?_
            intro r16 hr16 x3_14 g15 h
            refine eg_iload_n 3 dX2_faces_124 rfl rfl ?_
            refine eg_aload_n 0 dX2_faces_125 rfl rfl ?_
            refine em_gets 8 rfl q1150 dX2_faces_126 hi ?_
            refine eg_icmp_ge dX2_faces_129 (fun c22 => ?_) (fun c22 => ?_)
            · replace h := h.1 c22
              exact eg_sub [0, 1] rfl (hk13 g15 h)
            · replace h := h.2 c22
              refine eg_aload_n 0 dX2_faces_132 rfl rfl ?_
              refine em_geta 28 rfl q1170 dX2_faces_133 hi ?_
              refine eg_sipush dX2_faces_136 ks_500 ?_
              refine eg_iload_n 1 dX2_faces_139 rfl rfl ?_
              refine eg_imul dX2_faces_140 ?_
              refine eg_iload_n 3 dX2_faces_141 rfl rfl ?_
              refine eg_iadd dX2_faces_142 ?_
              refine eg_iload_n 2 dX2_faces_143 rfl rfl ?_
              refine eb_jp1_e (J := fun (s17 : Int32) => eb_G l Γ P X cX2_faces RX2 4 (none) rmX2_faces 157 [(0, .ref (ad 0)), (1, .int x1_1), (2, .int v8), (3, .int x3_14)] [.int s17, .int ((500 * x1_1) + x3_14), .ref (ad 28)] (ms_st Γ ad ix g15) 0 0) h ?_ ?_
              · intro s17 h
                obtain ⟨hb, h⟩ := h
                refine em_iast 28 rfl hb dX2_faces_157 hi (fun g18 eg18 => ?_)
                replace h := h g18 eg18
                refine eg_iinc (j := 3) (lv' := [(3, .int (x3_14 + 1)), (0, .ref (ad 0)), (1, .int x1_1), (2, .int v8)]) dX2_faces_158 rfl (by rw [kc_1]) (Nat.le_of_ble_eq_true rfl) rfl ?_
                refine eg_goto dX2_faces_161 ?_
                exact eg_sub [1, 2, 3, 0] rfl (hr16 (x3_14 + 1) g18 h)
              · intro k19 hk19 h
                refine eg_if_eq dX2_faces_144 (fun c21 => ?_) (fun c21 => ?_)
                · replace h := h.1 c21
                  refine eg_iconst dX2_faces_156 kc_m1 ?_
                  exact hk19 (-1) h
                · replace h := h.2 c21
                  refine eg_aload_n 0 dX2_faces_147 rfl rfl ?_
                  refine em_geta 17 rfl q1159 dX2_faces_148 hi ?_
                  refine eg_iload_n 3 dX2_faces_151 rfl rfl ?_
                  obtain ⟨hb, h⟩ := h
                  refine em_iald 17 rfl hb dX2_faces_152 hi (fun v20 ev20 => ?_)
                  replace h := h v20 ev20
                  refine eg_goto dX2_faces_153 ?_
                  exact hk19 v20 h
        · intro k23 hk23 h
          refine eg_if_eq dX2_faces_97 (fun c27 => ?_) (fun c27 => ?_)
          · replace h := h.1 c27
            exact eg_sub [1, 2, 0] rfl (hk23 g10 h)
          · replace h := h.2 c27
            refine eg_aload_n 1 dX2_faces_100 rfl rfl ?_
            refine eg_bipush dX2_faces_101 kb_7 ?_
            refine eg_iconst dX2_faces_103 kc_1 ?_
            refine eg_iload_n 2 dX2_faces_104 rfl rfl ?_
            refine eg_ishl dX2_faces_105 ?_
            refine eg_iconst dX2_faces_106 kc_m1 ?_
            refine eg_ixor dX2_faces_107 ?_
            refine eg_iand dX2_faces_108 ?_
            refine em_cvv (rest := []) (ctX2_tellsParts hi h) hi (lw_V q1317 q1319 qs45 q77 q1320) rfl nX2_tellsParts ⟨Nat.le_of_ble_eq_true rfl, Nat.le_of_ble_eq_true rfl⟩ ⟨rfl, rfl⟩ ⟨Nat.zero_le _, Nat.zero_le _⟩ rfl rfl (Nat.le_of_ble_eq_true rfl) dX2_faces_109 (fun g25 h => ?_)
            refine eg_aload_n 1 dX2_faces_112 rfl rfl ?_
            refine em_geta 29 rfl q1171 dX2_faces_113 hi ?_
            refine eg_iload_n 2 dX2_faces_116 rfl rfl ?_
            refine eg_aload_n 1 dX2_faces_117 rfl rfl ?_
            refine em_gets 18 rfl q1160 dX2_faces_118 hi ?_
            obtain ⟨hb, h⟩ := h
            refine em_iast 29 rfl hb dX2_faces_121 hi (fun g26 eg26 => ?_)
            replace h := h g26 eg26
            exact eg_sub [1, 2, 0] rfl (hk23 g26 h)
      · intro k28 hk28 h
        refine eg_sub [1, 2, 3, 0] rfl ?_
        refine eb_loop2_e (J := fun (x3_29 : Int32) (g30 : eb_MS) => eb_G l Γ P X cX2_faces RX2 4 (none) rmX2_faces 32 [(0, .ref (ad 0)), (1, .int x1_1), (2, .int v4), (3, .int x3_29)] [] (ms_st Γ ad ix g30) 0 0) h ?_
        intro r31 hr31 x3_29 g30 h
        refine eg_iload_n 3 dX2_faces_32 rfl rfl ?_
        refine eg_aload_n 0 dX2_faces_33 rfl rfl ?_
        refine em_gets 8 rfl q1150 dX2_faces_34 hi ?_
        refine eg_icmp_ge dX2_faces_37 (fun c37 => ?_) (fun c37 => ?_)
        · replace h := h.1 c37
          exact eg_sub [0, 1] rfl (hk28 g30 h)
        · replace h := h.2 c37
          refine eg_aload_n 0 dX2_faces_40 rfl rfl ?_
          refine em_geta 27 rfl q1169 dX2_faces_41 hi ?_
          refine eg_sipush dX2_faces_44 ks_500 ?_
          refine eg_iload_n 1 dX2_faces_47 rfl rfl ?_
          refine eg_imul dX2_faces_48 ?_
          refine eg_iload_n 3 dX2_faces_49 rfl rfl ?_
          refine eg_iadd dX2_faces_50 ?_
          refine eg_iload_n 2 dX2_faces_51 rfl rfl ?_
          refine eb_jp1_e (J := fun (s32 : Int32) => eb_G l Γ P X cX2_faces RX2 4 (none) rmX2_faces 65 [(0, .ref (ad 0)), (1, .int x1_1), (2, .int v4), (3, .int x3_29)] [.int s32, .int ((500 * x1_1) + x3_29), .ref (ad 27)] (ms_st Γ ad ix g30) 0 0) h ?_ ?_
          · intro s32 h
            obtain ⟨hb, h⟩ := h
            refine em_iast 27 rfl hb dX2_faces_65 hi (fun g33 eg33 => ?_)
            replace h := h g33 eg33
            refine eg_iinc (j := 3) (lv' := [(3, .int (x3_29 + 1)), (0, .ref (ad 0)), (1, .int x1_1), (2, .int v4)]) dX2_faces_66 rfl (by rw [kc_1]) (Nat.le_of_ble_eq_true rfl) rfl ?_
            refine eg_goto dX2_faces_69 ?_
            exact eg_sub [1, 2, 3, 0] rfl (hr31 (x3_29 + 1) g33 h)
          · intro k34 hk34 h
            refine eg_if_eq dX2_faces_52 (fun c36 => ?_) (fun c36 => ?_)
            · replace h := h.1 c36
              refine eg_iconst dX2_faces_64 kc_m1 ?_
              exact hk34 (-1) h
            · replace h := h.2 c36
              refine eg_aload_n 0 dX2_faces_55 rfl rfl ?_
              refine em_geta 17 rfl q1159 dX2_faces_56 hi ?_
              refine eg_iload_n 3 dX2_faces_59 rfl rfl ?_
              obtain ⟨hb, h⟩ := h
              refine em_iald 17 rfl hb dX2_faces_60 hi (fun v35 ev35 => ?_)
              replace h := h v35 ev35
              refine eg_goto dX2_faces_61 ?_
              exact hk34 v35 h
    · intro k38 hk38 h
      refine eg_if_eq dX2_faces_20 (fun c41 => ?_) (fun c41 => ?_)
      · replace h := h.1 c41
        exact eg_sub [1, 2, 0] rfl (hk38 g2 h)
      · replace h := h.2 c41
        refine eg_aload_n 1 dX2_faces_23 rfl rfl ?_
        refine eg_iconst dX2_faces_24 kc_1 ?_
        refine eg_iload_n 2 dX2_faces_25 rfl rfl ?_
        refine eg_ishl dX2_faces_26 ?_
        refine em_cvv (rest := []) (ctX2_tellsParts hi h) hi (lw_V q1317 q1319 qs45 q77 q1320) rfl nX2_tellsParts ⟨Nat.le_of_ble_eq_true rfl, Nat.le_of_ble_eq_true rfl⟩ ⟨rfl, rfl⟩ ⟨Nat.zero_le _, Nat.zero_le _⟩ rfl rfl (Nat.le_of_ble_eq_true rfl) dX2_faces_27 (fun g40 h => ?_)
        exact eg_sub [1, 2, 0] rfl (hk38 g40 h)
def MX2_edgeWith (σ : eb_MS) (a1 : Int32) (a2 : Int32) (K : Int32 → Prop) : Prop :=
  eb_loop1 (fun r2 (x3_1 : Int32) => eb_br ((σ.1 8) ≤ x3_1) (K (-1)) (eb_rd (σ.2.1 15) 500 x3_1 (fun v3 => eb_jp0 (r2 (x3_1 + 1)) (fun k4 => eb_br (v3 = 0) (eb_rd (σ.2.1 28) 1500 ((((a1 / 500) * 500) + x3_1)) (fun v5 => eb_br (v5 = (eb_rem a1 500)) (eb_loop1 (fun r7 (x4_6 : Int32) => eb_br (3 ≤ x4_6) (k4) (eb_rd (σ.2.1 27) 1500 (((500 * x4_6) + x3_1)) (fun v8 => eb_jp0 (r7 (x4_6 + 1)) (fun k9 => eb_br (x4_6 = (a1 / 500)) (k9) (eb_rd (σ.2.1 27) 1500 (((500 * x4_6) + x3_1)) (fun v10 => eb_br (v10 < 0) (k9) (eb_br (((500 * x4_6) + v8) = a2) (k9) (K (((500 * x4_6) + v8)))))))))) 0) (k4))) (k4))))) 0
abbrev rmX2_edgeWith : Room := { frames := 1, cells := 0, slots := 0, locals := 12 }
theorem nX2_edgeWith : eb_ar yX2_edgeWith 2 := by decide +kernel
theorem dX2_edgeWith_0 : eb_dc cX2_edgeWith 0 (.iconst 0) 1 1 := by decide +kernel
theorem dX2_edgeWith_1 : eb_dc cX2_edgeWith 1 (.istore_n 3) 1 2 := by decide +kernel
theorem dX2_edgeWith_2 : eb_dc cX2_edgeWith 2 (.iload_n 3) 1 3 := by decide +kernel
theorem dX2_edgeWith_3 : eb_dc cX2_edgeWith 3 (.aload_n 0) 1 4 := by decide +kernel
theorem dX2_edgeWith_4 : eb_dc cX2_edgeWith 4 (.getfield 135) 3 7 := by decide +kernel
theorem dX2_edgeWith_7 : eb_dj cX2_edgeWith 7 (.if_icmp .ge 114) 114 10 121 := by decide +kernel
theorem dX2_edgeWith_10 : eb_dc cX2_edgeWith 10 (.aload_n 0) 1 11 := by decide +kernel
theorem dX2_edgeWith_11 : eb_dc cX2_edgeWith 11 (.getfield 44) 3 14 := by decide +kernel
theorem dX2_edgeWith_14 : eb_dc cX2_edgeWith 14 (.iload_n 3) 1 15 := by decide +kernel
theorem dX2_edgeWith_15 : eb_dc cX2_edgeWith 15 (.iaload) 1 16 := by decide +kernel
theorem dX2_edgeWith_16 : eb_dj cX2_edgeWith 16 (.ifCond .ne 99) 99 19 115 := by decide +kernel
theorem dX2_edgeWith_19 : eb_dc cX2_edgeWith 19 (.aload_n 0) 1 20 := by decide +kernel
theorem dX2_edgeWith_20 : eb_dc cX2_edgeWith 20 (.getfield 80) 3 23 := by decide +kernel
theorem dX2_edgeWith_23 : eb_dc cX2_edgeWith 23 (.iload_n 1) 1 24 := by decide +kernel
theorem dX2_edgeWith_24 : eb_dc cX2_edgeWith 24 (.sipush 500) 3 27 := by decide +kernel
theorem dX2_edgeWith_27 : eb_dc cX2_edgeWith 27 (.idiv) 1 28 := by decide +kernel
theorem dX2_edgeWith_28 : eb_dc cX2_edgeWith 28 (.sipush 500) 3 31 := by decide +kernel
theorem dX2_edgeWith_31 : eb_dc cX2_edgeWith 31 (.imul) 1 32 := by decide +kernel
theorem dX2_edgeWith_32 : eb_dc cX2_edgeWith 32 (.iload_n 3) 1 33 := by decide +kernel
theorem dX2_edgeWith_33 : eb_dc cX2_edgeWith 33 (.iadd) 1 34 := by decide +kernel
theorem dX2_edgeWith_34 : eb_dc cX2_edgeWith 34 (.iaload) 1 35 := by decide +kernel
theorem dX2_edgeWith_35 : eb_dc cX2_edgeWith 35 (.iload_n 1) 1 36 := by decide +kernel
theorem dX2_edgeWith_36 : eb_dc cX2_edgeWith 36 (.sipush 500) 3 39 := by decide +kernel
theorem dX2_edgeWith_39 : eb_dc cX2_edgeWith 39 (.irem) 1 40 := by decide +kernel
theorem dX2_edgeWith_40 : eb_dj cX2_edgeWith 40 (.if_icmp .ne 75) 75 43 115 := by decide +kernel
theorem dX2_edgeWith_43 : eb_dc cX2_edgeWith 43 (.iconst 0) 1 44 := by decide +kernel
theorem dX2_edgeWith_44 : eb_dc cX2_edgeWith 44 (.istore 4) 2 46 := by decide +kernel
theorem dX2_edgeWith_46 : eb_dc cX2_edgeWith 46 (.iload 4) 2 48 := by decide +kernel
theorem dX2_edgeWith_48 : eb_dc cX2_edgeWith 48 (.iconst 3) 1 49 := by decide +kernel
theorem dX2_edgeWith_49 : eb_dj cX2_edgeWith 49 (.if_icmp .ge 66) 66 52 115 := by decide +kernel
theorem dX2_edgeWith_52 : eb_dc cX2_edgeWith 52 (.sipush 500) 3 55 := by decide +kernel
theorem dX2_edgeWith_55 : eb_dc cX2_edgeWith 55 (.iload 4) 2 57 := by decide +kernel
theorem dX2_edgeWith_57 : eb_dc cX2_edgeWith 57 (.imul) 1 58 := by decide +kernel
theorem dX2_edgeWith_58 : eb_dc cX2_edgeWith 58 (.aload_n 0) 1 59 := by decide +kernel
theorem dX2_edgeWith_59 : eb_dc cX2_edgeWith 59 (.getfield 77) 3 62 := by decide +kernel
theorem dX2_edgeWith_62 : eb_dc cX2_edgeWith 62 (.sipush 500) 3 65 := by decide +kernel
theorem dX2_edgeWith_65 : eb_dc cX2_edgeWith 65 (.iload 4) 2 67 := by decide +kernel
theorem dX2_edgeWith_67 : eb_dc cX2_edgeWith 67 (.imul) 1 68 := by decide +kernel
theorem dX2_edgeWith_68 : eb_dc cX2_edgeWith 68 (.iload_n 3) 1 69 := by decide +kernel
theorem dX2_edgeWith_69 : eb_dc cX2_edgeWith 69 (.iadd) 1 70 := by decide +kernel
theorem dX2_edgeWith_70 : eb_dc cX2_edgeWith 70 (.iaload) 1 71 := by decide +kernel
theorem dX2_edgeWith_71 : eb_dc cX2_edgeWith 71 (.iadd) 1 72 := by decide +kernel
theorem dX2_edgeWith_72 : eb_dc cX2_edgeWith 72 (.istore 5) 2 74 := by decide +kernel
theorem dX2_edgeWith_74 : eb_dc cX2_edgeWith 74 (.iload 4) 2 76 := by decide +kernel
theorem dX2_edgeWith_76 : eb_dc cX2_edgeWith 76 (.iload_n 1) 1 77 := by decide +kernel
theorem dX2_edgeWith_77 : eb_dc cX2_edgeWith 77 (.sipush 500) 3 80 := by decide +kernel
theorem dX2_edgeWith_80 : eb_dc cX2_edgeWith 80 (.idiv) 1 81 := by decide +kernel
theorem dX2_edgeWith_81 : eb_dj cX2_edgeWith 81 (.if_icmp .eq 28) 28 84 109 := by decide +kernel
theorem dX2_edgeWith_84 : eb_dc cX2_edgeWith 84 (.aload_n 0) 1 85 := by decide +kernel
theorem dX2_edgeWith_85 : eb_dc cX2_edgeWith 85 (.getfield 77) 3 88 := by decide +kernel
theorem dX2_edgeWith_88 : eb_dc cX2_edgeWith 88 (.sipush 500) 3 91 := by decide +kernel
theorem dX2_edgeWith_91 : eb_dc cX2_edgeWith 91 (.iload 4) 2 93 := by decide +kernel
theorem dX2_edgeWith_93 : eb_dc cX2_edgeWith 93 (.imul) 1 94 := by decide +kernel
theorem dX2_edgeWith_94 : eb_dc cX2_edgeWith 94 (.iload_n 3) 1 95 := by decide +kernel
theorem dX2_edgeWith_95 : eb_dc cX2_edgeWith 95 (.iadd) 1 96 := by decide +kernel
theorem dX2_edgeWith_96 : eb_dc cX2_edgeWith 96 (.iaload) 1 97 := by decide +kernel
theorem dX2_edgeWith_97 : eb_dj cX2_edgeWith 97 (.ifCond .lt 12) 12 100 109 := by decide +kernel
theorem dX2_edgeWith_100 : eb_dc cX2_edgeWith 100 (.iload 5) 2 102 := by decide +kernel
theorem dX2_edgeWith_102 : eb_dc cX2_edgeWith 102 (.iload_n 2) 1 103 := by decide +kernel
theorem dX2_edgeWith_103 : eb_dj cX2_edgeWith 103 (.if_icmp .eq 6) 6 106 109 := by decide +kernel
theorem dX2_edgeWith_106 : eb_dc cX2_edgeWith 106 (.iload 5) 2 108 := by decide +kernel
theorem dX2_edgeWith_108 : eb_dc cX2_edgeWith 108 (.ireturn) 1 109 := by decide +kernel
theorem dX2_edgeWith_109 : eb_dc cX2_edgeWith 109 (.iinc 4 1) 3 112 := by decide +kernel
theorem dX2_edgeWith_112 : eb_dj cX2_edgeWith 112 (.goto (-66)) (-66) 115 46 := by decide +kernel
theorem dX2_edgeWith_115 : eb_dc cX2_edgeWith 115 (.iinc 3 1) 3 118 := by decide +kernel
theorem dX2_edgeWith_118 : eb_dj cX2_edgeWith 118 (.goto (-116)) (-116) 121 2 := by decide +kernel
theorem dX2_edgeWith_121 : eb_dc cX2_edgeWith 121 (.iconst (-1)) 1 122 := by decide +kernel
theorem dX2_edgeWith_122 : eb_dc cX2_edgeWith 122 (.ireturn) 1 123 := by decide +kernel
theorem ctX2_edgeWith {l : Launch} {Γ : eb_C} {ad : Nat → Nat} {ix : Nat → Option Nat} {σ : eb_MS} {a1 : Int32} {a2 : Int32} {K : Int32 → Prop} (hi : ms_inv ad ix) (h : MX2_edgeWith σ a1 a2 K) : eb_Ct l Γ yX2_edgeWith cX2_edgeWith 6 (some .int) rmX2_edgeWith [.ref (ad 0), .int a1, .int a2] (ms_st Γ ad ix σ) (eb_pI (ms_st Γ ad ix σ) K) := by
  refine eb_of (by decide) (Nat.le_of_ble_eq_true rfl) (fun X P hP _ => ?_)
  show eb_G l Γ P X cX2_edgeWith RX2 6 (some .int) rmX2_edgeWith 0 [(0, .ref (ad 0)), (1, .int a1), (2, .int a2)] [] (ms_st Γ ad ix σ) 0 0
  refine eg_iconst dX2_edgeWith_0 kc_0 ?_
  refine eg_istore_n (lv' := [(3, .int 0), (0, .ref (ad 0)), (1, .int a1), (2, .int a2)]) dX2_edgeWith_1 rfl (Nat.le_of_ble_eq_true rfl) rfl ?_
  refine eg_sub [1, 2, 3, 0] rfl ?_
  refine eb_loop1_e (J := fun (x3_1 : Int32) => eb_G l Γ P X cX2_edgeWith RX2 6 (some .int) rmX2_edgeWith 2 [(0, .ref (ad 0)), (1, .int a1), (2, .int a2), (3, .int x3_1)] [] (ms_st Γ ad ix σ) 0 0) h ?_
  intro r2 hr2 x3_1 h
  refine eg_iload_n 3 dX2_edgeWith_2 rfl rfl ?_
  refine eg_aload_n 0 dX2_edgeWith_3 rfl rfl ?_
  refine em_gets 8 rfl q1150 dX2_edgeWith_4 hi ?_
  refine eg_icmp_ge dX2_edgeWith_7 (fun c17 => ?_) (fun c17 => ?_)
  · replace h := h.1 c17
    refine eg_iconst dX2_edgeWith_121 kc_m1 ?_
    exact eg_iret dX2_edgeWith_122 (Nat.zero_le _) (Nat.zero_le _) (hP _ _ ⟨_, rfl, rfl, h⟩)
  · replace h := h.2 c17
    refine eg_aload_n 0 dX2_edgeWith_10 rfl rfl ?_
    refine em_geta 15 rfl q1157 dX2_edgeWith_11 hi ?_
    refine eg_iload_n 3 dX2_edgeWith_14 rfl rfl ?_
    obtain ⟨hb, h⟩ := h
    refine em_iald 15 rfl hb dX2_edgeWith_15 hi (fun v3 ev3 => ?_)
    replace h := h v3 ev3
    refine eb_jp0_e (J := eb_G l Γ P X cX2_edgeWith RX2 6 (some .int) rmX2_edgeWith 115 [(0, .ref (ad 0)), (1, .int a1), (2, .int a2), (3, .int x3_1)] [] (ms_st Γ ad ix σ) 0 0) h ?_ ?_
    · intro  h
      refine eg_iinc (j := 3) (lv' := [(3, .int (x3_1 + 1)), (0, .ref (ad 0)), (1, .int a1), (2, .int a2)]) dX2_edgeWith_115 rfl (by rw [kc_1]) (Nat.le_of_ble_eq_true rfl) rfl ?_
      refine eg_goto dX2_edgeWith_118 ?_
      exact eg_sub [1, 2, 3, 0] rfl (hr2 (x3_1 + 1) h)
    · intro k4 hk4 h
      refine eg_if_ne dX2_edgeWith_16 (fun c16 => ?_) (fun c16 => ?_)
      · replace h := h.2 c16
        exact hk4 h
      · replace h := h.1 c16
        refine eg_aload_n 0 dX2_edgeWith_19 rfl rfl ?_
        refine em_geta 28 rfl q1170 dX2_edgeWith_20 hi ?_
        refine eg_iload_n 1 dX2_edgeWith_23 rfl rfl ?_
        refine eg_sipush dX2_edgeWith_24 ks_500 ?_
        refine eg_idiv dX2_edgeWith_27 (by decide) ?_
        refine eg_sipush dX2_edgeWith_28 ks_500 ?_
        refine eg_imul dX2_edgeWith_31 ?_
        refine eg_iload_n 3 dX2_edgeWith_32 rfl rfl ?_
        refine eg_iadd dX2_edgeWith_33 ?_
        obtain ⟨hb, h⟩ := h
        refine em_iald 28 rfl hb dX2_edgeWith_34 hi (fun v5 ev5 => ?_)
        replace h := h v5 ev5
        refine eg_iload_n 1 dX2_edgeWith_35 rfl rfl ?_
        refine eg_sipush dX2_edgeWith_36 ks_500 ?_
        refine eg_irem dX2_edgeWith_39 (by decide) ?_
        refine eg_icmp_ne dX2_edgeWith_40 (fun c15 => ?_) (fun c15 => ?_)
        · replace h := h.2 c15
          exact hk4 h
        · replace h := h.1 c15
          refine eg_iconst dX2_edgeWith_43 kc_0 ?_
          refine eg_istore (lv' := [(4, .int 0), (0, .ref (ad 0)), (1, .int a1), (2, .int a2), (3, .int x3_1)]) dX2_edgeWith_44 (Nat.le_of_ble_eq_true rfl) rfl ?_
          refine eg_sub [1, 2, 3, 4, 0] rfl ?_
          refine eb_loop1_e (J := fun (x4_6 : Int32) => eb_G l Γ P X cX2_edgeWith RX2 6 (some .int) rmX2_edgeWith 46 [(0, .ref (ad 0)), (1, .int a1), (2, .int a2), (3, .int x3_1), (4, .int x4_6)] [] (ms_st Γ ad ix σ) 0 0) h ?_
          intro r7 hr7 x4_6 h
          refine eg_iload 4 dX2_edgeWith_46 rfl ?_
          refine eg_iconst dX2_edgeWith_48 kc_3 ?_
          refine eg_icmp_ge dX2_edgeWith_49 (fun c14 => ?_) (fun c14 => ?_)
          · replace h := h.1 c14
            exact eg_sub [0, 1, 2, 3] rfl (hk4 h)
          · replace h := h.2 c14
            refine eg_sipush dX2_edgeWith_52 ks_500 ?_
            refine eg_iload 4 dX2_edgeWith_55 rfl ?_
            refine eg_imul dX2_edgeWith_57 ?_
            refine eg_aload_n 0 dX2_edgeWith_58 rfl rfl ?_
            refine em_geta 27 rfl q1169 dX2_edgeWith_59 hi ?_
            refine eg_sipush dX2_edgeWith_62 ks_500 ?_
            refine eg_iload 4 dX2_edgeWith_65 rfl ?_
            refine eg_imul dX2_edgeWith_67 ?_
            refine eg_iload_n 3 dX2_edgeWith_68 rfl rfl ?_
            refine eg_iadd dX2_edgeWith_69 ?_
            obtain ⟨hb, h⟩ := h
            refine em_iald 27 rfl hb dX2_edgeWith_70 hi (fun v8 ev8 => ?_)
            replace h := h v8 ev8
            refine eg_iadd dX2_edgeWith_71 ?_
            refine eg_istore (lv' := [(5, .int ((500 * x4_6) + v8)), (0, .ref (ad 0)), (1, .int a1), (2, .int a2), (3, .int x3_1), (4, .int x4_6)]) dX2_edgeWith_72 (Nat.le_of_ble_eq_true rfl) rfl ?_
            refine eg_iload 5 dX2_edgeWith_74 rfl ?_
            refine eg_iload_n 2 dX2_edgeWith_76 rfl rfl ?_
            refine eg_sipush dX2_edgeWith_77 ks_500 ?_
            refine eg_idiv dX2_edgeWith_80 (by decide) ?_
            refine eb_jp0_e (J := eb_G l Γ P X cX2_edgeWith RX2 6 (some .int) rmX2_edgeWith 109 [(0, .ref (ad 0)), (1, .int a1), (2, .int a2), (3, .int x3_1), (4, .int x4_6)] [] (ms_st Γ ad ix σ) 0 0) h ?_ ?_
            · intro  h
              refine eg_iinc (j := 4) (lv' := [(4, .int (x4_6 + 1)), (0, .ref (ad 0)), (1, .int a1), (2, .int a2), (3, .int x3_1)]) dX2_edgeWith_109 rfl (by rw [kc_1]) (Nat.le_of_ble_eq_true rfl) rfl ?_
              refine eg_goto dX2_edgeWith_112 ?_
              exact eg_sub [1, 2, 3, 4, 0] rfl (hr7 (x4_6 + 1) h)
            · intro k9 hk9 h
              refine eg_icmp_eq dX2_edgeWith_81 (fun c13 => ?_) (fun c13 => ?_)
              · replace h := h.1 c13
                exact eg_sub [1, 2, 3, 4, 5] rfl (hk9 h)
              · replace h := h.2 c13
                refine eg_aload_n 1 dX2_edgeWith_84 rfl rfl ?_
                refine em_geta 27 rfl q1169 dX2_edgeWith_85 hi ?_
                refine eg_sipush dX2_edgeWith_88 ks_500 ?_
                refine eg_iload 5 dX2_edgeWith_91 rfl ?_
                refine eg_imul dX2_edgeWith_93 ?_
                refine eg_iload_n 4 dX2_edgeWith_94 rfl rfl ?_
                refine eg_iadd dX2_edgeWith_95 ?_
                obtain ⟨hb, h⟩ := h
                refine em_iald 27 rfl hb dX2_edgeWith_96 hi (fun v10 ev10 => ?_)
                replace h := h v10 ev10
                refine eg_if_lt dX2_edgeWith_97 (fun c12 => ?_) (fun c12 => ?_)
                · replace h := h.1 c12
                  exact eg_sub [1, 2, 3, 4, 5] rfl (hk9 h)
                · replace h := h.2 c12
                  refine eg_iload 0 dX2_edgeWith_100 rfl ?_
                  refine eg_iload_n 3 dX2_edgeWith_102 rfl rfl ?_
                  refine eg_icmp_eq dX2_edgeWith_103 (fun c11 => ?_) (fun c11 => ?_)
                  · replace h := h.1 c11
                    exact eg_sub [1, 2, 3, 4, 5] rfl (hk9 h)
                  · replace h := h.2 c11
                    refine eg_iload 0 dX2_edgeWith_106 rfl ?_
                    exact eg_iret dX2_edgeWith_108 (Nat.zero_le _) (Nat.zero_le _) (hP _ _ ⟨_, rfl, rfl, h⟩)
def MX2_faceSize (σ : eb_MS) (a1 : Int32) (K : Int32 → eb_MS → Prop) : Prop :=
  MX2_clears σ  (fun g2 => eb_loop3 (fun r6 (x2_3 : Int32) (x3_4 : Int32) (g5 : eb_MS) => eb_br ((g5.1 8) ≤ x3_4) (K x2_3 g5) (eb_rd (g5.2.1 28) 1500 ((((a1 / 500) * 500) + x3_4)) (fun v7 => eb_jp2 (fun (x2_8 : Int32) (g9 : eb_MS) => r6 x2_8 (x3_4 + 1) g9) (fun k10 => eb_br (v7 = (eb_rem a1 500)) (eb_rd (g5.2.1 15) 500 x3_4 (fun v11 => eb_rd (g5.2.1 23) 500 v11 (fun v12 => eb_br (v12 = 0) (eb_rd (g5.2.1 15) 500 x3_4 (fun v13 => ms_wr g5 23 500 v13 (vp_nar .boolean 1) (fun g14 => k10 (x2_3 + 1) g14))) (k10 x2_3 g5)))) (k10 x2_3 g5))))) 0 0 g2)
abbrev rmX2_faceSize : Room := { frames := 2, cells := 0, slots := 0, locals := 33 }
theorem nX2_faceSize : eb_ar yX2_faceSize 1 := by decide +kernel
theorem dX2_faceSize_0 : eb_dc cX2_faceSize 0 (.aload_n 0) 1 1 := by decide +kernel
theorem dX2_faceSize_1 : eb_dc cX2_faceSize 1 (.invokevirtual 182) 3 4 := by decide +kernel
theorem dX2_faceSize_4 : eb_dc cX2_faceSize 4 (.iconst 0) 1 5 := by decide +kernel
theorem dX2_faceSize_5 : eb_dc cX2_faceSize 5 (.istore_n 2) 1 6 := by decide +kernel
theorem dX2_faceSize_6 : eb_dc cX2_faceSize 6 (.iconst 0) 1 7 := by decide +kernel
theorem dX2_faceSize_7 : eb_dc cX2_faceSize 7 (.istore_n 3) 1 8 := by decide +kernel
theorem dX2_faceSize_8 : eb_dc cX2_faceSize 8 (.iload_n 3) 1 9 := by decide +kernel
theorem dX2_faceSize_9 : eb_dc cX2_faceSize 9 (.aload_n 0) 1 10 := by decide +kernel
theorem dX2_faceSize_10 : eb_dc cX2_faceSize 10 (.getfield 135) 3 13 := by decide +kernel
theorem dX2_faceSize_13 : eb_dj cX2_faceSize 13 (.if_icmp .ge 62) 62 16 75 := by decide +kernel
theorem dX2_faceSize_16 : eb_dc cX2_faceSize 16 (.aload_n 0) 1 17 := by decide +kernel
theorem dX2_faceSize_17 : eb_dc cX2_faceSize 17 (.getfield 80) 3 20 := by decide +kernel
theorem dX2_faceSize_20 : eb_dc cX2_faceSize 20 (.iload_n 1) 1 21 := by decide +kernel
theorem dX2_faceSize_21 : eb_dc cX2_faceSize 21 (.sipush 500) 3 24 := by decide +kernel
theorem dX2_faceSize_24 : eb_dc cX2_faceSize 24 (.idiv) 1 25 := by decide +kernel
theorem dX2_faceSize_25 : eb_dc cX2_faceSize 25 (.sipush 500) 3 28 := by decide +kernel
theorem dX2_faceSize_28 : eb_dc cX2_faceSize 28 (.imul) 1 29 := by decide +kernel
theorem dX2_faceSize_29 : eb_dc cX2_faceSize 29 (.iload_n 3) 1 30 := by decide +kernel
theorem dX2_faceSize_30 : eb_dc cX2_faceSize 30 (.iadd) 1 31 := by decide +kernel
theorem dX2_faceSize_31 : eb_dc cX2_faceSize 31 (.iaload) 1 32 := by decide +kernel
theorem dX2_faceSize_32 : eb_dc cX2_faceSize 32 (.iload_n 1) 1 33 := by decide +kernel
theorem dX2_faceSize_33 : eb_dc cX2_faceSize 33 (.sipush 500) 3 36 := by decide +kernel
theorem dX2_faceSize_36 : eb_dc cX2_faceSize 36 (.irem) 1 37 := by decide +kernel
theorem dX2_faceSize_37 : eb_dj cX2_faceSize 37 (.if_icmp .ne 32) 32 40 69 := by decide +kernel
theorem dX2_faceSize_40 : eb_dc cX2_faceSize 40 (.aload_n 0) 1 41 := by decide +kernel
theorem dX2_faceSize_41 : eb_dc cX2_faceSize 41 (.getfield 62) 3 44 := by decide +kernel
theorem dX2_faceSize_44 : eb_dc cX2_faceSize 44 (.aload_n 0) 1 45 := by decide +kernel
theorem dX2_faceSize_45 : eb_dc cX2_faceSize 45 (.getfield 44) 3 48 := by decide +kernel
theorem dX2_faceSize_48 : eb_dc cX2_faceSize 48 (.iload_n 3) 1 49 := by decide +kernel
theorem dX2_faceSize_49 : eb_dc cX2_faceSize 49 (.iaload) 1 50 := by decide +kernel
theorem dX2_faceSize_50 : eb_dc cX2_faceSize 50 (.baload) 1 51 := by decide +kernel
theorem dX2_faceSize_51 : eb_dj cX2_faceSize 51 (.ifCond .ne 18) 18 54 69 := by decide +kernel
theorem dX2_faceSize_54 : eb_dc cX2_faceSize 54 (.aload_n 0) 1 55 := by decide +kernel
theorem dX2_faceSize_55 : eb_dc cX2_faceSize 55 (.getfield 62) 3 58 := by decide +kernel
theorem dX2_faceSize_58 : eb_dc cX2_faceSize 58 (.aload_n 0) 1 59 := by decide +kernel
theorem dX2_faceSize_59 : eb_dc cX2_faceSize 59 (.getfield 44) 3 62 := by decide +kernel
theorem dX2_faceSize_62 : eb_dc cX2_faceSize 62 (.iload_n 3) 1 63 := by decide +kernel
theorem dX2_faceSize_63 : eb_dc cX2_faceSize 63 (.iaload) 1 64 := by decide +kernel
theorem dX2_faceSize_64 : eb_dc cX2_faceSize 64 (.iconst 1) 1 65 := by decide +kernel
theorem dX2_faceSize_65 : eb_dc cX2_faceSize 65 (.bastore) 1 66 := by decide +kernel
theorem dX2_faceSize_66 : eb_dc cX2_faceSize 66 (.iinc 2 1) 3 69 := by decide +kernel
theorem dX2_faceSize_69 : eb_dc cX2_faceSize 69 (.iinc 3 1) 3 72 := by decide +kernel
theorem dX2_faceSize_72 : eb_dj cX2_faceSize 72 (.goto (-64)) (-64) 75 8 := by decide +kernel
theorem dX2_faceSize_75 : eb_dc cX2_faceSize 75 (.iload_n 2) 1 76 := by decide +kernel
theorem dX2_faceSize_76 : eb_dc cX2_faceSize 76 (.ireturn) 1 77 := by decide +kernel
theorem ctX2_faceSize {l : Launch} {Γ : eb_C} {ad : Nat → Nat} {ix : Nat → Option Nat} {σ : eb_MS} {a1 : Int32} {K : Int32 → eb_MS → Prop} (hi : ms_inv ad ix) (h : MX2_faceSize σ a1 K) : eb_Ct l Γ yX2_faceSize cX2_faceSize 4 (some .int) rmX2_faceSize [.ref (ad 0), .int a1] (ms_st Γ ad ix σ) (em_I Γ ad ix K) := by
  refine eb_of (by decide) (Nat.le_of_ble_eq_true rfl) (fun X P hP _ => ?_)
  show eb_G l Γ P X cX2_faceSize RX2 4 (some .int) rmX2_faceSize 0 [(0, .ref (ad 0)), (1, .int a1)] [] (ms_st Γ ad ix σ) 0 0
  refine eg_aload_n 0 dX2_faceSize_0 rfl rfl ?_
  refine em_cvv (rest := []) (ctX2_clears hi h) hi (lw_V q1369 q1371 qs51 q77 q1372) rfl nX2_clears ⟨Nat.le_of_ble_eq_true rfl, Nat.le_of_ble_eq_true rfl⟩ ⟨rfl, rfl⟩ ⟨Nat.zero_le _, Nat.zero_le _⟩ rfl rfl (Nat.le_of_ble_eq_true rfl) dX2_faceSize_1 (fun g2 h => ?_)
  refine eg_iconst dX2_faceSize_4 kc_0 ?_
  refine eg_istore_n (lv' := [(2, .int 0), (0, .ref (ad 0)), (1, .int a1)]) dX2_faceSize_5 rfl (Nat.le_of_ble_eq_true rfl) rfl ?_
  refine eg_iconst dX2_faceSize_6 kc_0 ?_
  refine eg_istore_n (lv' := [(3, .int 0), (2, .int 0), (0, .ref (ad 0)), (1, .int a1)]) dX2_faceSize_7 rfl (Nat.le_of_ble_eq_true rfl) rfl ?_
  refine eg_sub [2, 3, 1, 0] rfl ?_
  refine eb_loop3_e (J := fun (x2_3 : Int32) (x3_4 : Int32) (g5 : eb_MS) => eb_G l Γ P X cX2_faceSize RX2 4 (some .int) rmX2_faceSize 8 [(0, .ref (ad 0)), (1, .int a1), (2, .int x2_3), (3, .int x3_4)] [] (ms_st Γ ad ix g5) 0 0) h ?_
  intro r6 hr6 x2_3 x3_4 g5 h
  refine eg_iload_n 3 dX2_faceSize_8 rfl rfl ?_
  refine eg_aload_n 0 dX2_faceSize_9 rfl rfl ?_
  refine em_gets 8 rfl q1150 dX2_faceSize_10 hi ?_
  refine eg_icmp_ge dX2_faceSize_13 (fun c17 => ?_) (fun c17 => ?_)
  · replace h := h.1 c17
    refine eg_iload_n 2 dX2_faceSize_75 rfl rfl ?_
    exact eg_iret dX2_faceSize_76 (Nat.zero_le _) (Nat.zero_le _) (hP _ _ ⟨_, _, rfl, rfl, h⟩)
  · replace h := h.2 c17
    refine eg_aload_n 0 dX2_faceSize_16 rfl rfl ?_
    refine em_geta 28 rfl q1170 dX2_faceSize_17 hi ?_
    refine eg_iload_n 1 dX2_faceSize_20 rfl rfl ?_
    refine eg_sipush dX2_faceSize_21 ks_500 ?_
    refine eg_idiv dX2_faceSize_24 (by decide) ?_
    refine eg_sipush dX2_faceSize_25 ks_500 ?_
    refine eg_imul dX2_faceSize_28 ?_
    refine eg_iload_n 3 dX2_faceSize_29 rfl rfl ?_
    refine eg_iadd dX2_faceSize_30 ?_
    obtain ⟨hb, h⟩ := h
    refine em_iald 28 rfl hb dX2_faceSize_31 hi (fun v7 ev7 => ?_)
    replace h := h v7 ev7
    refine eg_iload_n 1 dX2_faceSize_32 rfl rfl ?_
    refine eg_sipush dX2_faceSize_33 ks_500 ?_
    refine eg_irem dX2_faceSize_36 (by decide) ?_
    refine eb_jp2_e (J := fun (x2_8 : Int32) (g9 : eb_MS) => eb_G l Γ P X cX2_faceSize RX2 4 (some .int) rmX2_faceSize 69 [(0, .ref (ad 0)), (1, .int a1), (2, .int x2_8), (3, .int x3_4)] [] (ms_st Γ ad ix g9) 0 0) h ?_ ?_
    · intro x2_8 g9 h
      refine eg_iinc (j := 3) (lv' := [(3, .int (x3_4 + 1)), (0, .ref (ad 0)), (1, .int a1), (2, .int x2_8)]) dX2_faceSize_69 rfl (by rw [kc_1]) (Nat.le_of_ble_eq_true rfl) rfl ?_
      refine eg_goto dX2_faceSize_72 ?_
      exact eg_sub [1, 2, 3, 0] rfl (hr6 x2_8 (x3_4 + 1) g9 h)
    · intro k10 hk10 h
      refine eg_icmp_ne dX2_faceSize_37 (fun c16 => ?_) (fun c16 => ?_)
      · replace h := h.2 c16
        exact hk10 x2_3 g5 h
      · replace h := h.1 c16
        refine eg_aload_n 0 dX2_faceSize_40 rfl rfl ?_
        refine em_geta 23 rfl q1165 dX2_faceSize_41 hi ?_
        refine eg_aload_n 0 dX2_faceSize_44 rfl rfl ?_
        refine em_geta 15 rfl q1157 dX2_faceSize_45 hi ?_
        refine eg_iload_n 3 dX2_faceSize_48 rfl rfl ?_
        obtain ⟨hb, h⟩ := h
        refine em_iald 15 rfl hb dX2_faceSize_49 hi (fun v11 ev11 => ?_)
        replace h := h v11 ev11
        obtain ⟨hb, h⟩ := h
        refine em_zald 23 rfl hb dX2_faceSize_50 hi (fun v12 ev12 => ?_)
        replace h := h v12 ev12
        refine eg_if_ne dX2_faceSize_51 (fun c15 => ?_) (fun c15 => ?_)
        · replace h := h.2 c15
          exact hk10 x2_3 g5 h
        · replace h := h.1 c15
          refine eg_aload_n 0 dX2_faceSize_54 rfl rfl ?_
          refine em_geta 23 rfl q1165 dX2_faceSize_55 hi ?_
          refine eg_aload_n 0 dX2_faceSize_58 rfl rfl ?_
          refine em_geta 15 rfl q1157 dX2_faceSize_59 hi ?_
          refine eg_iload_n 3 dX2_faceSize_62 rfl rfl ?_
          obtain ⟨hb, h⟩ := h
          refine em_iald 15 rfl hb dX2_faceSize_63 hi (fun v13 ev13 => ?_)
          replace h := h v13 ev13
          refine eg_iconst dX2_faceSize_64 kc_1 ?_
          obtain ⟨hb, h⟩ := h
          refine em_zast 23 rfl hb dX2_faceSize_65 hi (fun g14 eg14 => ?_)
          replace h := h g14 eg14
          refine eg_iinc (j := 2) (lv' := [(2, .int (x2_3 + 1)), (0, .ref (ad 0)), (1, .int a1), (3, .int x3_4)]) dX2_faceSize_66 rfl (by rw [kc_1]) (Nat.le_of_ble_eq_true rfl) rfl ?_
          exact eg_sub [1, 2, 0, 3] rfl (hk10 (x2_3 + 1) g14 h)
def MX2_faceWith (σ : eb_MS) (a1 : Int32) (a2 : Int32) (K : Int32 → Prop) : Prop :=
  eb_loop1 (fun r2 (x3_1 : Int32) => eb_br ((σ.1 8) ≤ x3_1) (K (-1)) (eb_rd (σ.2.1 15) 500 x3_1 (fun v3 => eb_jp0 (r2 (x3_1 + 1)) (fun k4 => eb_br (v3 = 0) (eb_rd (σ.2.1 27) 1500 ((((a1 / 500) * 500) + x3_1)) (fun v5 => eb_br (v5 = (eb_rem a1 500)) (eb_loop1 (fun r7 (x4_6 : Int32) => eb_br (3 ≤ x4_6) (k4) (eb_rd (σ.2.1 28) 1500 (((500 * x4_6) + x3_1)) (fun v8 => eb_jp0 (r7 (x4_6 + 1)) (fun k9 => eb_br (x4_6 = (a1 / 500)) (k9) (eb_rd (σ.2.1 28) 1500 (((500 * x4_6) + x3_1)) (fun v10 => eb_br (v10 < 0) (k9) (eb_br (((500 * x4_6) + v8) = a2) (k9) (K (((500 * x4_6) + v8)))))))))) 0) (k4))) (k4))))) 0
abbrev rmX2_faceWith : Room := { frames := 1, cells := 0, slots := 0, locals := 12 }
theorem nX2_faceWith : eb_ar yX2_faceWith 2 := by decide +kernel
theorem dX2_faceWith_0 : eb_dc cX2_faceWith 0 (.iconst 0) 1 1 := by decide +kernel
theorem dX2_faceWith_1 : eb_dc cX2_faceWith 1 (.istore_n 3) 1 2 := by decide +kernel
theorem dX2_faceWith_2 : eb_dc cX2_faceWith 2 (.iload_n 3) 1 3 := by decide +kernel
theorem dX2_faceWith_3 : eb_dc cX2_faceWith 3 (.aload_n 0) 1 4 := by decide +kernel
theorem dX2_faceWith_4 : eb_dc cX2_faceWith 4 (.getfield 135) 3 7 := by decide +kernel
theorem dX2_faceWith_7 : eb_dj cX2_faceWith 7 (.if_icmp .ge 114) 114 10 121 := by decide +kernel
theorem dX2_faceWith_10 : eb_dc cX2_faceWith 10 (.aload_n 0) 1 11 := by decide +kernel
theorem dX2_faceWith_11 : eb_dc cX2_faceWith 11 (.getfield 44) 3 14 := by decide +kernel
theorem dX2_faceWith_14 : eb_dc cX2_faceWith 14 (.iload_n 3) 1 15 := by decide +kernel
theorem dX2_faceWith_15 : eb_dc cX2_faceWith 15 (.iaload) 1 16 := by decide +kernel
theorem dX2_faceWith_16 : eb_dj cX2_faceWith 16 (.ifCond .ne 99) 99 19 115 := by decide +kernel
theorem dX2_faceWith_19 : eb_dc cX2_faceWith 19 (.aload_n 0) 1 20 := by decide +kernel
theorem dX2_faceWith_20 : eb_dc cX2_faceWith 20 (.getfield 77) 3 23 := by decide +kernel
theorem dX2_faceWith_23 : eb_dc cX2_faceWith 23 (.iload_n 1) 1 24 := by decide +kernel
theorem dX2_faceWith_24 : eb_dc cX2_faceWith 24 (.sipush 500) 3 27 := by decide +kernel
theorem dX2_faceWith_27 : eb_dc cX2_faceWith 27 (.idiv) 1 28 := by decide +kernel
theorem dX2_faceWith_28 : eb_dc cX2_faceWith 28 (.sipush 500) 3 31 := by decide +kernel
theorem dX2_faceWith_31 : eb_dc cX2_faceWith 31 (.imul) 1 32 := by decide +kernel
theorem dX2_faceWith_32 : eb_dc cX2_faceWith 32 (.iload_n 3) 1 33 := by decide +kernel
theorem dX2_faceWith_33 : eb_dc cX2_faceWith 33 (.iadd) 1 34 := by decide +kernel
theorem dX2_faceWith_34 : eb_dc cX2_faceWith 34 (.iaload) 1 35 := by decide +kernel
theorem dX2_faceWith_35 : eb_dc cX2_faceWith 35 (.iload_n 1) 1 36 := by decide +kernel
theorem dX2_faceWith_36 : eb_dc cX2_faceWith 36 (.sipush 500) 3 39 := by decide +kernel
theorem dX2_faceWith_39 : eb_dc cX2_faceWith 39 (.irem) 1 40 := by decide +kernel
theorem dX2_faceWith_40 : eb_dj cX2_faceWith 40 (.if_icmp .ne 75) 75 43 115 := by decide +kernel
theorem dX2_faceWith_43 : eb_dc cX2_faceWith 43 (.iconst 0) 1 44 := by decide +kernel
theorem dX2_faceWith_44 : eb_dc cX2_faceWith 44 (.istore 4) 2 46 := by decide +kernel
theorem dX2_faceWith_46 : eb_dc cX2_faceWith 46 (.iload 4) 2 48 := by decide +kernel
theorem dX2_faceWith_48 : eb_dc cX2_faceWith 48 (.iconst 3) 1 49 := by decide +kernel
theorem dX2_faceWith_49 : eb_dj cX2_faceWith 49 (.if_icmp .ge 66) 66 52 115 := by decide +kernel
theorem dX2_faceWith_52 : eb_dc cX2_faceWith 52 (.sipush 500) 3 55 := by decide +kernel
theorem dX2_faceWith_55 : eb_dc cX2_faceWith 55 (.iload 4) 2 57 := by decide +kernel
theorem dX2_faceWith_57 : eb_dc cX2_faceWith 57 (.imul) 1 58 := by decide +kernel
theorem dX2_faceWith_58 : eb_dc cX2_faceWith 58 (.aload_n 0) 1 59 := by decide +kernel
theorem dX2_faceWith_59 : eb_dc cX2_faceWith 59 (.getfield 80) 3 62 := by decide +kernel
theorem dX2_faceWith_62 : eb_dc cX2_faceWith 62 (.sipush 500) 3 65 := by decide +kernel
theorem dX2_faceWith_65 : eb_dc cX2_faceWith 65 (.iload 4) 2 67 := by decide +kernel
theorem dX2_faceWith_67 : eb_dc cX2_faceWith 67 (.imul) 1 68 := by decide +kernel
theorem dX2_faceWith_68 : eb_dc cX2_faceWith 68 (.iload_n 3) 1 69 := by decide +kernel
theorem dX2_faceWith_69 : eb_dc cX2_faceWith 69 (.iadd) 1 70 := by decide +kernel
theorem dX2_faceWith_70 : eb_dc cX2_faceWith 70 (.iaload) 1 71 := by decide +kernel
theorem dX2_faceWith_71 : eb_dc cX2_faceWith 71 (.iadd) 1 72 := by decide +kernel
theorem dX2_faceWith_72 : eb_dc cX2_faceWith 72 (.istore 5) 2 74 := by decide +kernel
theorem dX2_faceWith_74 : eb_dc cX2_faceWith 74 (.iload 4) 2 76 := by decide +kernel
theorem dX2_faceWith_76 : eb_dc cX2_faceWith 76 (.iload_n 1) 1 77 := by decide +kernel
theorem dX2_faceWith_77 : eb_dc cX2_faceWith 77 (.sipush 500) 3 80 := by decide +kernel
theorem dX2_faceWith_80 : eb_dc cX2_faceWith 80 (.idiv) 1 81 := by decide +kernel
theorem dX2_faceWith_81 : eb_dj cX2_faceWith 81 (.if_icmp .eq 28) 28 84 109 := by decide +kernel
theorem dX2_faceWith_84 : eb_dc cX2_faceWith 84 (.aload_n 0) 1 85 := by decide +kernel
theorem dX2_faceWith_85 : eb_dc cX2_faceWith 85 (.getfield 80) 3 88 := by decide +kernel
theorem dX2_faceWith_88 : eb_dc cX2_faceWith 88 (.sipush 500) 3 91 := by decide +kernel
theorem dX2_faceWith_91 : eb_dc cX2_faceWith 91 (.iload 4) 2 93 := by decide +kernel
theorem dX2_faceWith_93 : eb_dc cX2_faceWith 93 (.imul) 1 94 := by decide +kernel
theorem dX2_faceWith_94 : eb_dc cX2_faceWith 94 (.iload_n 3) 1 95 := by decide +kernel
theorem dX2_faceWith_95 : eb_dc cX2_faceWith 95 (.iadd) 1 96 := by decide +kernel
theorem dX2_faceWith_96 : eb_dc cX2_faceWith 96 (.iaload) 1 97 := by decide +kernel
theorem dX2_faceWith_97 : eb_dj cX2_faceWith 97 (.ifCond .lt 12) 12 100 109 := by decide +kernel
theorem dX2_faceWith_100 : eb_dc cX2_faceWith 100 (.iload 5) 2 102 := by decide +kernel
theorem dX2_faceWith_102 : eb_dc cX2_faceWith 102 (.iload_n 2) 1 103 := by decide +kernel
theorem dX2_faceWith_103 : eb_dj cX2_faceWith 103 (.if_icmp .eq 6) 6 106 109 := by decide +kernel
theorem dX2_faceWith_106 : eb_dc cX2_faceWith 106 (.iload 5) 2 108 := by decide +kernel
theorem dX2_faceWith_108 : eb_dc cX2_faceWith 108 (.ireturn) 1 109 := by decide +kernel
theorem dX2_faceWith_109 : eb_dc cX2_faceWith 109 (.iinc 4 1) 3 112 := by decide +kernel
theorem dX2_faceWith_112 : eb_dj cX2_faceWith 112 (.goto (-66)) (-66) 115 46 := by decide +kernel
theorem dX2_faceWith_115 : eb_dc cX2_faceWith 115 (.iinc 3 1) 3 118 := by decide +kernel
theorem dX2_faceWith_118 : eb_dj cX2_faceWith 118 (.goto (-116)) (-116) 121 2 := by decide +kernel
theorem dX2_faceWith_121 : eb_dc cX2_faceWith 121 (.iconst (-1)) 1 122 := by decide +kernel
theorem dX2_faceWith_122 : eb_dc cX2_faceWith 122 (.ireturn) 1 123 := by decide +kernel
theorem ctX2_faceWith {l : Launch} {Γ : eb_C} {ad : Nat → Nat} {ix : Nat → Option Nat} {σ : eb_MS} {a1 : Int32} {a2 : Int32} {K : Int32 → Prop} (hi : ms_inv ad ix) (h : MX2_faceWith σ a1 a2 K) : eb_Ct l Γ yX2_faceWith cX2_faceWith 6 (some .int) rmX2_faceWith [.ref (ad 0), .int a1, .int a2] (ms_st Γ ad ix σ) (eb_pI (ms_st Γ ad ix σ) K) := by
  refine eb_of (by decide) (Nat.le_of_ble_eq_true rfl) (fun X P hP _ => ?_)
  show eb_G l Γ P X cX2_faceWith RX2 6 (some .int) rmX2_faceWith 0 [(0, .ref (ad 0)), (1, .int a1), (2, .int a2)] [] (ms_st Γ ad ix σ) 0 0
  refine eg_iconst dX2_faceWith_0 kc_0 ?_
  refine eg_istore_n (lv' := [(3, .int 0), (0, .ref (ad 0)), (1, .int a1), (2, .int a2)]) dX2_faceWith_1 rfl (Nat.le_of_ble_eq_true rfl) rfl ?_
  refine eg_sub [1, 2, 3, 0] rfl ?_
  refine eb_loop1_e (J := fun (x3_1 : Int32) => eb_G l Γ P X cX2_faceWith RX2 6 (some .int) rmX2_faceWith 2 [(0, .ref (ad 0)), (1, .int a1), (2, .int a2), (3, .int x3_1)] [] (ms_st Γ ad ix σ) 0 0) h ?_
  intro r2 hr2 x3_1 h
  refine eg_iload_n 3 dX2_faceWith_2 rfl rfl ?_
  refine eg_aload_n 0 dX2_faceWith_3 rfl rfl ?_
  refine em_gets 8 rfl q1150 dX2_faceWith_4 hi ?_
  refine eg_icmp_ge dX2_faceWith_7 (fun c17 => ?_) (fun c17 => ?_)
  · replace h := h.1 c17
    refine eg_iconst dX2_faceWith_121 kc_m1 ?_
    exact eg_iret dX2_faceWith_122 (Nat.zero_le _) (Nat.zero_le _) (hP _ _ ⟨_, rfl, rfl, h⟩)
  · replace h := h.2 c17
    refine eg_aload_n 0 dX2_faceWith_10 rfl rfl ?_
    refine em_geta 15 rfl q1157 dX2_faceWith_11 hi ?_
    refine eg_iload_n 3 dX2_faceWith_14 rfl rfl ?_
    obtain ⟨hb, h⟩ := h
    refine em_iald 15 rfl hb dX2_faceWith_15 hi (fun v3 ev3 => ?_)
    replace h := h v3 ev3
    refine eb_jp0_e (J := eb_G l Γ P X cX2_faceWith RX2 6 (some .int) rmX2_faceWith 115 [(0, .ref (ad 0)), (1, .int a1), (2, .int a2), (3, .int x3_1)] [] (ms_st Γ ad ix σ) 0 0) h ?_ ?_
    · intro  h
      refine eg_iinc (j := 3) (lv' := [(3, .int (x3_1 + 1)), (0, .ref (ad 0)), (1, .int a1), (2, .int a2)]) dX2_faceWith_115 rfl (by rw [kc_1]) (Nat.le_of_ble_eq_true rfl) rfl ?_
      refine eg_goto dX2_faceWith_118 ?_
      exact eg_sub [1, 2, 3, 0] rfl (hr2 (x3_1 + 1) h)
    · intro k4 hk4 h
      refine eg_if_ne dX2_faceWith_16 (fun c16 => ?_) (fun c16 => ?_)
      · replace h := h.2 c16
        exact hk4 h
      · replace h := h.1 c16
        refine eg_aload_n 0 dX2_faceWith_19 rfl rfl ?_
        refine em_geta 27 rfl q1169 dX2_faceWith_20 hi ?_
        refine eg_iload_n 1 dX2_faceWith_23 rfl rfl ?_
        refine eg_sipush dX2_faceWith_24 ks_500 ?_
        refine eg_idiv dX2_faceWith_27 (by decide) ?_
        refine eg_sipush dX2_faceWith_28 ks_500 ?_
        refine eg_imul dX2_faceWith_31 ?_
        refine eg_iload_n 3 dX2_faceWith_32 rfl rfl ?_
        refine eg_iadd dX2_faceWith_33 ?_
        obtain ⟨hb, h⟩ := h
        refine em_iald 27 rfl hb dX2_faceWith_34 hi (fun v5 ev5 => ?_)
        replace h := h v5 ev5
        refine eg_iload_n 1 dX2_faceWith_35 rfl rfl ?_
        refine eg_sipush dX2_faceWith_36 ks_500 ?_
        refine eg_irem dX2_faceWith_39 (by decide) ?_
        refine eg_icmp_ne dX2_faceWith_40 (fun c15 => ?_) (fun c15 => ?_)
        · replace h := h.2 c15
          exact hk4 h
        · replace h := h.1 c15
          refine eg_iconst dX2_faceWith_43 kc_0 ?_
          refine eg_istore (lv' := [(4, .int 0), (0, .ref (ad 0)), (1, .int a1), (2, .int a2), (3, .int x3_1)]) dX2_faceWith_44 (Nat.le_of_ble_eq_true rfl) rfl ?_
          refine eg_sub [1, 2, 3, 4, 0] rfl ?_
          refine eb_loop1_e (J := fun (x4_6 : Int32) => eb_G l Γ P X cX2_faceWith RX2 6 (some .int) rmX2_faceWith 46 [(0, .ref (ad 0)), (1, .int a1), (2, .int a2), (3, .int x3_1), (4, .int x4_6)] [] (ms_st Γ ad ix σ) 0 0) h ?_
          intro r7 hr7 x4_6 h
          refine eg_iload 4 dX2_faceWith_46 rfl ?_
          refine eg_iconst dX2_faceWith_48 kc_3 ?_
          refine eg_icmp_ge dX2_faceWith_49 (fun c14 => ?_) (fun c14 => ?_)
          · replace h := h.1 c14
            exact eg_sub [0, 1, 2, 3] rfl (hk4 h)
          · replace h := h.2 c14
            refine eg_sipush dX2_faceWith_52 ks_500 ?_
            refine eg_iload 4 dX2_faceWith_55 rfl ?_
            refine eg_imul dX2_faceWith_57 ?_
            refine eg_aload_n 0 dX2_faceWith_58 rfl rfl ?_
            refine em_geta 28 rfl q1170 dX2_faceWith_59 hi ?_
            refine eg_sipush dX2_faceWith_62 ks_500 ?_
            refine eg_iload 4 dX2_faceWith_65 rfl ?_
            refine eg_imul dX2_faceWith_67 ?_
            refine eg_iload_n 3 dX2_faceWith_68 rfl rfl ?_
            refine eg_iadd dX2_faceWith_69 ?_
            obtain ⟨hb, h⟩ := h
            refine em_iald 28 rfl hb dX2_faceWith_70 hi (fun v8 ev8 => ?_)
            replace h := h v8 ev8
            refine eg_iadd dX2_faceWith_71 ?_
            refine eg_istore (lv' := [(5, .int ((500 * x4_6) + v8)), (0, .ref (ad 0)), (1, .int a1), (2, .int a2), (3, .int x3_1), (4, .int x4_6)]) dX2_faceWith_72 (Nat.le_of_ble_eq_true rfl) rfl ?_
            refine eg_iload 5 dX2_faceWith_74 rfl ?_
            refine eg_iload_n 2 dX2_faceWith_76 rfl rfl ?_
            refine eg_sipush dX2_faceWith_77 ks_500 ?_
            refine eg_idiv dX2_faceWith_80 (by decide) ?_
            refine eb_jp0_e (J := eb_G l Γ P X cX2_faceWith RX2 6 (some .int) rmX2_faceWith 109 [(0, .ref (ad 0)), (1, .int a1), (2, .int a2), (3, .int x3_1), (4, .int x4_6)] [] (ms_st Γ ad ix σ) 0 0) h ?_ ?_
            · intro  h
              refine eg_iinc (j := 4) (lv' := [(4, .int (x4_6 + 1)), (0, .ref (ad 0)), (1, .int a1), (2, .int a2), (3, .int x3_1)]) dX2_faceWith_109 rfl (by rw [kc_1]) (Nat.le_of_ble_eq_true rfl) rfl ?_
              refine eg_goto dX2_faceWith_112 ?_
              exact eg_sub [1, 2, 3, 4, 0] rfl (hr7 (x4_6 + 1) h)
            · intro k9 hk9 h
              refine eg_icmp_eq dX2_faceWith_81 (fun c13 => ?_) (fun c13 => ?_)
              · replace h := h.1 c13
                exact eg_sub [1, 2, 3, 4, 5] rfl (hk9 h)
              · replace h := h.2 c13
                refine eg_aload_n 1 dX2_faceWith_84 rfl rfl ?_
                refine em_geta 28 rfl q1170 dX2_faceWith_85 hi ?_
                refine eg_sipush dX2_faceWith_88 ks_500 ?_
                refine eg_iload 5 dX2_faceWith_91 rfl ?_
                refine eg_imul dX2_faceWith_93 ?_
                refine eg_iload_n 4 dX2_faceWith_94 rfl rfl ?_
                refine eg_iadd dX2_faceWith_95 ?_
                obtain ⟨hb, h⟩ := h
                refine em_iald 28 rfl hb dX2_faceWith_96 hi (fun v10 ev10 => ?_)
                replace h := h v10 ev10
                refine eg_if_lt dX2_faceWith_97 (fun c12 => ?_) (fun c12 => ?_)
                · replace h := h.1 c12
                  exact eg_sub [1, 2, 3, 4, 5] rfl (hk9 h)
                · replace h := h.2 c12
                  refine eg_iload 0 dX2_faceWith_100 rfl ?_
                  refine eg_iload_n 3 dX2_faceWith_102 rfl rfl ?_
                  refine eg_icmp_eq dX2_faceWith_103 (fun c11 => ?_) (fun c11 => ?_)
                  · replace h := h.1 c11
                    exact eg_sub [1, 2, 3, 4, 5] rfl (hk9 h)
                  · replace h := h.2 c11
                    refine eg_iload 0 dX2_faceWith_106 rfl ?_
                    exact eg_iret dX2_faceWith_108 (Nat.zero_le _) (Nat.zero_le _) (hP _ _ ⟨_, rfl, rfl, h⟩)

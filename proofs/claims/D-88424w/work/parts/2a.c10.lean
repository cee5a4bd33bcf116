set_option maxRecDepth 100000
set_option maxHeartbeats 4000000
def MJ6_next (Γ : eb_C) (st : eb_S) (a0 : Nat) (K : Option Nat → eb_S → Prop) : Prop :=
  eb_cs st a0 [15] ∧ MJ6_checkForComodification Γ st a0 (fun g2 => eb_gi g2 a0 15 0 (fun v5 => eb_gr g2 a0 15 3 (fun v6 => eb_nn v6 (fun p7 => eb_gi g2 p7 14 2 (fun v8 => eb_br (v5 < v8) (eb_gr g2 a0 15 3 (fun v9 => eb_nn v9 (fun p10 => eb_gr g2 p10 14 1 (fun v11 => eb_nn v11 (fun p12 => eb_ln Γ g2 p12 8 (fun v13 => eb_br (v5 < v13) (eb_pt g2 a0 15 0 (.int (v5 + 1)) (fun g14 => eb_pt g14 a0 15 1 (.int v5) (fun g15 => eb_lr Γ g15 p12 8 v5 (fun v16 => K v16 g15)))) (False))))))) (False))))))
abbrev rmJ6_next : Room := { frames := 3, cells := 0, slots := 0, locals := 60 }
theorem nJ6_next : eb_ar yJ6_next 0 := by decide +kernel
theorem dJ6_next_0 : eb_dc cJ6_next 0 (.aload_n 0) 1 1 := by decide +kernel
theorem dJ6_next_1 : eb_dc cJ6_next 1 (.invokevirtual 31) 3 4 := by decide +kernel
theorem dJ6_next_4 : eb_dc cJ6_next 4 (.aload_n 0) 1 5 := by decide +kernel
theorem dJ6_next_5 : eb_dc cJ6_next 5 (.getfield 25) 3 8 := by decide +kernel
theorem dJ6_next_8 : eb_dc cJ6_next 8 (.istore_n 1) 1 9 := by decide +kernel
theorem dJ6_next_9 : eb_dc cJ6_next 9 (.iload_n 1) 1 10 := by decide +kernel
theorem dJ6_next_10 : eb_dc cJ6_next 10 (.aload_n 0) 1 11 := by decide +kernel
theorem dJ6_next_11 : eb_dc cJ6_next 11 (.getfield 1) 3 14 := by decide +kernel
theorem dJ6_next_14 : eb_dc cJ6_next 14 (.getfield 28) 3 17 := by decide +kernel
theorem dJ6_next_17 : eb_dj cJ6_next 17 (.if_icmp .lt 11) 11 20 28 := by decide +kernel
theorem dJ6_next_28 : eb_dc cJ6_next 28 (.aload_n 0) 1 29 := by decide +kernel
theorem dJ6_next_29 : eb_dc cJ6_next 29 (.getfield 1) 3 32 := by decide +kernel
theorem dJ6_next_32 : eb_dc cJ6_next 32 (.getfield 37) 3 35 := by decide +kernel
theorem dJ6_next_35 : eb_dc cJ6_next 35 (.astore_n 2) 1 36 := by decide +kernel
theorem dJ6_next_36 : eb_dc cJ6_next 36 (.iload_n 1) 1 37 := by decide +kernel
theorem dJ6_next_37 : eb_dc cJ6_next 37 (.aload_n 2) 1 38 := by decide +kernel
theorem dJ6_next_38 : eb_dc cJ6_next 38 (.arraylength) 1 39 := by decide +kernel
theorem dJ6_next_39 : eb_dj cJ6_next 39 (.if_icmp .lt 11) 11 42 50 := by decide +kernel
theorem dJ6_next_50 : eb_dc cJ6_next 50 (.aload_n 0) 1 51 := by decide +kernel
theorem dJ6_next_51 : eb_dc cJ6_next 51 (.iload_n 1) 1 52 := by decide +kernel
theorem dJ6_next_52 : eb_dc cJ6_next 52 (.iconst 1) 1 53 := by decide +kernel
theorem dJ6_next_53 : eb_dc cJ6_next 53 (.iadd) 1 54 := by decide +kernel
theorem dJ6_next_54 : eb_dc cJ6_next 54 (.putfield 25) 3 57 := by decide +kernel
theorem dJ6_next_57 : eb_dc cJ6_next 57 (.aload_n 2) 1 58 := by decide +kernel
theorem dJ6_next_58 : eb_dc cJ6_next 58 (.aload_n 0) 1 59 := by decide +kernel
theorem dJ6_next_59 : eb_dc cJ6_next 59 (.iload_n 1) 1 60 := by decide +kernel
theorem dJ6_next_60 : eb_dc cJ6_next 60 (.dup_x1) 1 61 := by decide +kernel
theorem dJ6_next_61 : eb_dc cJ6_next 61 (.putfield 13) 3 64 := by decide +kernel
theorem dJ6_next_64 : eb_dc cJ6_next 64 (.aaload) 1 65 := by decide +kernel
theorem dJ6_next_65 : eb_dc cJ6_next 65 (.areturn) 1 66 := by decide +kernel
theorem ctJ6_next {l : Launch} {Γ : eb_C} {st : eb_S} {a0 : Nat} {K : Option Nat → eb_S → Prop} (h : MJ6_next Γ st a0 K) : eb_Ct l Γ yJ6_next cJ6_next 3 (some (.object "java/lang/Object")) rmJ6_next [.ref a0] st (eb_oR K) := by
  refine eb_of (by decide) (Nat.le_of_ble_eq_true rfl) (fun X P hP hX0 => ?_)
  show eb_G l Γ P X cJ6_next RJ6 3 (some (.object "java/lang/Object")) rmJ6_next 0 [(0, .ref a0)] [] st 0 0
  refine eg_aload_n 0 dJ6_next_0 rfl rfl ?_
  obtain ⟨hcs, h⟩ := h
  have hM0 := h
  clear h
  refine ec_VVw (rest := []) (ctJ6_checkForComodification hM0) (lw_V q943 q944 q945 q95 q946) rfl rfl hcs nJ6_checkForComodification ⟨Nat.le_of_ble_eq_true rfl, Nat.le_of_ble_eq_true rfl⟩ ⟨rfl, rfl⟩ ⟨Nat.zero_le _, Nat.zero_le _⟩ rfl rfl (Nat.le_of_ble_eq_true rfl) dJ6_next_1 (fun g2 h => ?_)
  clear hM0
  refine eg_aload_n 0 dJ6_next_4 rfl rfl ?_
  obtain ⟨fs, v5, he, hv, h⟩ := h
  refine eg_get 0 in_J6 he rfl (Nat.le_of_ble_eq_true rfl) q911 rfl hv dJ6_next_5 ?_
  refine eg_istore_n (lv' := [(1, .int v5), (0, .ref a0)]) dJ6_next_8 rfl (Nat.le_of_ble_eq_true rfl) rfl ?_
  refine eg_iload_n 0 dJ6_next_9 rfl rfl ?_
  refine eg_aload_n 1 dJ6_next_10 rfl rfl ?_
  obtain ⟨fs, v6, he, hv, h⟩ := h
  refine eg_get 3 in_J6 he rfl (Nat.le_of_ble_eq_true rfl) q914 rfl hv dJ6_next_11 ?_
  obtain ⟨p7, rfl, h⟩ := h
  obtain ⟨fs, v8, he, hv, h⟩ := h
  refine eg_getN 2 in_J5 he rfl (Nat.le_of_ble_eq_true rfl) (List.mem_of_getElem? (i := 0) rfl) rfl hv dJ6_next_14 ?_
  refine eg_icmp_lt dJ6_next_17 (fun c18 => ?_) (fun c18 => ?_)
  · replace h := h.1 c18
    refine eg_aload_n 1 dJ6_next_28 rfl rfl ?_
    obtain ⟨fs, v9, he, hv, h⟩ := h
    refine eg_get 3 in_J6 he rfl (Nat.le_of_ble_eq_true rfl) q914 rfl hv dJ6_next_29 ?_
    obtain ⟨p10, rfl, h⟩ := h
    obtain ⟨fs, v11, he, hv, h⟩ := h
    refine eg_get 1 in_J5 he rfl (Nat.le_of_ble_eq_true rfl) q872 rfl hv dJ6_next_32 ?_
    refine eh_astore_n (i := 2) (v := v11) (lv' := [(2, va_rf v11), (1, .int v5), (0, .ref a0)]) dJ6_next_35 rfl (Nat.le_of_ble_eq_true rfl) rfl ?_
    refine eg_iload_n 1 dJ6_next_36 rfl rfl ?_
    refine eh_aload_n (v := v11) 0 dJ6_next_37 rfl rfl ?_
    obtain ⟨p12, rfl, h⟩ := h
    obtain ⟨xA, he, h⟩ := h
    refine eh_alen (t := 8) (ty := .object "java/lang/Object") he rfl dJ6_next_38 ?_
    generalize Int32.ofNat xA.1 = v13 at h ⊢
    refine eg_icmp_lt dJ6_next_39 (fun c17 => ?_) (fun c17 => ?_)
    · replace h := h.1 c17
      refine eg_aload_n 2 dJ6_next_50 rfl rfl ?_
      refine eg_iload_n 1 dJ6_next_51 rfl rfl ?_
      refine eg_iconst dJ6_next_52 kc_1 ?_
      refine eg_iadd dJ6_next_53 ?_
      obtain ⟨fs, he, hlen, h⟩ := h
      refine eh_put 0 in_J6 he rfl (Nat.le_of_ble_eq_true rfl) tyJ6 tyJ6_ok nmJ6 q911 rfl rfl rfl rfl hlen dJ6_next_54 (fun g14 eg14 => ?_)
      replace h := h g14 eg14
      refine eg_aload_n 0 dJ6_next_57 rfl rfl ?_
      refine eg_aload_n 2 dJ6_next_58 rfl rfl ?_
      refine eg_iload_n 1 dJ6_next_59 rfl rfl ?_
      refine eg_dup_x1 dJ6_next_60 rfl rfl ?_
      obtain ⟨fs, he, hlen, h⟩ := h
      refine eh_put 1 in_J6 he rfl (Nat.le_of_ble_eq_true rfl) tyJ6 tyJ6_ok nmJ6 q912 rfl rfl rfl rfl hlen dJ6_next_61 (fun g15 eg15 => ?_)
      replace h := h g15 eg15
      obtain ⟨nA, fA, he, hb, h⟩ := h
      refine eg_aald (t := 8) (ty := .object "java/lang/Object") rfl rfl he hb dJ6_next_64 (fun v16 ev16 => ?_)
      replace h := h v16 ev16
      exact eg_aret dJ6_next_65 (Or.inl ⟨_, rfl⟩) (eb_rfz v16) (Nat.zero_le _) (Nat.zero_le _) (hP _ _ ⟨v16, rfl, h⟩)
    · replace h := h.2 c17
      exact absurd h id
  · replace h := h.2 c18
    exact absurd h id
def MJ5_grow_2 (Γ : eb_C) (bc bs : Nat) (st : eb_S) (a0 : Nat) (a1 : Int32) (K : Option Nat → eb_S → Prop) : Prop :=
  eb_gr st a0 14 1 (fun v1 => eb_nn v1 (fun p2 => eb_ln Γ st p2 8 (fun v3 => eb_jp0 (False) (fun k4 => eb_br (0 < v3) (k4) (eb_gr st a0 14 1 (fun v5 => eb_br (v5 = (some Γ.2.2.2)) (MJ2_max 10 a1 (fun v6 => eb_ok1 v6 ∧ (eb_mk st (eb_ra Γ 8 (v6.toNatClampNeg) (fun _ => none)) (v6.toNatClampNeg) bc bs 0 0 (fun p10 g11 => eb_pt g11 a0 14 1 (.ref p10) (fun g12 => K (some p10) g12))))) (k4)))))))
abbrev rmJ5_grow_2 (bc bs : Nat) : Room := { frames := 2, cells := bc, slots := bs, locals := 33 }
theorem nJ5_grow_2 : eb_ar yJ5_grow_2 1 := by decide +kernel
theorem dJ5_grow_2_0 : eb_dc cJ5_grow_2 0 (.aload_n 0) 1 1 := by decide +kernel
theorem dJ5_grow_2_1 : eb_dc cJ5_grow_2 1 (.getfield 9) 3 4 := by decide +kernel
theorem dJ5_grow_2_4 : eb_dc cJ5_grow_2 4 (.arraylength) 1 5 := by decide +kernel
theorem dJ5_grow_2_5 : eb_dc cJ5_grow_2 5 (.istore_n 2) 1 6 := by decide +kernel
theorem dJ5_grow_2_6 : eb_dc cJ5_grow_2 6 (.iload_n 2) 1 7 := by decide +kernel
theorem dJ5_grow_2_7 : eb_dj cJ5_grow_2 7 (.ifCond .gt 13) 13 10 20 := by decide +kernel
theorem dJ5_grow_2_10 : eb_dc cJ5_grow_2 10 (.aload_n 0) 1 11 := by decide +kernel
theorem dJ5_grow_2_11 : eb_dc cJ5_grow_2 11 (.getfield 9) 3 14 := by decide +kernel
theorem dJ5_grow_2_14 : eb_dc cJ5_grow_2 14 (.getstatic 39) 3 17 := by decide +kernel
theorem dJ5_grow_2_17 : eb_dj cJ5_grow_2 17 (.if_acmp .eq 28) 28 20 45 := by decide +kernel
theorem dJ5_grow_2_20 : eb_dc cJ5_grow_2 20 (.iload_n 2) 1 21 := by decide +kernel
theorem dJ5_grow_2_21 : eb_dc cJ5_grow_2 21 (.iload_n 1) 1 22 := by decide +kernel
theorem dJ5_grow_2_22 : eb_dc cJ5_grow_2 22 (.iload_n 2) 1 23 := by decide +kernel
theorem dJ5_grow_2_23 : eb_dc cJ5_grow_2 23 (.isub) 1 24 := by decide +kernel
theorem dJ5_grow_2_24 : eb_dc cJ5_grow_2 24 (.iload_n 2) 1 25 := by decide +kernel
theorem dJ5_grow_2_25 : eb_dc cJ5_grow_2 25 (.iconst 1) 1 26 := by decide +kernel
theorem dJ5_grow_2_26 : eb_dc cJ5_grow_2 26 (.ishr) 1 27 := by decide +kernel
theorem dJ5_grow_2_45 : eb_dc cJ5_grow_2 45 (.aload_n 0) 1 46 := by decide +kernel
theorem dJ5_grow_2_46 : eb_dc cJ5_grow_2 46 (.bipush 10) 2 48 := by decide +kernel
theorem dJ5_grow_2_48 : eb_dc cJ5_grow_2 48 (.iload_n 1) 1 49 := by decide +kernel
theorem dJ5_grow_2_49 : eb_dc cJ5_grow_2 49 (.invokestatic 79) 3 52 := by decide +kernel
theorem dJ5_grow_2_52 : eb_dc cJ5_grow_2 52 (.anewarray 7) 3 55 := by decide +kernel
theorem dJ5_grow_2_55 : eb_dc cJ5_grow_2 55 (.dup_x1) 1 56 := by decide +kernel
theorem dJ5_grow_2_56 : eb_dc cJ5_grow_2 56 (.putfield 9) 3 59 := by decide +kernel
theorem dJ5_grow_2_59 : eb_dc cJ5_grow_2 59 (.areturn) 1 60 := by decide +kernel
theorem ctJ5_grow_2 {l : Launch} {Γ : eb_C} {bc bs : Nat} {st : eb_S} {a0 : Nat} {a1 : Int32} {K : Option Nat → eb_S → Prop} (h : MJ5_grow_2 Γ bc bs st a0 a1 K) : eb_Ct l Γ yJ5_grow_2 cJ5_grow_2 4 (some (.array (.object "java/lang/Object"))) (rmJ5_grow_2 bc bs) [.ref a0, .int a1] st (eb_oR K) := by
  refine eb_of (by decide) (Nat.le_of_ble_eq_true rfl) (fun X P hP hX0 => ?_)
  suffices hgo : (0 ≤ bc ∧ 0 ≤ bs) → eb_G l Γ P X cJ5_grow_2 RJ5 4 (some (.array (.object "java/lang/Object"))) (rmJ5_grow_2 bc bs) 0 [(0, .ref a0), (1, .int a1)] [] st 0 0 from hgo ⟨Nat.zero_le _, Nat.zero_le _⟩
  intro hu
  refine eg_aload_n 0 dJ5_grow_2_0 rfl rfl ?_
  obtain ⟨fs, v1, he, hv, h⟩ := h
  refine eg_get 1 in_J5 he rfl (Nat.le_of_ble_eq_true rfl) q871 rfl hv dJ5_grow_2_1 ?_
  obtain ⟨p2, rfl, h⟩ := h
  obtain ⟨xA, he, h⟩ := h
  refine eh_alen (t := 8) (ty := .object "java/lang/Object") he rfl dJ5_grow_2_4 ?_
  generalize Int32.ofNat xA.1 = v3 at h ⊢
  refine eg_istore_n (lv' := [(2, .int v3), (0, .ref a0), (1, .int a1)]) dJ5_grow_2_5 rfl (Nat.le_of_ble_eq_true rfl) rfl ?_
  refine eg_iload_n 0 dJ5_grow_2_6 rfl rfl ?_
  refine eb_jp0_e (J := (0 ≤ bc ∧ 0 ≤ bs) → eb_G l Γ P X cJ5_grow_2 RJ5 4 (some (.array (.object "java/lang/Object"))) (rmJ5_grow_2 bc bs) 20 [(0, .ref a0), (1, .int a1), (2, .int v3)] [] st 0 0) h ?_ ?_
  · clear h
    intro  h hu
    exact absurd h id
  · clear h
    intro k4 hk4 h
    refine eg_if_gt dJ5_grow_2_7 (fun c14 => ?_) (fun c14 => ?_)
    · replace h := h.1 c14
      exact eg_sub [1, 2, 0] rfl (hk4 h hu)
    · replace h := h.2 c14
      refine eg_aload_n 1 dJ5_grow_2_10 rfl rfl ?_
      obtain ⟨fs, v5, he, hv, h⟩ := h
      refine eg_get 1 in_J5 he rfl (Nat.le_of_ble_eq_true rfl) q871 rfl hv dJ5_grow_2_11 ?_
      refine eg_sempty q869 dJ5_grow_2_14 ?_
      refine eg_acmp_eq (rx := v5) (ry := (some Γ.2.2.2)) dJ5_grow_2_17 (fun c13 => ?_) (fun c13 => ?_)
      · replace h := h.1 c13
        refine eg_aload_n 1 dJ5_grow_2_45 rfl rfl ?_
        refine eg_bipush dJ5_grow_2_46 kb_10 ?_
        refine eg_iload_n 2 dJ5_grow_2_48 rfl rfl ?_
        have hM0 := h
        clear h
        refine ec_SIp (rest := [.ref a0]) (ctJ2_max hM0) (lw_S q1011 q972 q90 q973) nJ2_max ⟨Nat.le_of_ble_eq_true rfl, Nat.le_of_ble_eq_true rfl⟩ ⟨rfl, rfl⟩ hu rfl rfl (Nat.le_of_ble_eq_true rfl) dJ5_grow_2_49 (fun v6 h => ?_)
        clear hM0
        obtain ⟨hok, h⟩ := h
        obtain ⟨hc1, hs1, h⟩ := h
        refine eg_anew (t := 8) q1012 (List.mem_of_getElem? (i := 1) rfl) rfl hok.1 rfl hok.2 hc1 hs1 dJ5_grow_2_52 (fun p10 qp10 => ?_)
        generalize eg11 : eb_up _ _ _ = g11
        replace eg11 := eg11.symm
        replace h := h p10 qp10 g11 eg11
        replace hu := And.intro hc1 hs1
        refine eg_dup_x1 dJ5_grow_2_55 rfl rfl ?_
        obtain ⟨fs, he, hlen, h⟩ := h
        refine eh_put 1 in_J5 he rfl (Nat.le_of_ble_eq_true rfl) tyJ5 tyJ5_ok nmJ5 q871 rfl rfl rfl rfl hlen dJ5_grow_2_56 (fun g12 eg12 => ?_)
        replace h := h g12 eg12
        exact eg_aret dJ5_grow_2_59 (Or.inr ⟨_, rfl⟩) (Or.inr ⟨_, rfl⟩) hu.1 hu.2 (hP _ _ ⟨(some p10), rfl, h⟩)
      · replace h := h.2 c13
        exact eg_sub [1, 2, 0] rfl (hk4 h hu)
def MJ5_grow (Γ : eb_C) (bc bs : Nat) (st : eb_S) (a0 : Nat) (K : Option Nat → eb_S → Prop) : Prop :=
  eb_gi st a0 14 2 (fun v1 => eb_cs st a0 [14] ∧ ∃ c4 s5 : Nat, (0 + c4 ≤ bc ∧ 0 + s5 ≤ bs) ∧ MJ5_grow_2 Γ c4 s5 st a0 (v1 + 1) (fun v2 g3 => K v2 g3))
abbrev rmJ5_grow (bc bs : Nat) : Room := { frames := 3, cells := bc, slots := bs, locals := 56 }
theorem nJ5_grow : eb_ar yJ5_grow 0 := by decide +kernel
theorem dJ5_grow_0 : eb_dc cJ5_grow 0 (.aload_n 0) 1 1 := by decide +kernel
theorem dJ5_grow_1 : eb_dc cJ5_grow 1 (.aload_n 0) 1 2 := by decide +kernel
theorem dJ5_grow_2 : eb_dc cJ5_grow 2 (.getfield 48) 3 5 := by decide +kernel
theorem dJ5_grow_5 : eb_dc cJ5_grow 5 (.iconst 1) 1 6 := by decide +kernel
theorem dJ5_grow_6 : eb_dc cJ5_grow 6 (.iadd) 1 7 := by decide +kernel
theorem dJ5_grow_7 : eb_dc cJ5_grow 7 (.invokevirtual 69) 3 10 := by decide +kernel
theorem dJ5_grow_10 : eb_dc cJ5_grow 10 (.areturn) 1 11 := by decide +kernel
theorem ctJ5_grow {l : Launch} {Γ : eb_C} {bc bs : Nat} {st : eb_S} {a0 : Nat} {K : Option Nat → eb_S → Prop} (h : MJ5_grow Γ bc bs st a0 K) : eb_Ct l Γ yJ5_grow cJ5_grow 1 (some (.array (.object "java/lang/Object"))) (rmJ5_grow bc bs) [.ref a0] st (eb_oR K) := by
  refine eb_of (by decide) (Nat.le_of_ble_eq_true rfl) (fun X P hP hX0 => ?_)
  suffices hgo : (0 ≤ bc ∧ 0 ≤ bs) → eb_G l Γ P X cJ5_grow RJ5 1 (some (.array (.object "java/lang/Object"))) (rmJ5_grow bc bs) 0 [(0, .ref a0)] [] st 0 0 from hgo ⟨Nat.zero_le _, Nat.zero_le _⟩
  intro hu
  refine eg_aload_n 0 dJ5_grow_0 rfl rfl ?_
  refine eg_aload_n 0 dJ5_grow_1 rfl rfl ?_
  obtain ⟨fs, v1, he, hv, h⟩ := h
  refine eg_get 2 in_J5 he rfl (Nat.le_of_ble_eq_true rfl) q874 rfl hv dJ5_grow_2 ?_
  refine eg_iconst dJ5_grow_5 kc_1 ?_
  refine eg_iadd dJ5_grow_6 ?_
  obtain ⟨hcs, h⟩ := h
  obtain ⟨c4, s5, hca, h⟩ := h
  have hM0 := h
  clear h
  refine ec_VRa (rest := []) (ctJ5_grow_2 hM0) (lw_V q964 q966 qs32 q94 q967) rfl rfl hcs nJ5_grow_2 ⟨Nat.le_of_ble_eq_true rfl, Nat.le_of_ble_eq_true rfl⟩ ⟨rfl, rfl⟩ hca rfl rfl (Nat.le_of_ble_eq_true rfl) dJ5_grow_7 (fun v2 g3 h => ?_)
  clear hM0
  replace hu := hca
  exact eg_aret dJ5_grow_10 (Or.inr ⟨_, rfl⟩) (eb_rfz v2) hu.1 hu.2 (hP _ _ ⟨v2, rfl, h⟩)
def MJ5_add_2 (Γ : eb_C) (bc bs : Nat) (st : eb_S) (a0 : Nat) (a1 : Nat) (a2 : Nat) (a3 : Int32) (K : eb_S → Prop) : Prop :=
  eb_ln Γ st a2 8 (fun v1 => eb_jp4 (fun (x2_2 : Option Nat) (g3 : eb_S) (u4 : Nat) (w5 : Nat) => eb_nn x2_2 (fun p6 => eb_cs g3 a1 [11] ∧ (eb_wr Γ g3 p6 8 a3 (some a1) (fun g7 => eb_pt g7 a0 14 2 (.int (a3 + 1)) (fun g8 => K g8))))) (fun k9 => eb_br (a3 = v1) (eb_cs st a0 [14] ∧ ∃ c12 s13 : Nat, (0 + c12 ≤ bc ∧ 0 + s13 ≤ bs) ∧ MJ5_grow Γ c12 s13 st a0 (fun v10 g11 => k9 v10 g11 (0 + c12) (0 + s13))) (k9 (some a2) st 0 0)))
abbrev rmJ5_add_2 (bc bs : Nat) : Room := { frames := 4, cells := bc, slots := bs, locals := 76 }
theorem nJ5_add_2 : eb_ar yJ5_add_2 3 := by decide +kernel
theorem dJ5_add_2_0 : eb_dc cJ5_add_2 0 (.iload_n 3) 1 1 := by decide +kernel
theorem dJ5_add_2_1 : eb_dc cJ5_add_2 1 (.aload_n 2) 1 2 := by decide +kernel
theorem dJ5_add_2_2 : eb_dc cJ5_add_2 2 (.arraylength) 1 3 := by decide +kernel
theorem dJ5_add_2_3 : eb_dj cJ5_add_2 3 (.if_icmp .ne 8) 8 6 11 := by decide +kernel
theorem dJ5_add_2_6 : eb_dc cJ5_add_2 6 (.aload_n 0) 1 7 := by decide +kernel
theorem dJ5_add_2_7 : eb_dc cJ5_add_2 7 (.invokevirtual 129) 3 10 := by decide +kernel
theorem dJ5_add_2_10 : eb_dc cJ5_add_2 10 (.astore_n 2) 1 11 := by decide +kernel
theorem dJ5_add_2_11 : eb_dc cJ5_add_2 11 (.aload_n 2) 1 12 := by decide +kernel
theorem dJ5_add_2_12 : eb_dc cJ5_add_2 12 (.iload_n 3) 1 13 := by decide +kernel
theorem dJ5_add_2_13 : eb_dc cJ5_add_2 13 (.aload_n 1) 1 14 := by decide +kernel
theorem dJ5_add_2_14 : eb_dc cJ5_add_2 14 (.aastore) 1 15 := by decide +kernel
theorem dJ5_add_2_15 : eb_dc cJ5_add_2 15 (.aload_n 0) 1 16 := by decide +kernel
theorem dJ5_add_2_16 : eb_dc cJ5_add_2 16 (.iload_n 3) 1 17 := by decide +kernel
theorem dJ5_add_2_17 : eb_dc cJ5_add_2 17 (.iconst 1) 1 18 := by decide +kernel
theorem dJ5_add_2_18 : eb_dc cJ5_add_2 18 (.iadd) 1 19 := by decide +kernel
theorem dJ5_add_2_19 : eb_dc cJ5_add_2 19 (.putfield 48) 3 22 := by decide +kernel
theorem dJ5_add_2_22 : eb_dc cJ5_add_2 22 (.return_) 1 23 := by decide +kernel
theorem ctJ5_add_2 {l : Launch} {Γ : eb_C} {bc bs : Nat} {st : eb_S} {a0 : Nat} {a1 : Nat} {a2 : Nat} {a3 : Int32} {K : eb_S → Prop} (h : MJ5_add_2 Γ bc bs st a0 a1 a2 a3 K) : eb_Ct l Γ yJ5_add_2 cJ5_add_2 4 (none) (rmJ5_add_2 bc bs) [.ref a0, .ref a1, .ref a2, .int a3] st (eb_oV K) := by
  refine eb_of (by decide) (Nat.le_of_ble_eq_true rfl) (fun X P hP hX0 => ?_)
  suffices hgo : (0 ≤ bc ∧ 0 ≤ bs) → eb_G l Γ P X cJ5_add_2 RJ5 4 (none) (rmJ5_add_2 bc bs) 0 [(0, .ref a0), (1, .ref a1), (2, .ref a2), (3, .int a3)] [] st 0 0 from hgo ⟨Nat.zero_le _, Nat.zero_le _⟩
  intro hu
  refine eg_iload_n 3 dJ5_add_2_0 rfl rfl ?_
  refine eg_aload_n 2 dJ5_add_2_1 rfl rfl ?_
  obtain ⟨xA, he, h⟩ := h
  refine eh_alen (t := 8) (ty := .object "java/lang/Object") he rfl dJ5_add_2_2 ?_
  generalize Int32.ofNat xA.1 = v1 at h ⊢
  refine eb_jp4_e (J := fun (x2_2 : Option Nat) (g3 : eb_S) (u4 : Nat) (w5 : Nat) => (u4 ≤ bc ∧ w5 ≤ bs) → eb_G l Γ P X cJ5_add_2 RJ5 4 (none) (rmJ5_add_2 bc bs) 11 [(0, .ref a0), (1, .ref a1), (2, va_rf x2_2), (3, .int a3)] [] g3 u4 w5) h ?_ ?_
  · clear h
    intro x2_2 g3 u4 w5 h hu
    refine eh_aload_n (v := x2_2) 2 dJ5_add_2_11 rfl rfl ?_
    refine eg_iload_n 3 dJ5_add_2_12 rfl rfl ?_
    refine eg_aload_n 1 dJ5_add_2_13 rfl rfl ?_
    obtain ⟨p6, rfl, h⟩ := h
    obtain ⟨⟨_, fs1, hc1, he1⟩, h⟩ := h
    cases List.mem_singleton.mp hc1
    obtain ⟨nA, fA, he, hb, h⟩ := h
    refine eg_astO he he1 hb dJ5_add_2_14 ?_
    replace h := h _ rfl
    generalize eb_up _ _ _ = g7 at h ⊢
    refine eg_aload_n 0 dJ5_add_2_15 rfl rfl ?_
    refine eg_iload_n 3 dJ5_add_2_16 rfl rfl ?_
    refine eg_iconst dJ5_add_2_17 kc_1 ?_
    refine eg_iadd dJ5_add_2_18 ?_
    obtain ⟨fs, he, hlen, h⟩ := h
    refine eh_put 2 in_J5 he rfl (Nat.le_of_ble_eq_true rfl) tyJ5 tyJ5_ok nmJ5 q874 rfl rfl rfl rfl hlen dJ5_add_2_19 (fun g8 eg8 => ?_)
    replace h := h g8 eg8
    exact eg_vret dJ5_add_2_22 hu.1 hu.2 (hP _ _ ⟨rfl, h⟩)
  · clear h
    intro k9 hk9 h
    refine eg_icmp_ne dJ5_add_2_3 (fun c14 => ?_) (fun c14 => ?_)
    · replace h := h.2 c14
      exact hk9 (some a2) st 0 0 h hu
    · replace h := h.1 c14
      refine eg_aload_n 0 dJ5_add_2_6 rfl rfl ?_
      obtain ⟨hcs, h⟩ := h
      obtain ⟨c12, s13, hca, h⟩ := h
      have hM0 := h
      clear h
      refine ec_VRa (rest := []) (ctJ5_grow hM0) (lw_V q960 q962 qs31 q94 q963) rfl rfl hcs nJ5_grow ⟨Nat.le_of_ble_eq_true rfl, Nat.le_of_ble_eq_true rfl⟩ ⟨rfl, rfl⟩ hca rfl rfl (Nat.le_of_ble_eq_true rfl) dJ5_add_2_7 (fun v10 g11 h => ?_)
      clear hM0
      replace hu := hca
      refine eh_astore_n (i := 2) (v := v10) (lv' := [(2, va_rf v10), (0, .ref a0), (1, .ref a1), (3, .int a3)]) dJ5_add_2_10 rfl (Nat.le_of_ble_eq_true rfl) rfl ?_
      exact eg_sub [1, 2, 0, 3] rfl (hk9 v10 g11 (0 + c12) (0 + s13) h hu)
def MJ5_add (Γ : eb_C) (bc bs : Nat) (st : eb_S) (a0 : Nat) (a1 : Nat) (K : Int32 → eb_S → Prop) : Prop :=
  eb_gi st a0 14 0 (fun v1 => eb_pt st a0 14 0 (.int (v1 + 1)) (fun g2 => eb_gr g2 a0 14 1 (fun v3 => eb_gi g2 a0 14 2 (fun v4 => eb_nn v3 (fun p5 => eb_cs g2 a0 [14] ∧ ∃ c8 s9 : Nat, (0 + c8 ≤ bc ∧ 0 + s9 ≤ bs) ∧ MJ5_add_2 Γ c8 s9 g2 a0 a1 p5 v4 (fun g7 => K 1 g7))))))
abbrev rmJ5_add (bc bs : Nat) : Room := { frames := 5, cells := bc, slots := bs, locals := 99 }
theorem nJ5_add : eb_ar yJ5_add 1 := by decide +kernel
theorem dJ5_add_0 : eb_dc cJ5_add 0 (.aload_n 0) 1 1 := by decide +kernel
theorem dJ5_add_1 : eb_dc cJ5_add 1 (.dup) 1 2 := by decide +kernel
theorem dJ5_add_2 : eb_dc cJ5_add 2 (.getfield 63) 3 5 := by decide +kernel
theorem dJ5_add_5 : eb_dc cJ5_add 5 (.iconst 1) 1 6 := by decide +kernel
theorem dJ5_add_6 : eb_dc cJ5_add 6 (.iadd) 1 7 := by decide +kernel
theorem dJ5_add_7 : eb_dc cJ5_add 7 (.putfield 63) 3 10 := by decide +kernel
theorem dJ5_add_10 : eb_dc cJ5_add 10 (.aload_n 0) 1 11 := by decide +kernel
theorem dJ5_add_11 : eb_dc cJ5_add 11 (.aload_n 1) 1 12 := by decide +kernel
theorem dJ5_add_12 : eb_dc cJ5_add 12 (.aload_n 0) 1 13 := by decide +kernel
theorem dJ5_add_13 : eb_dc cJ5_add 13 (.getfield 9) 3 16 := by decide +kernel
theorem dJ5_add_16 : eb_dc cJ5_add 16 (.aload_n 0) 1 17 := by decide +kernel
theorem dJ5_add_17 : eb_dc cJ5_add 17 (.getfield 48) 3 20 := by decide +kernel
theorem dJ5_add_20 : eb_dc cJ5_add 20 (.invokevirtual 131) 3 23 := by decide +kernel
theorem dJ5_add_23 : eb_dc cJ5_add 23 (.iconst 1) 1 24 := by decide +kernel
theorem dJ5_add_24 : eb_dc cJ5_add 24 (.ireturn) 1 25 := by decide +kernel
theorem ctJ5_add {l : Launch} {Γ : eb_C} {bc bs : Nat} {st : eb_S} {a0 : Nat} {a1 : Nat} {K : Int32 → eb_S → Prop} (h : MJ5_add Γ bc bs st a0 a1 K) : eb_Ct l Γ yJ5_add cJ5_add 2 (some .boolean) (rmJ5_add bc bs) [.ref a0, .ref a1] st (eb_oI K) := by
  refine eb_of (by decide) (Nat.le_of_ble_eq_true rfl) (fun X P hP hX0 => ?_)
  suffices hgo : (0 ≤ bc ∧ 0 ≤ bs) → eb_G l Γ P X cJ5_add RJ5 2 (some .boolean) (rmJ5_add bc bs) 0 [(0, .ref a0), (1, .ref a1)] [] st 0 0 from hgo ⟨Nat.zero_le _, Nat.zero_le _⟩
  intro hu
  refine eg_aload_n 0 dJ5_add_0 rfl rfl ?_
  refine eg_dup dJ5_add_1 rfl ?_
  obtain ⟨fs, v1, he, hv, h⟩ := h
  refine eg_getS 0 in_J5 he rfl (Nat.le_of_ble_eq_true rfl) q878 q877 hv dJ5_add_2 ?_
  refine eg_iconst dJ5_add_5 kc_1 ?_
  refine eg_iadd dJ5_add_6 ?_
  obtain ⟨fs, he, hlen, h⟩ := h
  refine eg_putS 0 in_J5 he rfl (Nat.le_of_ble_eq_true rfl) tyJ5 tyJ5_ok nmJ5 q878 q877 rfl rfl rfl hlen dJ5_add_7 ?_
  replace h := h _ rfl
  generalize eb_up _ _ _ = g2 at h ⊢
  refine eg_aload_n 0 dJ5_add_10 rfl rfl ?_
  refine eg_aload_n 1 dJ5_add_11 rfl rfl ?_
  refine eg_aload_n 0 dJ5_add_12 rfl rfl ?_
  obtain ⟨fs, v3, he, hv, h⟩ := h
  refine eg_get 1 in_J5 he rfl (Nat.le_of_ble_eq_true rfl) q871 rfl hv dJ5_add_13 ?_
  refine eg_aload_n 0 dJ5_add_16 rfl rfl ?_
  obtain ⟨fs, v4, he, hv, h⟩ := h
  refine eg_get 2 in_J5 he rfl (Nat.le_of_ble_eq_true rfl) q874 rfl hv dJ5_add_17 ?_
  obtain ⟨p5, rfl, h⟩ := h
  obtain ⟨hcs, h⟩ := h
  obtain ⟨c8, s9, hca, h⟩ := h
  have hM0 := h
  clear h
  refine ec_VVa (rest := []) (ctJ5_add_2 hM0) (lw_V q956 q958 qs30 q94 q959) rfl rfl hcs nJ5_add_2 ⟨Nat.le_of_ble_eq_true rfl, Nat.le_of_ble_eq_true rfl⟩ ⟨rfl, rfl⟩ hca rfl rfl (Nat.le_of_ble_eq_true rfl) dJ5_add_20 (fun g7 h => ?_)
  clear hM0
  replace hu := hca
  refine eg_iconst dJ5_add_23 kc_1 ?_
  exact eg_zret dJ5_add_24 rfl hu.1 hu.2 (hP _ _ ⟨_, rfl, h⟩)
def MJ5_size (Γ : eb_C) (st : eb_S) (a0 : Nat) (K : Int32 → Prop) : Prop :=
  eb_gi st a0 14 2 (fun v1 => K v1)
abbrev rmJ5_size : Room := { frames := 1, cells := 0, slots := 0, locals := 12 }
theorem nJ5_size : eb_ar yJ5_size 0 := by decide +kernel
theorem dJ5_size_0 : eb_dc cJ5_size 0 (.aload_n 0) 1 1 := by decide +kernel
theorem dJ5_size_1 : eb_dc cJ5_size 1 (.getfield 48) 3 4 := by decide +kernel
theorem dJ5_size_4 : eb_dc cJ5_size 4 (.ireturn) 1 5 := by decide +kernel
theorem ctJ5_size {l : Launch} {Γ : eb_C} {st : eb_S} {a0 : Nat} {K : Int32 → Prop} (h : MJ5_size Γ st a0 K) : eb_Ct l Γ yJ5_size cJ5_size 1 (some .int) rmJ5_size [.ref a0] st (eb_pI st K) := by
  refine eb_of (by decide) (Nat.le_of_ble_eq_true rfl) (fun X P hP hX0 => ?_)
  show eb_G l Γ P X cJ5_size RJ5 1 (some .int) rmJ5_size 0 [(0, .ref a0)] [] st 0 0
  refine eg_aload_n 0 dJ5_size_0 rfl rfl ?_
  obtain ⟨fs, v1, he, hv, h⟩ := h
  refine eg_get 2 in_J5 he rfl (Nat.le_of_ble_eq_true rfl) q874 rfl hv dJ5_size_1 ?_
  exact eg_iret dJ5_size_4 (Nat.zero_le _) (Nat.zero_le _) (hP _ _ ⟨_, rfl, rfl, h⟩)
def MX0_unlike (Γ : eb_C) (bc bs : Nat) (st : eb_S) (a0 : Nat) (a1 : Int32) (K : Int32 → eb_S → Prop) : Prop :=
  eb_cs st a0 [0] ∧ ∃ c3 s4 : Nat, (0 + c3 ≤ bc ∧ 0 + s4 ≤ bs) ∧ MX0_whyHull Γ c3 s4 st a0 a1 1 (fun v1 g2 => eb_br (v1 = 1) (eb_gr g2 a0 0 0 (fun v5 => eb_nn v5 (fun p6 => eb_lr Γ g2 p6 7 a1 (fun v7 => eb_nn v7 (fun p8 => eb_cs g2 p8 [1] ∧ MX1_angle Γ g2 p8 0 1 (fun v9 => eb_cs g2 p8 [1] ∧ MX1_angle Γ g2 p8 0 2 (fun v13 => eb_cs g2 p8 [1] ∧ MX1_angle Γ g2 p8 1 2 (fun v17 => eb_let (((((25 * (v9 - 2)) + (5 * (v13 - 2))) + v17) - 2)) (fun v21 => eb_gr g2 a0 0 5 (fun v22 => eb_nn v22 (fun p23 => eb_li Γ g2 p23 0 v21 (fun v24 => eb_jp3 (fun (g25 : eb_S) (u26 : Nat) (w27 : Nat) => eb_gr g25 a0 0 5 (fun v28 => eb_nn v28 (fun p29 => eb_li Γ g25 p29 0 v21 (fun v30 => K v30 g25)))) (fun k31 => eb_br (v24 = 0) (eb_mk g2 (.inr (14, [.int 0, .null, .int 0])) 3 bc bs (0 + c3) (0 + s4) (fun p32 g33 => MJ5_init Γ g33 p32 (fun g35 => eb_jp3 (fun (g38 : eb_S) (u39 : Nat) (w40 : Nat) => eb_gr g38 a0 0 5 (fun v41 => eb_cs g38 p32 [14] ∧ MJ5_size Γ g38 p32 (fun v42 => eb_nn v41 (fun p46 => eb_wi Γ g38 p46 0 v21 v42 (fun g47 => k31 g47 u39 w40))))) (fun k48 => eb_loop4 (fun r53 (x6_49 : Int32) (g50 : eb_S) (u51 : Nat) (w52 : Nat) => eb_br (8 ≤ x6_49) (k48 g50 u51 w52) (eb_mk g50 (.inr (11, [.null, .null, .int 0, .null, .null, .null, .null])) 7 bc bs u51 w52 (fun p54 g55 => eb_cs g55 p8 [1] ∧ ∃ c58 s59 : Nat, ((u51 + 1) + c58 ≤ bc ∧ (w52 + 7) + s59 ≤ bs) ∧ MX1_ringedBy Γ c58 s59 g55 p8 x6_49 (fun v56 g57 => eb_nn v56 (fun p60 => ∃ c63 s64 : Nat, ((((u51 + 1) + c58)) + c63 ≤ bc ∧ (((w52 + 7) + s59)) + s64 ≤ bs) ∧ MX12_init Γ c63 s64 g57 p54 p60 (fun g62 => eb_cs g62 p32 [14] ∧ ∃ c67 s68 : Nat, (((((u51 + 1) + c58) + c63)) + c67 ≤ bc ∧ ((((w52 + 7) + s59) + s64)) + s68 ≤ bs) ∧ MJ5_iterator Γ c67 s68 g62 p32 (fun v65 g66 => eb_jp4 (fun (x8_69 : Int32) (g70 : eb_S) (u71 : Nat) (w72 : Nat) => eb_jp3 (fun (g73 : eb_S) (u74 : Nat) (w75 : Nat) => r53 (x6_49 + 1) g73 u74 w75) (fun k76 => eb_br (x8_69 = 0) (k76 g70 u71 w72) (eb_cs g70 p32 [14] ∧ ∃ c79 s80 : Nat, (u71 + c79 ≤ bc ∧ w72 + s80 ≤ bs) ∧ MJ5_add Γ c79 s80 g70 p32 p54 (fun v77 g78 => k76 g78 (u71 + c79) (w72 + s80))))) (fun k82 => eb_loop4 (fun r87 (x8_83 : Int32) (g84 : eb_S) (u85 : Nat) (w86 : Nat) => eb_nn v65 (fun p88 => eb_cs g84 p88 [15] ∧ MJ6_hasNext Γ g84 p88 (fun v89 => eb_br (v89 = 0) (k82 x8_83 g84 u85 w86) (eb_cs g84 p88 [15] ∧ MJ6_next Γ g84 p88 (fun v93 g94 => eb_nn v93 (fun p97 => eb_cs g94 p97 [11] ∧ (eb_jp4 (fun (s98 : Int32) (g99 : eb_S) (u100 : Nat) (w101 : Nat) => r87 s98 g99 u100 w101) (fun k102 => eb_br (x8_83 = 0) (k102 0 g94 u85 w86) (eb_cs g94 p54 [11] ∧ ∃ c105 s106 : Nat, (u85 + c105 ≤ bc ∧ w86 + s106 ≤ bs) ∧ MX12_isLike Γ c105 s106 g94 p54 p97 (fun v103 g104 => eb_br (v103 = 0) (k102 1 g104 (u85 + c105) (w86 + s106)) (k102 0 g104 (u85 + c105) (w86 + s106)))))))))))) 1 g66 (((((u51 + 1) + c58) + c63) + c67)) (((((w52 + 7) + s59) + s64) + s68)))))))))) 1 g35 (((0 + c3) + 1)) (((0 + s4) + 3)))))) (k31 g2 (0 + c3) (0 + s4))))))))))))))) (K v1 g2))
abbrev rmX0_unlike (bc bs : Nat) : Room := { frames := 15, cells := bc, slots := bs, locals := 329 }
theorem nX0_unlike : eb_ar yX0_unlike 1 := by decide +kernel
theorem dX0_unlike_0 : eb_dc cX0_unlike 0 (.aload_n 0) 1 1 := by decide +kernel
theorem dX0_unlike_1 : eb_dc cX0_unlike 1 (.iload_n 1) 1 2 := by decide +kernel
theorem dX0_unlike_2 : eb_dc cX0_unlike 2 (.iconst 1) 1 3 := by decide +kernel
theorem dX0_unlike_3 : eb_dc cX0_unlike 3 (.invokevirtual 187) 3 6 := by decide +kernel
theorem dX0_unlike_6 : eb_dc cX0_unlike 6 (.istore_n 2) 1 7 := by decide +kernel
theorem dX0_unlike_7 : eb_dc cX0_unlike 7 (.iload_n 2) 1 8 := by decide +kernel
theorem dX0_unlike_8 : eb_dc cX0_unlike 8 (.iconst 1) 1 9 := by decide +kernel
theorem dX0_unlike_9 : eb_dj cX0_unlike 9 (.if_icmp .eq 5) 5 12 14 := by decide +kernel
theorem dX0_unlike_12 : eb_dc cX0_unlike 12 (.iload_n 2) 1 13 := by decide +kernel
theorem dX0_unlike_13 : eb_dc cX0_unlike 13 (.ireturn) 1 14 := by decide +kernel
theorem dX0_unlike_14 : eb_dc cX0_unlike 14 (.aload_n 0) 1 15 := by decide +kernel
theorem dX0_unlike_15 : eb_dc cX0_unlike 15 (.getfield 15) 3 18 := by decide +kernel
theorem dX0_unlike_18 : eb_dc cX0_unlike 18 (.iload_n 1) 1 19 := by decide +kernel
theorem dX0_unlike_19 : eb_dc cX0_unlike 19 (.aaload) 1 20 := by decide +kernel
theorem dX0_unlike_20 : eb_dc cX0_unlike 20 (.astore_n 3) 1 21 := by decide +kernel
theorem dX0_unlike_21 : eb_dc cX0_unlike 21 (.bipush 25) 2 23 := by decide +kernel
theorem dX0_unlike_23 : eb_dc cX0_unlike 23 (.aload_n 3) 1 24 := by decide +kernel
theorem dX0_unlike_24 : eb_dc cX0_unlike 24 (.iconst 0) 1 25 := by decide +kernel
theorem dX0_unlike_25 : eb_dc cX0_unlike 25 (.iconst 1) 1 26 := by decide +kernel
theorem dX0_unlike_26 : eb_dc cX0_unlike 26 (.invokevirtual 59) 3 29 := by decide +kernel
theorem dX0_unlike_29 : eb_dc cX0_unlike 29 (.iconst 2) 1 30 := by decide +kernel
theorem dX0_unlike_30 : eb_dc cX0_unlike 30 (.isub) 1 31 := by decide +kernel
theorem dX0_unlike_31 : eb_dc cX0_unlike 31 (.imul) 1 32 := by decide +kernel
theorem dX0_unlike_32 : eb_dc cX0_unlike 32 (.iconst 5) 1 33 := by decide +kernel
theorem dX0_unlike_33 : eb_dc cX0_unlike 33 (.aload_n 3) 1 34 := by decide +kernel
theorem dX0_unlike_34 : eb_dc cX0_unlike 34 (.iconst 0) 1 35 := by decide +kernel
theorem dX0_unlike_35 : eb_dc cX0_unlike 35 (.iconst 2) 1 36 := by decide +kernel
theorem dX0_unlike_36 : eb_dc cX0_unlike 36 (.invokevirtual 59) 3 39 := by decide +kernel
theorem dX0_unlike_39 : eb_dc cX0_unlike 39 (.iconst 2) 1 40 := by decide +kernel
theorem dX0_unlike_40 : eb_dc cX0_unlike 40 (.isub) 1 41 := by decide +kernel
theorem dX0_unlike_41 : eb_dc cX0_unlike 41 (.imul) 1 42 := by decide +kernel
theorem dX0_unlike_42 : eb_dc cX0_unlike 42 (.iadd) 1 43 := by decide +kernel
theorem dX0_unlike_43 : eb_dc cX0_unlike 43 (.aload_n 3) 1 44 := by decide +kernel
theorem dX0_unlike_44 : eb_dc cX0_unlike 44 (.iconst 1) 1 45 := by decide +kernel
theorem dX0_unlike_45 : eb_dc cX0_unlike 45 (.iconst 2) 1 46 := by decide +kernel
theorem dX0_unlike_46 : eb_dc cX0_unlike 46 (.invokevirtual 59) 3 49 := by decide +kernel
theorem dX0_unlike_49 : eb_dc cX0_unlike 49 (.iadd) 1 50 := by decide +kernel
theorem dX0_unlike_50 : eb_dc cX0_unlike 50 (.iconst 2) 1 51 := by decide +kernel
theorem dX0_unlike_51 : eb_dc cX0_unlike 51 (.isub) 1 52 := by decide +kernel
theorem dX0_unlike_52 : eb_dc cX0_unlike 52 (.istore 4) 2 54 := by decide +kernel
theorem dX0_unlike_54 : eb_dc cX0_unlike 54 (.aload_n 0) 1 55 := by decide +kernel
theorem dX0_unlike_55 : eb_dc cX0_unlike 55 (.getfield 19) 3 58 := by decide +kernel
theorem dX0_unlike_58 : eb_dc cX0_unlike 58 (.iload 4) 2 60 := by decide +kernel
theorem dX0_unlike_60 : eb_dc cX0_unlike 60 (.iaload) 1 61 := by decide +kernel
theorem dX0_unlike_61 : eb_dj cX0_unlike 61 (.ifCond .ne 131) 131 64 192 := by decide +kernel
theorem dX0_unlike_64 : eb_dc cX0_unlike 64 (.new 204) 3 67 := by decide +kernel
theorem dX0_unlike_67 : eb_dc cX0_unlike 67 (.dup) 1 68 := by decide +kernel
theorem dX0_unlike_68 : eb_dc cX0_unlike 68 (.invokespecial 206) 3 71 := by decide +kernel
theorem dX0_unlike_71 : eb_dc cX0_unlike 71 (.astore 5) 2 73 := by decide +kernel
theorem dX0_unlike_73 : eb_dc cX0_unlike 73 (.iconst 1) 1 74 := by decide +kernel
theorem dX0_unlike_74 : eb_dc cX0_unlike 74 (.istore 6) 2 76 := by decide +kernel
theorem dX0_unlike_76 : eb_dc cX0_unlike 76 (.iload 6) 2 78 := by decide +kernel
theorem dX0_unlike_78 : eb_dc cX0_unlike 78 (.bipush 8) 2 80 := by decide +kernel
theorem dX0_unlike_80 : eb_dj cX0_unlike 80 (.if_icmp .ge 98) 98 83 178 := by decide +kernel
theorem dX0_unlike_83 : eb_dc cX0_unlike 83 (.new 195) 3 86 := by decide +kernel
theorem dX0_unlike_86 : eb_dc cX0_unlike 86 (.dup) 1 87 := by decide +kernel
theorem dX0_unlike_87 : eb_dc cX0_unlike 87 (.aload_n 3) 1 88 := by decide +kernel
theorem dX0_unlike_88 : eb_dc cX0_unlike 88 (.iload 6) 2 90 := by decide +kernel
theorem dX0_unlike_90 : eb_dc cX0_unlike 90 (.invokevirtual 207) 3 93 := by decide +kernel
theorem dX0_unlike_93 : eb_dc cX0_unlike 93 (.invokespecial 211) 3 96 := by decide +kernel
theorem dX0_unlike_96 : eb_dc cX0_unlike 96 (.astore 7) 2 98 := by decide +kernel
theorem dX0_unlike_98 : eb_dc cX0_unlike 98 (.iconst 1) 1 99 := by decide +kernel
theorem dX0_unlike_99 : eb_dc cX0_unlike 99 (.istore 8) 2 101 := by decide +kernel
theorem dX0_unlike_101 : eb_dc cX0_unlike 101 (.aload 5) 2 103 := by decide +kernel
theorem dX0_unlike_103 : eb_dc cX0_unlike 103 (.invokeinterface 212 1) 5 108 := by decide +kernel
theorem dX0_unlike_108 : eb_dc cX0_unlike 108 (.astore 9) 2 110 := by decide +kernel
theorem dX0_unlike_110 : eb_dc cX0_unlike 110 (.aload 9) 2 112 := by decide +kernel
theorem dX0_unlike_112 : eb_dc cX0_unlike 112 (.invokeinterface 218 1) 5 117 := by decide +kernel
theorem dX0_unlike_117 : eb_dj cX0_unlike 117 (.ifCond .eq 40) 40 120 157 := by decide +kernel
theorem dX0_unlike_120 : eb_dc cX0_unlike 120 (.aload 9) 2 122 := by decide +kernel
theorem dX0_unlike_122 : eb_dc cX0_unlike 122 (.invokeinterface 224 1) 5 127 := by decide +kernel
theorem dX0_unlike_127 : eb_dc cX0_unlike 127 (.checkcast 195) 3 130 := by decide +kernel
theorem dX0_unlike_130 : eb_dc cX0_unlike 130 (.astore 10) 2 132 := by decide +kernel
theorem dX0_unlike_132 : eb_dc cX0_unlike 132 (.iload 8) 2 134 := by decide +kernel
theorem dX0_unlike_134 : eb_dj cX0_unlike 134 (.ifCond .eq 17) 17 137 151 := by decide +kernel
theorem dX0_unlike_137 : eb_dc cX0_unlike 137 (.aload 7) 2 139 := by decide +kernel
theorem dX0_unlike_139 : eb_dc cX0_unlike 139 (.aload 10) 2 141 := by decide +kernel
theorem dX0_unlike_141 : eb_dc cX0_unlike 141 (.invokevirtual 200) 3 144 := by decide +kernel
theorem dX0_unlike_144 : eb_dj cX0_unlike 144 (.ifCond .ne 7) 7 147 151 := by decide +kernel
theorem dX0_unlike_147 : eb_dc cX0_unlike 147 (.iconst 1) 1 148 := by decide +kernel
theorem dX0_unlike_148 : eb_dj cX0_unlike 148 (.goto 4) 4 151 152 := by decide +kernel
theorem dX0_unlike_151 : eb_dc cX0_unlike 151 (.iconst 0) 1 152 := by decide +kernel
theorem dX0_unlike_152 : eb_dc cX0_unlike 152 (.istore 8) 2 154 := by decide +kernel
theorem dX0_unlike_154 : eb_dj cX0_unlike 154 (.goto (-44)) (-44) 157 110 := by decide +kernel
theorem dX0_unlike_157 : eb_dc cX0_unlike 157 (.iload 8) 2 159 := by decide +kernel
theorem dX0_unlike_159 : eb_dj cX0_unlike 159 (.ifCond .eq 13) 13 162 172 := by decide +kernel
theorem dX0_unlike_162 : eb_dc cX0_unlike 162 (.aload 5) 2 164 := by decide +kernel
theorem dX0_unlike_164 : eb_dc cX0_unlike 164 (.aload 7) 2 166 := by decide +kernel
theorem dX0_unlike_166 : eb_dc cX0_unlike 166 (.invokeinterface 228 2) 5 171 := by decide +kernel
theorem dX0_unlike_171 : eb_dc cX0_unlike 171 (.pop) 1 172 := by decide +kernel
theorem dX0_unlike_172 : eb_dc cX0_unlike 172 (.iinc 6 1) 3 175 := by decide +kernel
theorem dX0_unlike_175 : eb_dj cX0_unlike 175 (.goto (-99)) (-99) 178 76 := by decide +kernel
theorem dX0_unlike_178 : eb_dc cX0_unlike 178 (.aload_n 0) 1 179 := by decide +kernel
theorem dX0_unlike_179 : eb_dc cX0_unlike 179 (.getfield 19) 3 182 := by decide +kernel
theorem dX0_unlike_182 : eb_dc cX0_unlike 182 (.iload 4) 2 184 := by decide +kernel
theorem dX0_unlike_184 : eb_dc cX0_unlike 184 (.aload 5) 2 186 := by decide +kernel
theorem dX0_unlike_186 : eb_dc cX0_unlike 186 (.invokeinterface 232 1) 5 191 := by decide +kernel
theorem dX0_unlike_191 : eb_dc cX0_unlike 191 (.iastore) 1 192 := by decide +kernel
theorem dX0_unlike_192 : eb_dc cX0_unlike 192 (.aload_n 0) 1 193 := by decide +kernel
theorem dX0_unlike_193 : eb_dc cX0_unlike 193 (.getfield 19) 3 196 := by decide +kernel
theorem dX0_unlike_196 : eb_dc cX0_unlike 196 (.iload 4) 2 198 := by decide +kernel
theorem dX0_unlike_198 : eb_dc cX0_unlike 198 (.iaload) 1 199 := by decide +kernel
theorem dX0_unlike_199 : eb_dc cX0_unlike 199 (.ireturn) 1 200 := by decide +kernel
theorem ctX0_unlike {l : Launch} {Γ : eb_C} {bc bs : Nat} {st : eb_S} {a0 : Nat} {a1 : Int32} {K : Int32 → eb_S → Prop} (h : MX0_unlike Γ bc bs st a0 a1 K) : eb_Ct l Γ yX0_unlike cX0_unlike 11 (some .int) (rmX0_unlike bc bs) [.ref a0, .int a1] st (eb_oI K) := by
  refine eb_of (by decide) (Nat.le_of_ble_eq_true rfl) (fun X P hP hX0 => ?_)
  suffices hgo : (0 ≤ bc ∧ 0 ≤ bs) → eb_G l Γ P X cX0_unlike RX0 11 (some .int) (rmX0_unlike bc bs) 0 [(0, .ref a0), (1, .int a1)] [] st 0 0 from hgo ⟨Nat.zero_le _, Nat.zero_le _⟩
  intro hu
  refine eg_aload_n 0 dX0_unlike_0 rfl rfl ?_
  refine eg_iload_n 1 dX0_unlike_1 rfl rfl ?_
  refine eg_iconst dX0_unlike_2 kc_1 ?_
  obtain ⟨hcs, h⟩ := h
  obtain ⟨c3, s4, hca, h⟩ := h
  have hM0 := h
  clear h
  refine ec_VIa (rest := []) (ctX0_whyHull hM0) (lw_V q685 q687 qs15 q74 q688) rfl rfl hcs nX0_whyHull ⟨Nat.le_of_ble_eq_true rfl, Nat.le_of_ble_eq_true rfl⟩ ⟨rfl, rfl⟩ hca rfl rfl (Nat.le_of_ble_eq_true rfl) dX0_unlike_3 (fun v1 g2 h => ?_)
  clear hM0
  replace hu := hca
  refine eg_istore_n (lv' := [(2, .int v1), (0, .ref a0), (1, .int a1)]) dX0_unlike_6 rfl (Nat.le_of_ble_eq_true rfl) rfl ?_
  refine eg_iload_n 0 dX0_unlike_7 rfl rfl ?_
  refine eg_iconst dX0_unlike_8 kc_1 ?_
  refine eg_icmp_eq dX0_unlike_9 (fun c112 => ?_) (fun c112 => ?_)
  · replace h := h.1 c112
    refine eg_aload_n 1 dX0_unlike_14 rfl rfl ?_
    obtain ⟨fs, v5, he, hv, h⟩ := h
    refine eg_get 0 in_X0 he rfl (Nat.le_of_ble_eq_true rfl) q159 rfl hv dX0_unlike_15 ?_
    refine eg_iload_n 2 dX0_unlike_18 rfl rfl ?_
    obtain ⟨p6, rfl, h⟩ := h
    obtain ⟨nA, fA, he, hb, h⟩ := h
    refine eg_aald (t := 7) (ty := .object "EvenBodies$Body") rfl rfl he hb dX0_unlike_19 (fun v7 ev7 => ?_)
    replace h := h v7 ev7
    refine eh_astore_n (i := 3) (v := v7) (lv' := [(3, va_rf v7), (2, .int v1), (0, .ref a0), (1, .int a1)]) dX0_unlike_20 rfl (Nat.le_of_ble_eq_true rfl) rfl ?_
    refine eg_bipush dX0_unlike_21 kb_25 ?_
    refine eh_aload_n (v := v7) 0 dX0_unlike_23 rfl rfl ?_
    refine eg_iconst dX0_unlike_24 kc_0 ?_
    refine eg_iconst dX0_unlike_25 kc_1 ?_
    obtain ⟨p8, rfl, h⟩ := h
    obtain ⟨hcs, h⟩ := h
    have hM0 := h
    clear h
    refine ec_VIp (rest := [.int 25]) (ctX1_angle hM0) (lw_V q224 q201 q202 q75 q203) rfl rfl hcs nX1_angle ⟨Nat.le_of_ble_eq_true rfl, Nat.le_of_ble_eq_true rfl⟩ ⟨rfl, rfl⟩ hu rfl rfl (Nat.le_of_ble_eq_true rfl) dX0_unlike_26 (fun v9 h => ?_)
    clear hM0
    refine eg_iconst dX0_unlike_29 kc_2 ?_
    refine eg_isub dX0_unlike_30 ?_
    refine eg_imul dX0_unlike_31 ?_
    refine eg_iconst dX0_unlike_32 kc_5 ?_
    refine eg_aload_n 0 dX0_unlike_33 rfl rfl ?_
    refine eg_iconst dX0_unlike_34 kc_0 ?_
    refine eg_iconst dX0_unlike_35 kc_2 ?_
    obtain ⟨hcs, h⟩ := h
    have hM0 := h
    clear h
    refine ec_VIp (rest := [.int 5, .int (25 * (v9 - 2))]) (ctX1_angle hM0) (lw_V q224 q201 q202 q75 q203) rfl rfl hcs nX1_angle ⟨Nat.le_of_ble_eq_true rfl, Nat.le_of_ble_eq_true rfl⟩ ⟨rfl, rfl⟩ hu rfl rfl (Nat.le_of_ble_eq_true rfl) dX0_unlike_36 (fun v13 h => ?_)
    clear hM0
    refine eg_iconst dX0_unlike_39 kc_2 ?_
    refine eg_isub dX0_unlike_40 ?_
    refine eg_imul dX0_unlike_41 ?_
    refine eg_iadd dX0_unlike_42 ?_
    refine eg_aload_n 0 dX0_unlike_43 rfl rfl ?_
    refine eg_iconst dX0_unlike_44 kc_1 ?_
    refine eg_iconst dX0_unlike_45 kc_2 ?_
    obtain ⟨hcs, h⟩ := h
    have hM0 := h
    clear h
    refine ec_VIp (rest := [.int ((25 * (v9 - 2)) + (5 * (v13 - 2)))]) (ctX1_angle hM0) (lw_V q224 q201 q202 q75 q203) rfl rfl hcs nX1_angle ⟨Nat.le_of_ble_eq_true rfl, Nat.le_of_ble_eq_true rfl⟩ ⟨rfl, rfl⟩ hu rfl rfl (Nat.le_of_ble_eq_true rfl) dX0_unlike_46 (fun v17 h => ?_)
    clear hM0
    refine eg_iadd dX0_unlike_49 ?_
    refine eg_iconst dX0_unlike_50 kc_2 ?_
    refine eg_isub dX0_unlike_51 ?_
    refine eg_leti (fun v21 ev21 => ?_)
    replace h := h v21 ev21
    refine eg_istore (lv' := [(4, .int v21), (3, .ref p8), (2, .int v1), (0, .ref a0), (1, .int a1)]) dX0_unlike_52 (Nat.le_of_ble_eq_true rfl) rfl ?_
    refine eg_aload_n 3 dX0_unlike_54 rfl rfl ?_
    obtain ⟨fs, v22, he, hv, h⟩ := h
    refine eg_get 5 in_X0 he rfl (Nat.le_of_ble_eq_true rfl) q164 rfl hv dX0_unlike_55 ?_
    refine eg_iload 0 dX0_unlike_58 rfl ?_
    obtain ⟨p23, rfl, h⟩ := h
    obtain ⟨nA, fA, he, hb, h⟩ := h
    refine eh_iald he hb dX0_unlike_60 (fun v24 ev24 => ?_)
    replace h := h v24 ev24
    refine eb_jp3_e (J := fun (g25 : eb_S) (u26 : Nat) (w27 : Nat) => (u26 ≤ bc ∧ w27 ≤ bs) → eb_G l Γ P X cX0_unlike RX0 11 (some .int) (rmX0_unlike bc bs) 192 [(0, .ref a0), (4, .int v21)] [] g25 u26 w27) h ?_ ?_
    · clear h
      intro g25 u26 w27 h hu
      refine eg_aload_n 0 dX0_unlike_192 rfl rfl ?_
      obtain ⟨fs, v28, he, hv, h⟩ := h
      refine eg_get 5 in_X0 he rfl (Nat.le_of_ble_eq_true rfl) q164 rfl hv dX0_unlike_193 ?_
      refine eg_iload 1 dX0_unlike_196 rfl ?_
      obtain ⟨p29, rfl, h⟩ := h
      obtain ⟨nA, fA, he, hb, h⟩ := h
      refine eh_iald he hb dX0_unlike_198 (fun v30 ev30 => ?_)
      replace h := h v30 ev30
      exact eg_iret dX0_unlike_199 hu.1 hu.2 (hP _ _ ⟨_, rfl, h⟩)
    · clear h
      intro k31 hk31 h
      refine eg_if_ne dX0_unlike_61 (fun c111 => ?_) (fun c111 => ?_)
      · replace h := h.2 c111
        exact eg_sub [3, 0] rfl (hk31 g2 (0 + c3) (0 + s4) h hu)
      · replace h := h.1 c111
        obtain ⟨hc1, hs1, h⟩ := h
        refine eh_new (ci := 14) (fs := [.int 0, .null, .int 0]) in_J5 tyJ5 tyJ5_ok q857 q858 q94 rfl (by decide +kernel) hc1 hs1 dX0_unlike_64 (fun p32 qp32 g33 eg33 => ?_)
        replace h := h p32 qp32 g33 eg33
        replace hu := And.intro hc1 hs1
        refine eg_dup dX0_unlike_67 rfl ?_
        have hM0 := h
        clear h
        refine ec_IVw (rest := [.ref p32]) (ctJ5_init hM0) q861 q94 q859 q860 rfl nJ5_init ⟨Nat.le_of_ble_eq_true rfl, Nat.le_of_ble_eq_true rfl⟩ ⟨rfl, rfl⟩ hu rfl rfl (Nat.le_of_ble_eq_true rfl) dX0_unlike_68 (fun g35 h => ?_)
        clear hM0
        refine eg_astore (i := 5) (lv' := [(5, .ref p32), (4, .int v21), (3, .ref p8), (2, .int v1), (0, .ref a0), (1, .int a1)]) dX0_unlike_71 (Nat.le_of_ble_eq_true rfl) rfl ?_
        refine eg_iconst dX0_unlike_73 kc_1 ?_
        refine eg_istore (lv' := [(6, .int 1), (5, .ref p32), (4, .int v21), (3, .ref p8), (2, .int v1), (0, .ref a0), (1, .int a1)]) dX0_unlike_74 (Nat.le_of_ble_eq_true rfl) rfl ?_
        refine eb_jp3_e (J := fun (g38 : eb_S) (u39 : Nat) (w40 : Nat) => (u39 ≤ bc ∧ w40 ≤ bs) → eb_G l Γ P X cX0_unlike RX0 11 (some .int) (rmX0_unlike bc bs) 178 [(0, .ref a0), (4, .int v21), (5, .ref p32)] [] g38 u39 w40) h ?_ ?_
        · clear h
          intro g38 u39 w40 h hu
          refine eg_aload_n 0 dX0_unlike_178 rfl rfl ?_
          obtain ⟨fs, v41, he, hv, h⟩ := h
          refine eg_get 5 in_X0 he rfl (Nat.le_of_ble_eq_true rfl) q164 rfl hv dX0_unlike_179 ?_
          refine eg_iload 1 dX0_unlike_182 rfl ?_
          refine eg_aload 2 dX0_unlike_184 rfl ?_
          obtain ⟨hcs, h⟩ := h
          have hM0 := h
          clear h
          have hnf : eb_ar ⟨"java/util/List", "size", "()I"⟩ 0 := by decide +kernel
          refine ec_FIp (rest := [.int v21, va_rf v41]) (ctJ5_size hM0) (lw_F q1014 q1017 q1019 q94 q1021) (List.mem_of_getElem? (i := 2) rfl) rfl hcs hnf ⟨Nat.le_of_ble_eq_true rfl, Nat.le_of_ble_eq_true rfl⟩ ⟨rfl, rfl⟩ hu rfl rfl (by simp only [List.map_cons, List.map_nil, eb_rfc]; exact Nat.le_of_ble_eq_true rfl) dX0_unlike_186 (fun v42 h => ?_)
          clear hM0
          obtain ⟨p46, rfl, h⟩ := h
          obtain ⟨nA, fA, he, hb, h⟩ := h
          refine eh_iast he hb dX0_unlike_191 (fun g47 eg47 => ?_)
          replace h := h g47 eg47
          exact eg_sub [0, 1] rfl (hk31 g47 u39 w40 h hu)
        · clear h
          intro k48 hk48 h
          refine eg_sub [5, 3, 2, 1, 0] rfl ?_
          refine eb_loop4_e (J := fun (x6_49 : Int32) (g50 : eb_S) (u51 : Nat) (w52 : Nat) => (u51 ≤ bc ∧ w52 ≤ bs) → eb_G l Γ P X cX0_unlike RX0 11 (some .int) (rmX0_unlike bc bs) 76 [(0, .ref a0), (3, .ref p8), (4, .int v21), (5, .ref p32), (6, .int x6_49)] [] g50 u51 w52) h ?_ hu
          clear h
          clear hu
          intro r53 hr53 x6_49 g50 u51 w52 h hu
          refine eg_iload 4 dX0_unlike_76 rfl ?_
          refine eg_bipush dX0_unlike_78 kb_8 ?_
          refine eg_icmp_ge dX0_unlike_80 (fun c110 => ?_) (fun c110 => ?_)
          · replace h := h.1 c110
            exact eg_sub [0, 2, 3] rfl (hk48 g50 u51 w52 h hu)
          · replace h := h.2 c110
            obtain ⟨hc1, hs1, h⟩ := h
            refine eh_new (ci := 11) (fs := [.null, .null, .int 0, .null, .null, .null, .null]) in_X12 tyX12 tyX12_ok q886 q694 q89 rfl (by decide +kernel) hc1 hs1 dX0_unlike_83 (fun p54 qp54 g55 eg55 => ?_)
            replace h := h p54 qp54 g55 eg55
            replace hu := And.intro hc1 hs1
            refine eg_dup dX0_unlike_86 rfl ?_
            refine eg_aload_n 1 dX0_unlike_87 rfl rfl ?_
            refine eg_iload 4 dX0_unlike_88 rfl ?_
            obtain ⟨hcs, h⟩ := h
            obtain ⟨c58, s59, hca, h⟩ := h
            have hM0 := h
            clear h
            refine ec_VRa (rest := [.ref p54, .ref p54]) (ctX1_ringedBy hM0) (lw_V q887 q888 q889 q75 q890) rfl rfl hcs nX1_ringedBy ⟨Nat.le_of_ble_eq_true rfl, Nat.le_of_ble_eq_true rfl⟩ ⟨rfl, rfl⟩ hca rfl rfl (Nat.le_of_ble_eq_true rfl) dX0_unlike_90 (fun v56 g57 h => ?_)
            clear hM0
            replace hu := hca
            obtain ⟨p60, rfl, h⟩ := h
            obtain ⟨c63, s64, hca, h⟩ := h
            have hM0 := h
            clear h
            refine ec_IVa (rest := [.ref p54]) (ctX12_init hM0) q697 q89 q894 q696 rfl nX12_init ⟨Nat.le_of_ble_eq_true rfl, Nat.le_of_ble_eq_true rfl⟩ ⟨rfl, rfl⟩ hca rfl rfl (Nat.le_of_ble_eq_true rfl) dX0_unlike_93 (fun g62 h => ?_)
            clear hM0
            replace hu := hca
            refine eg_astore (i := 7) (lv' := [(7, .ref p54), (0, .ref a0), (3, .ref p8), (4, .int v21), (5, .ref p32), (6, .int x6_49)]) dX0_unlike_96 (Nat.le_of_ble_eq_true rfl) rfl ?_
            refine eg_iconst dX0_unlike_98 kc_1 ?_
            refine eg_istore (lv' := [(8, .int 1), (7, .ref p54), (0, .ref a0), (3, .ref p8), (4, .int v21), (5, .ref p32), (6, .int x6_49)]) dX0_unlike_99 (Nat.le_of_ble_eq_true rfl) rfl ?_
            refine eg_aload 5 dX0_unlike_101 rfl ?_
            obtain ⟨hcs, h⟩ := h
            obtain ⟨c67, s68, hca, h⟩ := h
            have hM0 := h
            clear h
            have hnf : eb_ar ⟨"java/util/List", "iterator", "()Ljava/util/Iterator;"⟩ 0 := by decide +kernel
            refine ec_FRa (rest := []) (ctJ5_iterator hM0) (lw_F q896 q900 q902 q94 q904) (List.mem_of_getElem? (i := 0) rfl) rfl hcs hnf ⟨Nat.le_of_ble_eq_true rfl, Nat.le_of_ble_eq_true rfl⟩ ⟨rfl, rfl⟩ hca rfl rfl (Nat.le_of_ble_eq_true rfl) dX0_unlike_103 (fun v65 g66 h => ?_)
            clear hM0
            replace hu := hca
            refine eh_astore (i := 9) (v := v65) (lv' := [(9, va_rf v65), (8, .int 1), (7, .ref p54), (0, .ref a0), (3, .ref p8), (4, .int v21), (5, .ref p32), (6, .int x6_49)]) dX0_unlike_108 (Nat.le_of_ble_eq_true rfl) rfl ?_
            refine eb_jp4_e (J := fun (x8_69 : Int32) (g70 : eb_S) (u71 : Nat) (w72 : Nat) => (u71 ≤ bc ∧ w72 ≤ bs) → eb_G l Γ P X cX0_unlike RX0 11 (some .int) (rmX0_unlike bc bs) 157 [(0, .ref a0), (3, .ref p8), (4, .int v21), (5, .ref p32), (6, .int x6_49), (7, .ref p54), (8, .int x8_69)] [] g70 u71 w72) h ?_ ?_
            · clear h
              intro x8_69 g70 u71 w72 h hu
              refine eg_iload 6 dX0_unlike_157 rfl ?_
              refine eb_jp3_e (J := fun (g73 : eb_S) (u74 : Nat) (w75 : Nat) => (u74 ≤ bc ∧ w75 ≤ bs) → eb_G l Γ P X cX0_unlike RX0 11 (some .int) (rmX0_unlike bc bs) 172 [(0, .ref a0), (3, .ref p8), (4, .int v21), (5, .ref p32), (6, .int x6_49)] [] g73 u74 w75) h ?_ ?_
              · clear h
                intro g73 u74 w75 h hu
                refine eg_iinc (j := 4) (lv' := [(6, .int (x6_49 + 1)), (0, .ref a0), (3, .ref p8), (4, .int v21), (5, .ref p32)]) dX0_unlike_172 rfl (by rw [kc_1]) (Nat.le_of_ble_eq_true rfl) rfl ?_
                refine eg_goto dX0_unlike_175 ?_
                exact eg_sub [1, 2, 3, 4, 0] rfl (hr53 (x6_49 + 1) g73 u74 w75 h hu)
              · clear h
                intro k76 hk76 h
                refine eg_if_eq dX0_unlike_159 (fun c81 => ?_) (fun c81 => ?_)
                · replace h := h.1 c81
                  exact eg_sub [0, 1, 2, 3, 4] rfl (hk76 g70 u71 w72 h hu)
                · replace h := h.2 c81
                  refine eg_aload 3 dX0_unlike_162 rfl ?_
                  refine eg_aload 5 dX0_unlike_164 rfl ?_
                  obtain ⟨hcs, h⟩ := h
                  obtain ⟨c79, s80, hca, h⟩ := h
                  have hM0 := h
                  clear h
                  have hnf : eb_ar ⟨"java/util/List", "add", "(Ljava/lang/Object;)Z"⟩ 1 := by decide +kernel
                  refine ec_FIa (rest := []) (ctJ5_add hM0) (lw_F q948 q951 q953 q94 q955) (List.mem_of_getElem? (i := 1) rfl) rfl hcs hnf ⟨Nat.le_of_ble_eq_true rfl, Nat.le_of_ble_eq_true rfl⟩ ⟨rfl, rfl⟩ hca rfl rfl (Nat.le_of_ble_eq_true rfl) dX0_unlike_166 (fun v77 g78 h => ?_)
                  clear hM0
                  replace hu := hca
                  refine eg_pop dX0_unlike_171 rfl ?_
                  exact eg_sub [0, 1, 2, 3, 4] rfl (hk76 g78 (u71 + c79) (w72 + s80) h hu)
            · clear h
              intro k82 hk82 h
              refine eg_sub [3, 4, 5, 6, 7, 2, 1, 0] rfl ?_
              refine eb_loop4_e (J := fun (x8_83 : Int32) (g84 : eb_S) (u85 : Nat) (w86 : Nat) => (u85 ≤ bc ∧ w86 ≤ bs) → eb_G l Γ P X cX0_unlike RX0 11 (some .int) (rmX0_unlike bc bs) 110 [(0, .ref a0), (3, .ref p8), (4, .int v21), (5, .ref p32), (6, .int x6_49), (7, .ref p54), (8, .int x8_83), (9, va_rf v65)] [] g84 u85 w86) h ?_ hu
              clear h
              clear hu
              intro r87 hr87 x8_83 g84 u85 w86 h hu
              refine eh_aload (v := v65) 7 dX0_unlike_110 rfl ?_
              obtain ⟨p88, rfl, h⟩ := h
              obtain ⟨hcs, h⟩ := h
              have hM0 := h
              clear h
              have hnf : eb_ar ⟨"java/util/Iterator", "hasNext", "()Z"⟩ 0 := by decide +kernel
              refine ec_FIp (rest := []) (ctJ6_hasNext hM0) (lw_F q925 q929 q931 q95 q933) (List.mem_of_getElem? (i := 3) rfl) rfl hcs hnf ⟨Nat.le_of_ble_eq_true rfl, Nat.le_of_ble_eq_true rfl⟩ ⟨rfl, rfl⟩ hu rfl rfl (Nat.le_of_ble_eq_true rfl) dX0_unlike_112 (fun v89 h => ?_)
              clear hM0
              refine eg_if_eq dX0_unlike_117 (fun c109 => ?_) (fun c109 => ?_)
              · replace h := h.1 c109
                exact eg_sub [0, 1, 2, 3, 4, 5, 6] rfl (hk82 x8_83 g84 u85 w86 h hu)
              · replace h := h.2 c109
                refine eg_aload 7 dX0_unlike_120 rfl ?_
                obtain ⟨hcs, h⟩ := h
                have hM0 := h
                clear h
                have hnf : eb_ar ⟨"java/util/Iterator", "next", "()Ljava/lang/Object;"⟩ 0 := by decide +kernel
                refine ec_FRw (rest := []) (ctJ6_next hM0) (lw_F q935 q938 q940 q95 q942) (List.mem_of_getElem? (i := 4) rfl) rfl hcs hnf ⟨Nat.le_of_ble_eq_true rfl, Nat.le_of_ble_eq_true rfl⟩ ⟨rfl, rfl⟩ hu rfl rfl (Nat.le_of_ble_eq_true rfl) dX0_unlike_122 (fun v93 g94 h => ?_)
                clear hM0
                obtain ⟨p97, rfl, h⟩ := h
                obtain ⟨hcs, h⟩ := h
                refine eg_castX12 q886 hcs dX0_unlike_127 ?_
                refine eg_astore (i := 10) (lv' := [(10, .ref p97), (0, .ref a0), (3, .ref p8), (4, .int v21), (5, .ref p32), (6, .int x6_49), (7, .ref p54), (8, .int x8_83), (9, .ref p88)]) dX0_unlike_130 (Nat.le_of_ble_eq_true rfl) rfl ?_
                refine eg_iload 7 dX0_unlike_132 rfl ?_
                refine eb_jp4_e (J := fun (s98 : Int32) (g99 : eb_S) (u100 : Nat) (w101 : Nat) => (u100 ≤ bc ∧ w101 ≤ bs) → eb_G l Γ P X cX0_unlike RX0 11 (some .int) (rmX0_unlike bc bs) 152 [(0, .ref a0), (3, .ref p8), (4, .int v21), (5, .ref p32), (6, .int x6_49), (7, .ref p54), (9, .ref p88)] [.int s98] g99 u100 w101) h ?_ ?_
                · clear h
                  intro s98 g99 u100 w101 h hu
                  refine eg_istore (lv' := [(8, .int s98), (0, .ref a0), (3, .ref p8), (4, .int v21), (5, .ref p32), (6, .int x6_49), (7, .ref p54), (9, .ref p88)]) dX0_unlike_152 (Nat.le_of_ble_eq_true rfl) rfl ?_
                  refine eg_goto dX0_unlike_154 ?_
                  exact eg_sub [1, 2, 3, 4, 5, 6, 0, 7] rfl (hr87 s98 g99 u100 w101 h hu)
                · clear h
                  intro k102 hk102 h
                  refine eg_if_eq dX0_unlike_134 (fun c108 => ?_) (fun c108 => ?_)
                  · replace h := h.1 c108
                    refine eg_iconst dX0_unlike_151 kc_0 ?_
                    exact eg_sub [1, 2, 3, 4, 5, 6, 8] rfl (hk102 0 g94 u85 w86 h hu)
                  · replace h := h.2 c108
                    refine eg_aload 6 dX0_unlike_137 rfl ?_
                    refine eg_aload 0 dX0_unlike_139 rfl ?_
                    obtain ⟨hcs, h⟩ := h
                    obtain ⟨c105, s106, hca, h⟩ := h
                    have hM0 := h
                    clear h
                    refine ec_VIa (rest := []) (ctX12_isLike hM0) (lw_V q796 q797 q798 q89 q799) rfl rfl hcs nX12_isLike ⟨Nat.le_of_ble_eq_true rfl, Nat.le_of_ble_eq_true rfl⟩ ⟨rfl, rfl⟩ hca rfl rfl (Nat.le_of_ble_eq_true rfl) dX0_unlike_141 (fun v103 g104 h => ?_)
                    clear hM0
                    replace hu := hca
                    refine eg_if_ne dX0_unlike_144 (fun c107 => ?_) (fun c107 => ?_)
                    · replace h := h.2 c107
                      refine eg_iconst dX0_unlike_151 kc_0 ?_
                      exact eg_sub [1, 2, 3, 4, 5, 6, 8] rfl (hk102 0 g104 (u85 + c105) (w86 + s106) h hu)
                    · replace h := h.1 c107
                      refine eg_iconst dX0_unlike_147 kc_1 ?_
                      refine eg_goto dX0_unlike_148 ?_
                      exact eg_sub [1, 2, 3, 4, 5, 6, 8] rfl (hk102 1 g104 (u85 + c105) (w86 + s106) h hu)
  · replace h := h.2 c112
    refine eg_iload_n 0 dX0_unlike_12 rfl rfl ?_
    exact eg_iret dX0_unlike_13 hu.1 hu.2 (hP _ _ ⟨_, rfl, h⟩)
theorem gUX14_39 : ∀ c ∈ [13], ∃ (C : String) (T : u_T) (N : Nat), eb_cl[c]? = some (C, T, N) ∧ GoodIn lw_all (va_wsU "EvenBodies$Snub" 39 C "EvenBodies$Net" ⟨"EvenBodies$Snub", "joins", "(II)V"⟩ yX10_joins (ws_ yX10_joins cX10_joins 3 (none))) := by
  intro c hc
  simp only [List.mem_cons, List.not_mem_nil, or_false] at hc
  rcases hc with rfl
  · exact ⟨_, _, _, rfl, lw_U q1041 q1042 q1043 q611 q87 q612⟩
def MX14_init (Γ : eb_C) (bc bs : Nat) (st : eb_S) (a0 : Nat) (a1 : Nat) (K : eb_S → Prop) : Prop :=
  eb_gr st a1 1 3 (fun v1 => eb_nn v1 (fun p2 => eb_gi st p2 7 1 (fun v3 => ∃ c6 s7 : Nat, (0 + c6 ≤ bc ∧ 0 + s7 ≤ bs) ∧ MX10_init Γ c6 s7 st a0 (v3 / 2) 8 (fun g5 => eb_pt g5 a0 13 4 (.ref a1) (fun g8 => eb_gr g8 a1 1 3 (fun v9 => eb_nn v9 (fun p10 => eb_gi g8 p10 7 1 (fun v11 => eb_ok1 v11 ∧ (eb_mk g8 (eb_ia Γ 0 (v11.toNatClampNeg) (fun _ => 0)) (v11.toNatClampNeg) bc bs (0 + c6) (0 + s7) (fun p12 g13 => eb_pt g13 a0 13 5 (.ref p12) (fun g14 => eb_jp1 (fun (g15 : eb_S) => eb_loop2 (fun r18 (x4_16 : Int32) (g17 : eb_S) => eb_gi g17 p10 7 1 (fun v19 => eb_br (v19 ≤ x4_16) (K g17) (eb_jp1 (fun (g20 : eb_S) => r18 (x4_16 + 1) g20) (fun k21 => eb_loop2 (fun r24 (x5_22 : Int32) (g23 : eb_S) => eb_br (3 ≤ x5_22) (k21 g23) (eb_cs g23 p10 [7] ∧ MX8_isHalf Γ g23 p10 x4_16 (fun v25 => eb_br (v25 = 0) (k21 g23) (eb_jp1 (fun (g29 : eb_S) => r24 (x5_22 + 1) g29) (fun k30 => eb_loop2 (fun r33 (x6_31 : Int32) (g32 : eb_S) => eb_br (3 ≤ x6_31) (k30 g32) (eb_gr g32 a0 13 5 (fun v34 => eb_nn v34 (fun p35 => eb_li Γ g32 p35 0 x4_16 (fun v36 => eb_gr g32 a0 13 5 (fun v37 => eb_jp1 (fun (s38 : Int32) => eb_nn v37 (fun p39 => eb_li Γ g32 p39 0 s38 (fun v40 => eb_cs g32 a0 [13] ∧ MX10_joins Γ g32 a0 v36 v40 (fun g42 => r33 (x6_31 + 1) g42)))) (fun k45 => eb_br (x5_22 = x6_31) (k45 x4_16) (eb_cs g32 p10 [7] ∧ MX8_by Γ g32 p10 x4_16 x5_22 (fun v46 => eb_cs g32 p10 [7] ∧ MX8_by Γ g32 p10 v46 x6_31 (fun v50 => k45 v50)))))))))) 0 g23))))) 0 g17)))) 0 g15) (fun k59 => eb_loop3 (fun r63 (x3_60 : Int32) (x4_61 : Int32) (g62 : eb_S) => eb_gi g62 p10 7 1 (fun v64 => eb_br (v64 ≤ x4_61) (k59 g62) (eb_gr g62 a0 13 5 (fun v65 => eb_cs g62 p10 [7] ∧ MX8_isHalf Γ g62 p10 x4_61 (fun v66 => eb_jp1 (fun (s70 : Int32) => eb_nn v65 (fun p71 => eb_wi Γ g62 p71 0 x4_61 s70 (fun g72 => eb_cs g72 p10 [7] ∧ MX8_isHalf Γ g72 p10 x4_61 (fun v73 => eb_jp1 (fun (s77 : Int32) => r63 (x3_60 + s77) (x4_61 + 1) g72) (fun k78 => eb_br (v73 = 0) (k78 0) (k78 1)))))) (fun k80 => eb_br (v66 = 0) (k80 (-1)) (k80 x3_60))))))) 0 0 g14))))))))))))
abbrev rmX14_init (bc bs : Nat) : Room := { frames := 4, cells := bc, slots := bs, locals := 79 }
theorem nX14_init : eb_ar yX14_init 1 := by decide +kernel
theorem dX14_init_0 : eb_dc cX14_init 0 (.aload_n 0) 1 1 := by decide +kernel
theorem dX14_init_1 : eb_dc cX14_init 1 (.aload_n 1) 1 2 := by decide +kernel
theorem dX14_init_2 : eb_dc cX14_init 2 (.getfield 3) 3 5 := by decide +kernel
theorem dX14_init_5 : eb_dc cX14_init 5 (.getfield 9) 3 8 := by decide +kernel
theorem dX14_init_8 : eb_dc cX14_init 8 (.iconst 2) 1 9 := by decide +kernel
theorem dX14_init_9 : eb_dc cX14_init 9 (.idiv) 1 10 := by decide +kernel
theorem dX14_init_10 : eb_dc cX14_init 10 (.bipush 8) 2 12 := by decide +kernel
theorem dX14_init_12 : eb_dc cX14_init 12 (.invokespecial 15) 3 15 := by decide +kernel
theorem dX14_init_15 : eb_dc cX14_init 15 (.aload_n 0) 1 16 := by decide +kernel
theorem dX14_init_16 : eb_dc cX14_init 16 (.aload_n 1) 1 17 := by decide +kernel
theorem dX14_init_17 : eb_dc cX14_init 17 (.putfield 21) 3 20 := by decide +kernel
theorem dX14_init_20 : eb_dc cX14_init 20 (.aload_n 1) 1 21 := by decide +kernel
theorem dX14_init_21 : eb_dc cX14_init 21 (.getfield 3) 3 24 := by decide +kernel
theorem dX14_init_24 : eb_dc cX14_init 24 (.astore_n 2) 1 25 := by decide +kernel
theorem dX14_init_25 : eb_dc cX14_init 25 (.aload_n 0) 1 26 := by decide +kernel
theorem dX14_init_26 : eb_dc cX14_init 26 (.aload_n 2) 1 27 := by decide +kernel
theorem dX14_init_27 : eb_dc cX14_init 27 (.getfield 9) 3 30 := by decide +kernel
theorem dX14_init_30 : eb_dc cX14_init 30 (.newarray .int) 2 32 := by decide +kernel
theorem dX14_init_32 : eb_dc cX14_init 32 (.putfield 27) 3 35 := by decide +kernel
theorem dX14_init_35 : eb_dc cX14_init 35 (.iconst 0) 1 36 := by decide +kernel
theorem dX14_init_36 : eb_dc cX14_init 36 (.istore_n 3) 1 37 := by decide +kernel
theorem dX14_init_37 : eb_dc cX14_init 37 (.iconst 0) 1 38 := by decide +kernel
theorem dX14_init_38 : eb_dc cX14_init 38 (.istore 4) 2 40 := by decide +kernel
theorem dX14_init_40 : eb_dc cX14_init 40 (.iload 4) 2 42 := by decide +kernel
theorem dX14_init_42 : eb_dc cX14_init 42 (.aload_n 2) 1 43 := by decide +kernel
theorem dX14_init_43 : eb_dc cX14_init 43 (.getfield 9) 3 46 := by decide +kernel
theorem dX14_init_46 : eb_dj cX14_init 46 (.if_icmp .ge 47) 47 49 93 := by decide +kernel
theorem dX14_init_49 : eb_dc cX14_init 49 (.aload_n 0) 1 50 := by decide +kernel
theorem dX14_init_50 : eb_dc cX14_init 50 (.getfield 27) 3 53 := by decide +kernel
theorem dX14_init_53 : eb_dc cX14_init 53 (.iload 4) 2 55 := by decide +kernel
theorem dX14_init_55 : eb_dc cX14_init 55 (.aload_n 2) 1 56 := by decide +kernel
theorem dX14_init_56 : eb_dc cX14_init 56 (.iload 4) 2 58 := by decide +kernel
theorem dX14_init_58 : eb_dc cX14_init 58 (.invokevirtual 31) 3 61 := by decide +kernel
theorem dX14_init_61 : eb_dj cX14_init 61 (.ifCond .eq 7) 7 64 68 := by decide +kernel
theorem dX14_init_64 : eb_dc cX14_init 64 (.iload_n 3) 1 65 := by decide +kernel
theorem dX14_init_65 : eb_dj cX14_init 65 (.goto 4) 4 68 69 := by decide +kernel
theorem dX14_init_68 : eb_dc cX14_init 68 (.iconst (-1)) 1 69 := by decide +kernel
theorem dX14_init_69 : eb_dc cX14_init 69 (.iastore) 1 70 := by decide +kernel
theorem dX14_init_70 : eb_dc cX14_init 70 (.iload_n 3) 1 71 := by decide +kernel
theorem dX14_init_71 : eb_dc cX14_init 71 (.aload_n 2) 1 72 := by decide +kernel
theorem dX14_init_72 : eb_dc cX14_init 72 (.iload 4) 2 74 := by decide +kernel
theorem dX14_init_74 : eb_dc cX14_init 74 (.invokevirtual 31) 3 77 := by decide +kernel
theorem dX14_init_77 : eb_dj cX14_init 77 (.ifCond .eq 7) 7 80 84 := by decide +kernel
theorem dX14_init_80 : eb_dc cX14_init 80 (.iconst 1) 1 81 := by decide +kernel
theorem dX14_init_81 : eb_dj cX14_init 81 (.goto 4) 4 84 85 := by decide +kernel
theorem dX14_init_84 : eb_dc cX14_init 84 (.iconst 0) 1 85 := by decide +kernel
theorem dX14_init_85 : eb_dc cX14_init 85 (.iadd) 1 86 := by decide +kernel
theorem dX14_init_86 : eb_dc cX14_init 86 (.istore_n 3) 1 87 := by decide +kernel
theorem dX14_init_87 : eb_dc cX14_init 87 (.iinc 4 1) 3 90 := by decide +kernel
theorem dX14_init_90 : eb_dj cX14_init 90 (.goto (-50)) (-50) 93 40 := by decide +kernel
theorem dX14_init_93 : eb_dc cX14_init 93 (.iconst 0) 1 94 := by decide +kernel
theorem dX14_init_94 : eb_dc cX14_init 94 (.istore 4) 2 96 := by decide +kernel
theorem dX14_init_96 : eb_dc cX14_init 96 (.iload 4) 2 98 := by decide +kernel
theorem dX14_init_98 : eb_dc cX14_init 98 (.aload_n 2) 1 99 := by decide +kernel
theorem dX14_init_99 : eb_dc cX14_init 99 (.getfield 9) 3 102 := by decide +kernel
theorem dX14_init_102 : eb_dj cX14_init 102 (.if_icmp .ge 90) 90 105 192 := by decide +kernel
theorem dX14_init_105 : eb_dc cX14_init 105 (.iconst 0) 1 106 := by decide +kernel
theorem dX14_init_106 : eb_dc cX14_init 106 (.istore 5) 2 108 := by decide +kernel
theorem dX14_init_108 : eb_dc cX14_init 108 (.iload 5) 2 110 := by decide +kernel
theorem dX14_init_110 : eb_dc cX14_init 110 (.iconst 3) 1 111 := by decide +kernel
theorem dX14_init_111 : eb_dj cX14_init 111 (.if_icmp .ge 75) 75 114 186 := by decide +kernel
theorem dX14_init_114 : eb_dc cX14_init 114 (.aload_n 2) 1 115 := by decide +kernel
theorem dX14_init_115 : eb_dc cX14_init 115 (.iload 4) 2 117 := by decide +kernel
theorem dX14_init_117 : eb_dc cX14_init 117 (.invokevirtual 31) 3 120 := by decide +kernel
theorem dX14_init_120 : eb_dj cX14_init 120 (.ifCond .eq 66) 66 123 186 := by decide +kernel
theorem dX14_init_123 : eb_dc cX14_init 123 (.iconst 0) 1 124 := by decide +kernel
theorem dX14_init_124 : eb_dc cX14_init 124 (.istore 6) 2 126 := by decide +kernel
theorem dX14_init_126 : eb_dc cX14_init 126 (.iload 6) 2 128 := by decide +kernel
theorem dX14_init_128 : eb_dc cX14_init 128 (.iconst 3) 1 129 := by decide +kernel
theorem dX14_init_129 : eb_dj cX14_init 129 (.if_icmp .ge 51) 51 132 180 := by decide +kernel
theorem dX14_init_132 : eb_dc cX14_init 132 (.aload_n 0) 1 133 := by decide +kernel
theorem dX14_init_133 : eb_dc cX14_init 133 (.aload_n 0) 1 134 := by decide +kernel
theorem dX14_init_134 : eb_dc cX14_init 134 (.getfield 27) 3 137 := by decide +kernel
theorem dX14_init_137 : eb_dc cX14_init 137 (.iload 4) 2 139 := by decide +kernel
theorem dX14_init_139 : eb_dc cX14_init 139 (.iaload) 1 140 := by decide +kernel
theorem dX14_init_140 : eb_dc cX14_init 140 (.aload_n 0) 1 141 := by decide +kernel
theorem dX14_init_141 : eb_dc cX14_init 141 (.getfield 27) 3 144 := by decide +kernel
theorem dX14_init_144 : eb_dc cX14_init 144 (.iload 5) 2 146 := by decide +kernel
theorem dX14_init_146 : eb_dc cX14_init 146 (.iload 6) 2 148 := by decide +kernel
theorem dX14_init_148 : eb_dj cX14_init 148 (.if_icmp .ne 8) 8 151 156 := by decide +kernel
theorem dX14_init_151 : eb_dc cX14_init 151 (.iload 4) 2 153 := by decide +kernel
theorem dX14_init_153 : eb_dj cX14_init 153 (.goto 17) 17 156 170 := by decide +kernel
theorem dX14_init_156 : eb_dc cX14_init 156 (.aload_n 2) 1 157 := by decide +kernel
theorem dX14_init_157 : eb_dc cX14_init 157 (.aload_n 2) 1 158 := by decide +kernel
theorem dX14_init_158 : eb_dc cX14_init 158 (.iload 4) 2 160 := by decide +kernel
theorem dX14_init_160 : eb_dc cX14_init 160 (.iload 5) 2 162 := by decide +kernel
theorem dX14_init_162 : eb_dc cX14_init 162 (.invokevirtual 35) 3 165 := by decide +kernel
theorem dX14_init_165 : eb_dc cX14_init 165 (.iload 6) 2 167 := by decide +kernel
theorem dX14_init_167 : eb_dc cX14_init 167 (.invokevirtual 35) 3 170 := by decide +kernel
theorem dX14_init_170 : eb_dc cX14_init 170 (.iaload) 1 171 := by decide +kernel
theorem dX14_init_171 : eb_dc cX14_init 171 (.invokevirtual 39) 3 174 := by decide +kernel
theorem dX14_init_174 : eb_dc cX14_init 174 (.iinc 6 1) 3 177 := by decide +kernel
theorem dX14_init_177 : eb_dj cX14_init 177 (.goto (-51)) (-51) 180 126 := by decide +kernel
theorem dX14_init_180 : eb_dc cX14_init 180 (.iinc 5 1) 3 183 := by decide +kernel
theorem dX14_init_183 : eb_dj cX14_init 183 (.goto (-75)) (-75) 186 108 := by decide +kernel
theorem dX14_init_186 : eb_dc cX14_init 186 (.iinc 4 1) 3 189 := by decide +kernel
theorem dX14_init_189 : eb_dj cX14_init 189 (.goto (-93)) (-93) 192 96 := by decide +kernel
theorem dX14_init_192 : eb_dc cX14_init 192 (.return_) 1 193 := by decide +kernel
theorem ctX14_init {l : Launch} {Γ : eb_C} {bc bs : Nat} {st : eb_S} {a0 : Nat} {a1 : Nat} {K : eb_S → Prop} (h : MX14_init Γ bc bs st a0 a1 K) : eb_Ct l Γ yX14_init cX14_init 7 (none) (rmX14_init bc bs) [.ref a0, .ref a1] st (eb_oV K) := by
  refine eb_of (by decide) (Nat.le_of_ble_eq_true rfl) (fun X P hP hX0 => ?_)
  replace hX0 := hX0 rfl
  suffices hgo : (0 ≤ bc ∧ 0 ≤ bs) → eb_G l Γ P X cX14_init RX14 7 (none) (rmX14_init bc bs) 0 [(0, .ref a0), (1, .ref a1)] [] st 0 0 from hgo ⟨Nat.zero_le _, Nat.zero_le _⟩
  intro hu
  refine eg_aload_n 0 dX14_init_0 rfl rfl ?_
  refine eg_aload_n 1 dX14_init_1 rfl rfl ?_
  obtain ⟨fs, v1, he, hv, h⟩ := h
  refine eg_getN 3 in_X1 he rfl (Nat.le_of_ble_eq_true rfl) (List.mem_of_getElem? (i := 19) rfl) rfl hv dX14_init_2 ?_
  obtain ⟨p2, rfl, h⟩ := h
  obtain ⟨fs, v3, he, hv, h⟩ := h
  refine eg_getN 1 in_X8 he rfl (Nat.le_of_ble_eq_true rfl) (List.mem_of_getElem? (i := 20) rfl) rfl hv dX14_init_5 ?_
  refine eg_iconst dX14_init_8 kc_2 ?_
  refine eg_idiv dX14_init_9 (by decide) ?_
  refine eg_bipush dX14_init_10 kb_8 ?_
  obtain ⟨c6, s7, hca, h⟩ := h
  have hM0 := h
  clear h
  refine ec_IVa (rest := []) (ctX10_init hM0) q603 q87 q1035 q602 rfl nX10_init ⟨Nat.le_of_ble_eq_true rfl, Nat.le_of_ble_eq_true rfl⟩ ⟨rfl, rfl⟩ hca rfl rfl (Nat.le_of_ble_eq_true rfl) dX14_init_12 (fun g5 h => ?_)
  clear hM0
  replace hu := hca
  refine eg_aload_n 0 dX14_init_15 rfl rfl ?_
  refine eg_aload_n 1 dX14_init_16 rfl rfl ?_
  obtain ⟨fs, he, hlen, h⟩ := h
  refine eh_putF 4 in_X14 he rfl (Nat.le_of_ble_eq_true rfl) tyX14 tyX14_ok nmX14 q1044 rfl rfl hX0 rfl rfl rfl hlen dX14_init_17 (fun g8 eg8 => ?_)
  replace h := h g8 eg8
  refine eg_aload_n 1 dX14_init_20 rfl rfl ?_
  obtain ⟨fs, v9, he, hv, h⟩ := h
  refine eg_getN 3 in_X1 he rfl (Nat.le_of_ble_eq_true rfl) (List.mem_of_getElem? (i := 19) rfl) rfl hv dX14_init_21 ?_
  refine eh_astore_n (i := 2) (v := v9) (lv' := [(2, va_rf v9), (0, .ref a0), (1, .ref a1)]) dX14_init_24 rfl (Nat.le_of_ble_eq_true rfl) rfl ?_
  refine eg_aload_n 1 dX14_init_25 rfl rfl ?_
  refine eh_aload_n (v := v9) 0 dX14_init_26 rfl rfl ?_
  obtain ⟨p10, rfl, h⟩ := h
  obtain ⟨fs, v11, he, hv, h⟩ := h
  refine eg_getN 1 in_X8 he rfl (Nat.le_of_ble_eq_true rfl) (List.mem_of_getElem? (i := 20) rfl) rfl hv dX14_init_27 ?_
  obtain ⟨hok, h⟩ := h
  obtain ⟨hc1, hs1, h⟩ := h
  refine eh_new_i q158 rfl hok hc1 hs1 dX14_init_30 (fun p12 qp12 g13 eg13 => ?_)
  replace h := h p12 qp12 g13 eg13
  replace hu := And.intro hc1 hs1
  obtain ⟨fs, he, hlen, h⟩ := h
  refine eh_putF 5 in_X14 he rfl (Nat.le_of_ble_eq_true rfl) tyX14 tyX14_ok nmX14 q1045 rfl rfl hX0 rfl rfl rfl hlen dX14_init_32 (fun g14 eg14 => ?_)
  replace h := h g14 eg14
  refine eg_iconst dX14_init_35 kc_0 ?_
  refine eg_istore_n (lv' := [(3, .int 0), (2, .ref p10), (0, .ref a0), (1, .ref a1)]) dX14_init_36 rfl (Nat.le_of_ble_eq_true rfl) rfl ?_
  refine eg_iconst dX14_init_37 kc_0 ?_
  refine eg_istore (lv' := [(4, .int 0), (3, .int 0), (2, .ref p10), (0, .ref a0), (1, .ref a1)]) dX14_init_38 (Nat.le_of_ble_eq_true rfl) rfl ?_
  refine eb_jp1_e (J := fun (g15 : eb_S) => (((0 + c6) + 1) ≤ bc ∧ ((0 + s7) + (v11.toNatClampNeg)) ≤ bs) → eb_G l Γ P X cX14_init RX14 7 (none) (rmX14_init bc bs) 93 [(0, .ref a0), (2, .ref p10)] [] g15 ((0 + c6) + 1) ((0 + s7) + (v11.toNatClampNeg))) h ?_ ?_
  · clear h
    intro g15 h hu
    refine eg_iconst dX14_init_93 kc_0 ?_
    refine eg_istore (lv' := [(4, .int 0), (0, .ref a0), (2, .ref p10)]) dX14_init_94 (Nat.le_of_ble_eq_true rfl) rfl ?_
    refine eg_sub [1, 2, 0] rfl ?_
    refine eb_loop2_e (J := fun (x4_16 : Int32) (g17 : eb_S) => (((0 + c6) + 1) ≤ bc ∧ ((0 + s7) + (v11.toNatClampNeg)) ≤ bs) → eb_G l Γ P X cX14_init RX14 7 (none) (rmX14_init bc bs) 96 [(0, .ref a0), (2, .ref p10), (4, .int x4_16)] [] g17 ((0 + c6) + 1) ((0 + s7) + (v11.toNatClampNeg))) h ?_ hu
    clear h
    clear hu
    intro r18 hr18 x4_16 g17 h hu
    refine eg_iload 2 dX14_init_96 rfl ?_
    refine eg_aload_n 1 dX14_init_98 rfl rfl ?_
    obtain ⟨fs, v19, he, hv, h⟩ := h
    refine eg_getN 1 in_X8 he rfl (Nat.le_of_ble_eq_true rfl) (List.mem_of_getElem? (i := 20) rfl) rfl hv dX14_init_99 ?_
    refine eg_icmp_ge dX14_init_102 (fun c58 => ?_) (fun c58 => ?_)
    · replace h := h.1 c58
      exact eg_vret dX14_init_192 hu.1 hu.2 (hP _ _ ⟨rfl, h⟩)
    · replace h := h.2 c58
      refine eg_iconst dX14_init_105 kc_0 ?_
      refine eg_istore (lv' := [(5, .int 0), (0, .ref a0), (2, .ref p10), (4, .int x4_16)]) dX14_init_106 (Nat.le_of_ble_eq_true rfl) rfl ?_
      refine eb_jp1_e (J := fun (g20 : eb_S) => (((0 + c6) + 1) ≤ bc ∧ ((0 + s7) + (v11.toNatClampNeg)) ≤ bs) → eb_G l Γ P X cX14_init RX14 7 (none) (rmX14_init bc bs) 186 [(0, .ref a0), (2, .ref p10), (4, .int x4_16)] [] g20 ((0 + c6) + 1) ((0 + s7) + (v11.toNatClampNeg))) h ?_ ?_
      · clear h
        intro g20 h hu
        refine eg_iinc (j := 2) (lv' := [(4, .int (x4_16 + 1)), (0, .ref a0), (2, .ref p10)]) dX14_init_186 rfl (by rw [kc_1]) (Nat.le_of_ble_eq_true rfl) rfl ?_
        refine eg_goto dX14_init_189 ?_
        exact eg_sub [1, 2, 0] rfl (hr18 (x4_16 + 1) g20 h hu)
      · clear h
        intro k21 hk21 h
        refine eg_sub [1, 2, 3, 0] rfl ?_
        refine eb_loop2_e (J := fun (x5_22 : Int32) (g23 : eb_S) => (((0 + c6) + 1) ≤ bc ∧ ((0 + s7) + (v11.toNatClampNeg)) ≤ bs) → eb_G l Γ P X cX14_init RX14 7 (none) (rmX14_init bc bs) 108 [(0, .ref a0), (2, .ref p10), (4, .int x4_16), (5, .int x5_22)] [] g23 ((0 + c6) + 1) ((0 + s7) + (v11.toNatClampNeg))) h ?_ hu
        clear h
        clear hu
        intro r24 hr24 x5_22 g23 h hu
        refine eg_iload 3 dX14_init_108 rfl ?_
        refine eg_iconst dX14_init_110 kc_3 ?_
        refine eg_icmp_ge dX14_init_111 (fun c57 => ?_) (fun c57 => ?_)
        · replace h := h.1 c57
          exact eg_sub [0, 1, 2] rfl (hk21 g23 h hu)
        · replace h := h.2 c57
          refine eg_aload_n 1 dX14_init_114 rfl rfl ?_
          refine eg_iload 2 dX14_init_115 rfl ?_
          obtain ⟨hcs, h⟩ := h
          have hM0 := h
          clear h
          refine ec_VIp (rest := []) (ctX8_isHalf hM0) (lw_V q1036 q1037 q1038 q84 q1039) rfl rfl hcs nX8_isHalf ⟨Nat.le_of_ble_eq_true rfl, Nat.le_of_ble_eq_true rfl⟩ ⟨rfl, rfl⟩ hu rfl rfl (Nat.le_of_ble_eq_true rfl) dX14_init_117 (fun v25 h => ?_)
          clear hM0
          refine eg_if_eq dX14_init_120 (fun c56 => ?_) (fun c56 => ?_)
          · replace h := h.1 c56
            exact eg_sub [0, 1, 2] rfl (hk21 g23 h hu)
          · replace h := h.2 c56
            refine eg_iconst dX14_init_123 kc_0 ?_
            refine eg_istore (lv' := [(6, .int 0), (0, .ref a0), (2, .ref p10), (4, .int x4_16), (5, .int x5_22)]) dX14_init_124 (Nat.le_of_ble_eq_true rfl) rfl ?_
            refine eb_jp1_e (J := fun (g29 : eb_S) => (((0 + c6) + 1) ≤ bc ∧ ((0 + s7) + (v11.toNatClampNeg)) ≤ bs) → eb_G l Γ P X cX14_init RX14 7 (none) (rmX14_init bc bs) 180 [(0, .ref a0), (2, .ref p10), (4, .int x4_16), (5, .int x5_22)] [] g29 ((0 + c6) + 1) ((0 + s7) + (v11.toNatClampNeg))) h ?_ ?_
            · clear h
              intro g29 h hu
              refine eg_iinc (j := 3) (lv' := [(5, .int (x5_22 + 1)), (0, .ref a0), (2, .ref p10), (4, .int x4_16)]) dX14_init_180 rfl (by rw [kc_1]) (Nat.le_of_ble_eq_true rfl) rfl ?_
              refine eg_goto dX14_init_183 ?_
              exact eg_sub [1, 2, 3, 0] rfl (hr24 (x5_22 + 1) g29 h hu)
            · clear h
              intro k30 hk30 h
              refine eg_sub [1, 2, 3, 4, 0] rfl ?_
              refine eb_loop2_e (J := fun (x6_31 : Int32) (g32 : eb_S) => (((0 + c6) + 1) ≤ bc ∧ ((0 + s7) + (v11.toNatClampNeg)) ≤ bs) → eb_G l Γ P X cX14_init RX14 7 (none) (rmX14_init bc bs) 126 [(0, .ref a0), (2, .ref p10), (4, .int x4_16), (5, .int x5_22), (6, .int x6_31)] [] g32 ((0 + c6) + 1) ((0 + s7) + (v11.toNatClampNeg))) h ?_ hu
              clear h
              clear hu
              intro r33 hr33 x6_31 g32 h hu
              refine eg_iload 4 dX14_init_126 rfl ?_
              refine eg_iconst dX14_init_128 kc_3 ?_
              refine eg_icmp_ge dX14_init_129 (fun c55 => ?_) (fun c55 => ?_)
              · replace h := h.1 c55
                exact eg_sub [0, 1, 2, 3] rfl (hk30 g32 h hu)
              · replace h := h.2 c55
                refine eg_aload_n 0 dX14_init_132 rfl rfl ?_
                refine eg_aload_n 0 dX14_init_133 rfl rfl ?_
                obtain ⟨fs, v34, he, hv, h⟩ := h
                refine eg_get 5 in_X14 he rfl (Nat.le_of_ble_eq_true rfl) q1045 rfl hv dX14_init_134 ?_
                refine eg_iload 2 dX14_init_137 rfl ?_
                obtain ⟨p35, rfl, h⟩ := h
                obtain ⟨nA, fA, he, hb, h⟩ := h
                refine eh_iald he hb dX14_init_139 (fun v36 ev36 => ?_)
                replace h := h v36 ev36
                refine eg_aload_n 0 dX14_init_140 rfl rfl ?_
                obtain ⟨fs, v37, he, hv, h⟩ := h
                refine eg_get 5 in_X14 he rfl (Nat.le_of_ble_eq_true rfl) q1045 rfl hv dX14_init_141 ?_
                refine eg_iload 3 dX14_init_144 rfl ?_
                refine eg_iload 4 dX14_init_146 rfl ?_
                refine eb_jp1_e (J := fun (s38 : Int32) => (((0 + c6) + 1) ≤ bc ∧ ((0 + s7) + (v11.toNatClampNeg)) ≤ bs) → eb_G l Γ P X cX14_init RX14 7 (none) (rmX14_init bc bs) 170 [(0, .ref a0), (2, .ref p10), (4, .int x4_16), (5, .int x5_22), (6, .int x6_31)] [.int s38, va_rf v37, .int v36, .ref a0] g32 ((0 + c6) + 1) ((0 + s7) + (v11.toNatClampNeg))) h ?_ ?_
                · clear h
                  intro s38 h hu
                  obtain ⟨p39, rfl, h⟩ := h
                  obtain ⟨nA, fA, he, hb, h⟩ := h
                  refine eh_iald he hb dX14_init_170 (fun v40 ev40 => ?_)
                  replace h := h v40 ev40
                  obtain ⟨hcs, h⟩ := h
                  have hM0 := h
                  clear h
                  refine ec_UVw (rest := []) (ctX10_joins hM0) gUX14_39 rfl hcs nX10_joins ⟨Nat.le_of_ble_eq_true rfl, Nat.le_of_ble_eq_true rfl⟩ ⟨rfl, rfl⟩ hu rfl rfl (Nat.le_of_ble_eq_true rfl) dX14_init_171 (fun g42 h => ?_)
                  clear hM0
                  refine eg_iinc (j := 4) (lv' := [(6, .int (x6_31 + 1)), (0, .ref a0), (2, .ref p10), (4, .int x4_16), (5, .int x5_22)]) dX14_init_174 rfl (by rw [kc_1]) (Nat.le_of_ble_eq_true rfl) rfl ?_
                  refine eg_goto dX14_init_177 ?_
                  exact eg_sub [1, 2, 3, 4, 0] rfl (hr33 (x6_31 + 1) g42 h hu)
                · clear h
                  intro k45 hk45 h
                  refine eg_icmp_ne dX14_init_148 (fun c54 => ?_) (fun c54 => ?_)
                  · replace h := h.2 c54
                    refine eg_aload_n 1 dX14_init_156 rfl rfl ?_
                    refine eg_aload_n 1 dX14_init_157 rfl rfl ?_
                    refine eg_iload 2 dX14_init_158 rfl ?_
                    refine eg_iload 3 dX14_init_160 rfl ?_
                    obtain ⟨hcs, h⟩ := h
                    have hM0 := h
                    clear h
                    refine ec_VIp (rest := [.ref p10, va_rf v37, .int v36, .ref a0]) (ctX8_by hM0) (lw_V q1040 q436 q437 q84 q438) rfl rfl hcs nX8_by ⟨Nat.le_of_ble_eq_true rfl, Nat.le_of_ble_eq_true rfl⟩ ⟨rfl, rfl⟩ hu rfl rfl (by simp only [List.map_cons, List.map_nil, eb_rfc]; exact Nat.le_of_ble_eq_true rfl) dX14_init_162 (fun v46 h => ?_)
                    clear hM0
                    refine eg_iload 4 dX14_init_165 rfl ?_
                    obtain ⟨hcs, h⟩ := h
                    have hM0 := h
                    clear h
                    refine ec_VIp (rest := [va_rf v37, .int v36, .ref a0]) (ctX8_by hM0) (lw_V q1040 q436 q437 q84 q438) rfl rfl hcs nX8_by ⟨Nat.le_of_ble_eq_true rfl, Nat.le_of_ble_eq_true rfl⟩ ⟨rfl, rfl⟩ hu rfl rfl (by simp only [List.map_cons, List.map_nil, eb_rfc]; exact Nat.le_of_ble_eq_true rfl) dX14_init_167 (fun v50 h => ?_)
                    clear hM0
                    exact hk45 v50 h hu
                  · replace h := h.1 c54
                    refine eg_iload 2 dX14_init_151 rfl ?_
                    refine eg_goto dX14_init_153 ?_
                    exact hk45 x4_16 h hu
  · clear h
    intro k59 hk59 h
    refine eg_sub [3, 2, 1, 0] rfl ?_
    refine eb_loop3_e (J := fun (x3_60 : Int32) (x4_61 : Int32) (g62 : eb_S) => (((0 + c6) + 1) ≤ bc ∧ ((0 + s7) + (v11.toNatClampNeg)) ≤ bs) → eb_G l Γ P X cX14_init RX14 7 (none) (rmX14_init bc bs) 40 [(0, .ref a0), (2, .ref p10), (3, .int x3_60), (4, .int x4_61)] [] g62 ((0 + c6) + 1) ((0 + s7) + (v11.toNatClampNeg))) h ?_ hu
    clear h
    clear hu
    intro r63 hr63 x3_60 x4_61 g62 h hu
    refine eg_iload 3 dX14_init_40 rfl ?_
    refine eg_aload_n 1 dX14_init_42 rfl rfl ?_
    obtain ⟨fs, v64, he, hv, h⟩ := h
    refine eg_getN 1 in_X8 he rfl (Nat.le_of_ble_eq_true rfl) (List.mem_of_getElem? (i := 20) rfl) rfl hv dX14_init_43 ?_
    refine eg_icmp_ge dX14_init_46 (fun c82 => ?_) (fun c82 => ?_)
    · replace h := h.1 c82
      exact eg_sub [0, 1] rfl (hk59 g62 h hu)
    · replace h := h.2 c82
      refine eg_aload_n 0 dX14_init_49 rfl rfl ?_
      obtain ⟨fs, v65, he, hv, h⟩ := h
      refine eg_get 5 in_X14 he rfl (Nat.le_of_ble_eq_true rfl) q1045 rfl hv dX14_init_50 ?_
      refine eg_iload 3 dX14_init_53 rfl ?_
      refine eg_aload_n 1 dX14_init_55 rfl rfl ?_
      refine eg_iload 3 dX14_init_56 rfl ?_
      obtain ⟨hcs, h⟩ := h
      have hM0 := h
      clear h
      refine ec_VIp (rest := [.int x4_61, va_rf v65]) (ctX8_isHalf hM0) (lw_V q1036 q1037 q1038 q84 q1039) rfl rfl hcs nX8_isHalf ⟨Nat.le_of_ble_eq_true rfl, Nat.le_of_ble_eq_true rfl⟩ ⟨rfl, rfl⟩ hu rfl rfl (by simp only [List.map_cons, List.map_nil, eb_rfc]; exact Nat.le_of_ble_eq_true rfl) dX14_init_58 (fun v66 h => ?_)
      clear hM0
      refine eb_jp1_e (J := fun (s70 : Int32) => (((0 + c6) + 1) ≤ bc ∧ ((0 + s7) + (v11.toNatClampNeg)) ≤ bs) → eb_G l Γ P X cX14_init RX14 7 (none) (rmX14_init bc bs) 69 [(0, .ref a0), (2, .ref p10), (3, .int x3_60), (4, .int x4_61)] [.int s70, .int x4_61, va_rf v65] g62 ((0 + c6) + 1) ((0 + s7) + (v11.toNatClampNeg))) h ?_ ?_
      · clear h
        intro s70 h hu
        obtain ⟨p71, rfl, h⟩ := h
        obtain ⟨nA, fA, he, hb, h⟩ := h
        refine eh_iast he hb dX14_init_69 (fun g72 eg72 => ?_)
        replace h := h g72 eg72
        refine eg_iload_n 2 dX14_init_70 rfl rfl ?_
        refine eg_aload_n 1 dX14_init_71 rfl rfl ?_
        refine eg_iload 3 dX14_init_72 rfl ?_
        obtain ⟨hcs, h⟩ := h
        have hM0 := h
        clear h
        refine ec_VIp (rest := [.int x3_60]) (ctX8_isHalf hM0) (lw_V q1036 q1037 q1038 q84 q1039) rfl rfl hcs nX8_isHalf ⟨Nat.le_of_ble_eq_true rfl, Nat.le_of_ble_eq_true rfl⟩ ⟨rfl, rfl⟩ hu rfl rfl (Nat.le_of_ble_eq_true rfl) dX14_init_74 (fun v73 h => ?_)
        clear hM0
        refine eb_jp1_e (J := fun (s77 : Int32) => (((0 + c6) + 1) ≤ bc ∧ ((0 + s7) + (v11.toNatClampNeg)) ≤ bs) → eb_G l Γ P X cX14_init RX14 7 (none) (rmX14_init bc bs) 85 [(0, .ref a0), (2, .ref p10), (4, .int x4_61)] [.int s77, .int x3_60] g72 ((0 + c6) + 1) ((0 + s7) + (v11.toNatClampNeg))) h ?_ ?_
        · clear h
          intro s77 h hu
          refine eg_iadd dX14_init_85 ?_
          refine eg_istore_n (lv' := [(3, .int (x3_60 + s77)), (0, .ref a0), (2, .ref p10), (4, .int x4_61)]) dX14_init_86 rfl (Nat.le_of_ble_eq_true rfl) rfl ?_
          refine eg_iinc (j := 3) (lv' := [(4, .int (x4_61 + 1)), (3, .int (x3_60 + s77)), (0, .ref a0), (2, .ref p10)]) dX14_init_87 rfl (by rw [kc_1]) (Nat.le_of_ble_eq_true rfl) rfl ?_
          refine eg_goto dX14_init_90 ?_
          exact eg_sub [2, 3, 1, 0] rfl (hr63 (x3_60 + s77) (x4_61 + 1) g72 h hu)
        · clear h
          intro k78 hk78 h
          refine eg_if_eq dX14_init_77 (fun c79 => ?_) (fun c79 => ?_)
          · replace h := h.1 c79
            refine eg_iconst dX14_init_84 kc_0 ?_
            exact eg_sub [0, 1, 3] rfl (hk78 0 h hu)
          · replace h := h.2 c79
            refine eg_iconst dX14_init_80 kc_1 ?_
            refine eg_goto dX14_init_81 ?_
            exact eg_sub [0, 1, 3] rfl (hk78 1 h hu)
      · clear h
        intro k80 hk80 h
        refine eg_if_eq dX14_init_61 (fun c81 => ?_) (fun c81 => ?_)
        · replace h := h.1 c81
          refine eg_iconst dX14_init_68 kc_m1 ?_
          exact hk80 (-1) h hu
        · replace h := h.2 c81
          refine eg_iload_n 2 dX14_init_64 rfl rfl ?_
          refine eg_goto dX14_init_65 ?_
          exact hk80 x3_60 h hu
def MX0_snubOf (Γ : eb_C) (bc bs : Nat) (st : eb_S) (a0 : Nat) (a1 : Int32) (K : Option Nat → eb_S → Prop) : Prop :=
  eb_gr st a0 0 0 (fun v1 => eb_nn v1 (fun p2 => eb_lr Γ st p2 7 a1 (fun v3 => eb_nn v3 (fun p4 => eb_gr st p4 1 8 (fun v5 => eb_jp3 (fun (g6 : eb_S) (u7 : Nat) (w8 : Nat) => eb_gr g6 a0 0 0 (fun v9 => eb_nn v9 (fun p10 => eb_lr Γ g6 p10 7 a1 (fun v11 => eb_nn v11 (fun p12 => eb_gr g6 p12 1 8 (fun v13 => K v13 g6)))))) (fun k14 => eb_nb v5 (eb_gr st a0 0 0 (fun v16 => eb_nn v16 (fun p17 => eb_lr Γ st p17 7 a1 (fun v18 => eb_mk st (.inr (13, [.int 0, .int 0, .null, .null, .null, .null])) 6 bc bs 0 0 (fun p19 g20 => eb_gr g20 a0 0 0 (fun v21 => eb_nn v21 (fun p22 => eb_lr Γ g20 p22 7 a1 (fun v23 => eb_nn v23 (fun p24 => ∃ c27 s28 : Nat, ((0 + 1) + c27 ≤ bc ∧ (0 + 6) + s28 ≤ bs) ∧ MX14_init Γ c27 s28 g20 p19 p24 (fun g26 => eb_nn v18 (fun p29 => eb_pt g26 p29 1 8 (.ref p19) (fun g30 => k14 g30 (((0 + 1) + c27)) (((0 + 6) + s28)))))))))))))) (fun p15 => k14 st 0 0)))))))
abbrev rmX0_snubOf (bc bs : Nat) : Room := { frames := 5, cells := bc, slots := bs, locals := 105 }
theorem nX0_snubOf : eb_ar yX0_snubOf 1 := by decide +kernel
theorem dX0_snubOf_0 : eb_dc cX0_snubOf 0 (.aload_n 0) 1 1 := by decide +kernel
theorem dX0_snubOf_1 : eb_dc cX0_snubOf 1 (.getfield 15) 3 4 := by decide +kernel
theorem dX0_snubOf_4 : eb_dc cX0_snubOf 4 (.iload_n 1) 1 5 := by decide +kernel
theorem dX0_snubOf_5 : eb_dc cX0_snubOf 5 (.aaload) 1 6 := by decide +kernel
theorem dX0_snubOf_6 : eb_dc cX0_snubOf 6 (.getfield 235) 3 9 := by decide +kernel
theorem dX0_snubOf_9 : eb_dj cX0_snubOf 9 (.ifnonnull 25) 25 12 34 := by decide +kernel
theorem dX0_snubOf_12 : eb_dc cX0_snubOf 12 (.aload_n 0) 1 13 := by decide +kernel
theorem dX0_snubOf_13 : eb_dc cX0_snubOf 13 (.getfield 15) 3 16 := by decide +kernel
theorem dX0_snubOf_16 : eb_dc cX0_snubOf 16 (.iload_n 1) 1 17 := by decide +kernel
theorem dX0_snubOf_17 : eb_dc cX0_snubOf 17 (.aaload) 1 18 := by decide +kernel
theorem dX0_snubOf_18 : eb_dc cX0_snubOf 18 (.new 239) 3 21 := by decide +kernel
theorem dX0_snubOf_21 : eb_dc cX0_snubOf 21 (.dup) 1 22 := by decide +kernel
theorem dX0_snubOf_22 : eb_dc cX0_snubOf 22 (.aload_n 0) 1 23 := by decide +kernel
theorem dX0_snubOf_23 : eb_dc cX0_snubOf 23 (.getfield 15) 3 26 := by decide +kernel
theorem dX0_snubOf_26 : eb_dc cX0_snubOf 26 (.iload_n 1) 1 27 := by decide +kernel
theorem dX0_snubOf_27 : eb_dc cX0_snubOf 27 (.aaload) 1 28 := by decide +kernel
theorem dX0_snubOf_28 : eb_dc cX0_snubOf 28 (.invokespecial 241) 3 31 := by decide +kernel
theorem dX0_snubOf_31 : eb_dc cX0_snubOf 31 (.putfield 235) 3 34 := by decide +kernel
theorem dX0_snubOf_34 : eb_dc cX0_snubOf 34 (.aload_n 0) 1 35 := by decide +kernel
theorem dX0_snubOf_35 : eb_dc cX0_snubOf 35 (.getfield 15) 3 38 := by decide +kernel
theorem dX0_snubOf_38 : eb_dc cX0_snubOf 38 (.iload_n 1) 1 39 := by decide +kernel
theorem dX0_snubOf_39 : eb_dc cX0_snubOf 39 (.aaload) 1 40 := by decide +kernel
theorem dX0_snubOf_40 : eb_dc cX0_snubOf 40 (.getfield 235) 3 43 := by decide +kernel
theorem dX0_snubOf_43 : eb_dc cX0_snubOf 43 (.areturn) 1 44 := by decide +kernel
theorem ctX0_snubOf {l : Launch} {Γ : eb_C} {bc bs : Nat} {st : eb_S} {a0 : Nat} {a1 : Int32} {K : Option Nat → eb_S → Prop} (h : MX0_snubOf Γ bc bs st a0 a1 K) : eb_Ct l Γ yX0_snubOf cX0_snubOf 2 (some (.object "EvenBodies$Snub")) (rmX0_snubOf bc bs) [.ref a0, .int a1] st (eb_oR K) := by
  refine eb_of (by decide) (Nat.le_of_ble_eq_true rfl) (fun X P hP hX0 => ?_)
  suffices hgo : (0 ≤ bc ∧ 0 ≤ bs) → eb_G l Γ P X cX0_snubOf RX0 2 (some (.object "EvenBodies$Snub")) (rmX0_snubOf bc bs) 0 [(0, .ref a0), (1, .int a1)] [] st 0 0 from hgo ⟨Nat.zero_le _, Nat.zero_le _⟩
  intro hu
  refine eg_aload_n 0 dX0_snubOf_0 rfl rfl ?_
  obtain ⟨fs, v1, he, hv, h⟩ := h
  refine eg_get 0 in_X0 he rfl (Nat.le_of_ble_eq_true rfl) q159 rfl hv dX0_snubOf_1 ?_
  refine eg_iload_n 1 dX0_snubOf_4 rfl rfl ?_
  obtain ⟨p2, rfl, h⟩ := h
  obtain ⟨nA, fA, he, hb, h⟩ := h
  refine eg_aald (t := 7) (ty := .object "EvenBodies$Body") rfl rfl he hb dX0_snubOf_5 (fun v3 ev3 => ?_)
  replace h := h v3 ev3
  obtain ⟨p4, rfl, h⟩ := h
  obtain ⟨fs, v5, he, hv, h⟩ := h
  refine eg_getN 8 in_X1 he rfl (Nat.le_of_ble_eq_true rfl) (List.mem_of_getElem? (i := 5) rfl) rfl hv dX0_snubOf_6 ?_
  refine eb_jp3_e (J := fun (g6 : eb_S) (u7 : Nat) (w8 : Nat) => (u7 ≤ bc ∧ w8 ≤ bs) → eb_G l Γ P X cX0_snubOf RX0 2 (some (.object "EvenBodies$Snub")) (rmX0_snubOf bc bs) 34 [(0, .ref a0), (1, .int a1)] [] g6 u7 w8) h ?_ ?_
  · clear h
    intro g6 u7 w8 h hu
    refine eg_aload_n 0 dX0_snubOf_34 rfl rfl ?_
    obtain ⟨fs, v9, he, hv, h⟩ := h
    refine eg_get 0 in_X0 he rfl (Nat.le_of_ble_eq_true rfl) q159 rfl hv dX0_snubOf_35 ?_
    refine eg_iload_n 1 dX0_snubOf_38 rfl rfl ?_
    obtain ⟨p10, rfl, h⟩ := h
    obtain ⟨nA, fA, he, hb, h⟩ := h
    refine eg_aald (t := 7) (ty := .object "EvenBodies$Body") rfl rfl he hb dX0_snubOf_39 (fun v11 ev11 => ?_)
    replace h := h v11 ev11
    obtain ⟨p12, rfl, h⟩ := h
    obtain ⟨fs, v13, he, hv, h⟩ := h
    refine eg_getN 8 in_X1 he rfl (Nat.le_of_ble_eq_true rfl) (List.mem_of_getElem? (i := 5) rfl) rfl hv dX0_snubOf_40 ?_
    exact eg_aret dX0_snubOf_43 (Or.inl ⟨_, rfl⟩) (eb_rfz v13) hu.1 hu.2 (hP _ _ ⟨v13, rfl, h⟩)
  · clear h
    intro k14 hk14 h
    refine eg_ifnonnull (v := v5) dX0_snubOf_9 (fun p15 hnon => ?_) (fun hnul => ?_)
    · subst hnon
      replace h := h.2 p15 rfl
      exact hk14 st 0 0 h hu
    · subst hnul
      replace h := h.1 rfl
      refine eg_aload_n 0 dX0_snubOf_12 rfl rfl ?_
      obtain ⟨fs, v16, he, hv, h⟩ := h
      refine eg_get 0 in_X0 he rfl (Nat.le_of_ble_eq_true rfl) q159 rfl hv dX0_snubOf_13 ?_
      refine eg_iload_n 1 dX0_snubOf_16 rfl rfl ?_
      obtain ⟨p17, rfl, h⟩ := h
      obtain ⟨nA, fA, he, hb, h⟩ := h
      refine eg_aald (t := 7) (ty := .object "EvenBodies$Body") rfl rfl he hb dX0_snubOf_17 (fun v18 ev18 => ?_)
      replace h := h v18 ev18
      obtain ⟨hc1, hs1, h⟩ := h
      refine eh_new (ci := 13) (fs := [.int 0, .int 0, .null, .null, .null, .null]) in_X14 tyX14 tyX14_ok q1030 q1031 q97 rfl (by decide +kernel) hc1 hs1 dX0_snubOf_18 (fun p19 qp19 g20 eg20 => ?_)
      replace h := h p19 qp19 g20 eg20
      replace hu := And.intro hc1 hs1
      refine eg_dup dX0_snubOf_21 rfl ?_
      refine eg_aload_n 0 dX0_snubOf_22 rfl rfl ?_
      obtain ⟨fs, v21, he, hv, h⟩ := h
      refine eg_get 0 in_X0 he rfl (Nat.le_of_ble_eq_true rfl) q159 rfl hv dX0_snubOf_23 ?_
      refine eg_iload_n 1 dX0_snubOf_26 rfl rfl ?_
      obtain ⟨p22, rfl, h⟩ := h
      obtain ⟨nA, fA, he, hb, h⟩ := h
      refine eg_aald (t := 7) (ty := .object "EvenBodies$Body") rfl rfl he hb dX0_snubOf_27 (fun v23 ev23 => ?_)
      replace h := h v23 ev23
      obtain ⟨p24, rfl, h⟩ := h
      obtain ⟨c27, s28, hca, h⟩ := h
      have hM0 := h
      clear h
      refine ec_IVa (rest := [.ref p19, va_rf v18]) (ctX14_init hM0) q1034 q97 q1032 q1033 rfl nX14_init ⟨Nat.le_of_ble_eq_true rfl, Nat.le_of_ble_eq_true rfl⟩ ⟨rfl, rfl⟩ hca rfl rfl (by simp only [List.map_cons, List.map_nil, eb_rfc]; exact Nat.le_of_ble_eq_true rfl) dX0_snubOf_28 (fun g26 h => ?_)
      clear hM0
      replace hu := hca
      obtain ⟨p29, rfl, h⟩ := h
      obtain ⟨fs, he, hlen, h⟩ := h
      refine eh_putN 8 in_X1 he rfl (Nat.le_of_ble_eq_true rfl) tyX1 tyX1_ok nmX1 (List.mem_of_getElem? (i := 5) rfl) rfl rfl rfl rfl hlen dX0_snubOf_31 (fun g30 eg30 => ?_)
      replace h := h g30 eg30
      exact hk14 g30 (((0 + 1) + c27)) (((0 + 6) + s28)) h hu
def MX10_all (Γ : eb_C) (st : eb_S) (a0 : Nat) (K : Int32 → Prop) : Prop :=
  eb_nr st a0 3 (fun v1 => eb_nn v1 (fun p2 => eb_ln Γ st p2 0 (fun v3 => eb_jp1 (fun (x1_4 : Int32) => K (x1_4 / 2)) (fun k5 => eb_loop2 (fun r8 (x1_6 : Int32) (x4_7 : Int32) => eb_br (v3 ≤ x4_7) (k5 x1_6) (eb_li Γ st p2 0 x4_7 (fun v9 => r8 (x1_6 + v9) (x4_7 + 1)))) 0 0))))
abbrev rmX10_all : Room := { frames := 1, cells := 0, slots := 0, locals := 12 }
theorem nX10_all : eb_ar yX10_all 0 := by decide +kernel
theorem dX10_all_0 : eb_dc cX10_all 0 (.iconst 0) 1 1 := by decide +kernel
theorem dX10_all_1 : eb_dc cX10_all 1 (.istore_n 1) 1 2 := by decide +kernel
theorem dX10_all_2 : eb_dc cX10_all 2 (.aload_n 0) 1 3 := by decide +kernel
theorem dX10_all_3 : eb_dc cX10_all 3 (.getfield 22) 3 6 := by decide +kernel
theorem dX10_all_6 : eb_dc cX10_all 6 (.astore_n 2) 1 7 := by decide +kernel
theorem dX10_all_7 : eb_dc cX10_all 7 (.aload_n 2) 1 8 := by decide +kernel
theorem dX10_all_8 : eb_dc cX10_all 8 (.arraylength) 1 9 := by decide +kernel
theorem dX10_all_9 : eb_dc cX10_all 9 (.istore_n 3) 1 10 := by decide +kernel
theorem dX10_all_10 : eb_dc cX10_all 10 (.iconst 0) 1 11 := by decide +kernel
theorem dX10_all_11 : eb_dc cX10_all 11 (.istore 4) 2 13 := by decide +kernel
theorem dX10_all_13 : eb_dc cX10_all 13 (.iload 4) 2 15 := by decide +kernel
theorem dX10_all_15 : eb_dc cX10_all 15 (.iload_n 3) 1 16 := by decide +kernel
theorem dX10_all_16 : eb_dj cX10_all 16 (.if_icmp .ge 20) 20 19 36 := by decide +kernel
theorem dX10_all_19 : eb_dc cX10_all 19 (.aload_n 2) 1 20 := by decide +kernel
theorem dX10_all_20 : eb_dc cX10_all 20 (.iload 4) 2 22 := by decide +kernel
theorem dX10_all_22 : eb_dc cX10_all 22 (.iaload) 1 23 := by decide +kernel
theorem dX10_all_23 : eb_dc cX10_all 23 (.istore 5) 2 25 := by decide +kernel
theorem dX10_all_25 : eb_dc cX10_all 25 (.iload_n 1) 1 26 := by decide +kernel
theorem dX10_all_26 : eb_dc cX10_all 26 (.iload 5) 2 28 := by decide +kernel
theorem dX10_all_28 : eb_dc cX10_all 28 (.iadd) 1 29 := by decide +kernel
theorem dX10_all_29 : eb_dc cX10_all 29 (.istore_n 1) 1 30 := by decide +kernel
theorem dX10_all_30 : eb_dc cX10_all 30 (.iinc 4 1) 3 33 := by decide +kernel
theorem dX10_all_33 : eb_dj cX10_all 33 (.goto (-20)) (-20) 36 13 := by decide +kernel
theorem dX10_all_36 : eb_dc cX10_all 36 (.iload_n 1) 1 37 := by decide +kernel
theorem dX10_all_37 : eb_dc cX10_all 37 (.iconst 2) 1 38 := by decide +kernel
theorem dX10_all_38 : eb_dc cX10_all 38 (.idiv) 1 39 := by decide +kernel
theorem dX10_all_39 : eb_dc cX10_all 39 (.ireturn) 1 40 := by decide +kernel
theorem ctX10_all {l : Launch} {Γ : eb_C} {st : eb_S} {a0 : Nat} {K : Int32 → Prop} (h : MX10_all Γ st a0 K) : eb_Ct l Γ yX10_all cX10_all 6 (some .int) rmX10_all [.ref a0] st (eb_pI st K) := by
  refine eb_of (by decide) (Nat.le_of_ble_eq_true rfl) (fun X P hP hX0 => ?_)
  show eb_G l Γ P X cX10_all RX10 6 (some .int) rmX10_all 0 [(0, .ref a0)] [] st 0 0
  refine eg_iconst dX10_all_0 kc_0 ?_
  refine eg_istore_n (lv' := [(1, .int 0), (0, .ref a0)]) dX10_all_1 rfl (Nat.le_of_ble_eq_true rfl) rfl ?_
  refine eg_aload_n 1 dX10_all_2 rfl rfl ?_
  obtain ⟨c0, fs, v1, hc0, he, hv, h⟩ := h
  refine en_get 3 (Nat.le_of_ble_eq_true rfl) hc0 he q638 hv dX10_all_3 ?_
  refine eh_astore_n (i := 2) (v := v1) (lv' := [(2, va_rf v1), (1, .int 0), (0, .ref a0)]) dX10_all_6 rfl (Nat.le_of_ble_eq_true rfl) rfl ?_
  refine eh_aload_n (v := v1) 0 dX10_all_7 rfl rfl ?_
  obtain ⟨p2, rfl, h⟩ := h
  obtain ⟨xA, he, h⟩ := h
  refine eh_alen (t := 0) (ty := .int) he rfl dX10_all_8 ?_
  generalize Int32.ofNat xA.1 = v3 at h ⊢
  refine eg_istore_n (lv' := [(3, .int v3), (2, .ref p2), (1, .int 0), (0, .ref a0)]) dX10_all_9 rfl (Nat.le_of_ble_eq_true rfl) rfl ?_
  refine eg_iconst dX10_all_10 kc_0 ?_
  refine eg_istore (lv' := [(4, .int 0), (3, .int v3), (2, .ref p2), (1, .int 0), (0, .ref a0)]) dX10_all_11 (Nat.le_of_ble_eq_true rfl) rfl ?_
  refine eb_jp1_e (J := fun (x1_4 : Int32) => eb_G l Γ P X cX10_all RX10 6 (some .int) rmX10_all 36 [(1, .int x1_4)] [] st 0 0) h ?_ ?_
  · clear h
    intro x1_4 h
    refine eg_iload_n 0 dX10_all_36 rfl rfl ?_
    refine eg_iconst dX10_all_37 kc_2 ?_
    refine eg_idiv dX10_all_38 (by decide) ?_
    exact eg_iret dX10_all_39 (Nat.zero_le _) (Nat.zero_le _) (hP _ _ ⟨_, rfl, rfl, h⟩)
  · clear h
    intro k5 hk5 h
    refine eg_sub [3, 2, 1, 0] rfl ?_
    refine eb_loop2_e (J := fun (x1_6 : Int32) (x4_7 : Int32) => eb_G l Γ P X cX10_all RX10 6 (some .int) rmX10_all 13 [(1, .int x1_6), (2, .ref p2), (3, .int v3), (4, .int x4_7)] [] st 0 0) h ?_
    clear h
    intro r8 hr8 x1_6 x4_7 h
    refine eg_iload 3 dX10_all_13 rfl ?_
    refine eg_iload_n 2 dX10_all_15 rfl rfl ?_
    refine eg_icmp_ge dX10_all_16 (fun c10 => ?_) (fun c10 => ?_)
    · replace h := h.1 c10
      exact eg_sub [0] rfl (hk5 x1_6 h)
    · replace h := h.2 c10
      refine eg_aload_n 1 dX10_all_19 rfl rfl ?_
      refine eg_iload 3 dX10_all_20 rfl ?_
      obtain ⟨nA, fA, he, hb, h⟩ := h
      refine eh_iald he hb dX10_all_22 (fun v9 ev9 => ?_)
      replace h := h v9 ev9
      refine eg_istore (lv' := [(5, .int v9), (1, .int x1_6), (2, .ref p2), (3, .int v3), (4, .int x4_7)]) dX10_all_23 (Nat.le_of_ble_eq_true rfl) rfl ?_
      refine eg_iload_n 1 dX10_all_25 rfl rfl ?_
      refine eg_iload 0 dX10_all_26 rfl ?_
      refine eg_iadd dX10_all_28 ?_
      refine eg_istore_n (lv' := [(1, .int (x1_6 + v9)), (5, .int v9), (2, .ref p2), (3, .int v3), (4, .int x4_7)]) dX10_all_29 rfl (Nat.le_of_ble_eq_true rfl) rfl ?_
      refine eg_iinc (j := 4) (lv' := [(4, .int (x4_7 + 1)), (1, .int (x1_6 + v9)), (5, .int v9), (2, .ref p2), (3, .int v3)]) dX10_all_30 rfl (by rw [kc_1]) (Nat.le_of_ble_eq_true rfl) rfl ?_
      refine eg_goto dX10_all_33 ?_
      exact eg_sub [1, 3, 4, 0] rfl (hr8 (x1_6 + v9) (x4_7 + 1) h)
def MX14_faces (Γ : eb_C) (st : eb_S) (a0 : Nat) (a1 : Int32) (K : Int32 → Prop) : Prop :=
  eb_jp1 (fun (s1 : Int32) => eb_loop2 (fun r4 (x3_2 : Int32) (x4_3 : Int32) => eb_br (3 ≤ x4_3) (K x3_2) (eb_jp1 (fun (x3_5 : Int32) => r4 x3_5 (x4_3 + 1)) (fun k6 => eb_loop2 (fun r9 (x3_7 : Int32) (x5_8 : Int32) => eb_br (3 ≤ x5_8) (k6 x3_7) (eb_gr st a0 13 4 (fun v10 => eb_nn v10 (fun p11 => eb_cs st p11 [1] ∧ MX1_angle Γ st p11 x4_3 x5_8 (fun v12 => eb_jp1 (fun (s16 : Int32) => r9 (x3_7 + s16) (x5_8 + 1)) (fun k17 => eb_br (v12 ≤ 2) (k17 0) (eb_jp0 (eb_gi st a0 13 0 (fun v18 => (¬ v12 = 0) ∧ (k17 (v18 / v12)))) (fun k19 => eb_br (a1 = 0) (k19) (eb_br (a1 = v12) (k19) (k17 0)))))))))) x3_2 (x4_3 + 1)))) s1 0) (fun k25 => eb_jp0 (eb_gr st a0 13 4 (fun v26 => eb_nn v26 (fun p27 => eb_gr st p27 1 3 (fun v28 => eb_nn v28 (fun p29 => eb_gi st p29 7 1 (fun v30 => k25 (v30 / 2))))))) (fun k31 => eb_br (a1 = 0) (k31) (eb_br (a1 = 3) (k31) (k25 0))))
abbrev rmX14_faces : Room := { frames := 2, cells := 0, slots := 0, locals := 34 }
theorem nX14_faces : eb_ar yX14_faces 1 := by decide +kernel
theorem dX14_faces_0 : eb_dc cX14_faces 0 (.iload_n 1) 1 1 := by decide +kernel
theorem dX14_faces_1 : eb_dj cX14_faces 1 (.ifCond .eq 8) 8 4 9 := by decide +kernel
theorem dX14_faces_4 : eb_dc cX14_faces 4 (.iload_n 1) 1 5 := by decide +kernel
theorem dX14_faces_5 : eb_dc cX14_faces 5 (.iconst 3) 1 6 := by decide +kernel
theorem dX14_faces_6 : eb_dj cX14_faces 6 (.if_icmp .ne 18) 18 9 24 := by decide +kernel
theorem dX14_faces_9 : eb_dc cX14_faces 9 (.aload_n 0) 1 10 := by decide +kernel
theorem dX14_faces_10 : eb_dc cX14_faces 10 (.getfield 21) 3 13 := by decide +kernel
theorem dX14_faces_13 : eb_dc cX14_faces 13 (.getfield 3) 3 16 := by decide +kernel
theorem dX14_faces_16 : eb_dc cX14_faces 16 (.getfield 9) 3 19 := by decide +kernel
theorem dX14_faces_19 : eb_dc cX14_faces 19 (.iconst 2) 1 20 := by decide +kernel
theorem dX14_faces_20 : eb_dc cX14_faces 20 (.idiv) 1 21 := by decide +kernel
theorem dX14_faces_21 : eb_dj cX14_faces 21 (.goto 4) 4 24 25 := by decide +kernel
theorem dX14_faces_24 : eb_dc cX14_faces 24 (.iconst 0) 1 25 := by decide +kernel
theorem dX14_faces_25 : eb_dc cX14_faces 25 (.istore_n 2) 1 26 := by decide +kernel
theorem dX14_faces_26 : eb_dc cX14_faces 26 (.iload_n 2) 1 27 := by decide +kernel
theorem dX14_faces_27 : eb_dc cX14_faces 27 (.istore_n 3) 1 28 := by decide +kernel
theorem dX14_faces_28 : eb_dc cX14_faces 28 (.iconst 0) 1 29 := by decide +kernel
theorem dX14_faces_29 : eb_dc cX14_faces 29 (.istore 4) 2 31 := by decide +kernel
theorem dX14_faces_31 : eb_dc cX14_faces 31 (.iload 4) 2 33 := by decide +kernel
theorem dX14_faces_33 : eb_dc cX14_faces 33 (.iconst 3) 1 34 := by decide +kernel
theorem dX14_faces_34 : eb_dj cX14_faces 34 (.if_icmp .ge 70) 70 37 104 := by decide +kernel
theorem dX14_faces_37 : eb_dc cX14_faces 37 (.iload 4) 2 39 := by decide +kernel
theorem dX14_faces_39 : eb_dc cX14_faces 39 (.iconst 1) 1 40 := by decide +kernel
theorem dX14_faces_40 : eb_dc cX14_faces 40 (.iadd) 1 41 := by decide +kernel
theorem dX14_faces_41 : eb_dc cX14_faces 41 (.istore 5) 2 43 := by decide +kernel
theorem dX14_faces_43 : eb_dc cX14_faces 43 (.iload 5) 2 45 := by decide +kernel
theorem dX14_faces_45 : eb_dc cX14_faces 45 (.iconst 3) 1 46 := by decide +kernel
theorem dX14_faces_46 : eb_dj cX14_faces 46 (.if_icmp .ge 52) 52 49 98 := by decide +kernel
theorem dX14_faces_49 : eb_dc cX14_faces 49 (.aload_n 0) 1 50 := by decide +kernel
theorem dX14_faces_50 : eb_dc cX14_faces 50 (.getfield 21) 3 53 := by decide +kernel
theorem dX14_faces_53 : eb_dc cX14_faces 53 (.iload 4) 2 55 := by decide +kernel
theorem dX14_faces_55 : eb_dc cX14_faces 55 (.iload 5) 2 57 := by decide +kernel
theorem dX14_faces_57 : eb_dc cX14_faces 57 (.invokevirtual 42) 3 60 := by decide +kernel
theorem dX14_faces_60 : eb_dc cX14_faces 60 (.istore 6) 2 62 := by decide +kernel
theorem dX14_faces_62 : eb_dc cX14_faces 62 (.iload_n 3) 1 63 := by decide +kernel
theorem dX14_faces_63 : eb_dc cX14_faces 63 (.iload 6) 2 65 := by decide +kernel
theorem dX14_faces_65 : eb_dc cX14_faces 65 (.iconst 2) 1 66 := by decide +kernel
theorem dX14_faces_66 : eb_dj cX14_faces 66 (.if_icmp .le 23) 23 69 89 := by decide +kernel
theorem dX14_faces_69 : eb_dc cX14_faces 69 (.iload_n 1) 1 70 := by decide +kernel
theorem dX14_faces_70 : eb_dj cX14_faces 70 (.ifCond .eq 9) 9 73 79 := by decide +kernel
theorem dX14_faces_73 : eb_dc cX14_faces 73 (.iload_n 1) 1 74 := by decide +kernel
theorem dX14_faces_74 : eb_dc cX14_faces 74 (.iload 6) 2 76 := by decide +kernel
theorem dX14_faces_76 : eb_dj cX14_faces 76 (.if_icmp .ne 13) 13 79 89 := by decide +kernel
theorem dX14_faces_79 : eb_dc cX14_faces 79 (.aload_n 0) 1 80 := by decide +kernel
theorem dX14_faces_80 : eb_dc cX14_faces 80 (.getfield 45) 3 83 := by decide +kernel
theorem dX14_faces_83 : eb_dc cX14_faces 83 (.iload 6) 2 85 := by decide +kernel
theorem dX14_faces_85 : eb_dc cX14_faces 85 (.idiv) 1 86 := by decide +kernel
theorem dX14_faces_86 : eb_dj cX14_faces 86 (.goto 4) 4 89 90 := by decide +kernel
theorem dX14_faces_89 : eb_dc cX14_faces 89 (.iconst 0) 1 90 := by decide +kernel
theorem dX14_faces_90 : eb_dc cX14_faces 90 (.iadd) 1 91 := by decide +kernel
theorem dX14_faces_91 : eb_dc cX14_faces 91 (.istore_n 3) 1 92 := by decide +kernel
theorem dX14_faces_92 : eb_dc cX14_faces 92 (.iinc 5 1) 3 95 := by decide +kernel
theorem dX14_faces_95 : eb_dj cX14_faces 95 (.goto (-52)) (-52) 98 43 := by decide +kernel
theorem dX14_faces_98 : eb_dc cX14_faces 98 (.iinc 4 1) 3 101 := by decide +kernel
theorem dX14_faces_101 : eb_dj cX14_faces 101 (.goto (-70)) (-70) 104 31 := by decide +kernel
theorem dX14_faces_104 : eb_dc cX14_faces 104 (.iload_n 3) 1 105 := by decide +kernel
theorem dX14_faces_105 : eb_dc cX14_faces 105 (.ireturn) 1 106 := by decide +kernel
theorem ctX14_faces {l : Launch} {Γ : eb_C} {st : eb_S} {a0 : Nat} {a1 : Int32} {K : Int32 → Prop} (h : MX14_faces Γ st a0 a1 K) : eb_Ct l Γ yX14_faces cX14_faces 7 (some .int) rmX14_faces [.ref a0, .int a1] st (eb_pI st K) := by
  refine eb_of (by decide) (Nat.le_of_ble_eq_true rfl) (fun X P hP hX0 => ?_)
  show eb_G l Γ P X cX14_faces RX14 7 (some .int) rmX14_faces 0 [(0, .ref a0), (1, .int a1)] [] st 0 0
  refine eg_iload_n 1 dX14_faces_0 rfl rfl ?_
  refine eb_jp1_e (J := fun (s1 : Int32) => eb_G l Γ P X cX14_faces RX14 7 (some .int) rmX14_faces 25 [(0, .ref a0), (1, .int a1)] [.int s1] st 0 0) h ?_ ?_
  · clear h
    intro s1 h
    refine eg_istore_n (lv' := [(2, .int s1), (0, .ref a0), (1, .int a1)]) dX14_faces_25 rfl (Nat.le_of_ble_eq_true rfl) rfl ?_
    refine eg_iload_n 0 dX14_faces_26 rfl rfl ?_
    refine eg_istore_n (lv' := [(3, .int s1), (2, .int s1), (0, .ref a0), (1, .int a1)]) dX14_faces_27 rfl (Nat.le_of_ble_eq_true rfl) rfl ?_
    refine eg_iconst dX14_faces_28 kc_0 ?_
    refine eg_istore (lv' := [(4, .int 0), (3, .int s1), (2, .int s1), (0, .ref a0), (1, .int a1)]) dX14_faces_29 (Nat.le_of_ble_eq_true rfl) rfl ?_
    refine eg_sub [3, 4, 1, 0] rfl ?_
    refine eb_loop2_e (J := fun (x3_2 : Int32) (x4_3 : Int32) => eb_G l Γ P X cX14_faces RX14 7 (some .int) rmX14_faces 31 [(0, .ref a0), (1, .int a1), (3, .int x3_2), (4, .int x4_3)] [] st 0 0) h ?_
    clear h
    intro r4 hr4 x3_2 x4_3 h
    refine eg_iload 3 dX14_faces_31 rfl ?_
    refine eg_iconst dX14_faces_33 kc_3 ?_
    refine eg_icmp_ge dX14_faces_34 (fun c24 => ?_) (fun c24 => ?_)
    · replace h := h.1 c24
      refine eg_iload_n 2 dX14_faces_104 rfl rfl ?_
      exact eg_iret dX14_faces_105 (Nat.zero_le _) (Nat.zero_le _) (hP _ _ ⟨_, rfl, rfl, h⟩)
    · replace h := h.2 c24
      refine eg_iload 3 dX14_faces_37 rfl ?_
      refine eg_iconst dX14_faces_39 kc_1 ?_
      refine eg_iadd dX14_faces_40 ?_
      refine eg_istore (lv' := [(5, .int (x4_3 + 1)), (0, .ref a0), (1, .int a1), (3, .int x3_2), (4, .int x4_3)]) dX14_faces_41 (Nat.le_of_ble_eq_true rfl) rfl ?_
      refine eb_jp1_e (J := fun (x3_5 : Int32) => eb_G l Γ P X cX14_faces RX14 7 (some .int) rmX14_faces 98 [(0, .ref a0), (1, .int a1), (3, .int x3_5), (4, .int x4_3)] [] st 0 0) h ?_ ?_
      · clear h
        intro x3_5 h
        refine eg_iinc (j := 3) (lv' := [(4, .int (x4_3 + 1)), (0, .ref a0), (1, .int a1), (3, .int x3_5)]) dX14_faces_98 rfl (by rw [kc_1]) (Nat.le_of_ble_eq_true rfl) rfl ?_
        refine eg_goto dX14_faces_101 ?_
        exact eg_sub [1, 2, 3, 0] rfl (hr4 x3_5 (x4_3 + 1) h)
      · clear h
        intro k6 hk6 h
        refine eg_sub [1, 2, 3, 4, 0] rfl ?_
        refine eb_loop2_e (J := fun (x3_7 : Int32) (x5_8 : Int32) => eb_G l Γ P X cX14_faces RX14 7 (some .int) rmX14_faces 43 [(0, .ref a0), (1, .int a1), (3, .int x3_7), (4, .int x4_3), (5, .int x5_8)] [] st 0 0) h ?_
        clear h
        intro r9 hr9 x3_7 x5_8 h
        refine eg_iload 4 dX14_faces_43 rfl ?_
        refine eg_iconst dX14_faces_45 kc_3 ?_
        refine eg_icmp_ge dX14_faces_46 (fun c23 => ?_) (fun c23 => ?_)
        · replace h := h.1 c23
          exact eg_sub [0, 1, 2, 3] rfl (hk6 x3_7 h)
        · replace h := h.2 c23
          refine eg_aload_n 0 dX14_faces_49 rfl rfl ?_
          obtain ⟨fs, v10, he, hv, h⟩ := h
          refine eg_get 4 in_X14 he rfl (Nat.le_of_ble_eq_true rfl) q1044 rfl hv dX14_faces_50 ?_
          refine eg_iload 3 dX14_faces_53 rfl ?_
          refine eg_iload 4 dX14_faces_55 rfl ?_
          obtain ⟨p11, rfl, h⟩ := h
          obtain ⟨hcs, h⟩ := h
          have hM0 := h
          clear h
          refine ec_VIp (rest := []) (ctX1_angle hM0) (lw_V q1065 q201 q202 q75 q203) rfl rfl hcs nX1_angle ⟨Nat.le_of_ble_eq_true rfl, Nat.le_of_ble_eq_true rfl⟩ ⟨rfl, rfl⟩ ⟨Nat.zero_le _, Nat.zero_le _⟩ rfl rfl (Nat.le_of_ble_eq_true rfl) dX14_faces_57 (fun v12 h => ?_)
          clear hM0
          refine eg_istore (lv' := [(6, .int v12), (0, .ref a0), (1, .int a1), (3, .int x3_7), (4, .int x4_3), (5, .int x5_8)]) dX14_faces_60 (Nat.le_of_ble_eq_true rfl) rfl ?_
          refine eg_iload_n 3 dX14_faces_62 rfl rfl ?_
          refine eg_iload 0 dX14_faces_63 rfl ?_
          refine eg_iconst dX14_faces_65 kc_2 ?_
          refine eb_jp1_e (J := fun (s16 : Int32) => eb_G l Γ P X cX14_faces RX14 7 (some .int) rmX14_faces 90 [(0, .ref a0), (1, .int a1), (4, .int x4_3), (5, .int x5_8)] [.int s16, .int x3_7] st 0 0) h ?_ ?_
          · clear h
            intro s16 h
            refine eg_iadd dX14_faces_90 ?_
            refine eg_istore_n (lv' := [(3, .int (x3_7 + s16)), (0, .ref a0), (1, .int a1), (4, .int x4_3), (5, .int x5_8)]) dX14_faces_91 rfl (Nat.le_of_ble_eq_true rfl) rfl ?_
            refine eg_iinc (j := 4) (lv' := [(5, .int (x5_8 + 1)), (3, .int (x3_7 + s16)), (0, .ref a0), (1, .int a1), (4, .int x4_3)]) dX14_faces_92 rfl (by rw [kc_1]) (Nat.le_of_ble_eq_true rfl) rfl ?_
            refine eg_goto dX14_faces_95 ?_
            exact eg_sub [2, 3, 1, 4, 0] rfl (hr9 (x3_7 + s16) (x5_8 + 1) h)
          · clear h
            intro k17 hk17 h
            refine eg_icmp_le dX14_faces_66 (fun c22 => ?_) (fun c22 => ?_)
            · replace h := h.1 c22
              refine eg_iconst dX14_faces_89 kc_0 ?_
              exact eg_sub [1, 2, 4, 5] rfl (hk17 0 h)
            · replace h := h.2 c22
              refine eg_iload_n 2 dX14_faces_69 rfl rfl ?_
              refine eb_jp0_e (J := eb_G l Γ P X cX14_faces RX14 7 (some .int) rmX14_faces 79 [(0, .ref a0), (1, .int a1), (4, .int x4_3), (5, .int x5_8), (6, .int v12)] [.int x3_7] st 0 0) h ?_ ?_
              · clear h
                intro  h
                refine eg_aload_n 0 dX14_faces_79 rfl rfl ?_
                obtain ⟨fs, v18, he, hv, h⟩ := h
                refine eg_getS 0 in_X14 he rfl (Nat.le_of_ble_eq_true rfl) q632 q633 hv dX14_faces_80 ?_
                refine eg_iload 4 dX14_faces_83 rfl ?_
                obtain ⟨hne, h⟩ := h
                refine eg_idiv dX14_faces_85 hne ?_
                refine eg_goto dX14_faces_86 ?_
                exact eg_sub [0, 1, 2, 3] rfl (hk17 (v18 / v12) h)
              · clear h
                intro k19 hk19 h
                refine eg_if_eq dX14_faces_70 (fun c21 => ?_) (fun c21 => ?_)
                · replace h := h.1 c21
                  exact eg_sub [1, 2, 4, 5, 0] rfl (hk19 h)
                · replace h := h.2 c21
                  refine eg_iload_n 2 dX14_faces_73 rfl rfl ?_
                  refine eg_iload 0 dX14_faces_74 rfl ?_
                  refine eg_icmp_ne dX14_faces_76 (fun c20 => ?_) (fun c20 => ?_)
                  · replace h := h.2 c20
                    refine eg_iconst dX14_faces_89 kc_0 ?_
                    exact eg_sub [1, 2, 4, 5] rfl (hk17 0 h)
                  · replace h := h.1 c20
                    exact eg_sub [1, 2, 4, 5, 0] rfl (hk19 h)
  · clear h
    intro k25 hk25 h
    refine eb_jp0_e (J := eb_G l Γ P X cX14_faces RX14 7 (some .int) rmX14_faces 9 [(0, .ref a0), (1, .int a1)] [] st 0 0) h ?_ ?_
    · clear h
      intro  h
      refine eg_aload_n 0 dX14_faces_9 rfl rfl ?_
      obtain ⟨fs, v26, he, hv, h⟩ := h
      refine eg_get 4 in_X14 he rfl (Nat.le_of_ble_eq_true rfl) q1044 rfl hv dX14_faces_10 ?_
      obtain ⟨p27, rfl, h⟩ := h
      obtain ⟨fs, v28, he, hv, h⟩ := h
      refine eg_getN 3 in_X1 he rfl (Nat.le_of_ble_eq_true rfl) (List.mem_of_getElem? (i := 19) rfl) rfl hv dX14_faces_13 ?_
      obtain ⟨p29, rfl, h⟩ := h
      obtain ⟨fs, v30, he, hv, h⟩ := h
      refine eg_getN 1 in_X8 he rfl (Nat.le_of_ble_eq_true rfl) (List.mem_of_getElem? (i := 20) rfl) rfl hv dX14_faces_16 ?_
      refine eg_iconst dX14_faces_19 kc_2 ?_
      refine eg_idiv dX14_faces_20 (by decide) ?_
      refine eg_goto dX14_faces_21 ?_
      exact hk25 (v30 / 2) h
    · clear h
      intro k31 hk31 h
      refine eg_if_eq dX14_faces_1 (fun c33 => ?_) (fun c33 => ?_)
      · replace h := h.1 c33
        exact hk31 h
      · replace h := h.2 c33
        refine eg_iload_n 1 dX14_faces_4 rfl rfl ?_
        refine eg_iconst dX14_faces_5 kc_3 ?_
        refine eg_icmp_ne dX14_faces_6 (fun c32 => ?_) (fun c32 => ?_)
        · replace h := h.2 c32
          refine eg_iconst dX14_faces_24 kc_0 ?_
          exact hk25 0 h
        · replace h := h.1 c32
          exact hk31 h

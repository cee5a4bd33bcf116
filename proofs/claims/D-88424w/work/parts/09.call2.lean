set_option maxRecDepth 100000
section TROWS
variable {l : Launch} {Γ : eb_C} {P : Option Value → eb_S → Prop} {X : eb_X} {cc : ByteArray} {own : String} {nL : Nat} {ret : Option FieldType} {R : Room} {pc pc1 tgt : Nat} {lv lv' : eb_L} {stk : List Value} {st : eb_S} {uc us : Nat}
theorem eb_rfN {ty : FieldType} (v : Option Nat) (h : (∃ C, ty = .object C) ∨ ∃ t, ty = .array t) : narrow ty (va_rf v) = va_rf v := by
  rcases h with ⟨C, rfl⟩ | ⟨t, rfl⟩ <;> cases v <;> rfl
theorem eb_rfF {ty : FieldType} (v : Option Nat) (h : (∃ C, ty = .object C) ∨ ∃ t, ty = .array t) : fits ty (va_rf v) = true := by
  rcases h with ⟨C, rfl⟩ | ⟨t, rfl⟩ <;> cases v <;> rfl
theorem eb_zbF {v : Int32} (h : eb_zb v) : fits .boolean (.int v) = true := by
  rcases h with rfl | rfl <;> rfl
theorem eh_put {a ci i : Nat} {C ref : String} {T : u_T} {N : Nat} {fs : List Value} {v : Value} (k : Nat) (hin : ∀ w ∈ u_ws C T N, w ∈ lw_all) (he : st a = some (.inr (ci, fs))) (hc : eb_cl[ci]? = some (C, T, N)) (hk : k < N) (ty0 : Nat → FieldType) (hty : ∀ k, k < N → parseFieldDescriptor (T k).2.2.1 = some (ty0 k)) (hnm : ∀ a, a < N → ∀ b, b < N → a ≠ b → (T a).2.1 ≠ (T b).2.1) (hq : Cond.fieldLink own i ref (T k).2.1 (T k).2.2.1 ∈ lw_all) (hsame : (T k).1 = ref) (hfin : (T k).2.2.2 = false) (hn : narrow (ty0 k) v = v) (hfit : fits (ty0 k) v = true) (hlen : k < fs.length) (hd : eb_dc cc pc (.putfield i) 3 pc1) (kk : ∀ st' : eb_S, st' = eb_up st a (.inr (ci, fs.set k v)) → eb_G l Γ P X cc own nL ret R pc1 lv stk st' uc us) : eb_G l Γ P X cc own nL ret R pc lv (v :: .ref a :: stk) st uc us :=
  eg_put k hin he hc hk ty0 hty hnm hq hsame hfin hn hfit hlen hd (kk _ rfl)
theorem eh_putF {a ci i : Nat} {C ref : String} {T : u_T} {N : Nat} {fs : List Value} {v : Value} (k : Nat) (hin : ∀ w ∈ u_ws C T N, w ∈ lw_all) (he : st a = some (.inr (ci, fs))) (hc : eb_cl[ci]? = some (C, T, N)) (hk : k < N) (ty0 : Nat → FieldType) (hty : ∀ k, k < N → parseFieldDescriptor (T k).2.2.1 = some (ty0 k)) (hnm : ∀ a, a < N → ∀ b, b < N → a ≠ b → (T a).2.1 ≠ (T b).2.1) (hq : Cond.fieldLink own i ref (T k).2.1 (T k).2.2.1 ∈ lw_all) (hsame : (T k).1 = ref) (hfin : (T k).2.2.2 = true) (hin2 : eb_in X) (hdecl : (T k).1 = own) (hn : narrow (ty0 k) v = v) (hfit : fits (ty0 k) v = true) (hlen : k < fs.length) (hd : eb_dc cc pc (.putfield i) 3 pc1) (kk : ∀ st' : eb_S, st' = eb_up st a (.inr (ci, fs.set k v)) → eb_G l Γ P X cc own nL ret R pc1 lv stk st' uc us) : eb_G l Γ P X cc own nL ret R pc lv (v :: .ref a :: stk) st uc us :=
  eg_putF k hin he hc hk ty0 hty hnm hq hsame hfin hin2 hdecl hn hfit hlen hd (kk _ rfl)
theorem eh_putN {host : String} {a ci i : Nat} {C ref : String} {T : u_T} {N : Nat} {fs : List Value} {v : Value} (k : Nat) (hin : ∀ w ∈ u_ws C T N, w ∈ lw_all) (he : st a = some (.inr (ci, fs))) (hc : eb_cl[ci]? = some (C, T, N)) (hk : k < N) (ty0 : Nat → FieldType) (hty : ∀ k, k < N → parseFieldDescriptor (T k).2.2.1 = some (ty0 k)) (hnm : ∀ a, a < N → ∀ b, b < N → a ≠ b → (T a).2.1 ≠ (T b).2.1) (hq : (own, i, ref, (T k).2.1, (T k).2.2.1, host) ∈ eb_nF) (hsame : (T k).1 = ref) (hfin : (T k).2.2.2 = false) (hn : narrow (ty0 k) v = v) (hfit : fits (ty0 k) v = true) (hlen : k < fs.length) (hd : eb_dc cc pc (.putfield i) 3 pc1) (kk : ∀ st' : eb_S, st' = eb_up st a (.inr (ci, fs.set k v)) → eb_G l Γ P X cc own nL ret R pc1 lv stk st' uc us) : eb_G l Γ P X cc own nL ret R pc lv (v :: .ref a :: stk) st uc us :=
  eg_putN k hin he hc hk ty0 hty hnm hq hsame hfin hn hfit hlen hd (kk _ rfl)
theorem eh_iast {a n : Nat} {f : Nat → Int32} {i x : Int32} (he : st a = some (eb_ia Γ 0 n f)) (hin : vp_in i n) (hd : eb_dc cc pc (.iastore) 1 pc1) (kk : ∀ st' : eb_S, st' = eb_up st a (eb_ia Γ 0 n (upd f i.toNatClampNeg x)) → eb_G l Γ P X cc own nL ret R pc1 lv stk st' uc us) : eb_G l Γ P X cc own nL ret R pc lv (.int x :: .int i :: .ref a :: stk) st uc us := eg_iast he hin hd (kk _ rfl)
theorem eh_zast {a n : Nat} {f : Nat → Int32} {i x : Int32} (he : st a = some (eb_ia Γ 1 n f)) (hin : vp_in i n) (hd : eb_dc cc pc (.bastore) 1 pc1) (kk : ∀ st' : eb_S, st' = eb_up st a (eb_ia Γ 1 n (upd f i.toNatClampNeg (vp_nar .boolean x))) → eb_G l Γ P X cc own nL ret R pc1 lv stk st' uc us) : eb_G l Γ P X cc own nL ret R pc lv (.int x :: .int i :: .ref a :: stk) st uc us := eg_zast he hin hd (kk _ rfl)
theorem eh_bast {a n : Nat} {f : Nat → Int32} {i x : Int32} (he : st a = some (eb_ia Γ 4 n f)) (hin : vp_in i n) (hd : eb_dc cc pc (.bastore) 1 pc1) (kk : ∀ st' : eb_S, st' = eb_up st a (eb_ia Γ 4 n (upd f i.toNatClampNeg (vp_nar .byte x))) → eb_G l Γ P X cc own nL ret R pc1 lv stk st' uc us) : eb_G l Γ P X cc own nL ret R pc lv (.int x :: .int i :: .ref a :: stk) st uc us := eg_bast he hin hd (kk _ rfl)
theorem eh_sast {a n : Nat} {f : Nat → Int32} {i x : Int32} (he : st a = some (eb_ia Γ 3 n f)) (hin : vp_in i n) (hd : eb_dc cc pc (.sastore) 1 pc1) (kk : ∀ st' : eb_S, st' = eb_up st a (eb_ia Γ 3 n (upd f i.toNatClampNeg (vp_nar .short x))) → eb_G l Γ P X cc own nL ret R pc1 lv stk st' uc us) : eb_G l Γ P X cc own nL ret R pc lv (.int x :: .int i :: .ref a :: stk) st uc us := eg_sast he hin hd (kk _ rfl)
theorem eh_iald {a n : Nat} {f : Nat → Int32} {i : Int32} (he : st a = some (eb_ia Γ 0 n f)) (hin : vp_in i n) (hd : eb_dc cc pc (.iaload) 1 pc1) (kk : ∀ v : Int32, v = f i.toNatClampNeg → eb_G l Γ P X cc own nL ret R pc1 lv (.int v :: stk) st uc us) : eb_G l Γ P X cc own nL ret R pc lv (.int i :: .ref a :: stk) st uc us := eg_iald he hin hd (kk _ rfl)
theorem eh_zald {a n : Nat} {f : Nat → Int32} {i : Int32} (he : st a = some (eb_ia Γ 1 n f)) (hin : vp_in i n) (hd : eb_dc cc pc (.baload) 1 pc1) (kk : ∀ v : Int32, v = f i.toNatClampNeg → eb_G l Γ P X cc own nL ret R pc1 lv (.int v :: stk) st uc us) : eb_G l Γ P X cc own nL ret R pc lv (.int i :: .ref a :: stk) st uc us := eg_zald he hin hd (kk _ rfl)
theorem eh_bald {a n : Nat} {f : Nat → Int32} {i : Int32} (he : st a = some (eb_ia Γ 4 n f)) (hin : vp_in i n) (hd : eb_dc cc pc (.baload) 1 pc1) (kk : ∀ v : Int32, v = f i.toNatClampNeg → eb_G l Γ P X cc own nL ret R pc1 lv (.int v :: stk) st uc us) : eb_G l Γ P X cc own nL ret R pc lv (.int i :: .ref a :: stk) st uc us := eg_bald he hin hd (kk _ rfl)
theorem eh_sald {a n : Nat} {f : Nat → Int32} {i : Int32} (he : st a = some (eb_ia Γ 3 n f)) (hin : vp_in i n) (hd : eb_dc cc pc (.saload) 1 pc1) (kk : ∀ v : Int32, v = f i.toNatClampNeg → eb_G l Γ P X cc own nL ret R pc1 lv (.int v :: stk) st uc us) : eb_G l Γ P X cc own nL ret R pc lv (.int i :: .ref a :: stk) st uc us := eg_sald he hin hd (kk _ rfl)
theorem eh_lald {a n : Nat} {f : Nat → Int64} {i : Int32} (he : st a = some (eb_la Γ n f)) (hin : vp_in i n) (hd : eb_dc cc pc (.laload) 1 pc1) (kk : ∀ v : Int64, v = f i.toNatClampNeg → eb_G l Γ P X cc own nL ret R pc1 lv (.long v :: stk) st uc us) : eb_G l Γ P X cc own nL ret R pc lv (.int i :: .ref a :: stk) st uc us := eg_lald he hin hd (kk _ rfl)
theorem eh_last {a n : Nat} {f : Nat → Int64} {i : Int32} {x : Int64} (he : st a = some (eb_la Γ n f)) (hin : vp_in i n) (hd : eb_dc cc pc (.lastore) 1 pc1) (kk : ∀ st' : eb_S, st' = eb_up st a (eb_la Γ n (vp_updL f i.toNatClampNeg x)) → eb_G l Γ P X cc own nL ret R pc1 lv stk st' uc us) : eb_G l Γ P X cc own nL ret R pc lv (.long x :: .int i :: .ref a :: stk) st uc us := eg_last he hin hd (kk _ rfl)
theorem eb_newc (cA : ClassId) (n : Nat) : vp_cell cA (n, .inl (fun _ => (0 : Int32))) = arrV cA n (fun _ => Value.int 0) := rfl
theorem eb_newcl (cA : ClassId) (n : Nat) : vp_cell cA (n, .inr (.inl (fun _ => (0 : Int64)))) = arrV cA n (fun _ => Value.long 0) := rfl
theorem eh_new_i {n : Int32} {N' : Nat} (hq : Cond.arrayClass .int ∈ lw_all) (hN : n.toNatClampNeg = N') (ho : eb_ok1 n) (hcells : uc + 1 ≤ R.cells) (hslots : us + N' ≤ R.slots) (hd : eb_dc cc pc (.newarray .int) 2 pc1) (kk : ∀ a : Nat, st a = none → ∀ st' : eb_S, st' = eb_up st a (eb_ia Γ 0 N' (fun _ => 0)) → eb_G l Γ P X cc own nL ret R pc1 lv (.ref a :: stk) st' (uc + 1) (us + N')) : eb_G l Γ P X cc own nL ret R pc lv (.int n :: stk) st uc us := by
  have hb := ho.2
  rw [hN] at hb
  exact eg_newa hq rfl (t := 0) rfl (fun C h => by cases h) (fun cA => eb_newc cA N') ho.1 hN (by show N' * 4 ≤ 536870912; omega) hcells hslots hd (fun a h => kk a h _ rfl)
theorem eh_new_z {n : Int32} {N' : Nat} (hq : Cond.arrayClass .boolean ∈ lw_all) (hN : n.toNatClampNeg = N') (ho : eb_ok1 n) (hcells : uc + 1 ≤ R.cells) (hslots : us + N' ≤ R.slots) (hd : eb_dc cc pc (.newarray .boolean) 2 pc1) (kk : ∀ a : Nat, st a = none → ∀ st' : eb_S, st' = eb_up st a (eb_ia Γ 1 N' (fun _ => 0)) → eb_G l Γ P X cc own nL ret R pc1 lv (.ref a :: stk) st' (uc + 1) (us + N')) : eb_G l Γ P X cc own nL ret R pc lv (.int n :: stk) st uc us := by
  have hb := ho.2
  rw [hN] at hb
  exact eg_newa hq rfl (t := 1) rfl (fun C h => by cases h) (fun cA => eb_newc cA N') ho.1 hN (by show N' * 1 ≤ 536870912; omega) hcells hslots hd (fun a h => kk a h _ rfl)
theorem eh_new_s {n : Int32} {N' : Nat} (hq : Cond.arrayClass .short ∈ lw_all) (hN : n.toNatClampNeg = N') (ho : eb_ok1 n) (hcells : uc + 1 ≤ R.cells) (hslots : us + N' ≤ R.slots) (hd : eb_dc cc pc (.newarray .short) 2 pc1) (kk : ∀ a : Nat, st a = none → ∀ st' : eb_S, st' = eb_up st a (eb_ia Γ 3 N' (fun _ => 0)) → eb_G l Γ P X cc own nL ret R pc1 lv (.ref a :: stk) st' (uc + 1) (us + N')) : eb_G l Γ P X cc own nL ret R pc lv (.int n :: stk) st uc us := by
  have hb := ho.2
  rw [hN] at hb
  exact eg_newa hq rfl (t := 3) rfl (fun C h => by cases h) (fun cA => eb_newc cA N') ho.1 hN (by show N' * 2 ≤ 536870912; omega) hcells hslots hd (fun a h => kk a h _ rfl)
theorem eh_new_b {n : Int32} {N' : Nat} (hq : Cond.arrayClass .byte ∈ lw_all) (hN : n.toNatClampNeg = N') (ho : eb_ok1 n) (hcells : uc + 1 ≤ R.cells) (hslots : us + N' ≤ R.slots) (hd : eb_dc cc pc (.newarray .byte) 2 pc1) (kk : ∀ a : Nat, st a = none → ∀ st' : eb_S, st' = eb_up st a (eb_ia Γ 4 N' (fun _ => 0)) → eb_G l Γ P X cc own nL ret R pc1 lv (.ref a :: stk) st' (uc + 1) (us + N')) : eb_G l Γ P X cc own nL ret R pc lv (.int n :: stk) st uc us := by
  have hb := ho.2
  rw [hN] at hb
  exact eg_newa hq rfl (t := 4) rfl (fun C h => by cases h) (fun cA => eb_newc cA N') ho.1 hN (by show N' * 1 ≤ 536870912; omega) hcells hslots hd (fun a h => kk a h _ rfl)
theorem eh_new_j {n : Int32} {N' : Nat} (hq : Cond.arrayClass .long ∈ lw_all) (hN : n.toNatClampNeg = N') (ho : eb_ok1 n) (hcells : uc + 1 ≤ R.cells) (hslots : us + N' ≤ R.slots) (hd : eb_dc cc pc (.newarray .long) 2 pc1) (kk : ∀ a : Nat, st a = none → ∀ st' : eb_S, st' = eb_up st a (eb_la Γ N' (fun _ => 0)) → eb_G l Γ P X cc own nL ret R pc1 lv (.ref a :: stk) st' (uc + 1) (us + N')) : eb_G l Γ P X cc own nL ret R pc lv (.int n :: stk) st uc us := by
  have hb := ho.2
  rw [hN] at hb
  exact eg_newa hq rfl (t := 2) rfl (fun C h => by cases h) (fun cA => eb_newcl cA N') ho.1 hN (by show N' * 8 ≤ 536870912; omega) hcells hslots hd (fun a h => kk a h _ rfl)
theorem eh_new {C : String} {T : u_T} {N ci i : Nat} {fs : List Value} (hin : ∀ w ∈ u_ws C T N, w ∈ lw_all) (ty : Nat → FieldType) (hty : ∀ k, k < N → parseFieldDescriptor (T k).2.2.1 = some (ty k)) (hcl : Cond.classLink own i C ∈ lw_all) (hinst : Cond.instantiable C N ∈ lw_all) (hini : Cond.initialized C ∈ lw_all) (hc : eb_cl[ci]? = some (C, T, N)) (hfs : ∀ j, j < N → defaultValue (ty j) = vp_V fs j) (hcells : uc + 1 ≤ R.cells) (hslots : us + N ≤ R.slots) (hd : eb_dc cc pc (.new i) 3 pc1) (kk : ∀ a : Nat, st a = none → ∀ st' : eb_S, st' = eb_up st a (.inr (ci, fs)) → eb_G l Γ P X cc own nL ret R pc1 lv (.ref a :: stk) st' (uc + 1) (us + N)) : eb_G l Γ P X cc own nL ret R pc lv stk st uc us :=
  eg_new hin ty hty hcl hinst hini hc hfs hcells hslots hd (fun a h => kk a h _ rfl)
theorem eh_alen {a t : Nat} {x : vp_A} {ty : FieldType} (he : st a = some (.inl (Γ.2.1 t, x))) (ht : (eb_tys Γ.2.1)[t]? = some (Γ.2.1 t, ty)) (hd : eb_dc cc pc (.arraylength) 1 pc1) (kk : eb_G l Γ P X cc own nL ret R pc1 lv (.int (Int32.ofNat x.1) :: stk) st uc us) : eb_G l Γ P X cc own nL ret R pc lv (.ref a :: stk) st uc us := eg_alen he ht rfl hd kk
theorem en_get {a c i : Nat} {fs : List Value} {v : Value} (k : Nat) (hk : k < 4) (hc : eb_isN c) (he : st a = some (.inr (c, fs))) (hq : Cond.fieldLink own i RX10 (TX10 k).2.1 (TX10 k).2.2.1 ∈ lw_all) (hv : fs[k]? = some v) (hd : eb_dc cc pc (.getfield i) 3 pc1) (kk : eb_G l Γ P X cc own nL ret R pc1 lv (v :: stk) st uc us) : eb_G l Γ P X cc own nL ret R pc lv (.ref a :: stk) st uc us := by
  have hT1 : ∀ k, k < 4 → TX11 k = TX10 k := by decide +kernel
  have hT2 : ∀ k, k < 4 → TX14 k = TX10 k := by decide +kernel
  have hR : ∀ k, k < 4 → (TX10 k).1 = RX10 := by decide +kernel
  rcases hc with rfl | rfl | rfl
  · exact eg_get k in_X10 he rfl hk hq (hR k hk) hv hd kk
  · exact eg_get k in_X11 he rfl hk (by rw [hT1 k hk]; exact hq) (by rw [hT1 k hk]; exact hR k hk) hv hd kk
  · exact eg_get k in_X14 he rfl (by omega) (by rw [hT2 k hk]; exact hq) (by rw [hT2 k hk]; exact hR k hk) hv hd kk
theorem en_getN {host : String} {a c i : Nat} {fs : List Value} {v : Value} (k : Nat) (hk : k < 4) (hc : eb_isN c) (he : st a = some (.inr (c, fs))) (hq : (own, i, RX10, (TX10 k).2.1, (TX10 k).2.2.1, host) ∈ eb_nF) (hv : fs[k]? = some v) (hd : eb_dc cc pc (.getfield i) 3 pc1) (kk : eb_G l Γ P X cc own nL ret R pc1 lv (v :: stk) st uc us) : eb_G l Γ P X cc own nL ret R pc lv (.ref a :: stk) st uc us := by
  have hT1 : ∀ k, k < 4 → TX11 k = TX10 k := by decide +kernel
  have hT2 : ∀ k, k < 4 → TX14 k = TX10 k := by decide +kernel
  have hR : ∀ k, k < 4 → (TX10 k).1 = RX10 := by decide +kernel
  rcases hc with rfl | rfl | rfl
  · exact eg_getN k in_X10 he rfl hk hq (hR k hk) hv hd kk
  · exact eg_getN k in_X11 he rfl hk (by rw [hT1 k hk]; exact hq) (by rw [hT1 k hk]; exact hR k hk) hv hd kk
  · exact eg_getN k in_X14 he rfl (by omega) (by rw [hT2 k hk]; exact hq) (by rw [hT2 k hk]; exact hR k hk) hv hd kk
theorem en_putF {a c i : Nat} {fs : List Value} {v : Value} (k : Nat) (hk : k < 4) (hc : eb_isN c) (he : st a = some (.inr (c, fs))) (hq : Cond.fieldLink RX10 i RX10 (TX10 k).2.1 (TX10 k).2.2.1 ∈ lw_all) (hin2 : eb_in X) (hn : narrow (tyX10 k) v = v) (hfit : fits (tyX10 k) v = true) (hlen : k < fs.length) (hd : eb_dc cc pc (.putfield i) 3 pc1) (kk : ∀ st' : eb_S, st' = eb_up st a (.inr (c, fs.set k v)) → eb_G l Γ P X cc RX10 nL ret R pc1 lv stk st' uc us) : eb_G l Γ P X cc RX10 nL ret R pc lv (v :: .ref a :: stk) st uc us := by
  have hT1 : ∀ k, k < 4 → TX11 k = TX10 k := by decide +kernel
  have hT2 : ∀ k, k < 4 → TX14 k = TX10 k := by decide +kernel
  have hY1 : ∀ k, k < 4 → tyX11 k = tyX10 k := by decide +kernel
  have hY2 : ∀ k, k < 4 → tyX14 k = tyX10 k := by decide +kernel
  have hR : ∀ k, k < 4 → (TX10 k).1 = RX10 ∧ (TX10 k).2.2.2 = true := by decide +kernel
  rcases hc with rfl | rfl | rfl
  · exact eh_putF k in_X10 he rfl hk tyX10 tyX10_ok nmX10 hq (hR k hk).1 (hR k hk).2 hin2 (hR k hk).1 hn hfit hlen hd kk
  · exact eh_putF k in_X11 he rfl hk tyX11 tyX11_ok nmX11 (by rw [hT1 k hk]; exact hq) (by rw [hT1 k hk]; exact (hR k hk).1) (by rw [hT1 k hk]; exact (hR k hk).2) hin2 (by rw [hT1 k hk]; exact (hR k hk).1) (by rw [hY1 k hk]; exact hn) (by rw [hY1 k hk]; exact hfit) hlen hd kk
  · exact eh_putF k in_X14 he rfl (by omega) tyX14 tyX14_ok nmX14 (by rw [hT2 k hk]; exact hq) (by rw [hT2 k hk]; exact (hR k hk).1) (by rw [hT2 k hk]; exact (hR k hk).2) hin2 (by rw [hT2 k hk]; exact (hR k hk).1) (by rw [hY2 k hk]; exact hn) (by rw [hY2 k hk]; exact hfit) hlen hd kk
/-- a call of a method that is inherited; the object is of one of the classes cs -/
theorem eg_callU {y : MethodName} {bytes : ByteArray} {maxL n i : Nat} {rt : Option FieldType} {rm : Room} {As rest stk0 : List Value} {K : Option Value → eb_S → Prop} {b : Nat} {x : MethodName} {owner : String} {cs : List Nat} (hct : eb_Ct l Γ y bytes maxL rt rm (.ref b :: As) st K) (hg : ∀ c ∈ cs, ∃ (C : String) (T : u_T) (N : Nat), eb_cl[c]? = some (C, T, N) ∧ GoodIn lw_all (va_wsU own i C owner x y (ws_ y bytes maxL rt))) (hyx : y = ⟨owner, x.name, x.desc⟩) (har : eb_ar y n) (hR : rm.frames + 1 ≤ R.frames ∧ 8 + (maxL + 11) + rm.locals ≤ R.locals) (hc : uc + rm.cells ≤ R.cells ∧ us + rm.slots ≤ R.slots) (hcs : eb_cs st b cs) (hn : As.length = n) (hstk : stk0 = As.reverse ++ .ref b :: rest) (hro : (rest.map fun v => v.category).sum ≤ 8) (hd : eb_dc cc pc (.invokevirtual i) 3 pc1) (kk : ∀ (v : Option Value) (st' : eb_S), K v st' → eb_G l Γ P X cc own nL ret R pc1 lv (v.toList ++ rest) st' (uc + rm.cells) (us + rm.slots)) : eb_G l Γ P X cc own nL ret R pc lv stk0 st uc us := by
  obtain ⟨hd, rfl⟩ := hd
  subst hstk
  obtain ⟨c0, fs, hc0, he⟩ := hcs
  obtain ⟨C, T, N, hcl, hgc⟩ := hg c0 hc0
  have hd2 : owner ≠ "java/lang/invoke/MethodHandle" ∧ owner ≠ "java/lang/invoke/VarHandle" ∧ (parseMethodDescriptor x.desc).map (fun d => d.parameters.length) = some n := by rw [hyx] at har; exact har
  obtain ⟨p, e, s, m, args, below, meth, c, A⟩ := X
  intro hX ls H locs hl hP hS
  obtain ⟨hx, hb, hml, hown, hts, hr, hlk, hK, hA⟩ := id hX
  refine eb_callk (st := st) (K := K) (a := (Value.ref b :: As).toArray) ?_ hS (eb_hA hP hS hA) (fun v st' H1 locs1 hk hP1 hS1 => kk v st' hk hX ls H1 locs1 hl (hP.back hP1 (eb_hA hP hS hA)) hS1)
  exact va_runU ⟨hx, hb, hml, hown, hts⟩ (hct H.size) (va_cwU n hts hgc rfl rfl rfl hyx hd2 hR) ⟨eb_blind, va_recv hK.1 (hP.P he) hcl (q0 := 0) rfl, fun U hU hW => ⟨rfl, by rw [hU], by rw [hU]; exact hP.callee hS hA, hK.warm hW⟩⟩ rfl hn hl.1 rfl (lv_room hro) hd hc
theorem eg_callVN {y : MethodName} {bytes : ByteArray} {maxL n i : Nat} {rt : Option FieldType} {rm : Room} {As rest stk0 : List Value} {K : Option Value → eb_S → Prop} {b : Nat} {host C : String} {ci : Nat} {T : u_T} {N : Nat} (hct : eb_Ct l Γ y bytes maxL rt rm (.ref b :: As) st K) (hq : Cond.code y bytes maxL rt ∈ lw_all) (hl1 : (own, i, y, host) ∈ eb_nM) (hini : Cond.initialized y.cls ∈ lw_all) (hins : Cond.instanceMethod y ∈ lw_all) (hsel : Cond.selects C y y ∈ lw_all) (hcl : eb_cl[ci]? = some (C, T, N)) (har : eb_ar y n) (hR : rm.frames + 1 ≤ R.frames ∧ 8 + (maxL + 11) + rm.locals ≤ R.locals) (hc : uc + rm.cells ≤ R.cells ∧ us + rm.slots ≤ R.slots) (hcs : eb_cs st b [ci]) (hn : As.length = n) (hstk : stk0 = As.reverse ++ .ref b :: rest) (hro : (rest.map fun v => v.category).sum ≤ 8) (hd : eb_dc cc pc (.invokevirtual i) 3 pc1) (kk : ∀ (v : Option Value) (st' : eb_S), K v st' → eb_G l Γ P X cc own nL ret R pc1 lv (v.toList ++ rest) st' (uc + rm.cells) (us + rm.slots)) : eb_G l Γ P X cc own nL ret R pc lv stk0 st uc us := by
  obtain ⟨hd, rfl⟩ := hd
  subst hstk
  obtain ⟨c0, fs, hc0, he⟩ := hcs
  cases List.mem_singleton.mp hc0
  obtain ⟨p, e, s, m, args, below, meth, c, A⟩ := X
  intro hX ls H locs hl hP hS
  obtain ⟨hx, hb, hml, hown, hts, hr, hlk, hK, hA⟩ := id hX
  refine eb_callk (st := st) (K := K) (a := (Value.ref b :: As).toArray) ?_ hS (eb_hA hP hS hA) (fun v st' H1 locs1 hk hP1 hS1 => kk v st' hk hX ls H1 locs1 hl (hP.back hP1 (eb_hA hP hS hA)) hS1)
  exact va_runVN ⟨hx, hb, hml, hown, hts⟩ (hct H.size) ⟨va_cnB n hts (lw_meth hq) rfl rfl rfl (hK.2.1.2.1 _ hl1) (hts _ hini) har hR, hts _ hins, hts _ hsel⟩ ⟨eb_blind, va_recv hK.1 (hP.P he) hcl (q0 := 0) rfl, fun U hU hW => ⟨rfl, by rw [hU], by rw [hU]; exact hP.callee hS hA, hK.warm hW⟩⟩ rfl hn hl.1 rfl (lv_room hro) hd hc
theorem eg_callSN {y : MethodName} {bytes : ByteArray} {maxL n i : Nat} {rt : Option FieldType} {rm : Room} {As rest stk0 : List Value} {K : Option Value → eb_S → Prop} {host : String} (hct : eb_Ct l Γ y bytes maxL rt rm As st K) (hq : Cond.code y bytes maxL rt ∈ lw_all) (hl1 : (own, i, y, host) ∈ eb_nM) (hini : Cond.initialized y.cls ∈ lw_all) (hst : Cond.static y ∈ lw_all) (har : eb_ar y n) (hR : rm.frames + 1 ≤ R.frames ∧ 8 + (maxL + 11) + rm.locals ≤ R.locals) (hc : uc + rm.cells ≤ R.cells ∧ us + rm.slots ≤ R.slots) (hn : As.length = n) (hstk : stk0 = As.reverse ++ rest) (hro : (rest.map fun v => v.category).sum ≤ 8) (hd : eb_dc cc pc (.invokestatic i) 3 pc1) (kk : ∀ (v : Option Value) (st' : eb_S), K v st' → eb_G l Γ P X cc own nL ret R pc1 lv (v.toList ++ rest) st' (uc + rm.cells) (us + rm.slots)) : eb_G l Γ P X cc own nL ret R pc lv stk0 st uc us := by
  obtain ⟨hd, rfl⟩ := hd
  subst hstk
  obtain ⟨p, e, s, m, args, below, meth, c, A⟩ := X
  intro hX ls H locs hl hP hS
  obtain ⟨hx, hb, hml, hown, hts, hr, hlk, hK, hA⟩ := id hX
  refine eb_callk (st := st) (K := K) (a := As.toArray) ?_ hS (eb_hA hP hS hA) (fun v st' H1 locs1 hk hP1 hS1 => kk v st' hk hX ls H1 locs1 hl (hP.back hP1 (eb_hA hP hS hA)) hS1)
  exact va_runSN ⟨hx, hb, hml, hown, hts⟩ (hct H.size) ⟨va_cnB n hts (lw_meth hq) rfl rfl rfl (hK.2.1.2.1 _ hl1) (hts _ hini) har hR, hts _ hst, trivial⟩ ⟨eb_blind, fun U hU hW => ⟨rfl, by rw [hU], by rw [hU]; exact hP.callee hS hA, hK.warm hW⟩⟩ rfl hn hl.1 rfl (lv_room hro) hd hc
theorem eg_callIN {y : MethodName} {bytes : ByteArray} {maxL n i : Nat} {rm : Room} {As rest stk0 : List Value} {K : Option Value → eb_S → Prop} {b : Nat} {host : String} (hct : eb_Ct l Γ y bytes maxL none rm (.ref b :: As) st K) (hq : Cond.code y bytes maxL none ∈ lw_all) (hl1 : (own, i, y, host) ∈ eb_nM) (hini : Cond.initialized y.cls ∈ lw_all) (hins : Cond.instanceMethod y ∈ lw_all) (hi : y.name = "<init>") (har : eb_ar y n) (hR : rm.frames + 1 ≤ R.frames ∧ 8 + (maxL + 11) + rm.locals ≤ R.locals) (hc : uc + rm.cells ≤ R.cells ∧ us + rm.slots ≤ R.slots) (hn : As.length = n) (hstk : stk0 = As.reverse ++ .ref b :: rest) (hro : (rest.map fun v => v.category).sum ≤ 8) (hd : eb_dc cc pc (.invokespecial i) 3 pc1) (kk : ∀ (v : Option Value) (st' : eb_S), K v st' → eb_G l Γ P X cc own nL ret R pc1 lv (v.toList ++ rest) st' (uc + rm.cells) (us + rm.slots)) : eb_G l Γ P X cc own nL ret R pc lv stk0 st uc us := by
  obtain ⟨hd, rfl⟩ := hd
  subst hstk
  obtain ⟨p, e, s, m, args, below, meth, c, A⟩ := X
  intro hX ls H locs hl hP hS
  obtain ⟨hx, hb, hml, hown, hts, hr, hlk, hK, hA⟩ := id hX
  refine eb_callk (st := st) (K := K) (a := (Value.ref b :: As).toArray) ?_ hS (eb_hA hP hS hA) (fun v st' H1 locs1 hk hP1 hS1 => kk v st' hk hX ls H1 locs1 hl (hP.back hP1 (eb_hA hP hS hA)) hS1)
  exact va_runIN ⟨hx, hb, hml, hown, hts⟩ (hct H.size) ⟨va_cnB n hts (lw_meth hq) rfl rfl rfl (hK.2.1.2.1 _ hl1) (hts _ hini) har hR, hi, hts _ hins⟩ ⟨eb_blind, fun U hU hW => ⟨rfl, by rw [hU], by rw [hU]; exact hP.callee hS hA, hK.warm hW⟩⟩ rfl hn hl.1 rfl (lv_room hro) hd hc
theorem lw_U {own : String} {idx : Nat} {C owner : String} {x y : MethodName} {b : ByteArray} {L : Nat} {r : Option FieldType} (h1 : Cond.methodLink own idx x ∈ lw_all) (h2 : Cond.sameMethod x.cls owner x.name x.desc ∈ lw_all) (h3 : Cond.selects C x y ∈ lw_all) (h4 : Cond.instanceMethod y ∈ lw_all) (h5 : Cond.initialized y.cls ∈ lw_all) (h6 : Cond.code y b L r ∈ lw_all) : GoodIn lw_all (va_wsU own idx C owner x y (ws_ y b L r)) := by
  refine lw_app ?_ (lw_meth h6)
  intro w hw
  simp only [List.mem_cons, List.not_mem_nil, or_false] at hw
  rcases hw with e | e | e | e | e
  · rw [e]; exact h1
  · rw [e]; exact h2
  · rw [e]; exact h3
  · rw [e]; exact h4
  · rw [e]; exact h5
def eb_pR (st : eb_S) (K : Option Nat → Prop) : Option Value → eb_S → Prop := fun v st' => ∃ r : Option Nat, v = some (va_rf r) ∧ st' = st ∧ K r
def eb_pL (st : eb_S) (K : Int64 → Prop) : Option Value → eb_S → Prop := fun v st' => ∃ r : Int64, v = some (.long r) ∧ st' = st ∧ K r
theorem ec_VIp {y : MethodName} {bytes : ByteArray} {maxL n i : Nat} {rt : Option FieldType} {rm : Room} {As rest stk0 : List Value} {b : Nat} {C : String} {ci : Nat} {T : u_T} {N : Nat} {K : Int32 → Prop} (hct : eb_Ct l Γ y bytes maxL rt rm (.ref b :: As) st (eb_pI st K)) (hg : GoodIn lw_all (wsV own i C y (ws_ y bytes maxL rt))) (hC : y.cls = C) (hcl : eb_cl[ci]? = some (C, T, N)) (hcs : eb_cs st b [ci]) (har : eb_ar y n) (hR : rm.frames + 1 ≤ R.frames ∧ 8 + (maxL + 11) + rm.locals ≤ R.locals) (hz : rm.cells = 0 ∧ rm.slots = 0) (hu : uc ≤ R.cells ∧ us ≤ R.slots) (hn : As.length = n) (hstk : stk0 = As.reverse ++ .ref b :: rest) (hro : (rest.map fun v => v.category).sum ≤ 8) (hd : eb_dc cc pc (.invokevirtual i) 3 pc1)
    (kk : ∀ (r : Int32), K r → eb_G l Γ P X cc own nL ret R pc1 lv (.int r :: rest) st uc us) : eb_G l Γ P X cc own nL ret R pc lv stk0 st uc us := by
  obtain ⟨c0, fs, hc0, he⟩ := hcs
  cases List.mem_singleton.mp hc0
  refine eg_callV (rest := rest) hct hg hC har hR ⟨by rw [hz.1]; exact hu.1, by rw [hz.2]; exact hu.2⟩ he hcl hn hstk hro hd (fun v st' h => ?_)
  obtain ⟨r, rfl, rfl, h⟩ := h
  rw [hz.1, hz.2]
  exact kk r h
theorem ec_VIw {y : MethodName} {bytes : ByteArray} {maxL n i : Nat} {rt : Option FieldType} {rm : Room} {As rest stk0 : List Value} {b : Nat} {C : String} {ci : Nat} {T : u_T} {N : Nat} {K : Int32 → eb_S → Prop} (hct : eb_Ct l Γ y bytes maxL rt rm (.ref b :: As) st (eb_oI K)) (hg : GoodIn lw_all (wsV own i C y (ws_ y bytes maxL rt))) (hC : y.cls = C) (hcl : eb_cl[ci]? = some (C, T, N)) (hcs : eb_cs st b [ci]) (har : eb_ar y n) (hR : rm.frames + 1 ≤ R.frames ∧ 8 + (maxL + 11) + rm.locals ≤ R.locals) (hz : rm.cells = 0 ∧ rm.slots = 0) (hu : uc ≤ R.cells ∧ us ≤ R.slots) (hn : As.length = n) (hstk : stk0 = As.reverse ++ .ref b :: rest) (hro : (rest.map fun v => v.category).sum ≤ 8) (hd : eb_dc cc pc (.invokevirtual i) 3 pc1)
    (kk : ∀ (r : Int32) (st' : eb_S), K r st' → eb_G l Γ P X cc own nL ret R pc1 lv (.int r :: rest) st' uc us) : eb_G l Γ P X cc own nL ret R pc lv stk0 st uc us := by
  obtain ⟨c0, fs, hc0, he⟩ := hcs
  cases List.mem_singleton.mp hc0
  refine eg_callV (rest := rest) hct hg hC har hR ⟨by rw [hz.1]; exact hu.1, by rw [hz.2]; exact hu.2⟩ he hcl hn hstk hro hd (fun v st' h => ?_)
  obtain ⟨r, rfl, h⟩ := h
  rw [hz.1, hz.2]
  exact kk r st' h
theorem ec_VIa {y : MethodName} {bytes : ByteArray} {maxL n i : Nat} {rt : Option FieldType} {rm : Room} {As rest stk0 : List Value} {b : Nat} {C : String} {ci : Nat} {T : u_T} {N : Nat} {K : Int32 → eb_S → Prop} (hct : eb_Ct l Γ y bytes maxL rt rm (.ref b :: As) st (eb_oI K)) (hg : GoodIn lw_all (wsV own i C y (ws_ y bytes maxL rt))) (hC : y.cls = C) (hcl : eb_cl[ci]? = some (C, T, N)) (hcs : eb_cs st b [ci]) (har : eb_ar y n) (hR : rm.frames + 1 ≤ R.frames ∧ 8 + (maxL + 11) + rm.locals ≤ R.locals) {c s : Nat} (hz : rm.cells = c ∧ rm.slots = s) (hu : uc + c ≤ R.cells ∧ us + s ≤ R.slots) (hn : As.length = n) (hstk : stk0 = As.reverse ++ .ref b :: rest) (hro : (rest.map fun v => v.category).sum ≤ 8) (hd : eb_dc cc pc (.invokevirtual i) 3 pc1)
    (kk : ∀ (r : Int32) (st' : eb_S), K r st' → eb_G l Γ P X cc own nL ret R pc1 lv (.int r :: rest) st' (uc + c) (us + s)) : eb_G l Γ P X cc own nL ret R pc lv stk0 st uc us := by
  obtain ⟨c0, fs, hc0, he⟩ := hcs
  cases List.mem_singleton.mp hc0
  refine eg_callV (rest := rest) hct hg hC har hR ⟨by rw [hz.1]; exact hu.1, by rw [hz.2]; exact hu.2⟩ he hcl hn hstk hro hd (fun v st' h => ?_)
  obtain ⟨r, rfl, h⟩ := h
  rw [hz.1, hz.2]
  exact kk r st' h
theorem ec_VLp {y : MethodName} {bytes : ByteArray} {maxL n i : Nat} {rt : Option FieldType} {rm : Room} {As rest stk0 : List Value} {b : Nat} {C : String} {ci : Nat} {T : u_T} {N : Nat} {K : Int64 → Prop} (hct : eb_Ct l Γ y bytes maxL rt rm (.ref b :: As) st (eb_pL st K)) (hg : GoodIn lw_all (wsV own i C y (ws_ y bytes maxL rt))) (hC : y.cls = C) (hcl : eb_cl[ci]? = some (C, T, N)) (hcs : eb_cs st b [ci]) (har : eb_ar y n) (hR : rm.frames + 1 ≤ R.frames ∧ 8 + (maxL + 11) + rm.locals ≤ R.locals) (hz : rm.cells = 0 ∧ rm.slots = 0) (hu : uc ≤ R.cells ∧ us ≤ R.slots) (hn : As.length = n) (hstk : stk0 = As.reverse ++ .ref b :: rest) (hro : (rest.map fun v => v.category).sum ≤ 8) (hd : eb_dc cc pc (.invokevirtual i) 3 pc1)
    (kk : ∀ (r : Int64), K r → eb_G l Γ P X cc own nL ret R pc1 lv (.long r :: rest) st uc us) : eb_G l Γ P X cc own nL ret R pc lv stk0 st uc us := by
  obtain ⟨c0, fs, hc0, he⟩ := hcs
  cases List.mem_singleton.mp hc0
  refine eg_callV (rest := rest) hct hg hC har hR ⟨by rw [hz.1]; exact hu.1, by rw [hz.2]; exact hu.2⟩ he hcl hn hstk hro hd (fun v st' h => ?_)
  obtain ⟨r, rfl, rfl, h⟩ := h
  rw [hz.1, hz.2]
  exact kk r h
theorem ec_VLw {y : MethodName} {bytes : ByteArray} {maxL n i : Nat} {rt : Option FieldType} {rm : Room} {As rest stk0 : List Value} {b : Nat} {C : String} {ci : Nat} {T : u_T} {N : Nat} {K : Int64 → eb_S → Prop} (hct : eb_Ct l Γ y bytes maxL rt rm (.ref b :: As) st (eb_oL K)) (hg : GoodIn lw_all (wsV own i C y (ws_ y bytes maxL rt))) (hC : y.cls = C) (hcl : eb_cl[ci]? = some (C, T, N)) (hcs : eb_cs st b [ci]) (har : eb_ar y n) (hR : rm.frames + 1 ≤ R.frames ∧ 8 + (maxL + 11) + rm.locals ≤ R.locals) (hz : rm.cells = 0 ∧ rm.slots = 0) (hu : uc ≤ R.cells ∧ us ≤ R.slots) (hn : As.length = n) (hstk : stk0 = As.reverse ++ .ref b :: rest) (hro : (rest.map fun v => v.category).sum ≤ 8) (hd : eb_dc cc pc (.invokevirtual i) 3 pc1)
    (kk : ∀ (r : Int64) (st' : eb_S), K r st' → eb_G l Γ P X cc own nL ret R pc1 lv (.long r :: rest) st' uc us) : eb_G l Γ P X cc own nL ret R pc lv stk0 st uc us := by
  obtain ⟨c0, fs, hc0, he⟩ := hcs
  cases List.mem_singleton.mp hc0
  refine eg_callV (rest := rest) hct hg hC har hR ⟨by rw [hz.1]; exact hu.1, by rw [hz.2]; exact hu.2⟩ he hcl hn hstk hro hd (fun v st' h => ?_)
  obtain ⟨r, rfl, h⟩ := h
  rw [hz.1, hz.2]
  exact kk r st' h
theorem ec_VLa {y : MethodName} {bytes : ByteArray} {maxL n i : Nat} {rt : Option FieldType} {rm : Room} {As rest stk0 : List Value} {b : Nat} {C : String} {ci : Nat} {T : u_T} {N : Nat} {K : Int64 → eb_S → Prop} (hct : eb_Ct l Γ y bytes maxL rt rm (.ref b :: As) st (eb_oL K)) (hg : GoodIn lw_all (wsV own i C y (ws_ y bytes maxL rt))) (hC : y.cls = C) (hcl : eb_cl[ci]? = some (C, T, N)) (hcs : eb_cs st b [ci]) (har : eb_ar y n) (hR : rm.frames + 1 ≤ R.frames ∧ 8 + (maxL + 11) + rm.locals ≤ R.locals) {c s : Nat} (hz : rm.cells = c ∧ rm.slots = s) (hu : uc + c ≤ R.cells ∧ us + s ≤ R.slots) (hn : As.length = n) (hstk : stk0 = As.reverse ++ .ref b :: rest) (hro : (rest.map fun v => v.category).sum ≤ 8) (hd : eb_dc cc pc (.invokevirtual i) 3 pc1)
    (kk : ∀ (r : Int64) (st' : eb_S), K r st' → eb_G l Γ P X cc own nL ret R pc1 lv (.long r :: rest) st' (uc + c) (us + s)) : eb_G l Γ P X cc own nL ret R pc lv stk0 st uc us := by
  obtain ⟨c0, fs, hc0, he⟩ := hcs
  cases List.mem_singleton.mp hc0
  refine eg_callV (rest := rest) hct hg hC har hR ⟨by rw [hz.1]; exact hu.1, by rw [hz.2]; exact hu.2⟩ he hcl hn hstk hro hd (fun v st' h => ?_)
  obtain ⟨r, rfl, h⟩ := h
  rw [hz.1, hz.2]
  exact kk r st' h
theorem ec_VRp {y : MethodName} {bytes : ByteArray} {maxL n i : Nat} {rt : Option FieldType} {rm : Room} {As rest stk0 : List Value} {b : Nat} {C : String} {ci : Nat} {T : u_T} {N : Nat} {K : Option Nat → Prop} (hct : eb_Ct l Γ y bytes maxL rt rm (.ref b :: As) st (eb_pR st K)) (hg : GoodIn lw_all (wsV own i C y (ws_ y bytes maxL rt))) (hC : y.cls = C) (hcl : eb_cl[ci]? = some (C, T, N)) (hcs : eb_cs st b [ci]) (har : eb_ar y n) (hR : rm.frames + 1 ≤ R.frames ∧ 8 + (maxL + 11) + rm.locals ≤ R.locals) (hz : rm.cells = 0 ∧ rm.slots = 0) (hu : uc ≤ R.cells ∧ us ≤ R.slots) (hn : As.length = n) (hstk : stk0 = As.reverse ++ .ref b :: rest) (hro : (rest.map fun v => v.category).sum ≤ 8) (hd : eb_dc cc pc (.invokevirtual i) 3 pc1)
    (kk : ∀ (r : Option Nat), K r → eb_G l Γ P X cc own nL ret R pc1 lv (va_rf r :: rest) st uc us) : eb_G l Γ P X cc own nL ret R pc lv stk0 st uc us := by
  obtain ⟨c0, fs, hc0, he⟩ := hcs
  cases List.mem_singleton.mp hc0
  refine eg_callV (rest := rest) hct hg hC har hR ⟨by rw [hz.1]; exact hu.1, by rw [hz.2]; exact hu.2⟩ he hcl hn hstk hro hd (fun v st' h => ?_)
  obtain ⟨r, rfl, rfl, h⟩ := h
  rw [hz.1, hz.2]
  exact kk r h
theorem ec_VRw {y : MethodName} {bytes : ByteArray} {maxL n i : Nat} {rt : Option FieldType} {rm : Room} {As rest stk0 : List Value} {b : Nat} {C : String} {ci : Nat} {T : u_T} {N : Nat} {K : Option Nat → eb_S → Prop} (hct : eb_Ct l Γ y bytes maxL rt rm (.ref b :: As) st (eb_oR K)) (hg : GoodIn lw_all (wsV own i C y (ws_ y bytes maxL rt))) (hC : y.cls = C) (hcl : eb_cl[ci]? = some (C, T, N)) (hcs : eb_cs st b [ci]) (har : eb_ar y n) (hR : rm.frames + 1 ≤ R.frames ∧ 8 + (maxL + 11) + rm.locals ≤ R.locals) (hz : rm.cells = 0 ∧ rm.slots = 0) (hu : uc ≤ R.cells ∧ us ≤ R.slots) (hn : As.length = n) (hstk : stk0 = As.reverse ++ .ref b :: rest) (hro : (rest.map fun v => v.category).sum ≤ 8) (hd : eb_dc cc pc (.invokevirtual i) 3 pc1)
    (kk : ∀ (r : Option Nat) (st' : eb_S), K r st' → eb_G l Γ P X cc own nL ret R pc1 lv (va_rf r :: rest) st' uc us) : eb_G l Γ P X cc own nL ret R pc lv stk0 st uc us := by
  obtain ⟨c0, fs, hc0, he⟩ := hcs
  cases List.mem_singleton.mp hc0
  refine eg_callV (rest := rest) hct hg hC har hR ⟨by rw [hz.1]; exact hu.1, by rw [hz.2]; exact hu.2⟩ he hcl hn hstk hro hd (fun v st' h => ?_)
  obtain ⟨r, rfl, h⟩ := h
  rw [hz.1, hz.2]
  exact kk r st' h
theorem ec_VRa {y : MethodName} {bytes : ByteArray} {maxL n i : Nat} {rt : Option FieldType} {rm : Room} {As rest stk0 : List Value} {b : Nat} {C : String} {ci : Nat} {T : u_T} {N : Nat} {K : Option Nat → eb_S → Prop} (hct : eb_Ct l Γ y bytes maxL rt rm (.ref b :: As) st (eb_oR K)) (hg : GoodIn lw_all (wsV own i C y (ws_ y bytes maxL rt))) (hC : y.cls = C) (hcl : eb_cl[ci]? = some (C, T, N)) (hcs : eb_cs st b [ci]) (har : eb_ar y n) (hR : rm.frames + 1 ≤ R.frames ∧ 8 + (maxL + 11) + rm.locals ≤ R.locals) {c s : Nat} (hz : rm.cells = c ∧ rm.slots = s) (hu : uc + c ≤ R.cells ∧ us + s ≤ R.slots) (hn : As.length = n) (hstk : stk0 = As.reverse ++ .ref b :: rest) (hro : (rest.map fun v => v.category).sum ≤ 8) (hd : eb_dc cc pc (.invokevirtual i) 3 pc1)
    (kk : ∀ (r : Option Nat) (st' : eb_S), K r st' → eb_G l Γ P X cc own nL ret R pc1 lv (va_rf r :: rest) st' (uc + c) (us + s)) : eb_G l Γ P X cc own nL ret R pc lv stk0 st uc us := by
  obtain ⟨c0, fs, hc0, he⟩ := hcs
  cases List.mem_singleton.mp hc0
  refine eg_callV (rest := rest) hct hg hC har hR ⟨by rw [hz.1]; exact hu.1, by rw [hz.2]; exact hu.2⟩ he hcl hn hstk hro hd (fun v st' h => ?_)
  obtain ⟨r, rfl, h⟩ := h
  rw [hz.1, hz.2]
  exact kk r st' h
theorem ec_VVw {y : MethodName} {bytes : ByteArray} {maxL n i : Nat} {rt : Option FieldType} {rm : Room} {As rest stk0 : List Value} {b : Nat} {C : String} {ci : Nat} {T : u_T} {N : Nat} {K : eb_S → Prop} (hct : eb_Ct l Γ y bytes maxL rt rm (.ref b :: As) st (eb_oV K)) (hg : GoodIn lw_all (wsV own i C y (ws_ y bytes maxL rt))) (hC : y.cls = C) (hcl : eb_cl[ci]? = some (C, T, N)) (hcs : eb_cs st b [ci]) (har : eb_ar y n) (hR : rm.frames + 1 ≤ R.frames ∧ 8 + (maxL + 11) + rm.locals ≤ R.locals) (hz : rm.cells = 0 ∧ rm.slots = 0) (hu : uc ≤ R.cells ∧ us ≤ R.slots) (hn : As.length = n) (hstk : stk0 = As.reverse ++ .ref b :: rest) (hro : (rest.map fun v => v.category).sum ≤ 8) (hd : eb_dc cc pc (.invokevirtual i) 3 pc1)
    (kk : ∀ (st' : eb_S), K st' → eb_G l Γ P X cc own nL ret R pc1 lv (rest) st' uc us) : eb_G l Γ P X cc own nL ret R pc lv stk0 st uc us := by
  obtain ⟨c0, fs, hc0, he⟩ := hcs
  cases List.mem_singleton.mp hc0
  refine eg_callV (rest := rest) hct hg hC har hR ⟨by rw [hz.1]; exact hu.1, by rw [hz.2]; exact hu.2⟩ he hcl hn hstk hro hd (fun v st' h => ?_)
  obtain ⟨rfl, h⟩ := h
  rw [hz.1, hz.2]
  exact kk st' h
theorem ec_VVa {y : MethodName} {bytes : ByteArray} {maxL n i : Nat} {rt : Option FieldType} {rm : Room} {As rest stk0 : List Value} {b : Nat} {C : String} {ci : Nat} {T : u_T} {N : Nat} {K : eb_S → Prop} (hct : eb_Ct l Γ y bytes maxL rt rm (.ref b :: As) st (eb_oV K)) (hg : GoodIn lw_all (wsV own i C y (ws_ y bytes maxL rt))) (hC : y.cls = C) (hcl : eb_cl[ci]? = some (C, T, N)) (hcs : eb_cs st b [ci]) (har : eb_ar y n) (hR : rm.frames + 1 ≤ R.frames ∧ 8 + (maxL + 11) + rm.locals ≤ R.locals) {c s : Nat} (hz : rm.cells = c ∧ rm.slots = s) (hu : uc + c ≤ R.cells ∧ us + s ≤ R.slots) (hn : As.length = n) (hstk : stk0 = As.reverse ++ .ref b :: rest) (hro : (rest.map fun v => v.category).sum ≤ 8) (hd : eb_dc cc pc (.invokevirtual i) 3 pc1)
    (kk : ∀ (st' : eb_S), K st' → eb_G l Γ P X cc own nL ret R pc1 lv (rest) st' (uc + c) (us + s)) : eb_G l Γ P X cc own nL ret R pc lv stk0 st uc us := by
  obtain ⟨c0, fs, hc0, he⟩ := hcs
  cases List.mem_singleton.mp hc0
  refine eg_callV (rest := rest) hct hg hC har hR ⟨by rw [hz.1]; exact hu.1, by rw [hz.2]; exact hu.2⟩ he hcl hn hstk hro hd (fun v st' h => ?_)
  obtain ⟨rfl, h⟩ := h
  rw [hz.1, hz.2]
  exact kk st' h
theorem ec_UIp {y : MethodName} {bytes : ByteArray} {maxL n i : Nat} {rt : Option FieldType} {rm : Room} {As rest stk0 : List Value} {b : Nat} {x : MethodName} {owner : String} {cs : List Nat} {K : Int32 → Prop} (hct : eb_Ct l Γ y bytes maxL rt rm (.ref b :: As) st (eb_pI st K)) (hg : ∀ c ∈ cs, ∃ (C : String) (T : u_T) (N : Nat), eb_cl[c]? = some (C, T, N) ∧ GoodIn lw_all (va_wsU own i C owner x y (ws_ y bytes maxL rt))) (hyx : y = ⟨owner, x.name, x.desc⟩) (hcs : eb_cs st b cs) (har : eb_ar y n) (hR : rm.frames + 1 ≤ R.frames ∧ 8 + (maxL + 11) + rm.locals ≤ R.locals) (hz : rm.cells = 0 ∧ rm.slots = 0) (hu : uc ≤ R.cells ∧ us ≤ R.slots) (hn : As.length = n) (hstk : stk0 = As.reverse ++ .ref b :: rest) (hro : (rest.map fun v => v.category).sum ≤ 8) (hd : eb_dc cc pc (.invokevirtual i) 3 pc1)
    (kk : ∀ (r : Int32), K r → eb_G l Γ P X cc own nL ret R pc1 lv (.int r :: rest) st uc us) : eb_G l Γ P X cc own nL ret R pc lv stk0 st uc us := by
  refine eg_callU (rest := rest) hct hg hyx har hR ⟨by rw [hz.1]; exact hu.1, by rw [hz.2]; exact hu.2⟩ hcs hn hstk hro hd (fun v st' h => ?_)
  obtain ⟨r, rfl, rfl, h⟩ := h
  rw [hz.1, hz.2]
  exact kk r h
theorem ec_UIw {y : MethodName} {bytes : ByteArray} {maxL n i : Nat} {rt : Option FieldType} {rm : Room} {As rest stk0 : List Value} {b : Nat} {x : MethodName} {owner : String} {cs : List Nat} {K : Int32 → eb_S → Prop} (hct : eb_Ct l Γ y bytes maxL rt rm (.ref b :: As) st (eb_oI K)) (hg : ∀ c ∈ cs, ∃ (C : String) (T : u_T) (N : Nat), eb_cl[c]? = some (C, T, N) ∧ GoodIn lw_all (va_wsU own i C owner x y (ws_ y bytes maxL rt))) (hyx : y = ⟨owner, x.name, x.desc⟩) (hcs : eb_cs st b cs) (har : eb_ar y n) (hR : rm.frames + 1 ≤ R.frames ∧ 8 + (maxL + 11) + rm.locals ≤ R.locals) (hz : rm.cells = 0 ∧ rm.slots = 0) (hu : uc ≤ R.cells ∧ us ≤ R.slots) (hn : As.length = n) (hstk : stk0 = As.reverse ++ .ref b :: rest) (hro : (rest.map fun v => v.category).sum ≤ 8) (hd : eb_dc cc pc (.invokevirtual i) 3 pc1)
    (kk : ∀ (r : Int32) (st' : eb_S), K r st' → eb_G l Γ P X cc own nL ret R pc1 lv (.int r :: rest) st' uc us) : eb_G l Γ P X cc own nL ret R pc lv stk0 st uc us := by
  refine eg_callU (rest := rest) hct hg hyx har hR ⟨by rw [hz.1]; exact hu.1, by rw [hz.2]; exact hu.2⟩ hcs hn hstk hro hd (fun v st' h => ?_)
  obtain ⟨r, rfl, h⟩ := h
  rw [hz.1, hz.2]
  exact kk r st' h
theorem ec_UIa {y : MethodName} {bytes : ByteArray} {maxL n i : Nat} {rt : Option FieldType} {rm : Room} {As rest stk0 : List Value} {b : Nat} {x : MethodName} {owner : String} {cs : List Nat} {K : Int32 → eb_S → Prop} (hct : eb_Ct l Γ y bytes maxL rt rm (.ref b :: As) st (eb_oI K)) (hg : ∀ c ∈ cs, ∃ (C : String) (T : u_T) (N : Nat), eb_cl[c]? = some (C, T, N) ∧ GoodIn lw_all (va_wsU own i C owner x y (ws_ y bytes maxL rt))) (hyx : y = ⟨owner, x.name, x.desc⟩) (hcs : eb_cs st b cs) (har : eb_ar y n) (hR : rm.frames + 1 ≤ R.frames ∧ 8 + (maxL + 11) + rm.locals ≤ R.locals) {c s : Nat} (hz : rm.cells = c ∧ rm.slots = s) (hu : uc + c ≤ R.cells ∧ us + s ≤ R.slots) (hn : As.length = n) (hstk : stk0 = As.reverse ++ .ref b :: rest) (hro : (rest.map fun v => v.category).sum ≤ 8) (hd : eb_dc cc pc (.invokevirtual i) 3 pc1)
    (kk : ∀ (r : Int32) (st' : eb_S), K r st' → eb_G l Γ P X cc own nL ret R pc1 lv (.int r :: rest) st' (uc + c) (us + s)) : eb_G l Γ P X cc own nL ret R pc lv stk0 st uc us := by
  refine eg_callU (rest := rest) hct hg hyx har hR ⟨by rw [hz.1]; exact hu.1, by rw [hz.2]; exact hu.2⟩ hcs hn hstk hro hd (fun v st' h => ?_)
  obtain ⟨r, rfl, h⟩ := h
  rw [hz.1, hz.2]
  exact kk r st' h
theorem ec_ULp {y : MethodName} {bytes : ByteArray} {maxL n i : Nat} {rt : Option FieldType} {rm : Room} {As rest stk0 : List Value} {b : Nat} {x : MethodName} {owner : String} {cs : List Nat} {K : Int64 → Prop} (hct : eb_Ct l Γ y bytes maxL rt rm (.ref b :: As) st (eb_pL st K)) (hg : ∀ c ∈ cs, ∃ (C : String) (T : u_T) (N : Nat), eb_cl[c]? = some (C, T, N) ∧ GoodIn lw_all (va_wsU own i C owner x y (ws_ y bytes maxL rt))) (hyx : y = ⟨owner, x.name, x.desc⟩) (hcs : eb_cs st b cs) (har : eb_ar y n) (hR : rm.frames + 1 ≤ R.frames ∧ 8 + (maxL + 11) + rm.locals ≤ R.locals) (hz : rm.cells = 0 ∧ rm.slots = 0) (hu : uc ≤ R.cells ∧ us ≤ R.slots) (hn : As.length = n) (hstk : stk0 = As.reverse ++ .ref b :: rest) (hro : (rest.map fun v => v.category).sum ≤ 8) (hd : eb_dc cc pc (.invokevirtual i) 3 pc1)
    (kk : ∀ (r : Int64), K r → eb_G l Γ P X cc own nL ret R pc1 lv (.long r :: rest) st uc us) : eb_G l Γ P X cc own nL ret R pc lv stk0 st uc us := by
  refine eg_callU (rest := rest) hct hg hyx har hR ⟨by rw [hz.1]; exact hu.1, by rw [hz.2]; exact hu.2⟩ hcs hn hstk hro hd (fun v st' h => ?_)
  obtain ⟨r, rfl, rfl, h⟩ := h
  rw [hz.1, hz.2]
  exact kk r h
theorem ec_ULw {y : MethodName} {bytes : ByteArray} {maxL n i : Nat} {rt : Option FieldType} {rm : Room} {As rest stk0 : List Value} {b : Nat} {x : MethodName} {owner : String} {cs : List Nat} {K : Int64 → eb_S → Prop} (hct : eb_Ct l Γ y bytes maxL rt rm (.ref b :: As) st (eb_oL K)) (hg : ∀ c ∈ cs, ∃ (C : String) (T : u_T) (N : Nat), eb_cl[c]? = some (C, T, N) ∧ GoodIn lw_all (va_wsU own i C owner x y (ws_ y bytes maxL rt))) (hyx : y = ⟨owner, x.name, x.desc⟩) (hcs : eb_cs st b cs) (har : eb_ar y n) (hR : rm.frames + 1 ≤ R.frames ∧ 8 + (maxL + 11) + rm.locals ≤ R.locals) (hz : rm.cells = 0 ∧ rm.slots = 0) (hu : uc ≤ R.cells ∧ us ≤ R.slots) (hn : As.length = n) (hstk : stk0 = As.reverse ++ .ref b :: rest) (hro : (rest.map fun v => v.category).sum ≤ 8) (hd : eb_dc cc pc (.invokevirtual i) 3 pc1)
    (kk : ∀ (r : Int64) (st' : eb_S), K r st' → eb_G l Γ P X cc own nL ret R pc1 lv (.long r :: rest) st' uc us) : eb_G l Γ P X cc own nL ret R pc lv stk0 st uc us := by
  refine eg_callU (rest := rest) hct hg hyx har hR ⟨by rw [hz.1]; exact hu.1, by rw [hz.2]; exact hu.2⟩ hcs hn hstk hro hd (fun v st' h => ?_)
  obtain ⟨r, rfl, h⟩ := h
  rw [hz.1, hz.2]
  exact kk r st' h
theorem ec_ULa {y : MethodName} {bytes : ByteArray} {maxL n i : Nat} {rt : Option FieldType} {rm : Room} {As rest stk0 : List Value} {b : Nat} {x : MethodName} {owner : String} {cs : List Nat} {K : Int64 → eb_S → Prop} (hct : eb_Ct l Γ y bytes maxL rt rm (.ref b :: As) st (eb_oL K)) (hg : ∀ c ∈ cs, ∃ (C : String) (T : u_T) (N : Nat), eb_cl[c]? = some (C, T, N) ∧ GoodIn lw_all (va_wsU own i C owner x y (ws_ y bytes maxL rt))) (hyx : y = ⟨owner, x.name, x.desc⟩) (hcs : eb_cs st b cs) (har : eb_ar y n) (hR : rm.frames + 1 ≤ R.frames ∧ 8 + (maxL + 11) + rm.locals ≤ R.locals) {c s : Nat} (hz : rm.cells = c ∧ rm.slots = s) (hu : uc + c ≤ R.cells ∧ us + s ≤ R.slots) (hn : As.length = n) (hstk : stk0 = As.reverse ++ .ref b :: rest) (hro : (rest.map fun v => v.category).sum ≤ 8) (hd : eb_dc cc pc (.invokevirtual i) 3 pc1)
    (kk : ∀ (r : Int64) (st' : eb_S), K r st' → eb_G l Γ P X cc own nL ret R pc1 lv (.long r :: rest) st' (uc + c) (us + s)) : eb_G l Γ P X cc own nL ret R pc lv stk0 st uc us := by
  refine eg_callU (rest := rest) hct hg hyx har hR ⟨by rw [hz.1]; exact hu.1, by rw [hz.2]; exact hu.2⟩ hcs hn hstk hro hd (fun v st' h => ?_)
  obtain ⟨r, rfl, h⟩ := h
  rw [hz.1, hz.2]
  exact kk r st' h
theorem ec_URp {y : MethodName} {bytes : ByteArray} {maxL n i : Nat} {rt : Option FieldType} {rm : Room} {As rest stk0 : List Value} {b : Nat} {x : MethodName} {owner : String} {cs : List Nat} {K : Option Nat → Prop} (hct : eb_Ct l Γ y bytes maxL rt rm (.ref b :: As) st (eb_pR st K)) (hg : ∀ c ∈ cs, ∃ (C : String) (T : u_T) (N : Nat), eb_cl[c]? = some (C, T, N) ∧ GoodIn lw_all (va_wsU own i C owner x y (ws_ y bytes maxL rt))) (hyx : y = ⟨owner, x.name, x.desc⟩) (hcs : eb_cs st b cs) (har : eb_ar y n) (hR : rm.frames + 1 ≤ R.frames ∧ 8 + (maxL + 11) + rm.locals ≤ R.locals) (hz : rm.cells = 0 ∧ rm.slots = 0) (hu : uc ≤ R.cells ∧ us ≤ R.slots) (hn : As.length = n) (hstk : stk0 = As.reverse ++ .ref b :: rest) (hro : (rest.map fun v => v.category).sum ≤ 8) (hd : eb_dc cc pc (.invokevirtual i) 3 pc1)
    (kk : ∀ (r : Option Nat), K r → eb_G l Γ P X cc own nL ret R pc1 lv (va_rf r :: rest) st uc us) : eb_G l Γ P X cc own nL ret R pc lv stk0 st uc us := by
  refine eg_callU (rest := rest) hct hg hyx har hR ⟨by rw [hz.1]; exact hu.1, by rw [hz.2]; exact hu.2⟩ hcs hn hstk hro hd (fun v st' h => ?_)
  obtain ⟨r, rfl, rfl, h⟩ := h
  rw [hz.1, hz.2]
  exact kk r h
theorem ec_URw {y : MethodName} {bytes : ByteArray} {maxL n i : Nat} {rt : Option FieldType} {rm : Room} {As rest stk0 : List Value} {b : Nat} {x : MethodName} {owner : String} {cs : List Nat} {K : Option Nat → eb_S → Prop} (hct : eb_Ct l Γ y bytes maxL rt rm (.ref b :: As) st (eb_oR K)) (hg : ∀ c ∈ cs, ∃ (C : String) (T : u_T) (N : Nat), eb_cl[c]? = some (C, T, N) ∧ GoodIn lw_all (va_wsU own i C owner x y (ws_ y bytes maxL rt))) (hyx : y = ⟨owner, x.name, x.desc⟩) (hcs : eb_cs st b cs) (har : eb_ar y n) (hR : rm.frames + 1 ≤ R.frames ∧ 8 + (maxL + 11) + rm.locals ≤ R.locals) (hz : rm.cells = 0 ∧ rm.slots = 0) (hu : uc ≤ R.cells ∧ us ≤ R.slots) (hn : As.length = n) (hstk : stk0 = As.reverse ++ .ref b :: rest) (hro : (rest.map fun v => v.category).sum ≤ 8) (hd : eb_dc cc pc (.invokevirtual i) 3 pc1)
    (kk : ∀ (r : Option Nat) (st' : eb_S), K r st' → eb_G l Γ P X cc own nL ret R pc1 lv (va_rf r :: rest) st' uc us) : eb_G l Γ P X cc own nL ret R pc lv stk0 st uc us := by
  refine eg_callU (rest := rest) hct hg hyx har hR ⟨by rw [hz.1]; exact hu.1, by rw [hz.2]; exact hu.2⟩ hcs hn hstk hro hd (fun v st' h => ?_)
  obtain ⟨r, rfl, h⟩ := h
  rw [hz.1, hz.2]
  exact kk r st' h
theorem ec_URa {y : MethodName} {bytes : ByteArray} {maxL n i : Nat} {rt : Option FieldType} {rm : Room} {As rest stk0 : List Value} {b : Nat} {x : MethodName} {owner : String} {cs : List Nat} {K : Option Nat → eb_S → Prop} (hct : eb_Ct l Γ y bytes maxL rt rm (.ref b :: As) st (eb_oR K)) (hg : ∀ c ∈ cs, ∃ (C : String) (T : u_T) (N : Nat), eb_cl[c]? = some (C, T, N) ∧ GoodIn lw_all (va_wsU own i C owner x y (ws_ y bytes maxL rt))) (hyx : y = ⟨owner, x.name, x.desc⟩) (hcs : eb_cs st b cs) (har : eb_ar y n) (hR : rm.frames + 1 ≤ R.frames ∧ 8 + (maxL + 11) + rm.locals ≤ R.locals) {c s : Nat} (hz : rm.cells = c ∧ rm.slots = s) (hu : uc + c ≤ R.cells ∧ us + s ≤ R.slots) (hn : As.length = n) (hstk : stk0 = As.reverse ++ .ref b :: rest) (hro : (rest.map fun v => v.category).sum ≤ 8) (hd : eb_dc cc pc (.invokevirtual i) 3 pc1)
    (kk : ∀ (r : Option Nat) (st' : eb_S), K r st' → eb_G l Γ P X cc own nL ret R pc1 lv (va_rf r :: rest) st' (uc + c) (us + s)) : eb_G l Γ P X cc own nL ret R pc lv stk0 st uc us := by
  refine eg_callU (rest := rest) hct hg hyx har hR ⟨by rw [hz.1]; exact hu.1, by rw [hz.2]; exact hu.2⟩ hcs hn hstk hro hd (fun v st' h => ?_)
  obtain ⟨r, rfl, h⟩ := h
  rw [hz.1, hz.2]
  exact kk r st' h
theorem ec_UVw {y : MethodName} {bytes : ByteArray} {maxL n i : Nat} {rt : Option FieldType} {rm : Room} {As rest stk0 : List Value} {b : Nat} {x : MethodName} {owner : String} {cs : List Nat} {K : eb_S → Prop} (hct : eb_Ct l Γ y bytes maxL rt rm (.ref b :: As) st (eb_oV K)) (hg : ∀ c ∈ cs, ∃ (C : String) (T : u_T) (N : Nat), eb_cl[c]? = some (C, T, N) ∧ GoodIn lw_all (va_wsU own i C owner x y (ws_ y bytes maxL rt))) (hyx : y = ⟨owner, x.name, x.desc⟩) (hcs : eb_cs st b cs) (har : eb_ar y n) (hR : rm.frames + 1 ≤ R.frames ∧ 8 + (maxL + 11) + rm.locals ≤ R.locals) (hz : rm.cells = 0 ∧ rm.slots = 0) (hu : uc ≤ R.cells ∧ us ≤ R.slots) (hn : As.length = n) (hstk : stk0 = As.reverse ++ .ref b :: rest) (hro : (rest.map fun v => v.category).sum ≤ 8) (hd : eb_dc cc pc (.invokevirtual i) 3 pc1)
    (kk : ∀ (st' : eb_S), K st' → eb_G l Γ P X cc own nL ret R pc1 lv (rest) st' uc us) : eb_G l Γ P X cc own nL ret R pc lv stk0 st uc us := by
  refine eg_callU (rest := rest) hct hg hyx har hR ⟨by rw [hz.1]; exact hu.1, by rw [hz.2]; exact hu.2⟩ hcs hn hstk hro hd (fun v st' h => ?_)
  obtain ⟨rfl, h⟩ := h
  rw [hz.1, hz.2]
  exact kk st' h
theorem ec_UVa {y : MethodName} {bytes : ByteArray} {maxL n i : Nat} {rt : Option FieldType} {rm : Room} {As rest stk0 : List Value} {b : Nat} {x : MethodName} {owner : String} {cs : List Nat} {K : eb_S → Prop} (hct : eb_Ct l Γ y bytes maxL rt rm (.ref b :: As) st (eb_oV K)) (hg : ∀ c ∈ cs, ∃ (C : String) (T : u_T) (N : Nat), eb_cl[c]? = some (C, T, N) ∧ GoodIn lw_all (va_wsU own i C owner x y (ws_ y bytes maxL rt))) (hyx : y = ⟨owner, x.name, x.desc⟩) (hcs : eb_cs st b cs) (har : eb_ar y n) (hR : rm.frames + 1 ≤ R.frames ∧ 8 + (maxL + 11) + rm.locals ≤ R.locals) {c s : Nat} (hz : rm.cells = c ∧ rm.slots = s) (hu : uc + c ≤ R.cells ∧ us + s ≤ R.slots) (hn : As.length = n) (hstk : stk0 = As.reverse ++ .ref b :: rest) (hro : (rest.map fun v => v.category).sum ≤ 8) (hd : eb_dc cc pc (.invokevirtual i) 3 pc1)
    (kk : ∀ (st' : eb_S), K st' → eb_G l Γ P X cc own nL ret R pc1 lv (rest) st' (uc + c) (us + s)) : eb_G l Γ P X cc own nL ret R pc lv stk0 st uc us := by
  refine eg_callU (rest := rest) hct hg hyx har hR ⟨by rw [hz.1]; exact hu.1, by rw [hz.2]; exact hu.2⟩ hcs hn hstk hro hd (fun v st' h => ?_)
  obtain ⟨rfl, h⟩ := h
  rw [hz.1, hz.2]
  exact kk st' h
theorem ec_SIp {y : MethodName} {bytes : ByteArray} {maxL n i : Nat} {rt : Option FieldType} {rm : Room} {As rest stk0 : List Value}  {K : Int32 → Prop} (hct : eb_Ct l Γ y bytes maxL rt rm As st (eb_pI st K)) (hg : GoodIn lw_all (va_wsS own i y (ws_ y bytes maxL rt))) (har : eb_ar y n) (hR : rm.frames + 1 ≤ R.frames ∧ 8 + (maxL + 11) + rm.locals ≤ R.locals) (hz : rm.cells = 0 ∧ rm.slots = 0) (hu : uc ≤ R.cells ∧ us ≤ R.slots) (hn : As.length = n) (hstk : stk0 = As.reverse ++ rest) (hro : (rest.map fun v => v.category).sum ≤ 8) (hd : eb_dc cc pc (.invokestatic i) 3 pc1)
    (kk : ∀ (r : Int32), K r → eb_G l Γ P X cc own nL ret R pc1 lv (.int r :: rest) st uc us) : eb_G l Γ P X cc own nL ret R pc lv stk0 st uc us := by
  refine eg_callS (rest := rest) hct hg har hR ⟨by rw [hz.1]; exact hu.1, by rw [hz.2]; exact hu.2⟩ hn hstk hro hd (fun v st' h => ?_)
  obtain ⟨r, rfl, rfl, h⟩ := h
  rw [hz.1, hz.2]
  exact kk r h
theorem ec_SIw {y : MethodName} {bytes : ByteArray} {maxL n i : Nat} {rt : Option FieldType} {rm : Room} {As rest stk0 : List Value}  {K : Int32 → eb_S → Prop} (hct : eb_Ct l Γ y bytes maxL rt rm As st (eb_oI K)) (hg : GoodIn lw_all (va_wsS own i y (ws_ y bytes maxL rt))) (har : eb_ar y n) (hR : rm.frames + 1 ≤ R.frames ∧ 8 + (maxL + 11) + rm.locals ≤ R.locals) (hz : rm.cells = 0 ∧ rm.slots = 0) (hu : uc ≤ R.cells ∧ us ≤ R.slots) (hn : As.length = n) (hstk : stk0 = As.reverse ++ rest) (hro : (rest.map fun v => v.category).sum ≤ 8) (hd : eb_dc cc pc (.invokestatic i) 3 pc1)
    (kk : ∀ (r : Int32) (st' : eb_S), K r st' → eb_G l Γ P X cc own nL ret R pc1 lv (.int r :: rest) st' uc us) : eb_G l Γ P X cc own nL ret R pc lv stk0 st uc us := by
  refine eg_callS (rest := rest) hct hg har hR ⟨by rw [hz.1]; exact hu.1, by rw [hz.2]; exact hu.2⟩ hn hstk hro hd (fun v st' h => ?_)
  obtain ⟨r, rfl, h⟩ := h
  rw [hz.1, hz.2]
  exact kk r st' h
theorem ec_SIa {y : MethodName} {bytes : ByteArray} {maxL n i : Nat} {rt : Option FieldType} {rm : Room} {As rest stk0 : List Value}  {K : Int32 → eb_S → Prop} (hct : eb_Ct l Γ y bytes maxL rt rm As st (eb_oI K)) (hg : GoodIn lw_all (va_wsS own i y (ws_ y bytes maxL rt))) (har : eb_ar y n) (hR : rm.frames + 1 ≤ R.frames ∧ 8 + (maxL + 11) + rm.locals ≤ R.locals) {c s : Nat} (hz : rm.cells = c ∧ rm.slots = s) (hu : uc + c ≤ R.cells ∧ us + s ≤ R.slots) (hn : As.length = n) (hstk : stk0 = As.reverse ++ rest) (hro : (rest.map fun v => v.category).sum ≤ 8) (hd : eb_dc cc pc (.invokestatic i) 3 pc1)
    (kk : ∀ (r : Int32) (st' : eb_S), K r st' → eb_G l Γ P X cc own nL ret R pc1 lv (.int r :: rest) st' (uc + c) (us + s)) : eb_G l Γ P X cc own nL ret R pc lv stk0 st uc us := by
  refine eg_callS (rest := rest) hct hg har hR ⟨by rw [hz.1]; exact hu.1, by rw [hz.2]; exact hu.2⟩ hn hstk hro hd (fun v st' h => ?_)
  obtain ⟨r, rfl, h⟩ := h
  rw [hz.1, hz.2]
  exact kk r st' h
theorem ec_SLp {y : MethodName} {bytes : ByteArray} {maxL n i : Nat} {rt : Option FieldType} {rm : Room} {As rest stk0 : List Value}  {K : Int64 → Prop} (hct : eb_Ct l Γ y bytes maxL rt rm As st (eb_pL st K)) (hg : GoodIn lw_all (va_wsS own i y (ws_ y bytes maxL rt))) (har : eb_ar y n) (hR : rm.frames + 1 ≤ R.frames ∧ 8 + (maxL + 11) + rm.locals ≤ R.locals) (hz : rm.cells = 0 ∧ rm.slots = 0) (hu : uc ≤ R.cells ∧ us ≤ R.slots) (hn : As.length = n) (hstk : stk0 = As.reverse ++ rest) (hro : (rest.map fun v => v.category).sum ≤ 8) (hd : eb_dc cc pc (.invokestatic i) 3 pc1)
    (kk : ∀ (r : Int64), K r → eb_G l Γ P X cc own nL ret R pc1 lv (.long r :: rest) st uc us) : eb_G l Γ P X cc own nL ret R pc lv stk0 st uc us := by
  refine eg_callS (rest := rest) hct hg har hR ⟨by rw [hz.1]; exact hu.1, by rw [hz.2]; exact hu.2⟩ hn hstk hro hd (fun v st' h => ?_)
  obtain ⟨r, rfl, rfl, h⟩ := h
  rw [hz.1, hz.2]
  exact kk r h
theorem ec_SLw {y : MethodName} {bytes : ByteArray} {maxL n i : Nat} {rt : Option FieldType} {rm : Room} {As rest stk0 : List Value}  {K : Int64 → eb_S → Prop} (hct : eb_Ct l Γ y bytes maxL rt rm As st (eb_oL K)) (hg : GoodIn lw_all (va_wsS own i y (ws_ y bytes maxL rt))) (har : eb_ar y n) (hR : rm.frames + 1 ≤ R.frames ∧ 8 + (maxL + 11) + rm.locals ≤ R.locals) (hz : rm.cells = 0 ∧ rm.slots = 0) (hu : uc ≤ R.cells ∧ us ≤ R.slots) (hn : As.length = n) (hstk : stk0 = As.reverse ++ rest) (hro : (rest.map fun v => v.category).sum ≤ 8) (hd : eb_dc cc pc (.invokestatic i) 3 pc1)
    (kk : ∀ (r : Int64) (st' : eb_S), K r st' → eb_G l Γ P X cc own nL ret R pc1 lv (.long r :: rest) st' uc us) : eb_G l Γ P X cc own nL ret R pc lv stk0 st uc us := by
  refine eg_callS (rest := rest) hct hg har hR ⟨by rw [hz.1]; exact hu.1, by rw [hz.2]; exact hu.2⟩ hn hstk hro hd (fun v st' h => ?_)
  obtain ⟨r, rfl, h⟩ := h
  rw [hz.1, hz.2]
  exact kk r st' h
theorem ec_SLa {y : MethodName} {bytes : ByteArray} {maxL n i : Nat} {rt : Option FieldType} {rm : Room} {As rest stk0 : List Value}  {K : Int64 → eb_S → Prop} (hct : eb_Ct l Γ y bytes maxL rt rm As st (eb_oL K)) (hg : GoodIn lw_all (va_wsS own i y (ws_ y bytes maxL rt))) (har : eb_ar y n) (hR : rm.frames + 1 ≤ R.frames ∧ 8 + (maxL + 11) + rm.locals ≤ R.locals) {c s : Nat} (hz : rm.cells = c ∧ rm.slots = s) (hu : uc + c ≤ R.cells ∧ us + s ≤ R.slots) (hn : As.length = n) (hstk : stk0 = As.reverse ++ rest) (hro : (rest.map fun v => v.category).sum ≤ 8) (hd : eb_dc cc pc (.invokestatic i) 3 pc1)
    (kk : ∀ (r : Int64) (st' : eb_S), K r st' → eb_G l Γ P X cc own nL ret R pc1 lv (.long r :: rest) st' (uc + c) (us + s)) : eb_G l Γ P X cc own nL ret R pc lv stk0 st uc us := by
  refine eg_callS (rest := rest) hct hg har hR ⟨by rw [hz.1]; exact hu.1, by rw [hz.2]; exact hu.2⟩ hn hstk hro hd (fun v st' h => ?_)
  obtain ⟨r, rfl, h⟩ := h
  rw [hz.1, hz.2]
  exact kk r st' h
theorem ec_SRp {y : MethodName} {bytes : ByteArray} {maxL n i : Nat} {rt : Option FieldType} {rm : Room} {As rest stk0 : List Value}  {K : Option Nat → Prop} (hct : eb_Ct l Γ y bytes maxL rt rm As st (eb_pR st K)) (hg : GoodIn lw_all (va_wsS own i y (ws_ y bytes maxL rt))) (har : eb_ar y n) (hR : rm.frames + 1 ≤ R.frames ∧ 8 + (maxL + 11) + rm.locals ≤ R.locals) (hz : rm.cells = 0 ∧ rm.slots = 0) (hu : uc ≤ R.cells ∧ us ≤ R.slots) (hn : As.length = n) (hstk : stk0 = As.reverse ++ rest) (hro : (rest.map fun v => v.category).sum ≤ 8) (hd : eb_dc cc pc (.invokestatic i) 3 pc1)
    (kk : ∀ (r : Option Nat), K r → eb_G l Γ P X cc own nL ret R pc1 lv (va_rf r :: rest) st uc us) : eb_G l Γ P X cc own nL ret R pc lv stk0 st uc us := by
  refine eg_callS (rest := rest) hct hg har hR ⟨by rw [hz.1]; exact hu.1, by rw [hz.2]; exact hu.2⟩ hn hstk hro hd (fun v st' h => ?_)
  obtain ⟨r, rfl, rfl, h⟩ := h
  rw [hz.1, hz.2]
  exact kk r h
theorem ec_SRw {y : MethodName} {bytes : ByteArray} {maxL n i : Nat} {rt : Option FieldType} {rm : Room} {As rest stk0 : List Value}  {K : Option Nat → eb_S → Prop} (hct : eb_Ct l Γ y bytes maxL rt rm As st (eb_oR K)) (hg : GoodIn lw_all (va_wsS own i y (ws_ y bytes maxL rt))) (har : eb_ar y n) (hR : rm.frames + 1 ≤ R.frames ∧ 8 + (maxL + 11) + rm.locals ≤ R.locals) (hz : rm.cells = 0 ∧ rm.slots = 0) (hu : uc ≤ R.cells ∧ us ≤ R.slots) (hn : As.length = n) (hstk : stk0 = As.reverse ++ rest) (hro : (rest.map fun v => v.category).sum ≤ 8) (hd : eb_dc cc pc (.invokestatic i) 3 pc1)
    (kk : ∀ (r : Option Nat) (st' : eb_S), K r st' → eb_G l Γ P X cc own nL ret R pc1 lv (va_rf r :: rest) st' uc us) : eb_G l Γ P X cc own nL ret R pc lv stk0 st uc us := by
  refine eg_callS (rest := rest) hct hg har hR ⟨by rw [hz.1]; exact hu.1, by rw [hz.2]; exact hu.2⟩ hn hstk hro hd (fun v st' h => ?_)
  obtain ⟨r, rfl, h⟩ := h
  rw [hz.1, hz.2]
  exact kk r st' h
theorem ec_SRa {y : MethodName} {bytes : ByteArray} {maxL n i : Nat} {rt : Option FieldType} {rm : Room} {As rest stk0 : List Value}  {K : Option Nat → eb_S → Prop} (hct : eb_Ct l Γ y bytes maxL rt rm As st (eb_oR K)) (hg : GoodIn lw_all (va_wsS own i y (ws_ y bytes maxL rt))) (har : eb_ar y n) (hR : rm.frames + 1 ≤ R.frames ∧ 8 + (maxL + 11) + rm.locals ≤ R.locals) {c s : Nat} (hz : rm.cells = c ∧ rm.slots = s) (hu : uc + c ≤ R.cells ∧ us + s ≤ R.slots) (hn : As.length = n) (hstk : stk0 = As.reverse ++ rest) (hro : (rest.map fun v => v.category).sum ≤ 8) (hd : eb_dc cc pc (.invokestatic i) 3 pc1)
    (kk : ∀ (r : Option Nat) (st' : eb_S), K r st' → eb_G l Γ P X cc own nL ret R pc1 lv (va_rf r :: rest) st' (uc + c) (us + s)) : eb_G l Γ P X cc own nL ret R pc lv stk0 st uc us := by
  refine eg_callS (rest := rest) hct hg har hR ⟨by rw [hz.1]; exact hu.1, by rw [hz.2]; exact hu.2⟩ hn hstk hro hd (fun v st' h => ?_)
  obtain ⟨r, rfl, h⟩ := h
  rw [hz.1, hz.2]
  exact kk r st' h
theorem ec_SVw {y : MethodName} {bytes : ByteArray} {maxL n i : Nat} {rt : Option FieldType} {rm : Room} {As rest stk0 : List Value}  {K : eb_S → Prop} (hct : eb_Ct l Γ y bytes maxL rt rm As st (eb_oV K)) (hg : GoodIn lw_all (va_wsS own i y (ws_ y bytes maxL rt))) (har : eb_ar y n) (hR : rm.frames + 1 ≤ R.frames ∧ 8 + (maxL + 11) + rm.locals ≤ R.locals) (hz : rm.cells = 0 ∧ rm.slots = 0) (hu : uc ≤ R.cells ∧ us ≤ R.slots) (hn : As.length = n) (hstk : stk0 = As.reverse ++ rest) (hro : (rest.map fun v => v.category).sum ≤ 8) (hd : eb_dc cc pc (.invokestatic i) 3 pc1)
    (kk : ∀ (st' : eb_S), K st' → eb_G l Γ P X cc own nL ret R pc1 lv (rest) st' uc us) : eb_G l Γ P X cc own nL ret R pc lv stk0 st uc us := by
  refine eg_callS (rest := rest) hct hg har hR ⟨by rw [hz.1]; exact hu.1, by rw [hz.2]; exact hu.2⟩ hn hstk hro hd (fun v st' h => ?_)
  obtain ⟨rfl, h⟩ := h
  rw [hz.1, hz.2]
  exact kk st' h
theorem ec_SVa {y : MethodName} {bytes : ByteArray} {maxL n i : Nat} {rt : Option FieldType} {rm : Room} {As rest stk0 : List Value}  {K : eb_S → Prop} (hct : eb_Ct l Γ y bytes maxL rt rm As st (eb_oV K)) (hg : GoodIn lw_all (va_wsS own i y (ws_ y bytes maxL rt))) (har : eb_ar y n) (hR : rm.frames + 1 ≤ R.frames ∧ 8 + (maxL + 11) + rm.locals ≤ R.locals) {c s : Nat} (hz : rm.cells = c ∧ rm.slots = s) (hu : uc + c ≤ R.cells ∧ us + s ≤ R.slots) (hn : As.length = n) (hstk : stk0 = As.reverse ++ rest) (hro : (rest.map fun v => v.category).sum ≤ 8) (hd : eb_dc cc pc (.invokestatic i) 3 pc1)
    (kk : ∀ (st' : eb_S), K st' → eb_G l Γ P X cc own nL ret R pc1 lv (rest) st' (uc + c) (us + s)) : eb_G l Γ P X cc own nL ret R pc lv stk0 st uc us := by
  refine eg_callS (rest := rest) hct hg har hR ⟨by rw [hz.1]; exact hu.1, by rw [hz.2]; exact hu.2⟩ hn hstk hro hd (fun v st' h => ?_)
  obtain ⟨rfl, h⟩ := h
  rw [hz.1, hz.2]
  exact kk st' h
theorem ec_VNIp {y : MethodName} {bytes : ByteArray} {maxL n i : Nat} {rt : Option FieldType} {rm : Room} {As rest stk0 : List Value} {b : Nat} {host C : String} {ci : Nat} {T : u_T} {N : Nat} {K : Int32 → Prop} (hct : eb_Ct l Γ y bytes maxL rt rm (.ref b :: As) st (eb_pI st K)) (hq : Cond.code y bytes maxL rt ∈ lw_all) (hl1 : (own, i, y, host) ∈ eb_nM) (hini : Cond.initialized y.cls ∈ lw_all) (hins : Cond.instanceMethod y ∈ lw_all) (hsel : Cond.selects C y y ∈ lw_all) (hcl : eb_cl[ci]? = some (C, T, N)) (hcs : eb_cs st b [ci]) (har : eb_ar y n) (hR : rm.frames + 1 ≤ R.frames ∧ 8 + (maxL + 11) + rm.locals ≤ R.locals) (hz : rm.cells = 0 ∧ rm.slots = 0) (hu : uc ≤ R.cells ∧ us ≤ R.slots) (hn : As.length = n) (hstk : stk0 = As.reverse ++ .ref b :: rest) (hro : (rest.map fun v => v.category).sum ≤ 8) (hd : eb_dc cc pc (.invokevirtual i) 3 pc1)
    (kk : ∀ (r : Int32), K r → eb_G l Γ P X cc own nL ret R pc1 lv (.int r :: rest) st uc us) : eb_G l Γ P X cc own nL ret R pc lv stk0 st uc us := by
  refine eg_callVN (rest := rest) hct hq hl1 hini hins hsel hcl har hR ⟨by rw [hz.1]; exact hu.1, by rw [hz.2]; exact hu.2⟩ hcs hn hstk hro hd (fun v st' h => ?_)
  obtain ⟨r, rfl, rfl, h⟩ := h
  rw [hz.1, hz.2]
  exact kk r h
theorem ec_VNIw {y : MethodName} {bytes : ByteArray} {maxL n i : Nat} {rt : Option FieldType} {rm : Room} {As rest stk0 : List Value} {b : Nat} {host C : String} {ci : Nat} {T : u_T} {N : Nat} {K : Int32 → eb_S → Prop} (hct : eb_Ct l Γ y bytes maxL rt rm (.ref b :: As) st (eb_oI K)) (hq : Cond.code y bytes maxL rt ∈ lw_all) (hl1 : (own, i, y, host) ∈ eb_nM) (hini : Cond.initialized y.cls ∈ lw_all) (hins : Cond.instanceMethod y ∈ lw_all) (hsel : Cond.selects C y y ∈ lw_all) (hcl : eb_cl[ci]? = some (C, T, N)) (hcs : eb_cs st b [ci]) (har : eb_ar y n) (hR : rm.frames + 1 ≤ R.frames ∧ 8 + (maxL + 11) + rm.locals ≤ R.locals) (hz : rm.cells = 0 ∧ rm.slots = 0) (hu : uc ≤ R.cells ∧ us ≤ R.slots) (hn : As.length = n) (hstk : stk0 = As.reverse ++ .ref b :: rest) (hro : (rest.map fun v => v.category).sum ≤ 8) (hd : eb_dc cc pc (.invokevirtual i) 3 pc1)
    (kk : ∀ (r : Int32) (st' : eb_S), K r st' → eb_G l Γ P X cc own nL ret R pc1 lv (.int r :: rest) st' uc us) : eb_G l Γ P X cc own nL ret R pc lv stk0 st uc us := by
  refine eg_callVN (rest := rest) hct hq hl1 hini hins hsel hcl har hR ⟨by rw [hz.1]; exact hu.1, by rw [hz.2]; exact hu.2⟩ hcs hn hstk hro hd (fun v st' h => ?_)
  obtain ⟨r, rfl, h⟩ := h
  rw [hz.1, hz.2]
  exact kk r st' h
theorem ec_VNIa {y : MethodName} {bytes : ByteArray} {maxL n i : Nat} {rt : Option FieldType} {rm : Room} {As rest stk0 : List Value} {b : Nat} {host C : String} {ci : Nat} {T : u_T} {N : Nat} {K : Int32 → eb_S → Prop} (hct : eb_Ct l Γ y bytes maxL rt rm (.ref b :: As) st (eb_oI K)) (hq : Cond.code y bytes maxL rt ∈ lw_all) (hl1 : (own, i, y, host) ∈ eb_nM) (hini : Cond.initialized y.cls ∈ lw_all) (hins : Cond.instanceMethod y ∈ lw_all) (hsel : Cond.selects C y y ∈ lw_all) (hcl : eb_cl[ci]? = some (C, T, N)) (hcs : eb_cs st b [ci]) (har : eb_ar y n) (hR : rm.frames + 1 ≤ R.frames ∧ 8 + (maxL + 11) + rm.locals ≤ R.locals) {c s : Nat} (hz : rm.cells = c ∧ rm.slots = s) (hu : uc + c ≤ R.cells ∧ us + s ≤ R.slots) (hn : As.length = n) (hstk : stk0 = As.reverse ++ .ref b :: rest) (hro : (rest.map fun v => v.category).sum ≤ 8) (hd : eb_dc cc pc (.invokevirtual i) 3 pc1)
    (kk : ∀ (r : Int32) (st' : eb_S), K r st' → eb_G l Γ P X cc own nL ret R pc1 lv (.int r :: rest) st' (uc + c) (us + s)) : eb_G l Γ P X cc own nL ret R pc lv stk0 st uc us := by
  refine eg_callVN (rest := rest) hct hq hl1 hini hins hsel hcl har hR ⟨by rw [hz.1]; exact hu.1, by rw [hz.2]; exact hu.2⟩ hcs hn hstk hro hd (fun v st' h => ?_)
  obtain ⟨r, rfl, h⟩ := h
  rw [hz.1, hz.2]
  exact kk r st' h
theorem ec_VNLp {y : MethodName} {bytes : ByteArray} {maxL n i : Nat} {rt : Option FieldType} {rm : Room} {As rest stk0 : List Value} {b : Nat} {host C : String} {ci : Nat} {T : u_T} {N : Nat} {K : Int64 → Prop} (hct : eb_Ct l Γ y bytes maxL rt rm (.ref b :: As) st (eb_pL st K)) (hq : Cond.code y bytes maxL rt ∈ lw_all) (hl1 : (own, i, y, host) ∈ eb_nM) (hini : Cond.initialized y.cls ∈ lw_all) (hins : Cond.instanceMethod y ∈ lw_all) (hsel : Cond.selects C y y ∈ lw_all) (hcl : eb_cl[ci]? = some (C, T, N)) (hcs : eb_cs st b [ci]) (har : eb_ar y n) (hR : rm.frames + 1 ≤ R.frames ∧ 8 + (maxL + 11) + rm.locals ≤ R.locals) (hz : rm.cells = 0 ∧ rm.slots = 0) (hu : uc ≤ R.cells ∧ us ≤ R.slots) (hn : As.length = n) (hstk : stk0 = As.reverse ++ .ref b :: rest) (hro : (rest.map fun v => v.category).sum ≤ 8) (hd : eb_dc cc pc (.invokevirtual i) 3 pc1)
    (kk : ∀ (r : Int64), K r → eb_G l Γ P X cc own nL ret R pc1 lv (.long r :: rest) st uc us) : eb_G l Γ P X cc own nL ret R pc lv stk0 st uc us := by
  refine eg_callVN (rest := rest) hct hq hl1 hini hins hsel hcl har hR ⟨by rw [hz.1]; exact hu.1, by rw [hz.2]; exact hu.2⟩ hcs hn hstk hro hd (fun v st' h => ?_)
  obtain ⟨r, rfl, rfl, h⟩ := h
  rw [hz.1, hz.2]
  exact kk r h
theorem ec_VNLw {y : MethodName} {bytes : ByteArray} {maxL n i : Nat} {rt : Option FieldType} {rm : Room} {As rest stk0 : List Value} {b : Nat} {host C : String} {ci : Nat} {T : u_T} {N : Nat} {K : Int64 → eb_S → Prop} (hct : eb_Ct l Γ y bytes maxL rt rm (.ref b :: As) st (eb_oL K)) (hq : Cond.code y bytes maxL rt ∈ lw_all) (hl1 : (own, i, y, host) ∈ eb_nM) (hini : Cond.initialized y.cls ∈ lw_all) (hins : Cond.instanceMethod y ∈ lw_all) (hsel : Cond.selects C y y ∈ lw_all) (hcl : eb_cl[ci]? = some (C, T, N)) (hcs : eb_cs st b [ci]) (har : eb_ar y n) (hR : rm.frames + 1 ≤ R.frames ∧ 8 + (maxL + 11) + rm.locals ≤ R.locals) (hz : rm.cells = 0 ∧ rm.slots = 0) (hu : uc ≤ R.cells ∧ us ≤ R.slots) (hn : As.length = n) (hstk : stk0 = As.reverse ++ .ref b :: rest) (hro : (rest.map fun v => v.category).sum ≤ 8) (hd : eb_dc cc pc (.invokevirtual i) 3 pc1)
    (kk : ∀ (r : Int64) (st' : eb_S), K r st' → eb_G l Γ P X cc own nL ret R pc1 lv (.long r :: rest) st' uc us) : eb_G l Γ P X cc own nL ret R pc lv stk0 st uc us := by
  refine eg_callVN (rest := rest) hct hq hl1 hini hins hsel hcl har hR ⟨by rw [hz.1]; exact hu.1, by rw [hz.2]; exact hu.2⟩ hcs hn hstk hro hd (fun v st' h => ?_)
  obtain ⟨r, rfl, h⟩ := h
  rw [hz.1, hz.2]
  exact kk r st' h
theorem ec_VNLa {y : MethodName} {bytes : ByteArray} {maxL n i : Nat} {rt : Option FieldType} {rm : Room} {As rest stk0 : List Value} {b : Nat} {host C : String} {ci : Nat} {T : u_T} {N : Nat} {K : Int64 → eb_S → Prop} (hct : eb_Ct l Γ y bytes maxL rt rm (.ref b :: As) st (eb_oL K)) (hq : Cond.code y bytes maxL rt ∈ lw_all) (hl1 : (own, i, y, host) ∈ eb_nM) (hini : Cond.initialized y.cls ∈ lw_all) (hins : Cond.instanceMethod y ∈ lw_all) (hsel : Cond.selects C y y ∈ lw_all) (hcl : eb_cl[ci]? = some (C, T, N)) (hcs : eb_cs st b [ci]) (har : eb_ar y n) (hR : rm.frames + 1 ≤ R.frames ∧ 8 + (maxL + 11) + rm.locals ≤ R.locals) {c s : Nat} (hz : rm.cells = c ∧ rm.slots = s) (hu : uc + c ≤ R.cells ∧ us + s ≤ R.slots) (hn : As.length = n) (hstk : stk0 = As.reverse ++ .ref b :: rest) (hro : (rest.map fun v => v.category).sum ≤ 8) (hd : eb_dc cc pc (.invokevirtual i) 3 pc1)
    (kk : ∀ (r : Int64) (st' : eb_S), K r st' → eb_G l Γ P X cc own nL ret R pc1 lv (.long r :: rest) st' (uc + c) (us + s)) : eb_G l Γ P X cc own nL ret R pc lv stk0 st uc us := by
  refine eg_callVN (rest := rest) hct hq hl1 hini hins hsel hcl har hR ⟨by rw [hz.1]; exact hu.1, by rw [hz.2]; exact hu.2⟩ hcs hn hstk hro hd (fun v st' h => ?_)
  obtain ⟨r, rfl, h⟩ := h
  rw [hz.1, hz.2]
  exact kk r st' h
theorem ec_VNRp {y : MethodName} {bytes : ByteArray} {maxL n i : Nat} {rt : Option FieldType} {rm : Room} {As rest stk0 : List Value} {b : Nat} {host C : String} {ci : Nat} {T : u_T} {N : Nat} {K : Option Nat → Prop} (hct : eb_Ct l Γ y bytes maxL rt rm (.ref b :: As) st (eb_pR st K)) (hq : Cond.code y bytes maxL rt ∈ lw_all) (hl1 : (own, i, y, host) ∈ eb_nM) (hini : Cond.initialized y.cls ∈ lw_all) (hins : Cond.instanceMethod y ∈ lw_all) (hsel : Cond.selects C y y ∈ lw_all) (hcl : eb_cl[ci]? = some (C, T, N)) (hcs : eb_cs st b [ci]) (har : eb_ar y n) (hR : rm.frames + 1 ≤ R.frames ∧ 8 + (maxL + 11) + rm.locals ≤ R.locals) (hz : rm.cells = 0 ∧ rm.slots = 0) (hu : uc ≤ R.cells ∧ us ≤ R.slots) (hn : As.length = n) (hstk : stk0 = As.reverse ++ .ref b :: rest) (hro : (rest.map fun v => v.category).sum ≤ 8) (hd : eb_dc cc pc (.invokevirtual i) 3 pc1)
    (kk : ∀ (r : Option Nat), K r → eb_G l Γ P X cc own nL ret R pc1 lv (va_rf r :: rest) st uc us) : eb_G l Γ P X cc own nL ret R pc lv stk0 st uc us := by
  refine eg_callVN (rest := rest) hct hq hl1 hini hins hsel hcl har hR ⟨by rw [hz.1]; exact hu.1, by rw [hz.2]; exact hu.2⟩ hcs hn hstk hro hd (fun v st' h => ?_)
  obtain ⟨r, rfl, rfl, h⟩ := h
  rw [hz.1, hz.2]
  exact kk r h
theorem ec_VNRw {y : MethodName} {bytes : ByteArray} {maxL n i : Nat} {rt : Option FieldType} {rm : Room} {As rest stk0 : List Value} {b : Nat} {host C : String} {ci : Nat} {T : u_T} {N : Nat} {K : Option Nat → eb_S → Prop} (hct : eb_Ct l Γ y bytes maxL rt rm (.ref b :: As) st (eb_oR K)) (hq : Cond.code y bytes maxL rt ∈ lw_all) (hl1 : (own, i, y, host) ∈ eb_nM) (hini : Cond.initialized y.cls ∈ lw_all) (hins : Cond.instanceMethod y ∈ lw_all) (hsel : Cond.selects C y y ∈ lw_all) (hcl : eb_cl[ci]? = some (C, T, N)) (hcs : eb_cs st b [ci]) (har : eb_ar y n) (hR : rm.frames + 1 ≤ R.frames ∧ 8 + (maxL + 11) + rm.locals ≤ R.locals) (hz : rm.cells = 0 ∧ rm.slots = 0) (hu : uc ≤ R.cells ∧ us ≤ R.slots) (hn : As.length = n) (hstk : stk0 = As.reverse ++ .ref b :: rest) (hro : (rest.map fun v => v.category).sum ≤ 8) (hd : eb_dc cc pc (.invokevirtual i) 3 pc1)
    (kk : ∀ (r : Option Nat) (st' : eb_S), K r st' → eb_G l Γ P X cc own nL ret R pc1 lv (va_rf r :: rest) st' uc us) : eb_G l Γ P X cc own nL ret R pc lv stk0 st uc us := by
  refine eg_callVN (rest := rest) hct hq hl1 hini hins hsel hcl har hR ⟨by rw [hz.1]; exact hu.1, by rw [hz.2]; exact hu.2⟩ hcs hn hstk hro hd (fun v st' h => ?_)
  obtain ⟨r, rfl, h⟩ := h
  rw [hz.1, hz.2]
  exact kk r st' h
theorem ec_VNRa {y : MethodName} {bytes : ByteArray} {maxL n i : Nat} {rt : Option FieldType} {rm : Room} {As rest stk0 : List Value} {b : Nat} {host C : String} {ci : Nat} {T : u_T} {N : Nat} {K : Option Nat → eb_S → Prop} (hct : eb_Ct l Γ y bytes maxL rt rm (.ref b :: As) st (eb_oR K)) (hq : Cond.code y bytes maxL rt ∈ lw_all) (hl1 : (own, i, y, host) ∈ eb_nM) (hini : Cond.initialized y.cls ∈ lw_all) (hins : Cond.instanceMethod y ∈ lw_all) (hsel : Cond.selects C y y ∈ lw_all) (hcl : eb_cl[ci]? = some (C, T, N)) (hcs : eb_cs st b [ci]) (har : eb_ar y n) (hR : rm.frames + 1 ≤ R.frames ∧ 8 + (maxL + 11) + rm.locals ≤ R.locals) {c s : Nat} (hz : rm.cells = c ∧ rm.slots = s) (hu : uc + c ≤ R.cells ∧ us + s ≤ R.slots) (hn : As.length = n) (hstk : stk0 = As.reverse ++ .ref b :: rest) (hro : (rest.map fun v => v.category).sum ≤ 8) (hd : eb_dc cc pc (.invokevirtual i) 3 pc1)
    (kk : ∀ (r : Option Nat) (st' : eb_S), K r st' → eb_G l Γ P X cc own nL ret R pc1 lv (va_rf r :: rest) st' (uc + c) (us + s)) : eb_G l Γ P X cc own nL ret R pc lv stk0 st uc us := by
  refine eg_callVN (rest := rest) hct hq hl1 hini hins hsel hcl har hR ⟨by rw [hz.1]; exact hu.1, by rw [hz.2]; exact hu.2⟩ hcs hn hstk hro hd (fun v st' h => ?_)
  obtain ⟨r, rfl, h⟩ := h
  rw [hz.1, hz.2]
  exact kk r st' h
theorem ec_VNVw {y : MethodName} {bytes : ByteArray} {maxL n i : Nat} {rt : Option FieldType} {rm : Room} {As rest stk0 : List Value} {b : Nat} {host C : String} {ci : Nat} {T : u_T} {N : Nat} {K : eb_S → Prop} (hct : eb_Ct l Γ y bytes maxL rt rm (.ref b :: As) st (eb_oV K)) (hq : Cond.code y bytes maxL rt ∈ lw_all) (hl1 : (own, i, y, host) ∈ eb_nM) (hini : Cond.initialized y.cls ∈ lw_all) (hins : Cond.instanceMethod y ∈ lw_all) (hsel : Cond.selects C y y ∈ lw_all) (hcl : eb_cl[ci]? = some (C, T, N)) (hcs : eb_cs st b [ci]) (har : eb_ar y n) (hR : rm.frames + 1 ≤ R.frames ∧ 8 + (maxL + 11) + rm.locals ≤ R.locals) (hz : rm.cells = 0 ∧ rm.slots = 0) (hu : uc ≤ R.cells ∧ us ≤ R.slots) (hn : As.length = n) (hstk : stk0 = As.reverse ++ .ref b :: rest) (hro : (rest.map fun v => v.category).sum ≤ 8) (hd : eb_dc cc pc (.invokevirtual i) 3 pc1)
    (kk : ∀ (st' : eb_S), K st' → eb_G l Γ P X cc own nL ret R pc1 lv (rest) st' uc us) : eb_G l Γ P X cc own nL ret R pc lv stk0 st uc us := by
  refine eg_callVN (rest := rest) hct hq hl1 hini hins hsel hcl har hR ⟨by rw [hz.1]; exact hu.1, by rw [hz.2]; exact hu.2⟩ hcs hn hstk hro hd (fun v st' h => ?_)
  obtain ⟨rfl, h⟩ := h
  rw [hz.1, hz.2]
  exact kk st' h
theorem ec_VNVa {y : MethodName} {bytes : ByteArray} {maxL n i : Nat} {rt : Option FieldType} {rm : Room} {As rest stk0 : List Value} {b : Nat} {host C : String} {ci : Nat} {T : u_T} {N : Nat} {K : eb_S → Prop} (hct : eb_Ct l Γ y bytes maxL rt rm (.ref b :: As) st (eb_oV K)) (hq : Cond.code y bytes maxL rt ∈ lw_all) (hl1 : (own, i, y, host) ∈ eb_nM) (hini : Cond.initialized y.cls ∈ lw_all) (hins : Cond.instanceMethod y ∈ lw_all) (hsel : Cond.selects C y y ∈ lw_all) (hcl : eb_cl[ci]? = some (C, T, N)) (hcs : eb_cs st b [ci]) (har : eb_ar y n) (hR : rm.frames + 1 ≤ R.frames ∧ 8 + (maxL + 11) + rm.locals ≤ R.locals) {c s : Nat} (hz : rm.cells = c ∧ rm.slots = s) (hu : uc + c ≤ R.cells ∧ us + s ≤ R.slots) (hn : As.length = n) (hstk : stk0 = As.reverse ++ .ref b :: rest) (hro : (rest.map fun v => v.category).sum ≤ 8) (hd : eb_dc cc pc (.invokevirtual i) 3 pc1)
    (kk : ∀ (st' : eb_S), K st' → eb_G l Γ P X cc own nL ret R pc1 lv (rest) st' (uc + c) (us + s)) : eb_G l Γ P X cc own nL ret R pc lv stk0 st uc us := by
  refine eg_callVN (rest := rest) hct hq hl1 hini hins hsel hcl har hR ⟨by rw [hz.1]; exact hu.1, by rw [hz.2]; exact hu.2⟩ hcs hn hstk hro hd (fun v st' h => ?_)
  obtain ⟨rfl, h⟩ := h
  rw [hz.1, hz.2]
  exact kk st' h
theorem ec_SNIp {y : MethodName} {bytes : ByteArray} {maxL n i : Nat} {rt : Option FieldType} {rm : Room} {As rest stk0 : List Value} {host : String} {K : Int32 → Prop} (hct : eb_Ct l Γ y bytes maxL rt rm As st (eb_pI st K)) (hq : Cond.code y bytes maxL rt ∈ lw_all) (hl1 : (own, i, y, host) ∈ eb_nM) (hini : Cond.initialized y.cls ∈ lw_all) (hst : Cond.static y ∈ lw_all) (har : eb_ar y n) (hR : rm.frames + 1 ≤ R.frames ∧ 8 + (maxL + 11) + rm.locals ≤ R.locals) (hz : rm.cells = 0 ∧ rm.slots = 0) (hu : uc ≤ R.cells ∧ us ≤ R.slots) (hn : As.length = n) (hstk : stk0 = As.reverse ++ rest) (hro : (rest.map fun v => v.category).sum ≤ 8) (hd : eb_dc cc pc (.invokestatic i) 3 pc1)
    (kk : ∀ (r : Int32), K r → eb_G l Γ P X cc own nL ret R pc1 lv (.int r :: rest) st uc us) : eb_G l Γ P X cc own nL ret R pc lv stk0 st uc us := by
  refine eg_callSN (rest := rest) hct hq hl1 hini hst har hR ⟨by rw [hz.1]; exact hu.1, by rw [hz.2]; exact hu.2⟩ hn hstk hro hd (fun v st' h => ?_)
  obtain ⟨r, rfl, rfl, h⟩ := h
  rw [hz.1, hz.2]
  exact kk r h
theorem ec_SNIw {y : MethodName} {bytes : ByteArray} {maxL n i : Nat} {rt : Option FieldType} {rm : Room} {As rest stk0 : List Value} {host : String} {K : Int32 → eb_S → Prop} (hct : eb_Ct l Γ y bytes maxL rt rm As st (eb_oI K)) (hq : Cond.code y bytes maxL rt ∈ lw_all) (hl1 : (own, i, y, host) ∈ eb_nM) (hini : Cond.initialized y.cls ∈ lw_all) (hst : Cond.static y ∈ lw_all) (har : eb_ar y n) (hR : rm.frames + 1 ≤ R.frames ∧ 8 + (maxL + 11) + rm.locals ≤ R.locals) (hz : rm.cells = 0 ∧ rm.slots = 0) (hu : uc ≤ R.cells ∧ us ≤ R.slots) (hn : As.length = n) (hstk : stk0 = As.reverse ++ rest) (hro : (rest.map fun v => v.category).sum ≤ 8) (hd : eb_dc cc pc (.invokestatic i) 3 pc1)
    (kk : ∀ (r : Int32) (st' : eb_S), K r st' → eb_G l Γ P X cc own nL ret R pc1 lv (.int r :: rest) st' uc us) : eb_G l Γ P X cc own nL ret R pc lv stk0 st uc us := by
  refine eg_callSN (rest := rest) hct hq hl1 hini hst har hR ⟨by rw [hz.1]; exact hu.1, by rw [hz.2]; exact hu.2⟩ hn hstk hro hd (fun v st' h => ?_)
  obtain ⟨r, rfl, h⟩ := h
  rw [hz.1, hz.2]
  exact kk r st' h
theorem ec_SNIa {y : MethodName} {bytes : ByteArray} {maxL n i : Nat} {rt : Option FieldType} {rm : Room} {As rest stk0 : List Value} {host : String} {K : Int32 → eb_S → Prop} (hct : eb_Ct l Γ y bytes maxL rt rm As st (eb_oI K)) (hq : Cond.code y bytes maxL rt ∈ lw_all) (hl1 : (own, i, y, host) ∈ eb_nM) (hini : Cond.initialized y.cls ∈ lw_all) (hst : Cond.static y ∈ lw_all) (har : eb_ar y n) (hR : rm.frames + 1 ≤ R.frames ∧ 8 + (maxL + 11) + rm.locals ≤ R.locals) {c s : Nat} (hz : rm.cells = c ∧ rm.slots = s) (hu : uc + c ≤ R.cells ∧ us + s ≤ R.slots) (hn : As.length = n) (hstk : stk0 = As.reverse ++ rest) (hro : (rest.map fun v => v.category).sum ≤ 8) (hd : eb_dc cc pc (.invokestatic i) 3 pc1)
    (kk : ∀ (r : Int32) (st' : eb_S), K r st' → eb_G l Γ P X cc own nL ret R pc1 lv (.int r :: rest) st' (uc + c) (us + s)) : eb_G l Γ P X cc own nL ret R pc lv stk0 st uc us := by
  refine eg_callSN (rest := rest) hct hq hl1 hini hst har hR ⟨by rw [hz.1]; exact hu.1, by rw [hz.2]; exact hu.2⟩ hn hstk hro hd (fun v st' h => ?_)
  obtain ⟨r, rfl, h⟩ := h
  rw [hz.1, hz.2]
  exact kk r st' h
theorem ec_SNLp {y : MethodName} {bytes : ByteArray} {maxL n i : Nat} {rt : Option FieldType} {rm : Room} {As rest stk0 : List Value} {host : String} {K : Int64 → Prop} (hct : eb_Ct l Γ y bytes maxL rt rm As st (eb_pL st K)) (hq : Cond.code y bytes maxL rt ∈ lw_all) (hl1 : (own, i, y, host) ∈ eb_nM) (hini : Cond.initialized y.cls ∈ lw_all) (hst : Cond.static y ∈ lw_all) (har : eb_ar y n) (hR : rm.frames + 1 ≤ R.frames ∧ 8 + (maxL + 11) + rm.locals ≤ R.locals) (hz : rm.cells = 0 ∧ rm.slots = 0) (hu : uc ≤ R.cells ∧ us ≤ R.slots) (hn : As.length = n) (hstk : stk0 = As.reverse ++ rest) (hro : (rest.map fun v => v.category).sum ≤ 8) (hd : eb_dc cc pc (.invokestatic i) 3 pc1)
    (kk : ∀ (r : Int64), K r → eb_G l Γ P X cc own nL ret R pc1 lv (.long r :: rest) st uc us) : eb_G l Γ P X cc own nL ret R pc lv stk0 st uc us := by
  refine eg_callSN (rest := rest) hct hq hl1 hini hst har hR ⟨by rw [hz.1]; exact hu.1, by rw [hz.2]; exact hu.2⟩ hn hstk hro hd (fun v st' h => ?_)
  obtain ⟨r, rfl, rfl, h⟩ := h
  rw [hz.1, hz.2]
  exact kk r h
theorem ec_SNLw {y : MethodName} {bytes : ByteArray} {maxL n i : Nat} {rt : Option FieldType} {rm : Room} {As rest stk0 : List Value} {host : String} {K : Int64 → eb_S → Prop} (hct : eb_Ct l Γ y bytes maxL rt rm As st (eb_oL K)) (hq : Cond.code y bytes maxL rt ∈ lw_all) (hl1 : (own, i, y, host) ∈ eb_nM) (hini : Cond.initialized y.cls ∈ lw_all) (hst : Cond.static y ∈ lw_all) (har : eb_ar y n) (hR : rm.frames + 1 ≤ R.frames ∧ 8 + (maxL + 11) + rm.locals ≤ R.locals) (hz : rm.cells = 0 ∧ rm.slots = 0) (hu : uc ≤ R.cells ∧ us ≤ R.slots) (hn : As.length = n) (hstk : stk0 = As.reverse ++ rest) (hro : (rest.map fun v => v.category).sum ≤ 8) (hd : eb_dc cc pc (.invokestatic i) 3 pc1)
    (kk : ∀ (r : Int64) (st' : eb_S), K r st' → eb_G l Γ P X cc own nL ret R pc1 lv (.long r :: rest) st' uc us) : eb_G l Γ P X cc own nL ret R pc lv stk0 st uc us := by
  refine eg_callSN (rest := rest) hct hq hl1 hini hst har hR ⟨by rw [hz.1]; exact hu.1, by rw [hz.2]; exact hu.2⟩ hn hstk hro hd (fun v st' h => ?_)
  obtain ⟨r, rfl, h⟩ := h
  rw [hz.1, hz.2]
  exact kk r st' h
theorem ec_SNLa {y : MethodName} {bytes : ByteArray} {maxL n i : Nat} {rt : Option FieldType} {rm : Room} {As rest stk0 : List Value} {host : String} {K : Int64 → eb_S → Prop} (hct : eb_Ct l Γ y bytes maxL rt rm As st (eb_oL K)) (hq : Cond.code y bytes maxL rt ∈ lw_all) (hl1 : (own, i, y, host) ∈ eb_nM) (hini : Cond.initialized y.cls ∈ lw_all) (hst : Cond.static y ∈ lw_all) (har : eb_ar y n) (hR : rm.frames + 1 ≤ R.frames ∧ 8 + (maxL + 11) + rm.locals ≤ R.locals) {c s : Nat} (hz : rm.cells = c ∧ rm.slots = s) (hu : uc + c ≤ R.cells ∧ us + s ≤ R.slots) (hn : As.length = n) (hstk : stk0 = As.reverse ++ rest) (hro : (rest.map fun v => v.category).sum ≤ 8) (hd : eb_dc cc pc (.invokestatic i) 3 pc1)
    (kk : ∀ (r : Int64) (st' : eb_S), K r st' → eb_G l Γ P X cc own nL ret R pc1 lv (.long r :: rest) st' (uc + c) (us + s)) : eb_G l Γ P X cc own nL ret R pc lv stk0 st uc us := by
  refine eg_callSN (rest := rest) hct hq hl1 hini hst har hR ⟨by rw [hz.1]; exact hu.1, by rw [hz.2]; exact hu.2⟩ hn hstk hro hd (fun v st' h => ?_)
  obtain ⟨r, rfl, h⟩ := h
  rw [hz.1, hz.2]
  exact kk r st' h
theorem ec_SNRp {y : MethodName} {bytes : ByteArray} {maxL n i : Nat} {rt : Option FieldType} {rm : Room} {As rest stk0 : List Value} {host : String} {K : Option Nat → Prop} (hct : eb_Ct l Γ y bytes maxL rt rm As st (eb_pR st K)) (hq : Cond.code y bytes maxL rt ∈ lw_all) (hl1 : (own, i, y, host) ∈ eb_nM) (hini : Cond.initialized y.cls ∈ lw_all) (hst : Cond.static y ∈ lw_all) (har : eb_ar y n) (hR : rm.frames + 1 ≤ R.frames ∧ 8 + (maxL + 11) + rm.locals ≤ R.locals) (hz : rm.cells = 0 ∧ rm.slots = 0) (hu : uc ≤ R.cells ∧ us ≤ R.slots) (hn : As.length = n) (hstk : stk0 = As.reverse ++ rest) (hro : (rest.map fun v => v.category).sum ≤ 8) (hd : eb_dc cc pc (.invokestatic i) 3 pc1)
    (kk : ∀ (r : Option Nat), K r → eb_G l Γ P X cc own nL ret R pc1 lv (va_rf r :: rest) st uc us) : eb_G l Γ P X cc own nL ret R pc lv stk0 st uc us := by
  refine eg_callSN (rest := rest) hct hq hl1 hini hst har hR ⟨by rw [hz.1]; exact hu.1, by rw [hz.2]; exact hu.2⟩ hn hstk hro hd (fun v st' h => ?_)
  obtain ⟨r, rfl, rfl, h⟩ := h
  rw [hz.1, hz.2]
  exact kk r h
theorem ec_SNRw {y : MethodName} {bytes : ByteArray} {maxL n i : Nat} {rt : Option FieldType} {rm : Room} {As rest stk0 : List Value} {host : String} {K : Option Nat → eb_S → Prop} (hct : eb_Ct l Γ y bytes maxL rt rm As st (eb_oR K)) (hq : Cond.code y bytes maxL rt ∈ lw_all) (hl1 : (own, i, y, host) ∈ eb_nM) (hini : Cond.initialized y.cls ∈ lw_all) (hst : Cond.static y ∈ lw_all) (har : eb_ar y n) (hR : rm.frames + 1 ≤ R.frames ∧ 8 + (maxL + 11) + rm.locals ≤ R.locals) (hz : rm.cells = 0 ∧ rm.slots = 0) (hu : uc ≤ R.cells ∧ us ≤ R.slots) (hn : As.length = n) (hstk : stk0 = As.reverse ++ rest) (hro : (rest.map fun v => v.category).sum ≤ 8) (hd : eb_dc cc pc (.invokestatic i) 3 pc1)
    (kk : ∀ (r : Option Nat) (st' : eb_S), K r st' → eb_G l Γ P X cc own nL ret R pc1 lv (va_rf r :: rest) st' uc us) : eb_G l Γ P X cc own nL ret R pc lv stk0 st uc us := by
  refine eg_callSN (rest := rest) hct hq hl1 hini hst har hR ⟨by rw [hz.1]; exact hu.1, by rw [hz.2]; exact hu.2⟩ hn hstk hro hd (fun v st' h => ?_)
  obtain ⟨r, rfl, h⟩ := h
  rw [hz.1, hz.2]
  exact kk r st' h
theorem ec_SNRa {y : MethodName} {bytes : ByteArray} {maxL n i : Nat} {rt : Option FieldType} {rm : Room} {As rest stk0 : List Value} {host : String} {K : Option Nat → eb_S → Prop} (hct : eb_Ct l Γ y bytes maxL rt rm As st (eb_oR K)) (hq : Cond.code y bytes maxL rt ∈ lw_all) (hl1 : (own, i, y, host) ∈ eb_nM) (hini : Cond.initialized y.cls ∈ lw_all) (hst : Cond.static y ∈ lw_all) (har : eb_ar y n) (hR : rm.frames + 1 ≤ R.frames ∧ 8 + (maxL + 11) + rm.locals ≤ R.locals) {c s : Nat} (hz : rm.cells = c ∧ rm.slots = s) (hu : uc + c ≤ R.cells ∧ us + s ≤ R.slots) (hn : As.length = n) (hstk : stk0 = As.reverse ++ rest) (hro : (rest.map fun v => v.category).sum ≤ 8) (hd : eb_dc cc pc (.invokestatic i) 3 pc1)
    (kk : ∀ (r : Option Nat) (st' : eb_S), K r st' → eb_G l Γ P X cc own nL ret R pc1 lv (va_rf r :: rest) st' (uc + c) (us + s)) : eb_G l Γ P X cc own nL ret R pc lv stk0 st uc us := by
  refine eg_callSN (rest := rest) hct hq hl1 hini hst har hR ⟨by rw [hz.1]; exact hu.1, by rw [hz.2]; exact hu.2⟩ hn hstk hro hd (fun v st' h => ?_)
  obtain ⟨r, rfl, h⟩ := h
  rw [hz.1, hz.2]
  exact kk r st' h
theorem ec_SNVw {y : MethodName} {bytes : ByteArray} {maxL n i : Nat} {rt : Option FieldType} {rm : Room} {As rest stk0 : List Value} {host : String} {K : eb_S → Prop} (hct : eb_Ct l Γ y bytes maxL rt rm As st (eb_oV K)) (hq : Cond.code y bytes maxL rt ∈ lw_all) (hl1 : (own, i, y, host) ∈ eb_nM) (hini : Cond.initialized y.cls ∈ lw_all) (hst : Cond.static y ∈ lw_all) (har : eb_ar y n) (hR : rm.frames + 1 ≤ R.frames ∧ 8 + (maxL + 11) + rm.locals ≤ R.locals) (hz : rm.cells = 0 ∧ rm.slots = 0) (hu : uc ≤ R.cells ∧ us ≤ R.slots) (hn : As.length = n) (hstk : stk0 = As.reverse ++ rest) (hro : (rest.map fun v => v.category).sum ≤ 8) (hd : eb_dc cc pc (.invokestatic i) 3 pc1)
    (kk : ∀ (st' : eb_S), K st' → eb_G l Γ P X cc own nL ret R pc1 lv (rest) st' uc us) : eb_G l Γ P X cc own nL ret R pc lv stk0 st uc us := by
  refine eg_callSN (rest := rest) hct hq hl1 hini hst har hR ⟨by rw [hz.1]; exact hu.1, by rw [hz.2]; exact hu.2⟩ hn hstk hro hd (fun v st' h => ?_)
  obtain ⟨rfl, h⟩ := h
  rw [hz.1, hz.2]
  exact kk st' h
theorem ec_SNVa {y : MethodName} {bytes : ByteArray} {maxL n i : Nat} {rt : Option FieldType} {rm : Room} {As rest stk0 : List Value} {host : String} {K : eb_S → Prop} (hct : eb_Ct l Γ y bytes maxL rt rm As st (eb_oV K)) (hq : Cond.code y bytes maxL rt ∈ lw_all) (hl1 : (own, i, y, host) ∈ eb_nM) (hini : Cond.initialized y.cls ∈ lw_all) (hst : Cond.static y ∈ lw_all) (har : eb_ar y n) (hR : rm.frames + 1 ≤ R.frames ∧ 8 + (maxL + 11) + rm.locals ≤ R.locals) {c s : Nat} (hz : rm.cells = c ∧ rm.slots = s) (hu : uc + c ≤ R.cells ∧ us + s ≤ R.slots) (hn : As.length = n) (hstk : stk0 = As.reverse ++ rest) (hro : (rest.map fun v => v.category).sum ≤ 8) (hd : eb_dc cc pc (.invokestatic i) 3 pc1)
    (kk : ∀ (st' : eb_S), K st' → eb_G l Γ P X cc own nL ret R pc1 lv (rest) st' (uc + c) (us + s)) : eb_G l Γ P X cc own nL ret R pc lv stk0 st uc us := by
  refine eg_callSN (rest := rest) hct hq hl1 hini hst har hR ⟨by rw [hz.1]; exact hu.1, by rw [hz.2]; exact hu.2⟩ hn hstk hro hd (fun v st' h => ?_)
  obtain ⟨rfl, h⟩ := h
  rw [hz.1, hz.2]
  exact kk st' h
theorem ec_IVw {y : MethodName} {bytes : ByteArray} {maxL n i : Nat} {rm : Room} {As rest stk0 : List Value} {b : Nat}  {K : eb_S → Prop} (hct : eb_Ct l Γ y bytes maxL none rm (.ref b :: As) st (eb_oV K)) (hq : Cond.code y bytes maxL none ∈ lw_all) (hq1 : Cond.initialized y.cls ∈ lw_all) (hq2 : Cond.methodLink own i y ∈ lw_all) (hq3 : Cond.instanceMethod y ∈ lw_all) (hi : y.name = "<init>") (har : eb_ar y n) (hR : rm.frames + 1 ≤ R.frames ∧ 8 + (maxL + 11) + rm.locals ≤ R.locals) (hz : rm.cells = 0 ∧ rm.slots = 0) (hu : uc ≤ R.cells ∧ us ≤ R.slots) (hn : As.length = n) (hstk : stk0 = As.reverse ++ .ref b :: rest) (hro : (rest.map fun v => v.category).sum ≤ 8) (hd : eb_dc cc pc (.invokespecial i) 3 pc1)
    (kk : ∀ (st' : eb_S), K st' → eb_G l Γ P X cc own nL ret R pc1 lv (rest) st' uc us) : eb_G l Γ P X cc own nL ret R pc lv stk0 st uc us := by
  refine eg_callI (rt := none) (rest := rest) hct hq hq1 hq2 hq3 hi har hR ⟨by rw [hz.1]; exact hu.1, by rw [hz.2]; exact hu.2⟩ hn hstk hro hd (fun v st' h => ?_)
  obtain ⟨rfl, h⟩ := h
  rw [hz.1, hz.2]
  exact kk st' h
theorem ec_IVa {y : MethodName} {bytes : ByteArray} {maxL n i : Nat} {rm : Room} {As rest stk0 : List Value} {b : Nat}  {K : eb_S → Prop} (hct : eb_Ct l Γ y bytes maxL none rm (.ref b :: As) st (eb_oV K)) (hq : Cond.code y bytes maxL none ∈ lw_all) (hq1 : Cond.initialized y.cls ∈ lw_all) (hq2 : Cond.methodLink own i y ∈ lw_all) (hq3 : Cond.instanceMethod y ∈ lw_all) (hi : y.name = "<init>") (har : eb_ar y n) (hR : rm.frames + 1 ≤ R.frames ∧ 8 + (maxL + 11) + rm.locals ≤ R.locals) {c s : Nat} (hz : rm.cells = c ∧ rm.slots = s) (hu : uc + c ≤ R.cells ∧ us + s ≤ R.slots) (hn : As.length = n) (hstk : stk0 = As.reverse ++ .ref b :: rest) (hro : (rest.map fun v => v.category).sum ≤ 8) (hd : eb_dc cc pc (.invokespecial i) 3 pc1)
    (kk : ∀ (st' : eb_S), K st' → eb_G l Γ P X cc own nL ret R pc1 lv (rest) st' (uc + c) (us + s)) : eb_G l Γ P X cc own nL ret R pc lv stk0 st uc us := by
  refine eg_callI (rt := none) (rest := rest) hct hq hq1 hq2 hq3 hi har hR ⟨by rw [hz.1]; exact hu.1, by rw [hz.2]; exact hu.2⟩ hn hstk hro hd (fun v st' h => ?_)
  obtain ⟨rfl, h⟩ := h
  rw [hz.1, hz.2]
  exact kk st' h
theorem ec_INVw {y : MethodName} {bytes : ByteArray} {maxL n i : Nat} {rm : Room} {As rest stk0 : List Value} {b : Nat} {host : String} {K : eb_S → Prop} (hct : eb_Ct l Γ y bytes maxL none rm (.ref b :: As) st (eb_oV K)) (hq : Cond.code y bytes maxL none ∈ lw_all) (hl1 : (own, i, y, host) ∈ eb_nM) (hini : Cond.initialized y.cls ∈ lw_all) (hins : Cond.instanceMethod y ∈ lw_all) (hi : y.name = "<init>") (har : eb_ar y n) (hR : rm.frames + 1 ≤ R.frames ∧ 8 + (maxL + 11) + rm.locals ≤ R.locals) (hz : rm.cells = 0 ∧ rm.slots = 0) (hu : uc ≤ R.cells ∧ us ≤ R.slots) (hn : As.length = n) (hstk : stk0 = As.reverse ++ .ref b :: rest) (hro : (rest.map fun v => v.category).sum ≤ 8) (hd : eb_dc cc pc (.invokespecial i) 3 pc1)
    (kk : ∀ (st' : eb_S), K st' → eb_G l Γ P X cc own nL ret R pc1 lv (rest) st' uc us) : eb_G l Γ P X cc own nL ret R pc lv stk0 st uc us := by
  refine eg_callIN (rest := rest) hct hq hl1 hini hins hi har hR ⟨by rw [hz.1]; exact hu.1, by rw [hz.2]; exact hu.2⟩ hn hstk hro hd (fun v st' h => ?_)
  obtain ⟨rfl, h⟩ := h
  rw [hz.1, hz.2]
  exact kk st' h
theorem ec_INVa {y : MethodName} {bytes : ByteArray} {maxL n i : Nat} {rm : Room} {As rest stk0 : List Value} {b : Nat} {host : String} {K : eb_S → Prop} (hct : eb_Ct l Γ y bytes maxL none rm (.ref b :: As) st (eb_oV K)) (hq : Cond.code y bytes maxL none ∈ lw_all) (hl1 : (own, i, y, host) ∈ eb_nM) (hini : Cond.initialized y.cls ∈ lw_all) (hins : Cond.instanceMethod y ∈ lw_all) (hi : y.name = "<init>") (har : eb_ar y n) (hR : rm.frames + 1 ≤ R.frames ∧ 8 + (maxL + 11) + rm.locals ≤ R.locals) {c s : Nat} (hz : rm.cells = c ∧ rm.slots = s) (hu : uc + c ≤ R.cells ∧ us + s ≤ R.slots) (hn : As.length = n) (hstk : stk0 = As.reverse ++ .ref b :: rest) (hro : (rest.map fun v => v.category).sum ≤ 8) (hd : eb_dc cc pc (.invokespecial i) 3 pc1)
    (kk : ∀ (st' : eb_S), K st' → eb_G l Γ P X cc own nL ret R pc1 lv (rest) st' (uc + c) (us + s)) : eb_G l Γ P X cc own nL ret R pc lv stk0 st uc us := by
  refine eg_callIN (rest := rest) hct hq hl1 hini hins hi har hR ⟨by rw [hz.1]; exact hu.1, by rw [hz.2]; exact hu.2⟩ hn hstk hro hd (fun v st' h => ?_)
  obtain ⟨rfl, h⟩ := h
  rw [hz.1, hz.2]
  exact kk st' h
end TROWS

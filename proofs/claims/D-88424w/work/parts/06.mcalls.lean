set_option maxRecDepth 100000
/-- the end of a method that changes nothing: an int -/
def eb_pI (st : eb_S) (K : Int32 → Prop) : Option Value → eb_S → Prop := fun v st' => ∃ r : Int32, v = some (.int r) ∧ st' = st ∧ K r
/-- the ends of the model's methods that change its state -/
def em_I (Γ : eb_C) (ad : Nat → Nat) (ix : Nat → Option Nat) (K : Int32 → eb_MS → Prop) : Option Value → eb_S → Prop := fun v st' => ∃ (r : Int32) (σ' : eb_MS), v = some (.int r) ∧ st' = ms_st Γ ad ix σ' ∧ K r σ'
def em_L (Γ : eb_C) (ad : Nat → Nat) (ix : Nat → Option Nat) (K : Int64 → eb_MS → Prop) : Option Value → eb_S → Prop := fun v st' => ∃ (r : Int64) (σ' : eb_MS), v = some (.long r) ∧ st' = ms_st Γ ad ix σ' ∧ K r σ'
def em_V (Γ : eb_C) (ad : Nat → Nat) (ix : Nat → Option Nat) (K : eb_MS → Prop) : Option Value → eb_S → Prop := fun v st' => ∃ σ' : eb_MS, v = none ∧ st' = ms_st Γ ad ix σ' ∧ K σ'
section MCALLS
variable {l : Launch} {Γ : eb_C} {P : Option Value → eb_S → Prop} {X : eb_X} {cc : ByteArray} {own : String} {nL : Nat} {ret : Option FieldType} {R : Room} {pc pc1 : Nat} {lv : eb_L} {stk0 rest As : List Value} {st : eb_S} {σ : eb_MS} {ad : Nat → Nat} {ix : Nat → Option Nat} {uc us : Nat}
variable {y : MethodName} {bytes : ByteArray} {maxL n i : Nat} {rt : Option FieldType} {rm : Room}
/-- a static call that changes nothing -/
theorem eg_csp {K : Int32 → Prop} (hct : eb_Ct l Γ y bytes maxL rt rm As st (eb_pI st K)) (hg : GoodIn lw_all (va_wsS own i y (ws_ y bytes maxL rt))) (har : eb_ar y n) (hR : rm.frames + 1 ≤ R.frames ∧ 8 + (maxL + 11) + rm.locals ≤ R.locals) (hz : rm.cells = 0 ∧ rm.slots = 0) (hc : uc ≤ R.cells ∧ us ≤ R.slots) (hn : As.length = n) (hstk : stk0 = As.reverse ++ rest) (hro : (rest.map fun v => v.category).sum ≤ 8) (hd : eb_dc cc pc (.invokestatic i) 3 pc1)
    (kk : ∀ r : Int32, K r → eb_G l Γ P X cc own nL ret R pc1 lv (.int r :: rest) st uc us) : eb_G l Γ P X cc own nL ret R pc lv stk0 st uc us := by
  refine eg_callS (rest := rest) hct hg har hR ⟨by rw [hz.1]; exact hc.1, by rw [hz.2]; exact hc.2⟩ hn hstk hro hd (fun v st' h => ?_)
  obtain ⟨r, rfl, rfl, h⟩ := h
  rw [hz.1, hz.2]
  exact kk r h
/-- a call of the model's that changes nothing -/
theorem em_cvp {K : Int32 → Prop} (hct : eb_Ct l Γ y bytes maxL rt rm (.ref (ad 0) :: As) (ms_st Γ ad ix σ) (eb_pI (ms_st Γ ad ix σ) K)) (hi : ms_inv ad ix) (hg : GoodIn lw_all (wsV own i RX2 y (ws_ y bytes maxL rt))) (hC : y.cls = RX2) (har : eb_ar y n) (hR : rm.frames + 1 ≤ R.frames ∧ 8 + (maxL + 11) + rm.locals ≤ R.locals) (hz : rm.cells = 0 ∧ rm.slots = 0) (hc : uc ≤ R.cells ∧ us ≤ R.slots) (hn : As.length = n) (hstk : stk0 = As.reverse ++ .ref (ad 0) :: rest) (hro : (rest.map fun v => v.category).sum ≤ 8) (hd : eb_dc cc pc (.invokevirtual i) 3 pc1)
    (kk : ∀ r : Int32, K r → eb_G l Γ P X cc own nL ret R pc1 lv (.int r :: rest) (ms_st Γ ad ix σ) uc us) : eb_G l Γ P X cc own nL ret R pc lv stk0 (ms_st Γ ad ix σ) uc us := by
  refine eg_callV (rest := rest) hct hg hC har hR ⟨by rw [hz.1]; exact hc.1, by rw [hz.2]; exact hc.2⟩ (ms_at0 hi) rfl hn hstk hro hd (fun v st' h => ?_)
  obtain ⟨r, rfl, rfl, h⟩ := h
  rw [hz.1, hz.2]
  exact kk r h
theorem em_cvi {K : Int32 → eb_MS → Prop} (hct : eb_Ct l Γ y bytes maxL rt rm (.ref (ad 0) :: As) (ms_st Γ ad ix σ) (em_I Γ ad ix K)) (hi : ms_inv ad ix) (hg : GoodIn lw_all (wsV own i RX2 y (ws_ y bytes maxL rt))) (hC : y.cls = RX2) (har : eb_ar y n) (hR : rm.frames + 1 ≤ R.frames ∧ 8 + (maxL + 11) + rm.locals ≤ R.locals) (hz : rm.cells = 0 ∧ rm.slots = 0) (hc : uc ≤ R.cells ∧ us ≤ R.slots) (hn : As.length = n) (hstk : stk0 = As.reverse ++ .ref (ad 0) :: rest) (hro : (rest.map fun v => v.category).sum ≤ 8) (hd : eb_dc cc pc (.invokevirtual i) 3 pc1)
    (kk : ∀ (r : Int32) (σ' : eb_MS), K r σ' → eb_G l Γ P X cc own nL ret R pc1 lv (.int r :: rest) (ms_st Γ ad ix σ') uc us) : eb_G l Γ P X cc own nL ret R pc lv stk0 (ms_st Γ ad ix σ) uc us := by
  refine eg_callV (rest := rest) hct hg hC har hR ⟨by rw [hz.1]; exact hc.1, by rw [hz.2]; exact hc.2⟩ (ms_at0 hi) rfl hn hstk hro hd (fun v st' h => ?_)
  obtain ⟨r, σ', rfl, rfl, h⟩ := h
  rw [hz.1, hz.2]
  exact kk r σ' h
theorem em_cvv {K : eb_MS → Prop} (hct : eb_Ct l Γ y bytes maxL rt rm (.ref (ad 0) :: As) (ms_st Γ ad ix σ) (em_V Γ ad ix K)) (hi : ms_inv ad ix) (hg : GoodIn lw_all (wsV own i RX2 y (ws_ y bytes maxL rt))) (hC : y.cls = RX2) (har : eb_ar y n) (hR : rm.frames + 1 ≤ R.frames ∧ 8 + (maxL + 11) + rm.locals ≤ R.locals) (hz : rm.cells = 0 ∧ rm.slots = 0) (hc : uc ≤ R.cells ∧ us ≤ R.slots) (hn : As.length = n) (hstk : stk0 = As.reverse ++ .ref (ad 0) :: rest) (hro : (rest.map fun v => v.category).sum ≤ 8) (hd : eb_dc cc pc (.invokevirtual i) 3 pc1)
    (kk : ∀ σ' : eb_MS, K σ' → eb_G l Γ P X cc own nL ret R pc1 lv rest (ms_st Γ ad ix σ') uc us) : eb_G l Γ P X cc own nL ret R pc lv stk0 (ms_st Γ ad ix σ) uc us := by
  refine eg_callV (rest := rest) hct hg hC har hR ⟨by rw [hz.1]; exact hc.1, by rw [hz.2]; exact hc.2⟩ (ms_at0 hi) rfl hn hstk hro hd (fun v st' h => ?_)
  obtain ⟨σ', rfl, rfl, h⟩ := h
  rw [hz.1, hz.2]
  exact kk σ' h
end MCALLS

set_option maxRecDepth 100000
/-- an array of m arrays of n ints -/
def eb_mm (Γ : eb_C) (st : eb_S) (m n : Int32) (bc bs uc us : Nat) (K : Nat → eb_S → Prop) : Prop := (0 < m ∧ m ≤ 4) ∧ eb_ok1 n ∧ uc + (1 + m.toNatClampNeg) ≤ bc ∧ us + (m.toNatClampNeg + m.toNatClampNeg * n.toNatClampNeg) ≤ bs ∧
  ∀ a : Nat, (∀ i, i ≤ m.toNatClampNeg → st (a + i) = none) → ∀ st' : eb_S, st' = (fun q => if q = a then some (eb_ra Γ 5 m.toNatClampNeg (fun i => some (a + 1 + i))) else if a < q ∧ q ≤ a + m.toNatClampNeg then some (eb_ia Γ 0 n.toNatClampNeg (fun _ => 0)) else st q) → K a st'
section MULTI
variable {l : Launch} {Γ : eb_C} {P : Option Value → eb_S → Prop} {X : eb_X} {cc : ByteArray} {own : String} {nL : Nat} {ret : Option FieldType} {R : Room} {pc pc1 tgt : Nat} {lv lv' : eb_L} {stk : List Value} {st : eb_S} {uc us : Nat}
theorem eg_multi {i : Nat} {m n : Int32} {K : Nat → eb_S → Prop} (hcl : Cond.classLink own i "[[I" ∈ lw_all) (h : eb_mm Γ st m n R.cells R.slots uc us K) (hd : eb_dc cc pc (.multianewarray i 2) 4 pc1) (kk : ∀ (a : Nat) (st' : eb_S), K a st' → eb_G l Γ P X cc own nL ret R pc1 lv (.ref a :: stk) st' (uc + (1 + m.toNatClampNeg)) (us + (m.toNatClampNeg + m.toNatClampNeg * n.toNatClampNeg))) : eb_G l Γ P X cc own nL ret R pc lv (.int n :: .int m :: stk) st uc us := by
  sorry
end MULTI

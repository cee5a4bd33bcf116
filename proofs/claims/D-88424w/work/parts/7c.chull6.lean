set_option maxRecDepth 100000
section HI2
variable {Γ : eb_C} {st st' : eb_S} {I I' : Nat → va_E → Prop} {bc bs : Nat} {a : Nat → Nat} {D : eb_D} {d : cBT} {gp : Nat}
/-- the faces come: all kinds of two mirrors -/
theorem sc_hfaces {q net pj pm ps pk pr pf : Nat} {fj fm f3 f4 fr ff : Nat → Int32} {row : Nat} {f : Nat → Int32} {u0 w0 : Nat} {F : eb_S → Nat → Nat → Prop} (h : bX Γ st I a D d gp) (h3 : ok3 D) (hB0 : hB Γ st q (a 0) net pj pm ps pk pr pf D 0 (cHB D 0 0) fj fm f3 f4 fr ff)
    (hO : ∀ x, (x = q ∨ x = net ∨ x = pj ∨ x = pm ∨ x = ps ∨ x = pk ∨ x = pr ∨ x = pf) → ownC I a x) (hn : (¬ ps = pk ∧ ¬ q = ps ∧ ¬ q = pk) ∧ (¬ net = ps ∧ ¬ net = pk ∧ ¬ net = q) ∧ (¬ pj = ps ∧ ¬ pj = pk ∧ ¬ pj = q) ∧ (¬ pm = ps ∧ ¬ pm = pk ∧ ¬ pm = q) ∧ (¬ pr = ps ∧ ¬ pr = pk ∧ ¬ pr = q) ∧ (¬ pf = ps ∧ ¬ pf = pk ∧ ¬ pf = q)) (hrI : I row (eb_ia Γ 3 (ZD D) f)) (hf : ∀ g, g < ZD D → f g = nI (PN D 0 g)) (hbc : u0 + 6 ≤ bc) (hbs : w0 + 3000 ≤ bs)
    (hK : ∀ st' I' d' f3' f4' u w, bX Γ st' I' a D d' gp → sf [q, ps, pk, a 2, a 3] st st' → (∀ b y, I b y → I' b y) → (∀ b y, I' b y → I b y ∨ (st' b = some y ∧ st b = none)) → bKK d d' → hS Γ st' q (a 0) net pj pm ps pk pr pf D fj fm f3' f4' fr ff → u ≤ u0 + 6 → w ≤ w0 + 3000 → F st' u w) :
    eb_jp3 F (fun k51 => eb_loop4 (fun r56 (x3_52 : Int32) (g53 : eb_S) (u54 : Nat) (w55 : Nat) => eb_cs g53 (a 0) [1] ∧ MX1_all Γ g53 (a 0) (fun v57 => eb_br (v57 < x3_52) (k51 g53 u54 w55) (MJ1_bitCount x3_52 (fun v61 => eb_jp3 (fun (g65 : eb_S) (u66 : Nat) (w67 : Nat) => r56 (x3_52 + 1) g65 u66 w67) (fun k68 => eb_br (v61 = 2) (eb_cs g53 (a 0) [1] ∧ MX1_isKind Γ g53 (a 0) x3_52 (fun v69 => eb_br (v69 = 0) (k68 g53 u54 w55) (eb_cs g53 (a 0) [1] ∧ ∃ c75 s76 : Nat, (u54 + c75 ≤ bc ∧ w55 + s76 ≤ bs) ∧ MX1_parts Γ c75 s76 g53 (a 0) x3_52 (fun v73 g74 => eb_jp1 (fun (g77 : eb_S) => eb_gi g77 q 11 2 (fun v78 => eb_cs g77 (a 0) [1] ∧ ∃ c81 s82 : Nat, ((u54 + c75) + c81 ≤ bc ∧ (w55 + s76) + s82 ≤ bs) ∧ MX1_many Γ c81 s82 g77 (a 0) x3_52 (fun v79 g80 => eb_pt g80 q 11 2 (.int (v78 + v79)) (fun g83 => k68 g83 (((u54 + c75) + c81)) (((w55 + s76) + s82)))))) (fun k84 => eb_loop2 (fun r87 (x5_85 : Int32) (g86 : eb_S) => eb_gr g86 (a 0) 1 3 (fun v88 => eb_nn v88 (fun p89 => eb_gi g86 p89 7 1 (fun v90 => eb_br (v90 ≤ x5_85) (k84 g86) (eb_gi g86 q 11 2 (fun v91 => eb_nn v73 (fun p92 => eb_li Γ g86 p92 3 x5_85 (fun v93 => eb_nn (some row) (fun p94 => eb_li Γ g86 p94 3 x5_85 (fun v95 => eb_cs g86 q [11] ∧ MX12_comes Γ g86 q (v91 + v93) v95 (fun g97 => r87 (x5_85 + 1) g97))))))))))) 0 g74))))) (k68 g53 u54 w55)))))) 0 st u0 w0) := by
  have hv := h3.1
  have hz := h3.2.1
  have hr3 := h3.2.2
  have hzl := ZD_le hv
  have hNl := u_N h3
  obtain ⟨hG, he1, he2, he3⟩ := TD_ok hv hz
  have m1 : ∀ {x y : Nat}, ¬ x = y → x ∉ [y] := fun h z => h (List.mem_singleton.mp z)
  have m2 : ∀ {x y z : Nat}, ¬ x = y → ¬ x = z → x ∉ [y, z] := fun {x y z} h1 h2 w => by
    simp only [List.mem_cons, List.not_mem_nil, or_false] at w
    exact w.elim h1 h2
  have hFA : ∀ S m f c, cHB D S m f c = true → FA D f c = true := fun S m f c hc => by
    obtain ⟨g, k, z1, z2, z3, _, z5, z6⟩ := cHB_iff.mp hc
    exact FA_iff.mpr ⟨g, k, z1, z2, z3, z5, z6⟩
  refine jp_3 F (fun _ _ _ z => z) (fun k51 hk51 => ?_)
  refine eb_loop4_i (fun (x3 : Int32) (g : eb_S) (u w : Nat) => ∃ S I' d' f3' f4' n, S ≤ 8 ∧ x3 = nI S ∧ bX Γ g I' a D d' gp ∧ sf [q, ps, pk, a 2, a 3] st g ∧ (∀ b y, I b y → I' b y) ∧ (∀ b y, I' b y → I b y ∨ (g b = some y ∧ st b = none)) ∧ bKK d d' ∧ hB Γ g q (a 0) net pj pm ps pk pr pf D (foff D S) (cHB D S 0) fj fm f3' f4' fr ff ∧ (∀ x, (x = q ∨ x = net ∨ x = pj ∨ x = pm ∨ x = ps ∨ x = pk ∨ x = pr ∨ x = pf) → ownC I' a x) ∧ u = u0 + 2 * n ∧ w = w0 + 1000 * n ∧ n ≤ (if 3 < S then 1 else 0) + (if 5 < S then 1 else 0) + (if 6 < S then 1 else 0)) (fun x3 _ _ _ => 100 - x3.toNatClampNeg) ?_ ⟨0, I, d, f3, f4, 0, by omega, rfl, h, sf.rf _ _, fun _ _ z => z, fun _ _ z => Or.inl z, bKK.rf d, hB0, hO, rfl, rfl, Nat.zero_le _⟩
  rintro R _ g _ _ ⟨S, I1, d1, f3', f4', n, hS8, rfl, hX, hs, hI1, hN1, hk1, hBg, hO1, rfl, rfl, hnb⟩ hR
  refine ⟨hX.body.cs, sc_all hv hX.body ?_⟩
  rw [hr3, show 2 ^ 3 - 1 = 7 from rfl]
  refine br_lt (by omega) (by omega) (fun h1 => ?_) (fun h1 => ?_)
  · have eS : S = 8 := by omega
    subst eS
    refine hk51 _ _ _ (hK g I1 d1 f3' f4' _ _ hX hs hI1 hN1 hk1 ?_ ?_ ?_)
    · obtain ⟨b1, b2, b3, b4, b5, b6, b7⟩ := hBg
      refine ⟨by rw [b1, foff_8], b2, b3, b4, b5.cg (fun f c _ => Bool_ext ?_), b6, b7⟩
      rw [cHB_iff, FA_iff]
      constructor
      · rintro ⟨g, k, z1, z2, z3, _, z5, z6⟩
        exact ⟨g, k, z1, z2, z3, z5, z6⟩
      · rintro ⟨g, k, z1, z2, z3, z5, z6⟩
        refine ⟨g, k, z1, z2, z3, Or.inl ?_, z5, z6⟩
        obtain ⟨e0, e1, e2⟩ := fS_v
        have : k = 0 ∨ k = 1 ∨ k = 2 := by omega
        rcases this with rfl | rfl | rfl <;> omega
    · have : n ≤ 3 := hnb
      omega
    · have : n ≤ 3 := hnb
      omega
  · have hS : S < 8 := by omega
    have hS16 : S < 2 ^ D.1 := by rw [hr3]; exact hS
    refine sc_bitCount (by omega) ?_
    have hpc := pc_2 S hS
    refine jp_3 (fun (g : eb_S) (u w : Nat) => ∃ I' d' f3' f4' n, bX Γ g I' a D d' gp ∧ sf [q, ps, pk, a 2, a 3] st g ∧ (∀ b y, I b y → I' b y) ∧ (∀ b y, I' b y → I b y ∨ (g b = some y ∧ st b = none)) ∧ bKK d d' ∧ hB Γ g q (a 0) net pj pm ps pk pr pf D (foff D (S + 1)) (cHB D (S + 1) 0) fj fm f3' f4' fr ff ∧ (∀ x, (x = q ∨ x = net ∨ x = pj ∨ x = pm ∨ x = ps ∨ x = pk ∨ x = pr ∨ x = pf) → ownC I' a x) ∧ u = u0 + 2 * n ∧ w = w0 + 1000 * n ∧ n ≤ (if 3 < S + 1 then 1 else 0) + (if 5 < S + 1 then 1 else 0) + (if 6 < S + 1 then 1 else 0)) ?_ ?_
    · rintro g u w ⟨I2, d2, f32, f42, n2, hrest⟩
      rw [nI_1]
      refine hR _ _ _ _ ⟨S + 1, I2, d2, f32, f42, n2, by omega, rfl, hrest⟩ ?_
      rw [nI_cl (by omega), nI_cl (by omega)]; omega
    · intro k68 hk68
      -- nothing comes by this set
      have skip : (∀ k, k < 3 → kdD D k = true → ¬ fS k = S) → k68 g (u0 + 2 * n) (w0 + 1000 * n) := fun hno => by
        refine hk68 _ _ _ ⟨I1, d1, f3', f4', n, hX, hs, hI1, hN1, hk1, ?_, hO1, rfl, rfl, Nat.le_trans hnb ?_⟩
        · obtain ⟨b1, b2, b3, b4, b5, b6, b7⟩ := hBg
          refine ⟨by rw [b1, foff_o hno], b2, b3, b4, b5.cg (fun f c _ => Bool_ext ?_), b6, b7⟩
          rw [cHB_iff, cHB_iff]
          constructor
          · rintro ⟨g, k, z1, z2, z3, z4, z5, z6⟩
            exact ⟨g, k, z1, z2, z3, by omega, z5, z6⟩
          · rintro ⟨g, k, z1, z2, z3, z4, z5, z6⟩
            have := hno k z2 z3
            exact ⟨g, k, z1, z2, z3, by omega, z5, z6⟩
        · split <;> split <;> split <;> split <;> split <;> split <;> omega
      refine br_eq (b := 2) (by have := pc4_le S; omega) (by omega) (fun h2 => ?_) (fun h2 => skip (fun k hk _ => hpc.2 h2 k hk))
      obtain ⟨k0, hk0, rfl⟩ := hpc.1 h2
      refine ⟨hX.body.cs, sc_isKind hv hX.body hS16 (cond_br (fun h4 => skip (fun k hk hkd e => ?_)) (fun h4 => ?_))⟩
      · have : isK D (fS k) = true := hkd
        rw [e, h4] at this
        exact Bool.noConfusion this
      · have hkd : kdD D k0 = true := h4
        have hn1 : n + 1 ≤ (if 3 < fS k0 + 1 then 1 else 0) + (if 5 < fS k0 + 1 then 1 else 0) + (if 6 < fS k0 + 1 then 1 else 0) := by
          obtain ⟨e0, e1, e2⟩ := fS_v
          have : k0 = 0 ∨ k0 = 1 ∨ k0 = 2 := by omega
          rcases this with rfl | rfl | rfl
          · rw [e0] at hnb ⊢; simp at hnb ⊢; omega
          · rw [e1] at hnb ⊢; simp at hnb ⊢; omega
          · rw [e2] at hnb ⊢; simp at hnb ⊢; omega
        have hn3 : n + 1 ≤ 3 := Nat.le_trans hn1 (by split <;> split <;> split <;> omega)
        refine ⟨hX.body.cs, 2, 1000, ⟨by omega, by omega⟩, sc_partsX hX hS16 (Or.inr ⟨Nat.le_refl _, Nat.le_refl _⟩) (fun s2 I2 d2 rq f2 hX2 g2 hI2 hN2 hk2 hq2 hqI2 hf2 _ => ?_)⟩
        -- the hull's cells are still there
        have own1 : ∀ {x : Nat}, ownC I1 a x → x ∉ [a 2, a 3] := fun hx => m2 (fun z => hx.1 2 (by omega) z.symm) (fun z => hx.1 3 (by omega) z.symm)
        have hB2 : hB Γ s2 q (a 0) net pj pm ps pk pr pf D (foff D (fS k0)) (cHB D (fS k0) 0) fj fm f3' f4' fr ff := by
          obtain ⟨b1, b2, b3, b4, b5, b6, b7⟩ := hBg
          exact ⟨g2 _ _ b1 (own1 (hO1 _ (by simp))), ⟨b2.1, g2 _ _ b2.2.1 (own1 (hO1 _ (by simp))), g2 _ _ b2.2.2.1 (own1 (hO1 _ (by simp))), g2 _ _ b2.2.2.2.1 (own1 (hO1 _ (by simp))), b2.2.2.2.2⟩, g2 _ _ b3 (own1 (hO1 _ (by simp))), g2 _ _ b4 (own1 (hO1 _ (by simp))), b5, g2 _ _ b6 (own1 (hO1 _ (by simp))), g2 _ _ b7 (own1 (hO1 _ (by simp)))⟩
        have hO2 : ∀ x, (x = q ∨ x = net ∨ x = pj ∨ x = pm ∨ x = ps ∨ x = pk ∨ x = pr ∨ x = pf) → ownC I2 a x := fun x hx => by
          have hst : ∃ y, g x = some y := by
            obtain ⟨b1, b2, b3, b4, b5, b6, b7⟩ := hBg
            rcases hx with rfl | rfl | rfl | rfl | rfl | rfl | rfl | rfl
            · exact ⟨_, b1⟩
            · exact ⟨_, b2.2.1⟩
            · exact ⟨_, b2.2.2.1⟩
            · exact ⟨_, b2.2.2.2.1⟩
            · exact ⟨_, b3⟩
            · exact ⟨_, b4⟩
            · exact ⟨_, b6⟩
            · exact ⟨_, b7⟩
          obtain ⟨y, hy⟩ := hst
          exact (hO1 x hx).mono hy hN2
        have hs2 : sf [q, ps, pk, a 2, a 3] st s2 := hs.tr (g2.up (fun k hk => by
          simp only [List.mem_cons, List.not_mem_nil, or_false] at hk
          rcases hk with z | z <;> rw [z] <;> simp))
        have hNs : ∀ b y, I2 b y → I b y ∨ st b = none := fun b y hb => by
          rcases hN2 b y hb with z | ⟨_, z⟩
          · rcases hN1 b y z with w | ⟨_, w⟩
            · exact Or.inl w
            · exact Or.inr w
          · refine Or.inr ?_
            cases hh : st b with
            | none => rfl
            | some y' =>
              have hbn : b ∉ [q, ps, pk, a 2, a 3] := fun w => by
                simp only [List.mem_cons, List.not_mem_nil, or_false] at w
                rcases w with w | w | w | w | w
                · exact (hO2 b (Or.inl w)).2 y hb
                · exact (hO2 b (by simp [w])).2 y hb
                · exact (hO2 b (by simp [w])).2 y hb
                · exact (hX2.2.2.2.2.2.2.1 b y hb).2 2 (by omega) w
                · exact (hX2.2.2.2.2.2.2.1 b y hb).2 3 (by omega) w
              have := hs _ _ hh hbn
              rw [z] at this
              exact absurd this (by simp)
        have kX : ∀ s, sf [ps, pk] s2 s → bX Γ s I2 a D d2 gp := fun s hs' => hX2.keep (I' := I2) hs' (fun w hw => by
          simp only [List.mem_cons, List.not_mem_nil, or_false] at hw
          rcases hw with rfl | rfl
          · exact hO2 _ (by simp)
          · exact hO2 _ (by simp)) (fun _ _ z => z) (fun _ _ z => Or.inl z)
        have hns := hn
        obtain ⟨n1', n2', n3', n4', n5', n6'⟩ := hn
        have kB : ∀ {s : eb_S} {A : Nat → Nat → Bool} {f3'' f4'' : Nat → Int32}, sf [ps, pk] s2 s → s ps = some (eb_ia Γ 0 150 f3'') → s pk = some (eb_ia Γ 0 1800 f4'') → rB (NP D 0) A f3'' f4'' → hB Γ s q (a 0) net pj pm ps pk pr pf D (foff D (fS k0)) A fj fm f3'' f4'' fr ff := fun hs' w3 w4 hr' => by
          obtain ⟨b1, b2, b3, b4, b5, b6, b7⟩ := hB2
          exact ⟨hs' _ _ b1 (m2 n1'.2.1 n1'.2.2), ⟨b2.1, hs' _ _ b2.2.1 (m2 n2'.1 n2'.2.1), hs' _ _ b2.2.2.1 (m2 n3'.1 n3'.2.1), hs' _ _ b2.2.2.2.1 (m2 n4'.1 n4'.2.1), b2.2.2.2.2⟩, w3, w4, hr', hs' _ _ b6 (m2 n5'.1 n5'.2.1), hs' _ _ b7 (m2 n6'.1 n6'.2.1)⟩
        refine jp_1 (fun s => ∃ f3'' f4'', sf [ps, pk] s2 s ∧ hB Γ s q (a 0) net pj pm ps pk pr pf D (foff D (fS k0)) (cHB D (fS k0 + 1) 0) fj fm f3'' f4'' fr ff) ?_ ?_
        · rintro s ⟨f3'', f4'', hs', hBs⟩
          have hXs := kX s hs'
          refine st_gi hBs.1 rfl ⟨hXs.body.cs, 0, 0, ⟨by omega, by omega⟩, sc_manyX hXs hS16 (Or.inl (by rw [hq2]; simp)) (fun s4 I4 d4 hX4 g4 hI4 hN4 hk4 _ => ?_)⟩
          rw [nI_add]
          have own2 : ∀ {x : Nat}, ownC I2 a x → x ∉ [a 2, a 3] := fun hx => m2 (fun z => hx.1 2 (by omega) z.symm) (fun z => hx.1 3 (by omega) z.symm)
          obtain ⟨b1, b2, b3, b4, b5, b6, b7⟩ := hBs
          refine st_pt (g4 _ _ b1 (own2 (hO2 _ (by simp)))) (by simp) (fun s5 g5 w5 => ?_)
          have kk : ∀ {x : Nat} {y : va_E}, (x = net ∨ x = pj ∨ x = pm ∨ x = ps ∨ x = pk ∨ x = pr ∨ x = pf) → ¬ x = q → s x = some y → s5 x = some y := fun {x y} hx hxq hy => g5 _ _ (g4 _ _ hy (own2 (hO2 _ (Or.inr hx)))) (m1 hxq)
          have eo := (foff_k (D := D) hk0).2
          have eM : fM D k0 = NP D (fS k0) := by unfold fM; rw [h4]; rfl
          have hO4 : ∀ x, (x = q ∨ x = net ∨ x = pj ∨ x = pm ∨ x = ps ∨ x = pk ∨ x = pr ∨ x = pf) → ownC I4 a x := fun x hx => by
            have hst : ∃ y, s x = some y := by
              rcases hx with rfl | rfl | rfl | rfl | rfl | rfl | rfl | rfl
              · exact ⟨_, b1⟩
              · exact ⟨_, b2.2.1⟩
              · exact ⟨_, b2.2.2.1⟩
              · exact ⟨_, b2.2.2.2.1⟩
              · exact ⟨_, b3⟩
              · exact ⟨_, b4⟩
              · exact ⟨_, b6⟩
              · exact ⟨_, b7⟩
            obtain ⟨y, hy⟩ := hst
            exact (hO2 x hx).mono hy hN4
          have hX5 : bX Γ s5 I4 a D d4 gp := hX4.keep (I' := I4) g5 (fun w hw => by rw [List.mem_singleton.mp hw]; exact hO4 q (Or.inl rfl)) (fun _ _ z => z) (fun _ _ z => Or.inl z)
          have hs5 : sf [q, ps, pk, a 2, a 3] st s5 := ((hs2.tr (hs'.up (fun k hk => by
            simp only [List.mem_cons, List.not_mem_nil, or_false] at hk
            rcases hk with z | z <;> rw [z] <;> simp))).tr (g4.up (fun k hk => by
            simp only [List.mem_cons, List.not_mem_nil, or_false] at hk
            rcases hk with z | z <;> rw [z] <;> simp))).tr (g5.up (fun k hk => by rw [List.mem_singleton.mp hk]; simp))
          refine hk68 _ _ _ ⟨I4, d4, f3'', f4'', n + 1, hX5, hs5, fun b y z => hI4 _ _ (hI2 _ _ (hI1 _ _ z)), fun b y hb => ?_, (hk1.tr hk2).tr hk4, ⟨?_, ⟨b2.1, kk (by simp) n2'.2.2 b2.2.1, kk (by simp) n3'.2.2 b2.2.2.1, kk (by simp) n4'.2.2 b2.2.2.2.1, b2.2.2.2.2⟩, kk (by simp) (fun z => n1'.2.1 z.symm) b3, kk (by simp) (fun z => n1'.2.2 z.symm) b4, b5, kk (by simp) n5'.2.2 b6, kk (by simp) n6'.2.2 b7⟩, hO4, by omega, by omega, hn1⟩
          · rcases hN4 b y hb with z | ⟨_, z⟩
            · rcases hNs b y z with w | w
              · exact Or.inl w
              · exact Or.inr ⟨hX5.fz _ _ hb, w⟩
            · refine Or.inr ⟨hX5.fz _ _ hb, ?_⟩
              cases hh : st b with
              | none => rfl
              | some y' =>
                have hbn : b ∉ [q, ps, pk, a 2, a 3] := fun w => by
                  simp only [List.mem_cons, List.not_mem_nil, or_false] at w
                  rcases w with w | w | w | w | w
                  · exact (hO4 b (Or.inl w)).2 y hb
                  · exact (hO4 b (by simp [w])).2 y hb
                  · exact (hO4 b (by simp [w])).2 y hb
                  · exact (hX5.2.2.2.2.2.2.1 b y hb).2 2 (by omega) w
                  · exact (hX5.2.2.2.2.2.2.1 b y hb).2 3 (by omega) w
                have hbn2 : b ∉ [ps, pk] := fun w => hbn (by
                  simp only [List.mem_cons, List.not_mem_nil, or_false] at w
                  rcases w with w | w <;> simp [w])
                have := hs' _ _ (hs2 _ _ hh hbn) hbn2
                rw [z] at this
                exact absurd this (by simp)
          · rw [w5, eo, eM]; rfl
        · intro k84 hk84
          have w3 := hB2.2.2.1
          have w4 := hB2.2.2.2.1
          refine eb_loop2_i (fun x5 s => ∃ m f3'' f4'', m ≤ ZD D ∧ x5 = nI m ∧ sf [ps, pk] s2 s ∧ hB Γ s q (a 0) net pj pm ps pk pr pf D (foff D (fS k0)) (cHB D (fS k0) m) fj fm f3'' f4'' fr ff) (fun x5 _ => 1000 - x5.toNatClampNeg) ?_ ⟨0, f3', f4', by omega, rfl, sf.rf _ _, hB2⟩
          rintro R2 _ s ⟨m, f3'', f4'', hm, rfl, hs', hBs⟩ hR2
          have hXs := kX s hs'
          refine st_gr (hXs.1.1 0 (by omega)) (v := some gp) (by rw [← hXs.2.2.2.2.1]; rfl) (st_nn (hXs.2.2.2.2.2.1.n hXs.fz ?_))
          rw [he3]
          refine br_le (by omega) (by omega) (fun h5 => hk84 _ ⟨f3'', f4'', hs', ?_⟩) (fun h5 => ?_)
          · obtain ⟨b1, b2, b3, b4, b5, b6, b7⟩ := hBs
            refine ⟨b1, b2, b3, b4, b5.cg (fun f c _ => Bool_ext ?_), b6, b7⟩
            rw [cHB_iff, cHB_iff]
            constructor
            · rintro ⟨g, k, z1, z2, z3, z4, z5, z6⟩
              exact ⟨g, k, z1, z2, z3, by omega, z5, z6⟩
            · rintro ⟨g, k, z1, z2, z3, z4, z5, z6⟩
              exact ⟨g, k, z1, z2, z3, by omega, z5, z6⟩
          · have hmZ : m < ZD D := by omega
            have hrI2 := hI2 _ _ (hI1 _ _ hrI)
            refine st_gi hBs.1 rfl (st_nn (st_li (hXs.fz _ _ hqI2) hmZ (by omega) (st_nn (st_li (hXs.fz _ _ hrI2) hmZ (by omega) ?_))))
            rw [hf2 m hmZ, hf m hmZ, nI_add]
            have hP0 := PN_lt D 0 hmZ
            have eFk : foff D (fS k0) + PN D (fS k0) m = FkD D k0 m := by rw [(foff_k hk0).1]; rfl
            rw [eFk]
            have hfa : FA D (FkD D k0 m) (PN D 0 m) = true := FA_iff.mpr ⟨m, k0, hmZ, hk0, hkd, rfl, rfl⟩
            have hflt := (FA_lt h3 hfa).1
            refine ⟨st_cs hBs.1 (by simp), sc_fcomes hBs.1 rfl rfl hBs.2.2.1 hBs.2.2.2.1 hBs.2.2.2.2.1 (by omega) (by omega) hP0 n1' (fun hA => ?_) (fun s' f3a f4a g' u3 u4 hr' => ?_)⟩
            · have := cnB_ltP (N := NP D 0) (P := cHB D (fS k0) m (FkD D k0 m)) (Q := FA D (FkD D k0 m)) (fun k _ hk => hFA _ _ _ _ hk) hP0 hA hfa
              have := u_sz h3 hflt
              omega
            · rw [nI_1]
              refine hR2 _ _ ⟨m + 1, f3a, f4a, by omega, rfl, hs'.tr g', kB (hs'.tr g') u3 u4 (hr'.cg (fun f c _ => Bool_ext ?_))⟩ ?_
              · rw [n1_iff, cHB_iff, cHB_iff]
                constructor
                · rintro (⟨g, k, z1, z2, z3, z4, z5, z6⟩ | ⟨z1, z2⟩)
                  · exact ⟨g, k, z1, z2, z3, by omega, z5, z6⟩
                  · exact ⟨m, k0, hmZ, hk0, hkd, Or.inr ⟨rfl, by omega⟩, z1.symm, z2.symm⟩
                · rintro ⟨g, k, z1, z2, z3, z4, z5, z6⟩
                  by_cases e : fS k = fS k0 ∧ g = m
                  · right
                    have ek : k = k0 := by
                      obtain ⟨e0, e1, e2⟩ := fS_v
                      have c1 : k = 0 ∨ k = 1 ∨ k = 2 := by omega
                      have c2 : k0 = 0 ∨ k0 = 1 ∨ k0 = 2 := by omega
                      rcases c1 with rfl | rfl | rfl <;> rcases c2 with rfl | rfl | rfl <;> first | rfl | (have := e.1; omega)
                    rw [← z5, ← z6, ek, e.2]
                    exact ⟨rfl, rfl⟩
                  · exact Or.inl ⟨g, k, z1, z2, z3, by omega, z5, z6⟩
              · rw [nI_cl (by omega), nI_cl (by omega)]; omega
end HI2

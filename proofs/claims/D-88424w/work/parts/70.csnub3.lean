set_option maxRecDepth 100000
section CS3
variable {Γ : eb_C} {E : cET} {st st' : eb_S} {I I' : Nat → va_E → Prop} {ad : Nat → Nat} {bd : Nat → cBT} {x : cXT} {Ds : Nat → eb_D} {p bc bs : Nat}
/-- two halves are told, or not -/
theorem sc_two_h {a c d : Int32} {F : Int32 → eb_S → Nat → Nat → Prop} (hE : cEm E) (h : cV Γ E st I ad bd x Ds) (hp : ad 16 = p) (hbc : 22 ≤ bc) (hbs : 13660 ≤ bs)
    (h0 : ∀ g I' bd' u w, cV Γ E g I' ad bd' x Ds → u ≤ 22 → w ≤ 13660 → (∀ b y z, b < 4 → a = nI b → c = nI y → y < 2147483648 → d = nI z → z < 2147483648 → ¬ ZD (Ds b) = 0 ∧ (Ds b).1 = 3 ∧ ¬ (y < ZD (Ds b) / 2 ∧ z < ZD (Ds b) / 2)) → F 0 g u w)
    (hz : ∀ b g I' bd' u w, b < 4 → a = nI b → 0 ≤ c → 0 ≤ d → (ZD (Ds b) = 0 ∨ ¬ (Ds b).1 = 3) → cV Γ E g I' ad bd' x Ds → (bd' b).1.2.2 = 1 → u ≤ 22 → w ≤ 13660 → F 1 g u w)
    (h1 : ∀ b y z g I' bd' u w, b < 4 → a = nI b → c = nI y → d = nI z → ¬ ZD (Ds b) = 0 → (Ds b).1 = 3 → y < ZD (Ds b) / 2 → z < ZD (Ds b) / 2 → cV Γ E g I' ad bd' x Ds → (bd' b).1.2.2 = 1 → u ≤ 22 → w ≤ 13660 → F 1 g u w) :
    ∃ c3 s4 : Nat, (0 + c3 ≤ bc ∧ 0 + s4 ≤ bs) ∧ MX0_isHalfCorner Γ c3 s4 st p a c (fun v1 g2 => eb_jp4 F (fun k25 => eb_br (v1 = 0) (k25 0 g2 (0 + c3) (0 + s4)) (eb_cs g2 p [0] ∧ ∃ c28 s29 : Nat, ((0 + c3) + c28 ≤ bc ∧ (0 + s4) + s29 ≤ bs) ∧ MX0_isHalfCorner Γ c28 s29 g2 p a d (fun v26 g27 => eb_br (v26 = 0) (k25 0 g27 (((0 + c3) + c28)) (((0 + s4) + s29))) (k25 1 g27 (((0 + c3) + c28)) (((0 + s4) + s29))))))) := by
  subst hp
  have un : ∀ {b b' : Nat}, b < 4 → b' < 4 → a = nI b → a = nI b' → b = b' := fun hb hb' e e' => (nI_eq (by omega) (by omega)).mp (e.symm.trans e')
  refine ⟨22, 13660, ⟨by omega, by omega⟩, ?_⟩
  refine sc_isHC hE h rfl (Or.inr ⟨Nat.le_refl _, Nat.le_refl _⟩) (fun hno => ?_) (fun b hb hab hc hzz st1 I1 bd1 hV hk => ?_) (fun b y hb hab hcy hy hzz h3 st1 I1 bd1 hV hk => ?_)
  · refine jp_4 F (fun _ _ _ _ z => z) (fun k hk => ⟨fun _ => hk _ _ _ _ (h0 _ _ _ _ _ h (by omega) (by omega) (fun b y z hb hab hcy hy hdz hz => ?_)), fun z => absurd rfl z⟩)
    rcases hno with w | w
    · exact absurd (by rw [hab]; exact body_in hb) w
    · exact absurd (by rw [hcy]; exact nI_pos' hy) w
  · refine jp_4 F (fun _ _ _ _ z => z) (fun k hk' => ⟨fun z => absurd z (by decide), fun _ => ⟨hV.cs0, 0, 0, ⟨by omega, by omega⟩, ?_⟩⟩)
    refine sc_isHC hE hV rfl (Or.inl (known_of hb hab hk)) (fun hno => ?_) (fun b' hb' hab' hd _ st2 I2 bd2 hV2 hk2 => ?_) (fun b' z hb' hab' hdz hz' hzz' h3' => ?_)
    · refine ⟨fun _ => hk' _ _ _ _ (h0 _ _ _ _ _ hV (by omega) (by omega) (fun b' y z hb' hab' hcy hy hdz hz' => ?_)), fun z => absurd rfl z⟩
      rcases hno with w | w
      · exact absurd (by rw [hab]; exact body_in hb) w
      · exact absurd (by rw [hdz]; exact nI_pos' hz') w
    · have eb := un hb hb' hab hab'
      subst eb
      exact ⟨fun z => absurd z (by decide), fun _ => hk' _ _ _ _ (hz b _ _ _ _ _ hb hab hc hd hzz hV2 hk2 (by omega) (by omega))⟩
    · have eb := un hb hb' hab hab'
      subst eb
      exact absurd hzz (fun z => z.elim hzz' (fun w => w h3'))
  · refine jp_4 F (fun _ _ _ _ z => z) (fun k hk' => ?_)
    have hun : ∀ b' y', b' < 4 → a = nI b' → c = nI y' → y' < 2147483648 → b' = b ∧ y' = y := fun b' y' hb' hab' hcy' hy' => ⟨un hb' hb hab' hab, (nI_eq hy' hy).mp (hcy'.symm.trans hcy)⟩
    by_cases hlt : y < ZD (Ds b) / 2
    · rw [nlT hlt]
      refine ⟨fun z => absurd z (by decide), fun _ => ⟨hV.cs0, 0, 0, ⟨by omega, by omega⟩, ?_⟩⟩
      refine sc_isHC hE hV rfl (Or.inl (known_of hb hab hk)) (fun hno => ?_) (fun b' hb' hab' hd hzz' => ?_) (fun b' z hb' hab' hdz hz' _ _ st2 I2 bd2 hV2 hk2 => ?_)
      · refine ⟨fun _ => hk' _ _ _ _ (h0 _ _ _ _ _ hV (by omega) (by omega) (fun b' y z hb' hab' hcy hy hdz hz' => ?_)), fun z => absurd rfl z⟩
        rcases hno with w | w
        · exact absurd (by rw [hab]; exact body_in hb) w
        · exact absurd (by rw [hdz]; exact nI_pos' hz') w
      · have eb := un hb hb' hab hab'
        subst eb
        exact absurd hzz' (fun z => z.elim hzz (fun w => w h3))
      · have eb := un hb hb' hab hab'
        subst eb
        by_cases hlt2 : z < ZD (Ds b) / 2
        · rw [nlT hlt2]
          exact ⟨fun z => absurd z (by decide), fun _ => hk' _ _ _ _ (h1 b y z _ _ _ _ _ hb hab hcy hdz hzz h3 hlt hlt2 hV2 hk2 (by omega) (by omega))⟩
        · rw [nlF hlt2]
          refine ⟨fun _ => hk' _ _ _ _ (h0 _ _ _ _ _ hV2 (by omega) (by omega) (fun b'' y' z' hb'' hab'' hcy' hy' hdz' hz'' => ?_)), fun z => absurd rfl z⟩
          obtain ⟨rfl, rfl⟩ := hun b'' y' hb'' hab'' hcy' hy'
          have ez : z' = z := (nI_eq hz'' hz').mp (hdz'.symm.trans hdz)
          subst ez
          exact ⟨hzz, h3, fun q => hlt2 q.2⟩
    · rw [nlF hlt]
      refine ⟨fun _ => hk' _ _ _ _ (h0 _ _ _ _ _ hV (by omega) (by omega) (fun b'' y' z' hb'' hab'' hcy' hy' hdz' hz'' => ?_)), fun z => absurd rfl z⟩
      obtain ⟨rfl, rfl⟩ := hun b'' y' hb'' hab'' hcy' hy'
      exact ⟨hzz, h3, fun q => hlt q.1⟩
theorem cW_snubFar {a c d : Int32} {K : Int32 → eb_S → Prop} (hE : cEm E) (hS : ∀ I p n D, E.2.1 I p n D ↔ snE Γ I p n D) (hW : cW Γ E st p Ds) (hbc : 28 ≤ bc) (hbs : 15326 ≤ bs) (hK : ∀ s, cW Γ E s p Ds → K (aSnubFar Ds a c d) s) : MX0_snubFar Γ bc bs st p a c d K := by
  obtain ⟨I, ad, bd, x, hp, h⟩ := hW
  subst hp
  unfold MX0_snubFar
  unfold aSnubFar at hK
  have un : ∀ {b b' : Nat}, b < 4 → b' < 4 → a = nI b → a = nI b' → b = b' := fun hb hb' e e' => (nI_eq (by omega) (by omega)).mp (e.symm.trans e')
  refine ⟨h.cs0, sc_two_h hE h rfl (by omega) (by omega) (fun g I' bd' u w hV hu hw hn => ?_) (fun b g I' bd' u w hb hab hc hd hz hV hk hu hw => ?_) (fun b y z g I' bd' u w hb hab hcy hdz hz h3 hy hzz hV hk hu hw => ?_)⟩
  · refine ⟨hV.cs0, 0, 0, ⟨by omega, by omega⟩, sc_whyH0 hV.cs0 ⟨fun z => absurd z (by decide), fun _ => ?_⟩⟩
    have := hK g (hV.W rfl)
    by_cases hcd : 0 ≤ c ∧ 0 ≤ d
    · rw [if_pos hcd] at this
      rcases body_or a with ⟨b, hb, e⟩ | hb
      · obtain ⟨y, hy, ey⟩ := nI_of (Int32.not_lt.mpr hcd.1)
        obtain ⟨z, hz, ez⟩ := nI_of (Int32.not_lt.mpr hcd.2)
        obtain ⟨n1, n2, n3⟩ := hn b y z hb e ey hy ez hz
        rw [e, gat3_f hb n1 n2, ey, ez, nI_cl hy, nI_cl hz, if_neg n3] at this
        exact this
      · rw [gat3_no hb] at this; exact this
    · rw [if_neg hcd] at this; exact this
  · refine ⟨hV.cs0, 0, 0, ⟨by omega, by omega⟩, ?_⟩
    refine sc_whyH hE hV rfl (Or.inl (known_of hb hab hk)) (fun hno => ?_) (fun b' hb' hab' _ hz' s I2 bd2 hV2 => ⟨fun z => absurd z (by decide), fun _ => ?_⟩) (fun b' hb' hab' _ hz' h3 s I2 bd2 hV2 => ⟨fun z => absurd z (by decide), fun _ => ?_⟩) (fun b' hb' hab' _ hz' h3 s I2 bd2 q hV2 hk2 hq hC => ?_)
    · rcases hno with z | z
      · exact absurd (by rw [hab]; exact body_in hb) z
      · exact absurd z (by decide)
    · have := hK s (hV2.W rfl)
      rw [if_pos ⟨hc, hd⟩, hab', gat3_z hb' hz'] at this
      exact this
    · have := hK s (hV2.W rfl)
      rw [if_pos ⟨hc, hd⟩, hab', gat3_3 hb' hz' h3] at this
      exact this
    · have eb := un hb hb' hab hab'
      subst eb
      exact absurd hz (fun z => z.elim hz' (fun w => w h3))
  · have hzl := ZD_le (hV.v hb)
    have h120 := (tab3_D (hV.v hb) hz h3).1
    refine ⟨hV.cs0, 0, 0, ⟨by omega, by omega⟩, ?_⟩
    refine sc_whyH hE hV rfl (Or.inl (known_of hb hab hk)) (fun hno => ?_) (fun b' hb' hab' _ hz' s I2 bd2 hV2 => ?_) (fun b' hb' hab' _ hz' h3' s I2 bd2 hV2 => ?_) (fun b' hb' hab' _ hz' h3' s I2 bd2 q hV2 hk2 hq hC => ⟨fun _ => ?_, fun z => absurd rfl z⟩)
    · rcases hno with z | z
      · exact absurd (by rw [hab]; exact body_in hb) z
      · exact absurd z (by decide)
    · have eb := un hb hb' hab hab'
      subst eb
      exact absurd hz' hz
    · have eb := un hb hb' hab hab'
      subst eb
      exact absurd h3 h3'
    · have eb := un hb hb' hab hab'
      subst eb
      rw [hab, hcy, hdz]
      refine ⟨hV2.cs0, 4, 666, ⟨by omega, by omega⟩, sc_snubOf hE hS hV2 rfl hb hk2 hz h3 (Nat.le_refl _) (Nat.le_refl _) (fun s3 I3 bd3 n hV3 hk3 hn => ?_)⟩
      obtain ⟨pj, pm, pc, fj, fm, hN⟩ := hn.C (hV3.v hb) hV3.fz
      refine st_nn ⟨st_cs hN.2.1 (by simp), 2, 1000, ⟨by omega, by omega⟩, sc_nfar hN (by omega) hy (by omega) (by omega) (fun s4 pf ff g4 f4 w4 hff hlt => st_nn (st_li w4 hzz (by omega) ?_))⟩
      have hV4 := hV3.keep (I' := I3) hE g4 (W := []) (fun w hw => absurd hw List.not_mem_nil) (fun _ _ z => z) (fun _ _ z => Or.inl z)
      have := hK s4 (hV4.W rfl)
      rw [hcy, hdz, if_pos ⟨nI_pos' (by omega), nI_pos' (by omega)⟩, hab, gat3_f hb hz h3, nI_cl (by omega), nI_cl (by omega), if_pos ⟨hy, hzz⟩] at this
      rw [hff z hzz]
      exact this
end CS3

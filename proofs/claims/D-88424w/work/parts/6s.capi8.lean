set_option maxRecDepth 100000
section CA8
variable {Γ : eb_C} {E : cET} {st st' : eb_S} {I I' : Nat → va_E → Prop} {ad : Nat → Nat} {bd : Nat → cBT} {x : cXT} {Ds : Nat → eb_D} {p bc bs : Nat}
/-- two corners are told, or not -/
theorem sc_two {a c d t : Int32} {F : Int32 → eb_S → Nat → Nat → Prop} (T : (Int32 → eb_S → Nat → Nat → Prop) → eb_S → Nat → Nat → Prop) (hT : ∀ k g u w, k t g u w → T k g u w) (hE : cEm E) (h : cV Γ E st I ad bd x Ds) (hp : ad 16 = p) (hbc : 26 ≤ bc) (hbs : 15660 ≤ bs)
    (h0 : ∀ g I' bd' u w, cV Γ E g I' ad bd' x Ds → u ≤ 26 → w ≤ 15660 → (∀ b y z, b < 4 → a = nI b → c = nI y → y < 2147483648 → d = nI z → z < 2147483648 → ¬ ZD (Ds b) = 0 ∧ ¬ (y < NP (Ds b) 0 ∧ z < NP (Ds b) 0)) → F 0 g u w)
    (hz : ∀ b g I' bd' u w, b < 4 → a = nI b → 0 ≤ c → 0 ≤ d → ZD (Ds b) = 0 → cV Γ E g I' ad bd' x Ds → (bd' b).1.2.2 = 1 → u ≤ 26 → w ≤ 15660 → F t g u w)
    (h1 : ∀ b y z g I' bd' u w, b < 4 → a = nI b → c = nI y → d = nI z → ¬ ZD (Ds b) = 0 → y < NP (Ds b) 0 → z < NP (Ds b) 0 → cV Γ E g I' ad bd' x Ds → (bd' b).1.2.2 = 1 → u ≤ 26 → w ≤ 15660 → F t g u w) :
    ∃ c3 s4 : Nat, (0 + c3 ≤ bc ∧ 0 + s4 ≤ bs) ∧ MX0_isCorner Γ c3 s4 st p a c (fun v1 g2 => eb_jp4 F (fun k25 => eb_br (v1 = 0) (k25 0 g2 (0 + c3) (0 + s4)) (eb_cs g2 p [0] ∧ ∃ c28 s29 : Nat, ((0 + c3) + c28 ≤ bc ∧ (0 + s4) + s29 ≤ bs) ∧ MX0_isCorner Γ c28 s29 g2 p a d (fun v26 g27 => eb_br (v26 = 0) (k25 0 g27 (((0 + c3) + c28)) (((0 + s4) + s29))) (T k25 g27 (((0 + c3) + c28)) (((0 + s4) + s29))))))) := by
  subst hp
  refine ⟨24, 14660, ⟨by omega, by omega⟩, ?_⟩
  refine sc_isCorner hE h rfl (Or.inr ⟨Nat.le_refl _, Nat.le_refl _⟩) (fun hno => ?_) (fun b hb hab hc hzz st1 I1 bd1 hV hk => ?_) (fun b y hb hab hcy hy hzz st1 I1 bd1 hV hk hpn => ?_)
  · refine jp_4 F (fun _ _ _ _ z => z) (fun k hk => ⟨fun _ => hk _ _ _ _ (h0 _ _ _ _ _ h (by omega) (by omega) (fun b y z hb hab hcy hy hdz hz => ?_)), fun z => absurd rfl z⟩)
    rcases hno with w | w
    · exact absurd (by rw [hab]; exact body_in hb) w
    · exact absurd (by rw [hcy]; exact nI_pos' hy) w
  · refine jp_4 F (fun _ _ _ _ z => z) (fun k hk' => ⟨fun z => absurd z (by decide), fun _ => ⟨hV.cs0, 2, 1000, ⟨by omega, by omega⟩, ?_⟩⟩)
    refine sc_isCorner hE hV rfl (Or.inl ⟨known_of hb hab hk, Nat.le_refl _, Nat.le_refl _⟩) (fun hno => ?_) (fun b' hb' hab' hd _ st2 I2 bd2 hV2 hk2 => ?_) (fun b' z hb' hab' hdz hz' hzz' => ?_)
    · refine ⟨fun _ => hk' _ _ _ _ (h0 _ _ _ _ _ hV (by omega) (by omega) (fun b' y z hb' hab' hcy hy hdz hz' => ?_)), fun z => absurd rfl z⟩
      rcases hno with w | w
      · exact absurd (by rw [hab]; exact body_in hb) w
      · exact absurd (by rw [hdz]; exact nI_pos' hz') w
    · have eb : b = b' := (nI_eq (by omega) (by omega)).mp (hab.symm.trans hab')
      subst eb
      exact ⟨fun z => absurd z (by decide), fun _ => hT _ _ _ _ (hk' _ _ _ _ (hz b _ _ _ _ _ hb hab hc hd hzz hV2 hk2 (by omega) (by omega)))⟩
    · have eb : b = b' := (nI_eq (by omega) (by omega)).mp (hab.symm.trans hab')
      subst eb
      exact absurd hzz hzz'
  · refine jp_4 F (fun _ _ _ _ z => z) (fun k hk' => ?_)
    have hun : ∀ b' y', b' < 4 → a = nI b' → c = nI y' → y' < 2147483648 → b' = b ∧ y' = y := fun b' y' hb' hab' hcy' hy' => ⟨(nI_eq (by omega) (by omega)).mp (hab'.symm.trans hab), (nI_eq hy' hy).mp (hcy'.symm.trans hcy)⟩
    by_cases hlt : y < NP (Ds b) 0
    · rw [nlT hlt]
      refine ⟨fun z => absurd z (by decide), fun _ => ⟨hV.cs0, 2, 1000, ⟨by omega, by omega⟩, ?_⟩⟩
      refine sc_isCorner hE hV rfl (Or.inl ⟨known_of hb hab hk, Nat.le_refl _, Nat.le_refl _⟩) (fun hno => ?_) (fun b' hb' hab' hd hzz' => ?_) (fun b' z hb' hab' hdz hz' _ st2 I2 bd2 hV2 hk2 _ => ?_)
      · refine ⟨fun _ => hk' _ _ _ _ (h0 _ _ _ _ _ hV (by omega) (by omega) (fun b' y z hb' hab' hcy hy hdz hz' => ?_)), fun z => absurd rfl z⟩
        rcases hno with w | w
        · exact absurd (by rw [hab]; exact body_in hb) w
        · exact absurd (by rw [hdz]; exact nI_pos' hz') w
      · have eb : b = b' := (nI_eq (by omega) (by omega)).mp (hab.symm.trans hab')
        subst eb
        exact absurd hzz' hzz
      · have eb : b = b' := (nI_eq (by omega) (by omega)).mp (hab.symm.trans hab')
        subst eb
        by_cases hlt2 : z < NP (Ds b) 0
        · rw [nlT hlt2]
          exact ⟨fun z => absurd z (by decide), fun _ => hT _ _ _ _ (hk' _ _ _ _ (h1 b y z _ _ _ _ _ hb hab hcy hdz hzz hlt hlt2 hV2 hk2 (by omega) (by omega)))⟩
        · rw [nlF hlt2]
          refine ⟨fun _ => hk' _ _ _ _ (h0 _ _ _ _ _ hV2 (by omega) (by omega) (fun b'' y' z' hb'' hab'' hcy' hy' hdz' hz'' => ?_)), fun z => absurd rfl z⟩
          obtain ⟨rfl, rfl⟩ := hun b'' y' hb'' hab'' hcy' hy'
          have ez : z' = z := (nI_eq hz'' hz').mp (hdz'.symm.trans hdz)
          subst ez
          exact ⟨hzz, fun q => hlt2 q.2⟩
    · rw [nlF hlt]
      refine ⟨fun _ => hk' _ _ _ _ (h0 _ _ _ _ _ hV (by omega) (by omega) (fun b'' y' z' hb'' hab'' hcy' hy' hdz' hz'' => ?_)), fun z => absurd rfl z⟩
      obtain ⟨rfl, rfl⟩ := hun b'' y' hb'' hab'' hcy' hy'
      exact ⟨hzz, fun q => hlt q.1⟩
/-- an element and a corner are told, or not -/
theorem sc_two_e {a c d t : Int32} {F : Int32 → eb_S → Nat → Nat → Prop} (T : (Int32 → eb_S → Nat → Nat → Prop) → eb_S → Nat → Nat → Prop) (hT : ∀ k g u w, k t g u w → T k g u w) (hE : cEm E) (h : cV Γ E st I ad bd x Ds) (hp : ad 16 = p) (hbc : 24 ≤ bc) (hbs : 14660 ≤ bs)
    (h0 : ∀ g I' bd' u w, cV Γ E g I' ad bd' x Ds → u ≤ 24 → w ≤ 14660 → (∀ b y z, b < 4 → a = nI b → c = nI y → y < 2147483648 → d = nI z → z < 2147483648 → ¬ ZD (Ds b) = 0 ∧ ¬ (y < ZD (Ds b) ∧ z < NP (Ds b) 0)) → F 0 g u w)
    (hz : ∀ b g I' bd' u w, b < 4 → a = nI b → 0 ≤ c → 0 ≤ d → ZD (Ds b) = 0 → cV Γ E g I' ad bd' x Ds → (bd' b).1.2.2 = 1 → u ≤ 24 → w ≤ 14660 → F t g u w)
    (h1 : ∀ b y z g I' bd' u w, b < 4 → a = nI b → c = nI y → d = nI z → ¬ ZD (Ds b) = 0 → y < ZD (Ds b) → z < NP (Ds b) 0 → cV Γ E g I' ad bd' x Ds → (bd' b).1.2.2 = 1 → u ≤ 24 → w ≤ 14660 → F t g u w) :
    ∃ c3 s4 : Nat, (0 + c3 ≤ bc ∧ 0 + s4 ≤ bs) ∧ MX0_isElement Γ c3 s4 st p a c (fun v1 g2 => eb_jp4 F (fun k25 => eb_br (v1 = 0) (k25 0 g2 (0 + c3) (0 + s4)) (eb_cs g2 p [0] ∧ ∃ c28 s29 : Nat, ((0 + c3) + c28 ≤ bc ∧ (0 + s4) + s29 ≤ bs) ∧ MX0_isCorner Γ c28 s29 g2 p a d (fun v26 g27 => eb_br (v26 = 0) (k25 0 g27 (((0 + c3) + c28)) (((0 + s4) + s29))) (T k25 g27 (((0 + c3) + c28)) (((0 + s4) + s29))))))) := by
  subst hp
  refine ⟨22, 13660, ⟨by omega, by omega⟩, ?_⟩
  refine sc_isElement hE h rfl (Or.inr ⟨Nat.le_refl _, Nat.le_refl _⟩) (fun hno => ?_) (fun b hb hab hc hzz st1 I1 bd1 hV hk => ?_) (fun b y hb hab hcy hy hzz st1 I1 bd1 hV hk => ?_)
  · refine jp_4 F (fun _ _ _ _ z => z) (fun k hk => ⟨fun _ => hk _ _ _ _ (h0 _ _ _ _ _ h (by omega) (by omega) (fun b y z hb hab hcy hy hdz hz => ?_)), fun z => absurd rfl z⟩)
    rcases hno with w | w
    · exact absurd (by rw [hab]; exact body_in hb) w
    · exact absurd (by rw [hcy]; exact nI_pos' hy) w
  · refine jp_4 F (fun _ _ _ _ z => z) (fun k hk' => ⟨fun z => absurd z (by decide), fun _ => ⟨hV.cs0, 2, 1000, ⟨by omega, by omega⟩, ?_⟩⟩)
    refine sc_isCorner hE hV rfl (Or.inl ⟨known_of hb hab hk, Nat.le_refl _, Nat.le_refl _⟩) (fun hno => ?_) (fun b' hb' hab' hd _ st2 I2 bd2 hV2 hk2 => ?_) (fun b' z hb' hab' hdz hz' hzz' => ?_)
    · refine ⟨fun _ => hk' _ _ _ _ (h0 _ _ _ _ _ hV (by omega) (by omega) (fun b' y z hb' hab' hcy hy hdz hz' => ?_)), fun z => absurd rfl z⟩
      rcases hno with w | w
      · exact absurd (by rw [hab]; exact body_in hb) w
      · exact absurd (by rw [hdz]; exact nI_pos' hz') w
    · have eb : b = b' := (nI_eq (by omega) (by omega)).mp (hab.symm.trans hab')
      subst eb
      exact ⟨fun z => absurd z (by decide), fun _ => hT _ _ _ _ (hk' _ _ _ _ (hz b _ _ _ _ _ hb hab hc hd hzz hV2 hk2 (by omega) (by omega)))⟩
    · have eb : b = b' := (nI_eq (by omega) (by omega)).mp (hab.symm.trans hab')
      subst eb
      exact absurd hzz hzz'
  · refine jp_4 F (fun _ _ _ _ z => z) (fun k hk' => ?_)
    have hun : ∀ b' y', b' < 4 → a = nI b' → c = nI y' → y' < 2147483648 → b' = b ∧ y' = y := fun b' y' hb' hab' hcy' hy' => ⟨(nI_eq (by omega) (by omega)).mp (hab'.symm.trans hab), (nI_eq hy' hy).mp (hcy'.symm.trans hcy)⟩
    by_cases hlt : y < ZD (Ds b)
    · rw [nlT hlt]
      refine ⟨fun z => absurd z (by decide), fun _ => ⟨hV.cs0, 2, 1000, ⟨by omega, by omega⟩, ?_⟩⟩
      refine sc_isCorner hE hV rfl (Or.inl ⟨known_of hb hab hk, Nat.le_refl _, Nat.le_refl _⟩) (fun hno => ?_) (fun b' hb' hab' hd hzz' => ?_) (fun b' z hb' hab' hdz hz' _ st2 I2 bd2 hV2 hk2 _ => ?_)
      · refine ⟨fun _ => hk' _ _ _ _ (h0 _ _ _ _ _ hV (by omega) (by omega) (fun b' y z hb' hab' hcy hy hdz hz' => ?_)), fun z => absurd rfl z⟩
        rcases hno with w | w
        · exact absurd (by rw [hab]; exact body_in hb) w
        · exact absurd (by rw [hdz]; exact nI_pos' hz') w
      · have eb : b = b' := (nI_eq (by omega) (by omega)).mp (hab.symm.trans hab')
        subst eb
        exact absurd hzz' hzz
      · have eb : b = b' := (nI_eq (by omega) (by omega)).mp (hab.symm.trans hab')
        subst eb
        by_cases hlt2 : z < NP (Ds b) 0
        · rw [nlT hlt2]
          exact ⟨fun z => absurd z (by decide), fun _ => hT _ _ _ _ (hk' _ _ _ _ (h1 b y z _ _ _ _ _ hb hab hcy hdz hzz hlt hlt2 hV2 hk2 (by omega) (by omega)))⟩
        · rw [nlF hlt2]
          refine ⟨fun _ => hk' _ _ _ _ (h0 _ _ _ _ _ hV2 (by omega) (by omega) (fun b'' y' z' hb'' hab'' hcy' hy' hdz' hz'' => ?_)), fun z => absurd rfl z⟩
          obtain ⟨rfl, rfl⟩ := hun b'' y' hb'' hab'' hcy' hy'
          have ez : z' = z := (nI_eq hz'' hz').mp (hdz'.symm.trans hdz)
          subst ez
          exact ⟨hzz, fun q => hlt2 q.2⟩
    · rw [nlF hlt]
      refine ⟨fun _ => hk' _ _ _ _ (h0 _ _ _ _ _ hV (by omega) (by omega) (fun b'' y' z' hb'' hab'' hcy' hy' hdz' hz'' => ?_)), fun z => absurd rfl z⟩
      obtain ⟨rfl, rfl⟩ := hun b'' y' hb'' hab'' hcy' hy'
      exact ⟨hzz, fun q => hlt q.1⟩
theorem cW_far {a c d : Int32} {K : Int32 → eb_S → Prop} (hE : cEm E) (hW : cW Γ E st p Ds) (hbc : 33 ≤ bc) (hbs : 30164 ≤ bs) (hK : ∀ s, cW Γ E s p Ds → K (aFar Ds a c d) s) : MX0_far Γ bc bs st p a c d K := by
  obtain ⟨I, ad, bd, x, hp, h⟩ := hW
  subst hp
  unfold MX0_far
  unfold aFar at hK
  refine ⟨h.cs0, sc_two (t := 1) (fun k g u w => k 1 g u w) (fun _ _ _ _ z => z) hE h rfl (by omega) (by omega) (fun g I' bd' u w hV hu hw hno => ?_) (fun b g I' bd' u w hb hab hc hd hz hV hk hu hw => ?_) (fun b y z g I' bd' u w hb hab hcy hdz hz hy hzz hV hk hu hw => ?_)⟩
  · refine ⟨hV.cs0, 0, 0, ⟨by omega, by omega⟩, sc_why0 ⟨fun z => absurd z (by decide), fun _ => ?_⟩⟩
    have := hK g (hV.W rfl)
    by_cases hcd : 0 ≤ c ∧ 0 ≤ d
    · rcases body_or a with ⟨b, hb, rfl⟩ | hn
      · obtain ⟨y, hy, rfl⟩ := nI_of (Int32.not_lt.mpr hcd.1)
        obtain ⟨z, hz, rfl⟩ := nI_of (Int32.not_lt.mpr hcd.2)
        obtain ⟨n1, n2⟩ := hno b y z hb rfl rfl hy rfl hz
        rw [gat2_f hb hy hz n1, if_neg n2] at this
        exact this
      · rw [gat2_no hn] at this; exact this
    · rw [gat2_neg hcd] at this; exact this
  · refine ⟨hV.cs0, 0, 0, ⟨by omega, by omega⟩, sc_whyK hE hV rfl hb hab hk (by decide) (fun _ => ⟨fun z => absurd z (by decide), fun _ => ?_⟩) (fun z => absurd hz z)⟩
    have := hK g (hV.W rfl)
    rw [hab, gat2_z hb ⟨hc, hd⟩ hz] at this
    exact this
  · have hzl := ZD_le (hV.v hb)
    have hn0 := NP_le (Ds b) 0
    refine ⟨hV.cs0, 0, 0, ⟨by omega, by omega⟩, sc_whyK hE hV rfl hb hab hk (by decide) (fun z => absurd z hz) (fun _ q hq hC => ⟨fun _ => ⟨hV.cs0, 5, 13504, ⟨by omega, by omega⟩, ?_⟩, fun z => absurd rfl z⟩)⟩
    rw [hab]
    refine sc_netOf hE hV rfl hb hk hz (Nat.le_refl _) (Nat.le_refl _) (fun st2 I2 bd2 x2 net hV2 hk2 hC2 => st_nn ?_)
    obtain ⟨c', pj, pm, rest, fj, fm, hN⟩ := hC2.C hV2.fz
    rw [hcy, hdz]
    refine ⟨hN.cs, 2, 1000, ⟨by omega, by omega⟩, sc_nfar hN (by omega) hy (by omega) (by omega) (fun st3 pf ff g3 f3 w3 hff hlt => st_nn (st_li w3 hzz (by omega) ?_))⟩
    have hV3 := hV2.keep (I' := I2) hE g3 (W := []) (fun w hw => absurd hw List.not_mem_nil) (fun _ _ z => z) (fun _ _ z => Or.inl z)
    have := hK st3 (hV3.W rfl)
    rw [hab, hcy, hdz, gat2_f hb (by omega) (by omega) hz, if_pos ⟨hy, hzz⟩] at this
    rw [hff z hzz]
    exact this
theorem cW_moves {a g c : Int32} {K : Int32 → eb_S → Prop} (hE : cEm E) (hW : cW Γ E st p Ds) (hbc : 28 ≤ bc) (hbs : 16660 ≤ bs) (h2 : ¬ (0 ≤ a ∧ a ≤ 3) ∨ ¬ (0 ≤ g ∧ 0 ≤ c) → ∀ t, cW Γ E t p Ds → K (-2) t) (h5 : ∀ b, b < 4 → a = nI b → 0 ≤ g ∧ 0 ≤ c → ZD (Ds b) = 0 → ∀ t, cW Γ E t p Ds → K (-5) t)
    (h1 : ∀ b x l, b < 4 → a = nI b → g = nI x → c = nI (PN (Ds b) 0 l) → ¬ ZD (Ds b) = 0 → x < ZD (Ds b) → PN (Ds b) 0 l < NP (Ds b) 0 → l < ZD (Ds b) → isF (Ds b) 0 l → ∀ t, cW Γ E t p Ds → K (nI (PN (Ds b) 0 (Pr (TD (Ds b)) x l))) t)
    (h1' : ∀ b x v, b < 4 → a = nI b → g = nI x → x < 2147483648 → c = nI v → v < 2147483648 → ¬ ZD (Ds b) = 0 → ¬ (x < ZD (Ds b) ∧ v < NP (Ds b) 0) → ∀ t, cW Γ E t p Ds → K (-2) t) : MX0_moves Γ bc bs st p a g c K := by
  obtain ⟨I, ad, bd, x, hp, h⟩ := hW
  subst hp
  unfold MX0_moves
  have hK0 : ∀ (f : eb_S) (I' : Nat → va_E → Prop) (bd' : Nat → cBT), cV Γ E f I' ad bd' x Ds → (∀ b y z, b < 4 → a = nI b → g = nI y → y < 2147483648 → c = nI z → z < 2147483648 → ¬ ZD (Ds b) = 0 ∧ ¬ (y < ZD (Ds b) ∧ z < NP (Ds b) 0)) → K (-2) f := by
    intro f I' bd' hV hno
    by_cases hcd : 0 ≤ g ∧ 0 ≤ c
    · rcases body_or a with ⟨b, hb, rfl⟩ | hn
      · obtain ⟨y, hy, rfl⟩ := nI_of (Int32.not_lt.mpr hcd.1)
        obtain ⟨z, hz, rfl⟩ := nI_of (Int32.not_lt.mpr hcd.2)
        obtain ⟨n1, n2⟩ := hno b y z hb rfl rfl hy rfl hz
        exact h1' b y z hb rfl rfl hy rfl hz n1 n2 _ (hV.W rfl)
      · exact h2 (Or.inl hn) _ (hV.W rfl)
    · exact h2 (Or.inr hcd) _ (hV.W rfl)
  refine ⟨h.cs0, sc_two_e (t := 1) (fun k g u w => k 1 g u w) (fun _ _ _ _ z => z) hE h rfl (by omega) (by omega) (fun g I' bd' u w hV hu hw hno => ?_) (fun b f I' bd' u w hb hab hg hc hz hV hk hu hw => ?_) (fun b y z f I' bd' u w hb hab hgy hcz hz hy hzz hV hk hu hw => ?_)⟩
  · exact ⟨hV.cs0, 0, 0, ⟨by omega, by omega⟩, sc_why0 ⟨fun z => absurd z (by decide), fun _ => hK0 _ _ _ hV hno⟩⟩
  · exact ⟨hV.cs0, 0, 0, ⟨by omega, by omega⟩, sc_whyK hE hV rfl hb hab hk (by decide) (fun _ => ⟨fun z => absurd z (by decide), fun _ => h5 b hb hab ⟨hg, hc⟩ hz _ (hV.W rfl)⟩) (fun z => absurd hz z)⟩
  · have hv := hV.v hb
    have hzl := ZD_le hv
    have hn0 := NP_le (Ds b) 0
    refine ⟨hV.cs0, 0, 0, ⟨by omega, by omega⟩, sc_whyK hE hV rfl hb hab hk (by decide) (fun z => absurd z hz) (fun _ q hq hC => ⟨fun _ => ?_, fun z => absurd rfl z⟩)⟩
    obtain ⟨l, l1, l2, l3⟩ := NP_ex (Ds b) 0 hzz
    subst l3
    have h1' := h1 b y l hb hab hgy hcz hz hy hzz l1 l2
    rw [hab, hgy, hcz]
    refine hV.at hb ⟨(hV.body hb).cs, 2, 1000, ⟨by omega, by omega⟩, sc_partsV (s := 0) hE hV hb hk hz (isK_0 _ hv).2 (Or.inr ⟨Nat.le_refl _, Nat.le_refl _⟩) (fun st3 I3 bd3 q3 f3 hV3 _ hI3 _ hbK hq3 hqI hf _ => ?_)⟩
    have hk3 : (bd3 b).1.2.2 = 1 := by rw [hbK.1]; exact hk
    obtain ⟨gp, g1, g2⟩ := (hV3.grp hb hk3).2 hz
    refine st_gr (hV3.1.1 b 0 hb (by omega)) (v := some gp) (by rw [← g1]; rfl) ⟨(hV3.body hb).cs, 2, 1000, ⟨by omega, by omega⟩, sc_least1 (s := 0) hE hV3 hb hk3 hz (isK_0 _ hv).2 (Or.inr ⟨Nat.le_refl _, Nat.le_refl _⟩) l1 l2 (fun st4 I4 bd4 hV4 _ hI4 _ _ _ => st_nn ?_)⟩
    obtain ⟨hG, he1, he2, he3⟩ := TD_ok hv hz
    have hpl : Pr (TD (Ds b)) y l < ZD (Ds b) := by have := Pr_lt hG (g := y) (by rw [he3]; exact hy) l (by rw [he3]; exact l1); rw [he3] at this; exact this
    refine ⟨(g2.mono hI4).cs hV4.fz, sc_prod hG (g2.mono hI4) hV4.fz (by rw [he3]; exact hy) (by rw [he3]; exact l1) (st_nn (st_li (hV4.fz _ _ (hI4 _ _ hqI)) hpl (by omega) ?_))⟩
    rw [hf _ hpl]
    exact h1' _ (hV4.W rfl)
/-- whether one of the first so many neighbours is told -/
def hit (nb : Nat → Nat) : Nat → Nat → Bool
  | 0, _ => false
  | i + 1, k => or (hit nb i k) (Nat.beq (nb i) k)
theorem hit_iff {nb : Nat → Nat} {k : Nat} : ∀ {i : Nat}, hit nb i k = true ↔ ∃ j, j < i ∧ nb j = k := by
  intro i
  induction i with
  | zero => exact ⟨fun z => Bool.noConfusion z, fun ⟨j, hj, _⟩ => absurd hj (Nat.not_lt_zero _)⟩
  | succ i ih =>
    show or (hit nb i k) (Nat.beq (nb i) k) = true ↔ _
    rw [Bool.or_eq_true, ih]
    constructor
    · rintro (⟨j, h1, h2⟩ | h)
      · exact ⟨j, by omega, h2⟩
      · exact ⟨i, by omega, Nat.eq_of_beq_eq_true h⟩
    · rintro ⟨j, h1, h2⟩
      by_cases e : j = i
      · exact Or.inr (nbT (by rw [← e]; exact h2))
      · exact Or.inl ⟨j, by omega, h2⟩
theorem cW_ways {a c d n : Int32} {K : Int64 → eb_S → Prop} (hE : cEm E) (hW : cW Γ E st p Ds) (hbc : 44 ≤ bc) (hbs : 35664 ≤ bs) (h2 : (∀ b x y m, ¬ okY Ds a c d n b x y m) → ∀ t, cW Γ E t p Ds → K (-2) t)
    (h5 : ∀ b x y m, okY Ds a c d n b x y m → ZD (Ds b) = 0 → ∀ t, cW Γ E t p Ds → K (Int32.toInt64 (-5)) t)
    (h1 : ∀ b x y m, okY Ds a c d n b x y m → ¬ ZD (Ds b) = 0 → ∀ t, cW Γ E t p Ds → K (if x < NP (Ds b) 0 ∧ y < NP (Ds b) 0 then wyL (jnd (Ds b)) (NP (Ds b) 0) x m y else -2) t) : MX0_ways Γ bc bs st p a c d n K := by
  obtain ⟨I, ad, bd, x, hp, h⟩ := hW
  subst hp
  unfold MX0_ways
  have hn_or : (∃ m : Nat, m ≤ 12 ∧ n = nI m) ∨ ¬ (0 ≤ n ∧ n ≤ 12) := by
    by_cases hn : 0 ≤ n ∧ n ≤ 12
    · obtain ⟨m, hm, rfl⟩ := nI_of (Int32.not_lt.mpr hn.1)
      exact Or.inl ⟨m, (nI_leI hm (by omega : (12 : Nat) < 2147483648)).mp hn.2, rfl⟩
    · exact Or.inr hn
  have hlen : ∀ m : Nat, m ≤ 12 → (0 : Int32) ≤ nI m ∧ nI m ≤ 12 := fun m hm => ⟨nI_pos' (by omega), (nI_leI (by omega) (by omega : (12 : Nat) < 2147483648)).mpr hm⟩
  rcases hn_or with ⟨m, hm, rfl⟩ | hn
  · refine ⟨h.cs0, sc_two (t := 1) (fun k g u w => MX0_in (nI m) 0 12 (fun v70 => eb_br (v70 = 0) (k 0 g u w) (k 1 g u w))) (fun k g u w z => sc_in (fun _ => ⟨fun y => absurd y (by decide), fun _ => z⟩) (fun q => absurd (hlen m hm) q)) hE h rfl (by omega) (by omega) (fun g I' bd' u w hV hu hw hno => ?_) (fun b g I' bd' u w hb hab hc hd hz hV hk hu hw => ?_) (fun b y z g I' bd' u w hb hab hcy hdz hz hy hzz hV hk hu hw => ?_)⟩
    · refine ⟨hV.cs0, 0, 0, ⟨by omega, by omega⟩, sc_why0 ⟨fun z => absurd z (by decide), fun _ => ?_⟩⟩
      by_cases hex : ∃ b x y m', okY Ds a c d (nI m) b x y m'
      · obtain ⟨b, y, z, m', ok⟩ := hex
        obtain ⟨n1, n2⟩ := hno b y z ok.1 ok.2.1 ok.2.2.2.1 ok.2.2.1 ok.2.2.2.2.2.1 ok.2.2.2.2.1
        have := h1 b y z m' ok n1 g (hV.W rfl)
        rw [if_neg n2] at this
        exact this
      · exact h2 (fun b x y m' ok => hex ⟨b, x, y, m', ok⟩) g (hV.W rfl)
    · obtain ⟨y, hy, rfl⟩ := nI_of (Int32.not_lt.mpr hc)
      obtain ⟨z, hz', rfl⟩ := nI_of (Int32.not_lt.mpr hd)
      exact ⟨hV.cs0, 0, 0, ⟨by omega, by omega⟩, sc_whyK hE hV rfl hb hab hk (by decide) (fun _ => ⟨fun z => absurd z (by decide), fun _ => h5 b y z m ⟨hb, hab, hy, rfl, hz', rfl, hm, rfl⟩ hz g (hV.W rfl)⟩) (fun z => absurd hz z)⟩
    · have hzl := ZD_le (hV.v hb)
      have hn0 := NP_le (Ds b) 0
      refine ⟨hV.cs0, 0, 0, ⟨by omega, by omega⟩, sc_whyK hE hV rfl hb hab hk (by decide) (fun z => absurd z hz) (fun _ q hq hC => ⟨fun _ => ⟨hV.cs0, 5, 13504, ⟨by omega, by omega⟩, ?_⟩, fun z => absurd rfl z⟩)⟩
      rw [hab]
      refine sc_netOf hE hV rfl hb hk hz (Nat.le_refl _) (Nat.le_refl _) (fun st2 I2 bd2 x2 net hV2 hk2 hC2 => st_nn ?_)
      have hK1 : ∀ t, cW Γ E t (ad 16) Ds → K (wyL (jnd (Ds b)) (NP (Ds b) 0) y m z) t := fun t ht => by
        have := h1 b y z m ⟨hb, hab, by omega, hcy, by omega, hdz, hm, rfl⟩ hz t ht
        rw [if_pos ⟨hy, hzz⟩] at this
        exact this
      obtain ⟨c', pj, pm, rest, fj, fm, z0, z1, z2, z3, z4⟩ := hC2
      have hN : ∀ g, (∀ a y, I2 a y → g a = some y) → nC Γ g c' net pj pm 24 (NP (Ds b) 0) rest (jnd (Ds b)) fj fm := fun g hg => ⟨z0, hg _ _ z1, hg _ _ z2, hg _ _ z3, z4⟩
      obtain ⟨nb, n1', n2', n3'⟩ := id z4.1
      clear h1 h2 h5 hC hq
      generalize hA : jnd (Ds b) = A at *
      generalize hNN : NP (Ds b) 0 = N at *
      have hN2 := hN _ hV2.fz
      rw [hcy, hdz]
      refine st_ni hN2.1 hN2.2.1 rfl ⟨st_ok1 (by omega), ?_⟩
      rw [nI_cl (by omega)]
      refine st_mk (by omega) (by omega) (fun q1 s1 f1 gs1 w1 => st_wl w1 hy (by omega) (fun s2 gs2 w2 => ?_))
      have hV3 := hV2.keep (I' := I2) hE (W := [q1]) ((gs1.up (fun _ z => absurd z List.not_mem_nil)).tr gs2) (fun w hw => by rw [List.mem_singleton.mp hw]; exact f1) (fun _ _ z => z) (fun _ _ z => Or.inl z)
      refine jp_4 _ (fun _ _ _ _ z => z) (fun k hk' => ?_)
      refine eb_loop5_i (fun (o : Option Nat) (v : Int32) (g : eb_S) (u5 : Nat) (w5 : Nat) => ∃ s q f, s ≤ m ∧ o = some q ∧ v = nI s ∧ cV Γ E g I2 ad bd2 x2 Ds ∧ g q = some (eb_la Γ N f) ∧ (∀ k, k < N → f k = wyL A N y s k) ∧ u5 ≤ 32 + s ∧ w5 ≤ 29164 + 500 * (s + 1)) (fun _ v _ _ _ => 1000 - v.toNatClampNeg) ?_ ⟨0, q1, _, by omega, rfl, rfl, hV3, w2, fun k hk => ?_, by omega, by omega⟩
      · rintro R _ _ g5 u5 w5 ⟨s, q, f, hs, rfl, rfl, hV5, w5', hf, hu5, hw5⟩ hR
        refine br_le (by omega) (by omega) (fun h2 => hk' _ _ _ _ (st_nn (st_ll w5' hzz (by omega) ?_))) (fun h2 => ?_)
        · rw [hf z hzz, show s = m by omega]
          exact hK1 _ (hV5.W rfl)
        · have hN5 := hN _ hV5.fz
          refine st_ni hN5.1 hN5.2.1 rfl ⟨st_ok1 (by omega), ?_⟩
          rw [nI_cl (by omega)]
          refine st_mk (by omega) (by omega) (fun q6 s6 f6 gs6 w6 => ?_)
          have hqq : ¬ q = q6 := fun e => by rw [e, f6] at w5'; exact absurd w5' (by simp)
          -- what holds while the new row is made
          have hin : ∀ g, sf [q6] g5 g → cV Γ E g I2 ad bd2 x2 Ds ∧ g q = some (eb_la Γ N f) := fun g hg => ⟨hV5.keep (I' := I2) hE hg (fun w hw => by rw [List.mem_singleton.mp hw]; exact f6) (fun _ _ z => z) (fun _ _ z => Or.inl z), hg _ _ w5' (fun z => hqq (List.mem_singleton.mp z))⟩
          refine jp_1 (fun g => ∃ f', sf [q6] g5 g ∧ g q6 = some (eb_la Γ N f') ∧ ∀ k, k < N → f' k = wyL A N y (s + 1) k) ?_ (fun k39 hk39 => ?_)
          · rintro g ⟨f', hg, wq, hf'⟩
            rw [nI_1]
            refine hR _ _ _ _ _ ⟨s + 1, q6, f', by omega, rfl, rfl, (hin g hg).1, wq, hf', by omega, by omega⟩ ?_
            rw [nI_cl (by omega), nI_cl (by omega)]; omega
          · refine eb_loop2_i (fun v g => ∃ e f', e ≤ N ∧ v = nI e ∧ sf [q6] g5 g ∧ g q6 = some (eb_la Γ N f') ∧ ∀ k, k < N → f' k = smL (fun i => cond (A i k) (wyL A N y s i) 0) e) (fun v _ => 1000 - v.toNatClampNeg) ?_ ⟨0, _, by omega, rfl, gs6.up (fun _ z => absurd z List.not_mem_nil), w6, fun k _ => rfl⟩
            rintro R2 _ g7 ⟨e, f7, he, rfl, hg7, w7, hf7⟩ hR2
            obtain ⟨hV7, _⟩ := hin g7 hg7
            have hN7 := hN _ hV7.fz
            refine st_ni hN7.1 hN7.2.1 rfl (br_le (by omega) (by omega) (fun h3 => hk39 _ ⟨f7, hg7, w7, fun k hk => by rw [hf7 k hk, show e = N by omega]; rfl⟩) (fun h3 => ?_))
            have na := n1' e (by omega)
            have hcl := cnB_le (A e) N
            refine jp_1 (fun g => ∃ f', sf [q6] g5 g ∧ g q6 = some (eb_la Γ N f') ∧ ∀ k, k < N → f' k = smL (fun i => cond (A i k) (wyL A N y s i) 0) (e + 1)) ?_ (fun k45 hk45 => ?_)
            · rintro g ⟨f', hg, wq, hf'⟩
              rw [nI_1]
              refine hR2 _ _ ⟨e + 1, f', by omega, rfl, hg, wq, hf'⟩ ?_
              rw [nI_cl (by omega), nI_cl (by omega)]; omega
            · refine eb_loop2_i (fun v g => ∃ i f', i ≤ cnB (A e) N ∧ v = nI i ∧ sf [q6] g5 g ∧ g q6 = some (eb_la Γ N f') ∧ ∀ k, k < N → f' k = smL (fun i => cond (A i k) (wyL A N y s i) 0) e + cond (hit (nb e) i k) (wyL A N y s e) 0) (fun v _ => 1000 - v.toNatClampNeg) ?_ ⟨0, f7, by omega, rfl, hg7, w7, fun k hk => by rw [hf7 k hk]; exact (Int64.add_zero _).symm⟩
              rintro R3 _ g8 ⟨i, f8, hi, rfl, hg8, w8, hf8⟩ hR3
              obtain ⟨hV8, wq8⟩ := hin g8 hg8
              have hN8 := hN _ hV8.fz
              refine ⟨hN8.cs, sc_ndeg hN8 (by omega) ?_⟩
              refine br_le (by omega) (by omega) (fun h4 => hk45 _ ⟨f8, hg8, w8, fun k hk => ?_⟩) (fun h4 => ⟨hN8.cs, sc_nat hN8 (by omega) (by have := na.2.1; omega) ?_⟩)
              · rw [hf8 k hk]
                show _ = _ + cond (A e k) _ _
                have : hit (nb e) i k = A e k := Bool_ext (by
                  rw [hit_iff]
                  constructor
                  · rintro ⟨j, j1, j2⟩
                    rw [← j2]; exact (na.2.2 j (by omega)).2.2
                  · intro hA'
                    obtain ⟨j, j1, j2⟩ := n2' e k (by omega) hk hA'
                    exact ⟨j, by omega, j2⟩)
                rw [this]
              · obtain ⟨e1, e2, e3⟩ := na.2.2 i (by omega)
                rw [e1]
                refine st_ll w8 e2 (by omega) (st_nn (st_ll wq8 (by omega) (by omega) (st_wl w8 e2 (by omega) (fun s9 gs9 w9 => ?_))))
                rw [nI_1]
                refine hR3 _ _ ⟨i + 1, _, by omega, rfl, hg8.tr gs9, w9, fun k hk => ?_⟩ ?_
                · by_cases ek : k = nb e i
                  · rw [ek, updL_eq, hf8 _ e2, hf e (by omega)]
                    have hf0 : hit (nb e) i (nb e i) = false := by
                      cases hh : hit (nb e) i (nb e i)
                      · rfl
                      · obtain ⟨j, j1, j2⟩ := hit_iff.mp hh
                        exact absurd j2 (n3' e j i (by omega) j1 (by omega))
                    have hf1 : hit (nb e) (i + 1) (nb e i) = true := hit_iff.mpr ⟨i, by omega, rfl⟩
                    rw [hf0, hf1]
                    show _ + 0 + _ = _ + wyL A N y s e
                    rw [Int64.add_zero]
                  · rw [updL_ne ek, hf8 k hk]
                    have : hit (nb e) (i + 1) k = hit (nb e) i k := by
                      show or (hit (nb e) i k) (Nat.beq (nb e i) k) = _
                      rw [nbF (fun z => ek z.symm), Bool.or_false]
                    rw [this]
                · rw [nI_cl (by omega), nI_cl (by omega)]; omega
      · by_cases ek : k = y
        · rw [ek, updL_eq]
          show _ = cond (Nat.beq y y) _ _
          rw [nbT rfl]; rfl
        · rw [updL_ne ek]
          show _ = cond (Nat.beq k y) _ _
          rw [nbF ek]; rfl
  · have hno : ∀ b x y m, ¬ okY Ds a c d n b x y m := fun b x y m ok => hn (by rw [ok.2.2.2.2.2.2.2]; exact hlen m ok.2.2.2.2.2.2.1)
    refine ⟨h.cs0, sc_two (t := 0) (fun k g u w => MX0_in n 0 12 (fun v70 => eb_br (v70 = 0) (k 0 g u w) (k 1 g u w))) (fun k g u w z => sc_in (fun q => absurd q hn) (fun _ => ⟨fun _ => z, fun y => absurd rfl y⟩)) hE h rfl (by omega) (by omega) (fun g I' bd' u w hV hu hw _ => ?_) (fun b g I' bd' u w _ _ _ _ _ hV _ hu hw => ?_) (fun b y z g I' bd' u w _ _ _ _ _ _ _ hV _ hu hw => ?_)⟩
    · exact ⟨hV.cs0, 0, 0, ⟨by omega, by omega⟩, sc_why0 ⟨fun z => absurd z (by decide), fun _ => h2 hno g (hV.W rfl)⟩⟩
    · exact ⟨hV.cs0, 0, 0, ⟨by omega, by omega⟩, sc_why0 ⟨fun z => absurd z (by decide), fun _ => h2 hno g (hV.W rfl)⟩⟩
    · exact ⟨hV.cs0, 0, 0, ⟨by omega, by omega⟩, sc_why0 ⟨fun z => absurd z (by decide), fun _ => h2 hno g (hV.W rfl)⟩⟩
end CA8

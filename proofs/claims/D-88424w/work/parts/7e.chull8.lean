set_option maxRecDepth 100000
/-- a hull that was made -/
def huE (Γ : eb_C) (I : Nat → va_E → Prop) (p h : Nat) (D : eb_D) : Prop :=
  ok3 D ∧ ∃ (net pj pm ps pk pr pf : Nat) (fj fm f3 f4 fr ff : Nat → Int32) (t : Nat → Nat) (w : Bool), (∀ st : eb_S, (∀ a y, I a y → st a = some y) → hS Γ st h p net pj pm ps pk pr pf D fj fm f3 f4 fr ff) ∧ rAll D t (fun _ => w) fr ff
theorem huE.mono {Γ : eb_C} {I I' : Nat → va_E → Prop} {p n : Nat} {D : eb_D} (h : huE Γ I p n D) (hI : ∀ a y, I a y → I' a y) : huE Γ I' p n D := by
  obtain ⟨h1, net, pj, pm, ps, pk, pr, pf, fj, fm, f3, f4, fr, ff, t, w, h3, h4⟩ := h
  exact ⟨h1, net, pj, pm, ps, pk, pr, pf, fj, fm, f3, f4, fr, ff, t, w, fun st hst => h3 st (fun a y z => hst a y (hI a y z)), h4⟩
section HU
variable {Γ : eb_C} {E : cET} {st st' : eb_S} {I I' : Nat → va_E → Prop} {ad : Nat → Nat} {bd : Nat → cBT} {x : cXT} {Ds : Nat → eb_D} {p bc bs : Nat}
theorem sc_hull {b : Nat} {K : Option Nat → eb_S → Prop} (hE : cEm E) (hH : ∀ I p n D, E.1 I p n D ↔ huE Γ I p n D) (h : cV Γ E st I ad bd x Ds) (hb : b < 4) (hk : (bd b).1.2.2 = 1) (hz : ¬ ZD (Ds b) = 0) (h3 : (Ds b).1 = 3) (hbc : 274 ≤ bc) (hbs : 12745 ≤ bs)
    (hK : ∀ st' I' bd' n, cV Γ E st' I' ad bd' x Ds → (∀ a y, I a y → I' a y) → (∀ b', (bd b').1.2.2 = 1 → (bd' b').1.2.2 = 1) → huE Γ I' (ad (4 * b)) n (Ds b) → K (some n) st') : MX1_hull Γ bc bs st (ad (4 * b)) K := by
  have hv := h.v hb
  have hok : ok3 (Ds b) := ⟨hv, hz, h3⟩
  obtain ⟨gp, g1, g2⟩ := (h.grp hb hk).2 hz
  have c0 := h.1.1 b 0 hb (by omega)
  rw [Nat.add_zero] at c0
  unfold MX1_hull
  refine st_gr c0 (v := (bd b).2.1.2.1) rfl ?_
  refine jp_3 (fun g _ _ => ∃ I' bd' n, cV Γ E g I' ad bd' x Ds ∧ (∀ a y, I a y → I' a y) ∧ (∀ b', (bd b').1.2.2 = 1 → (bd' b').1.2.2 = 1) ∧ (bd' b).2.1.2.1 = some n ∧ huE Γ I' (ad (4 * b)) n (Ds b)) ?_ ?_
  · rintro g _ _ ⟨I', bd', n, hV, hI', hk', hn, hs⟩
    have c0' := hV.1.1 b 0 hb (by omega)
    rw [Nat.add_zero] at c0'
    refine st_gr c0' (v := (bd' b).2.1.2.1) rfl ?_
    rw [hn]
    exact hK g I' bd' n hV hI' hk' hs
  · intro k14 hk14
    refine ⟨fun hnone => ?_, fun n hn => hk14 _ _ _ ⟨I, bd, n, h, fun _ _ z => z, fun _ z => z, hn, (hH _ _ _ _).mp ((h.2.2.1 b hb).2.2.2.2.1 n hn)⟩⟩
    refine st_mk (by omega) (by omega) (fun q s1 f1 gs1 w1 => ?_)
    have hV1 := h.keep (I' := I) hE gs1 (W := []) (fun w hw => absurd hw List.not_mem_nil) (fun _ _ z => z) (fun _ _ z => Or.inl z)
    have oq : ownC I (fun j => ad (4 * b + j)) q := (h.X hb hz g1 g2).own f1
    have qad : ∀ i, i < 19 → ¬ q = ad i := fun i hi e => by
      obtain ⟨y, hy⟩ := h.1.known hi
      rw [← e, f1] at hy
      exact absurd hy (by simp)
    refine ⟨273, 12410, ⟨by omega, by omega⟩, sc_hullinit (a := fun j => ad (4 * b + j)) (hV1.X hb hz g1 g2) hok w1 oq (Nat.le_refl _) (Nat.le_refl _) (fun s2 I2 d2 net pj pm ps pk pr pf fj fm f3 f4 fr ff t w hX2 gs2 hI2 hN2 hk2 hS2 hr2 hnew => ?_)⟩
    have hV2 := hV1.ofX hE hb hX2 gs2 (fun w hw => by
      simp only [List.mem_cons, List.not_mem_nil, or_false] at hw
      rcases hw with rfl | rfl | rfl
      · exact ⟨fun i hi e => absurd e.symm (qad i hi), oq.2, ⟨_, hS2.1⟩⟩
      · exact ⟨fun i hi e => Or.inl (h.1.2.2 _ _ hi (by omega) e), fun y hy => (h.2.1 _ y hy).2 (4 * b + 2) (by omega) rfl, ⟨_, hX2.1.1 2 (by omega)⟩⟩
      · exact ⟨fun i hi e => Or.inr (h.1.2.2 _ _ hi (by omega) e), fun y hy => (h.2.1 _ y hy).2 (4 * b + 3) (by omega) rfl, ⟨_, hX2.1.1 3 (by omega)⟩⟩) hI2 hN2 hk2
    have hV3 : cV Γ E s2 (fun a y => I2 a y ∨ (s2 a = some y ∧ (a = q ∨ a = net ∨ a = pj ∨ a = pm ∨ a = ps ∨ a = pk ∨ a = pr ∨ a = pf))) ad (upB bd b d2) x Ds := hV2.frz hE (fun _ _ z => Or.inl z) (fun a y hy => hy.imp id (fun ⟨z1, z2⟩ => ⟨z1, fun i hi e => by
      rcases z2 with z | z
      · rw [z] at e; exact qad i hi e
      · have := hnew a z
        obtain ⟨y, hy⟩ := hV1.1.known hi
        rw [← e, this] at hy
        exact absurd hy (by simp)⟩))
    generalize hI3 : (fun a y => I2 a y ∨ (s2 a = some y ∧ (a = q ∨ a = net ∨ a = pj ∨ a = pm ∨ a = ps ∨ a = pk ∨ a = pr ∨ a = pf))) = I3 at hV3
    have hhu : huE Γ I3 (ad (4 * b)) q (Ds b) := by
      rw [← hI3]
      refine ⟨hok, net, pj, pm, ps, pk, pr, pf, fj, fm, f3, f4, fr, ff, t, w, fun g hg => ?_, hr2⟩
      obtain ⟨e1, e2, e3, e4, e5, e6, e7⟩ := hS2
      have k : ∀ {a : Nat} {y : va_E}, (a = q ∨ a = net ∨ a = pj ∨ a = pm ∨ a = ps ∨ a = pk ∨ a = pr ∨ a = pf) → s2 a = some y → g a = some y := fun ha hy => hg _ _ (Or.inr ⟨hy, ha⟩)
      exact ⟨k (by simp) e1, ⟨e2.1, k (by simp) e2.2.1, k (by simp) e2.2.2.1, k (by simp) e2.2.2.2.1, e2.2.2.2.2⟩, k (by simp) e3, k (by simp) e4, e5, k (by simp) e6, k (by simp) e7⟩
    have d0 := hV3.1.1 b 0 hb (by omega)
    rw [Nat.add_zero] at d0
    refine st_pt d0 (by simp [wB]) (fun s3 gs3 w3 => ?_)
    have qq := hV3.2.2.1 b hb
    rw [upB_eq] at qq w3
    obtain ⟨q1, q2, q3, q4, q5, q6⟩ := qq
    have hV4 := hV3.setD (d := (d2.1, (d2.2.1.1, some q, d2.2.1.2.2), d2.2.2)) (W := [ad (4 * b)]) hb (fun w hw => ⟨0, by omega, List.mem_singleton.mp hw⟩) gs3 (fun j hj => ?_) (Ds b) ⟨q1, q2, q3, q4, fun n hn => ?_, q6⟩ (fun g hg => ⟨by rw [upB_eq]; exact hg, sameA.rf _⟩)
    · rw [updD_same] at hV4
      refine hk14 _ _ _ ⟨I3, _, q, hV4, fun a y z => ?_, fun b' z => ?_, by rw [upB_eq], hhu⟩
      · rw [← hI3]; exact Or.inl (hI2 a y z)
      · by_cases e : b' = b
        · rw [e, upB_eq]
          show d2.1.2.2 = 1
          rw [hk2.1]; exact hk
        · rw [upB_ne e, upB_ne e]; exact z
    · match j, hj with
      | 0, _ => exact w3
      | 1, _ => exact gs3 _ _ (by have := hV3.1.1 b 1 hb (by omega); rw [upB_eq] at this; exact this) (fun z => by have := hV3.1.2.2 _ _ (by omega) (by omega) (List.mem_singleton.mp z); omega)
      | 2, _ => exact gs3 _ _ (by have := hV3.1.1 b 2 hb (by omega); rw [upB_eq] at this; exact this) (fun z => by have := hV3.1.2.2 _ _ (by omega) (by omega) (List.mem_singleton.mp z); omega)
      | 3, _ => exact gs3 _ _ (by have := hV3.1.1 b 3 hb (by omega); rw [upB_eq] at this; exact this) (fun z => by have := hV3.1.2.2 _ _ (by omega) (by omega) (List.mem_singleton.mp z); omega)
    · have e : some q = some n := hn
      injection e with e
      rw [← e]
      exact (hH _ _ _ _).mpr hhu
end HU

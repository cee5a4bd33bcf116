set_option maxRecDepth 100000
/-! how far all are from one: by walks of so many steps -/
def wk (A : Nat → Nat → Bool) (N f : Nat) : Nat → Nat → Prop
  | 0, v => v = f
  | k + 1, v => ∃ u, u < N ∧ wk A N f k u ∧ A u v = true
def fO (A : Nat → Nat → Bool) (N f v : Nat) (o : Option Nat) : Prop := match o with
  | some d => wk A N f d v ∧ ∀ j, j < d → ¬ wk A N f j v
  | none => ∀ j, ¬ wk A N f j v
theorem fO_un {A : Nat → Nat → Bool} {N f v : Nat} {o o' : Option Nat} (h : fO A N f v o) (h' : fO A N f v o') : o = o' := by
  cases o with
  | none =>
    cases o' with
    | none => rfl
    | some d => exact absurd h'.1 (h d)
  | some d =>
    cases o' with
    | none => exact absurd h.1 (h' d)
    | some d' =>
      rcases Nat.lt_trichotomy d d' with z | z | z
      · exact absurd h.1 (h'.2 d z)
      · rw [z]
      · exact absurd h'.1 (h.2 d' z)
theorem fO_ex (A : Nat → Nat → Bool) (N f v : Nat) : ∃ o, fO A N f v o := by
  by_cases h : ∃ d, wk A N f d v
  · obtain ⟨d, hd⟩ := h
    have key : ∀ d, wk A N f d v → ∃ d', wk A N f d' v ∧ ∀ j, j < d' → ¬ wk A N f j v := by
      intro d
      induction d using Nat.strongRecOn with
      | _ d ih =>
        intro hd
        by_cases hx : ∃ j, j < d ∧ wk A N f j v
        · obtain ⟨j, hj, hw⟩ := hx
          exact ih j hj hw
        · exact ⟨d, hd, fun j hj z => hx ⟨j, hj, z⟩⟩
    obtain ⟨d', h1, h2⟩ := key d hd
    exact ⟨some d', h1, h2⟩
  · exact ⟨none, fun j z => h ⟨j, z⟩⟩
noncomputable def fo (A : Nat → Nat → Bool) (N f v : Nat) : Option Nat := (fO_ex A N f v).choose
theorem fo_eq {A : Nat → Nat → Bool} {N f v : Nat} {o : Option Nat} (h : fO A N f v o) : o = fo A N f v := fO_un h (fO_ex A N f v).choose_spec
/-- how many have no number yet -/
def uo (dd : Nat → Option Nat) : Nat → Nat
  | 0 => 0
  | n + 1 => uo dd n + b1 (dd n).isNone
def upo (dd : Nat → Option Nat) (v : Nat) (o : Option Nat) : Nat → Option Nat := fun k => if k = v then o else dd k
def upn (q : Nat → Nat) (v : Nat) (o : Nat) : Nat → Nat := fun k => if k = v then o else q k
theorem upo_eq (dd : Nat → Option Nat) (v : Nat) (o : Option Nat) : upo dd v o v = o := by unfold upo; rw [if_pos rfl]
theorem upo_ne {dd : Nat → Option Nat} {v k : Nat} {o : Option Nat} (h : ¬ k = v) : upo dd v o k = dd k := by unfold upo; rw [if_neg h]
theorem upn_eq (q : Nat → Nat) (v o : Nat) : upn q v o v = o := by unfold upn; rw [if_pos rfl]
theorem upn_ne {q : Nat → Nat} {v k o : Nat} (h : ¬ k = v) : upn q v o k = q k := by unfold upn; rw [if_neg h]
theorem uo_le (dd : Nat → Option Nat) : ∀ n, uo dd n ≤ n := by
  intro n
  induction n with
  | zero => exact Nat.le_refl _
  | succ n ih => have := b1_le (dd n).isNone; show uo dd n + b1 (dd n).isNone ≤ n + 1; omega
theorem uo_cg {dd de : Nat → Option Nat} : ∀ n, (∀ k, k < n → dd k = de k) → uo dd n = uo de n := by
  intro n
  induction n with
  | zero => intro _; rfl
  | succ n ih => intro h; show uo dd n + b1 (dd n).isNone = uo de n + b1 (de n).isNone; rw [ih (fun k hk => h k (by omega)), h n (by omega)]
theorem uo_up {dd : Nat → Option Nat} {v d : Nat} (h : dd v = none) : ∀ n, v < n → uo (upo dd v (some d)) n + 1 = uo dd n := by
  intro n
  induction n with
  | zero => intro z; exact absurd z (Nat.not_lt_zero _)
  | succ n ih =>
    intro hv
    show uo (upo dd v (some d)) n + b1 (upo dd v (some d) n).isNone + 1 = uo dd n + b1 (dd n).isNone
    by_cases e : v = n
    · subst e
      rw [upo_eq, h, uo_cg v (fun k hk => upo_ne (dd := dd) (o := some d) (by omega : ¬ k = v))]
      rfl
    · rw [upo_ne (fun z => e z.symm)]
      have := ih (by omega)
      omega
theorem uo_pos {dd : Nat → Option Nat} {v : Nat} (h : dd v = none) : ∀ n, v < n → 1 ≤ uo dd n := by
  intro n hv
  have := uo_up (d := 0) h n hv
  omega
theorem uo_none : ∀ n, uo (fun _ => none) n = n := by
  intro n
  induction n with
  | zero => rfl
  | succ n ih => show uo (fun _ => none) n + 1 = n + 1; rw [ih]
/-- some are told: queue q of n, k of them done, of the k-th those in S -/
def bQ (A : Nat → Nat → Bool) (N f : Nat) (q : Nat → Nat) (dd : Nat → Option Nat) (n k : Nat) (S : Nat → Prop) : Prop :=
  (∀ j, j < n → q j < N ∧ ∃ d, d ≤ j ∧ dd (q j) = some d) ∧
  (∀ v d, v < N → dd v = some d → ∃ j, j < n ∧ q j = v) ∧
  (uo dd N + n = N) ∧
  (∀ i j d d', i ≤ j → j < n → dd (q i) = some d → dd (q j) = some d' → d ≤ d') ∧
  (∀ j d d', j < n → k < n → dd (q j) = some d' → dd (q k) = some d → d' ≤ d + 1) ∧
  (dd f = some 0 ∧ f < N) ∧
  (∀ v, v < N → dd v = some 0 → v = f) ∧
  (∀ v d, v < N → dd v = some (d + 1) → ∃ u, u < N ∧ A u v = true ∧ dd u = some d) ∧
  (∀ j d v, j < k → dd (q j) = some d → v < N → A (q j) v = true → ∃ d', dd v = some d' ∧ d' ≤ d + 1) ∧
  (∀ d v, S v → k < n → dd (q k) = some d → v < N → A (q k) v = true → ∃ d', dd v = some d' ∧ d' ≤ d + 1)
section BQP
variable {A : Nat → Nat → Bool} {N f : Nat} {q : Nat → Nat} {dd : Nat → Option Nat} {n k : Nat} {S : Nat → Prop}
theorem bQ.on (h : bQ A N f q dd n k S) : ∀ j, j < n → q j < N ∧ ∃ d, d ≤ j ∧ dd (q j) = some d := h.1
theorem bQ.at' (h : bQ A N f q dd n k S) : ∀ v d, v < N → dd v = some d → ∃ j, j < n ∧ q j = v := h.2.1
theorem bQ.un (h : bQ A N f q dd n k S) : uo dd N + n = N := h.2.2.1
theorem bQ.mono (h : bQ A N f q dd n k S) : ∀ i j d d', i ≤ j → j < n → dd (q i) = some d → dd (q j) = some d' → d ≤ d' := h.2.2.2.1
theorem bQ.near (h : bQ A N f q dd n k S) : ∀ j d d', j < n → k < n → dd (q j) = some d' → dd (q k) = some d → d' ≤ d + 1 := h.2.2.2.2.1
theorem bQ.start (h : bQ A N f q dd n k S) : dd f = some 0 ∧ f < N := h.2.2.2.2.2.1
theorem bQ.zero (h : bQ A N f q dd n k S) : ∀ v, v < N → dd v = some 0 → v = f := h.2.2.2.2.2.2.1
theorem bQ.back (h : bQ A N f q dd n k S) : ∀ v d, v < N → dd v = some (d + 1) → ∃ u, u < N ∧ A u v = true ∧ dd u = some d := h.2.2.2.2.2.2.2.1
theorem bQ.done (h : bQ A N f q dd n k S) : ∀ j d v, j < k → dd (q j) = some d → v < N → A (q j) v = true → ∃ d', dd v = some d' ∧ d' ≤ d + 1 := h.2.2.2.2.2.2.2.2.1
theorem bQ.scan (h : bQ A N f q dd n k S) : ∀ d v, S v → k < n → dd (q k) = some d → v < N → A (q k) v = true → ∃ d', dd v = some d' ∧ d' ≤ d + 1 := h.2.2.2.2.2.2.2.2.2
end BQP
theorem bQ_start {A : Nat → Nat → Bool} {N f : Nat} (hf : f < N) (q : Nat → Nat) (hq : q 0 = f) : bQ A N f q (upo (fun _ => none) f (some 0)) 1 0 (fun _ => False) := by
  refine ⟨?_, ?_, ?_, ?_, ?_, ?_, ?_, ?_, ?_, ?_⟩
  · exact fun j hj => by rw [show j = 0 by omega, hq]; exact ⟨hf, 0, Nat.le_refl _, upo_eq _ _ _⟩
  · exact fun v d hv h => ⟨0, by omega, by
      by_cases e : v = f
      · rw [e, hq]
      · rw [upo_ne e] at h; exact absurd h (by simp)⟩
  · exact by
      have := uo_up (dd := fun _ => none) (v := f) (d := 0) rfl N hf
      rw [uo_none] at this
      exact this
  · exact fun i j d d' hij hj h1 h2 => by
      rw [show i = 0 by omega] at h1
      rw [show j = 0 by omega, h1] at h2
      injection h2 with h2
      omega
  · exact fun j d d' hj hk h1 h2 => by
      rw [show j = 0 by omega, h2] at h1
      injection h1 with h1
      omega
  · exact ⟨upo_eq _ _ _, hf⟩
  · exact fun v hv h => by
      by_cases e : v = f
      · exact e
      · rw [upo_ne e] at h; exact absurd h (by simp)
  · exact fun v d hv h => by
      by_cases e : v = f
      · rw [e, upo_eq] at h; injection h with h; omega
      · rw [upo_ne e] at h; exact absurd h (by simp)
  · exact fun j d v hj => absurd hj (Nat.not_lt_zero _)
  · exact fun d v hs => False.elim hs
section BFS
variable {A : Nat → Nat → Bool} {N f : Nat} {q : Nat → Nat} {dd : Nat → Option Nat} {n k : Nat} {S : Nat → Prop}
theorem bQ.nle (h : bQ A N f q dd n k S) : n ≤ N := by have := h.un; omega
/-- one that has its number, or isn't joined -/
theorem bQ.skip (h : bQ A N f q dd n k S) {v : Nat} (hv : A (q k) v = false ∨ ¬ dd v = none) (hk : k < n) : bQ A N f q dd n k (fun w => S w ∨ w = v) := by
  refine ⟨h.on, h.at', h.un, h.mono, h.near, h.start, h.zero, h.back, h.done, ?_⟩
  intro d w hs hk' hd hw ha
  rcases hs with hs | hs
  · exact h.scan d w hs hk' hd hw ha
  · subst hs
    rcases hv with z | z
    · rw [z] at ha; exact absurd ha (by decide)
    · cases e : dd w with
      | none => exact absurd e z
      | some d' =>
        obtain ⟨j, hj, hjw⟩ := h.at' w d' hw e
        exact ⟨d', rfl, h.near j d d' hj hk (by rw [hjw]; exact e) hd⟩
theorem bQ.push (h : bQ A N f q dd n k S) {v d : Nat} (hv : v < N) (ha : A (q k) v = true) (hn : dd v = none) (hk : k < n) (hd : dd (q k) = some d) : n < N ∧ d ≤ k ∧ bQ A N f (upn q n v) (upo dd v (some (d + 1))) (n + 1) k (fun w => S w ∨ w = v) := by
  have hu := uo_up (d := d + 1) hn N hv
  have hun := h.un
  have qn : ∀ j, j < n → ¬ q j = v := fun j hj z => by
    obtain ⟨-, d', -, hd'⟩ := h.on j hj
    rw [z, hn] at hd'
    exact absurd hd' (by simp)
  have e1 : ∀ j, j < n → upn q n v j = q j := fun j hj => upn_ne (by omega)
  have e2 : ∀ j, j < n → upo dd v (some (d + 1)) (q j) = dd (q j) := fun j hj => upo_ne (qn j hj)
  have hdk : d ≤ k := by
    obtain ⟨-, d', hd'1, hd'2⟩ := h.on k hk
    rw [hd] at hd'2
    injection hd'2 with z
    omega
  have own : ∀ w d', ¬ w = v → upo dd v (some (d + 1)) w = some d' → dd w = some d' := fun w d' hw z => by rw [upo_ne hw] at z; exact z
  have gn : ∀ w d', dd w = some d' → upo dd v (some (d + 1)) w = some d' := fun w d' z => by
    have : ¬ w = v := fun e => by rw [e, hn] at z; exact absurd z (by simp)
    rw [upo_ne this]; exact z
  refine ⟨by omega, hdk, ?_⟩
  refine ⟨fun j hj => ?_, fun w d' hw z => ?_, by omega, fun i j d1 d2 hij hj z1 z2 => ?_, fun j d1 d2 hj hk' z1 z2 => ?_, ⟨gn f 0 h.start.1, h.start.2⟩, fun w hw z => ?_, fun w d' hw z => ?_, fun j d1 w hj z1 hw hA => ?_, fun d1 w hs hk' z1 hw hA => ?_⟩
  · by_cases e : j = n
    · rw [e, upn_eq, upo_eq]; exact ⟨hv, d + 1, by omega, rfl⟩
    · rw [e1 j (by omega), e2 j (by omega)]; exact h.on j (by omega)
  · by_cases e : w = v
    · exact ⟨n, by omega, by rw [upn_eq, e]⟩
    · obtain ⟨j, hj, hjw⟩ := h.at' w d' hw (own w d' e z)
      exact ⟨j, by omega, by rw [e1 j hj]; exact hjw⟩
  · by_cases ej : j = n
    · rw [ej, upn_eq, upo_eq] at z2
      injection z2 with z2
      by_cases ei : i = n
      · rw [ei, upn_eq, upo_eq] at z1
        injection z1 with z1
        omega
      · rw [e1 i (by omega), e2 i (by omega)] at z1
        have := h.near i d d1 (by omega) hk z1 hd
        omega
    · rw [e1 j (by omega), e2 j (by omega)] at z2
      rw [e1 i (by omega), e2 i (by omega)] at z1
      exact h.mono i j d1 d2 hij (by omega) z1 z2
  · rw [e1 k hk, e2 k hk, hd] at z2
    injection z2 with z2
    by_cases ej : j = n
    · rw [ej, upn_eq, upo_eq] at z1
      injection z1 with z1
      omega
    · rw [e1 j (by omega), e2 j (by omega)] at z1
      have := h.near j d d2 (by omega) hk z1 hd
      omega
  · by_cases e : w = v
    · rw [e, upo_eq] at z; injection z with z; omega
    · exact h.zero w hw (own w 0 e z)
  · by_cases e : w = v
    · rw [e, upo_eq] at z
      injection z with z
      have zd : d = d' := by omega
      subst zd
      exact ⟨q k, (h.on k hk).1, by rw [e]; exact ha, by rw [e2 k hk]; exact hd⟩
    · obtain ⟨u, u1, u2, u3⟩ := h.back w d' hw (own w _ e z)
      exact ⟨u, u1, u2, gn u _ u3⟩
  · rw [e1 j (by omega)] at z1 hA
    rw [e2 j (by omega)] at z1
    obtain ⟨d2, y1, y2⟩ := h.done j d1 w hj z1 hw hA
    exact ⟨d2, gn w _ y1, y2⟩
  · rw [e1 k hk] at z1 hA
    rw [e2 k hk, hd] at z1
    injection z1 with z1
    rcases hs with hs | rfl
    · obtain ⟨d2, y1, y2⟩ := h.scan d w hs hk hd hw hA
      exact ⟨d2, gn w _ y1, by omega⟩
    · exact ⟨d + 1, upo_eq _ _ _, by omega⟩
theorem bQ.next (h : bQ A N f q dd n k S) (hk : k < n) (hS : ∀ v, v < N → A (q k) v = true → S v) : bQ A N f q dd n (k + 1) (fun _ => False) := by
  refine ⟨h.on, h.at', h.un, h.mono, ?_, h.start, h.zero, h.back, ?_, ?_⟩
  · intro j d d' hj hk' z1 z2
    obtain ⟨-, d0, -, hd0⟩ := h.on k hk
    have := h.near j d0 d' hj hk z1 hd0
    have := h.mono k (k + 1) d0 d (by omega) hk' hd0 z2
    omega
  · intro j d v hj z hv ha
    by_cases e : j = k
    · subst e
      exact h.scan d v (hS v hv ha) hk z hv ha
    · exact h.done j d v (by omega) z hv ha
  · intro d v hs
    exact False.elim hs
theorem bQ.fin (h : bQ A N f q dd n n S) {v : Nat} (hv : v < N) : dd v = fo A N f v := by
  have fw : ∀ d v, v < N → dd v = some d → wk A N f d v := by
    intro d
    induction d with
    | zero => intro v hv z; exact h.zero v hv z
    | succ d ih =>
      intro v hv z
      obtain ⟨u, u1, u2, u3⟩ := h.back v d hv z
      exact ⟨u, u1, ih u u1 u3, u2⟩
  have bw : ∀ j v, v < N → wk A N f j v → ∃ d, d ≤ j ∧ dd v = some d := by
    intro j
    induction j with
    | zero =>
      intro v hv z
      have z' : v = f := z
      rw [z']; exact ⟨0, Nat.le_refl _, h.start.1⟩
    | succ j ih =>
      rintro v hv ⟨u, u1, u2, u3⟩
      obtain ⟨d, d1, d2⟩ := ih u u1 u2
      obtain ⟨i, hi, hiu⟩ := h.at' u d u1 d2
      obtain ⟨d', y1, y2⟩ := h.done i d v hi (by rw [hiu]; exact d2) hv (by rw [hiu]; exact u3)
      exact ⟨d', by omega, y1⟩
  refine fo_eq ?_
  cases e : dd v with
  | none =>
    intro j z
    obtain ⟨d, -, d2⟩ := bw j v hv z
    rw [e] at d2
    exact absurd d2 (by simp)
  | some d =>
    refine ⟨fw d v hv e, fun j hj z => ?_⟩
    obtain ⟨d', d1, d2⟩ := bw j v hv z
    rw [e] at d2
    injection d2 with d2
    omega
theorem bQ.lt (h : bQ A N f q dd n n S) {v d : Nat} (hv : v < N) (hd : dd v = some d) : d < N := by
  obtain ⟨j, hj, hjv⟩ := h.at' v d hv hd
  obtain ⟨-, d', h1, h2⟩ := h.on j hj
  rw [hjv, hd] at h2
  injection h2 with h2
  have := h.nle
  omega
end BFS

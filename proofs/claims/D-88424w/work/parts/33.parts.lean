set_option maxRecDepth 100000
/-! classes of elements by some mirrors, and how a search in breadth labels them -/
def cn (r : Nat) (tf : Nat → Nat → Nat) (S : Nat → Bool) (g h : Nat) : Prop := ∃ w : List Nat, (∀ x ∈ w, x < r ∧ S x = true) ∧ w.foldl tf g = h
def tfo (n r : Nat) (tf : Nat → Nat → Nat) : Prop := ∀ g i, g < n → i < r → tf g i < n ∧ tf (tf g i) i = g
section CN
variable {n r : Nat} {tf : Nat → Nat → Nat} {S : Nat → Bool}
theorem cn_rf (g : Nat) : cn r tf S g g := ⟨[], fun _ h => absurd h List.not_mem_nil, rfl⟩
theorem cn_st {g k i : Nat} (h : cn r tf S g k) (hi : i < r) (hs : S i = true) : cn r tf S g (tf k i) := by
  obtain ⟨w, h1, h2⟩ := h
  refine ⟨w ++ [i], fun x hx => ?_, by rw [List.foldl_append, h2]; rfl⟩
  rcases List.mem_append.mp hx with h | h
  · exact h1 x h
  · rw [List.mem_singleton.mp h]; exact ⟨hi, hs⟩
theorem cn_tr {g k l : Nat} (h : cn r tf S g k) (h' : cn r tf S k l) : cn r tf S g l := by
  obtain ⟨w, h1, h2⟩ := h
  obtain ⟨w', h1', h2'⟩ := h'
  refine ⟨w ++ w', fun x hx => ?_, by rw [List.foldl_append, h2]; exact h2'⟩
  rcases List.mem_append.mp hx with h | h
  · exact h1 x h
  · exact h1' x h
theorem cn_lt (ht : tfo n r tf) {g k : Nat} (hg : g < n) (h : cn r tf S g k) : k < n := by
  obtain ⟨w, h1, h2⟩ := h
  induction w generalizing g with
  | nil => cases h2; exact hg
  | cons i w ih => exact ih (ht g i hg (h1 i List.mem_cons_self).1).1 (fun x hx => h1 x (List.mem_cons_of_mem _ hx)) h2
theorem cn_sy (ht : tfo n r tf) {g k : Nat} (hg : g < n) (h : cn r tf S g k) : cn r tf S k g := by
  obtain ⟨w, h1, h2⟩ := h
  induction w generalizing g with
  | nil => cases h2; exact cn_rf _
  | cons i w ih =>
    have hi := h1 i List.mem_cons_self
    obtain ⟨hlt, hinv⟩ := ht g i hg hi.1
    have h3 := cn_st (ih hlt (fun x hx => h1 x (List.mem_cons_of_mem _ hx)) h2) hi.1 hi.2
    rw [hinv] at h3
    exact h3
def isL (r : Nat) (tf : Nat → Nat → Nat) (S : Nat → Bool) (l h : Nat) : Prop := cn r tf S l h ∧ ∀ l', l' < l → ¬ cn r tf S l' h
theorem isL_ex (h : Nat) : ∃ l, isL r tf S l h ∧ l ≤ h := by
  have key : ∀ k, cn r tf S k h → ∃ l, isL r tf S l h ∧ l ≤ k := by
    intro k
    induction k using Nat.strongRecOn with
    | _ k ih =>
      intro hk
      by_cases hc : ∃ l', l' < k ∧ cn r tf S l' h
      · obtain ⟨l', h1, h2⟩ := hc
        obtain ⟨l, h3, h4⟩ := ih l' h1 h2
        exact ⟨l, h3, by omega⟩
      · exact ⟨k, ⟨hk, fun l' hl z => hc ⟨l', hl, z⟩⟩, Nat.le_refl _⟩
  exact key h (cn_rf h)
theorem isL_un {l l' h : Nat} (h1 : isL r tf S l h) (h2 : isL r tf S l' h) : l = l' := by
  rcases Nat.lt_trichotomy l l' with hlt | heq | hgt
  · exact absurd h1.1 (h2.2 l hlt)
  · exact heq
  · exact absurd h2.1 (h1.2 l' hgt)
theorem isL_self {l h : Nat} (h1 : isL r tf S l h) : isL r tf S l l := ⟨cn_rf l, fun l' hl z => h1.2 l' hl (cn_tr z h1.1)⟩
noncomputable def pcnt (r : Nat) (tf : Nat → Nat → Nat) (S : Nat → Bool) : Nat → Nat
  | 0 => 0
  | l + 1 => pcnt r tf S l + @ite Nat (isL r tf S l l) (Classical.propDecidable _) 1 0
noncomputable def prt (r : Nat) (tf : Nat → Nat → Nat) (S : Nat → Bool) (h : Nat) : Nat := pcnt r tf S (Classical.choose (isL_ex (r := r) (tf := tf) (S := S) h))
theorem pcnt_pos {l : Nat} (h : isL r tf S l l) : pcnt r tf S (l + 1) = pcnt r tf S l + 1 := by
  show pcnt r tf S l + @ite Nat (isL r tf S l l) (Classical.propDecidable _) 1 0 = _
  rw [if_pos h]
theorem pcnt_neg {l : Nat} (h : ¬ isL r tf S l l) : pcnt r tf S (l + 1) = pcnt r tf S l := by
  show pcnt r tf S l + @ite Nat (isL r tf S l l) (Classical.propDecidable _) 1 0 = _
  rw [if_neg h, Nat.add_zero]
theorem pcnt_mono {a b : Nat} (h : a ≤ b) : pcnt r tf S a ≤ pcnt r tf S b := by
  induction b with
  | zero => rw [Nat.le_zero.mp h]; exact Nat.le_refl _
  | succ b ih =>
    rcases Nat.lt_or_ge a (b + 1) with h1 | h1
    · exact Nat.le_trans (ih (by omega)) (Nat.le_add_right _ _)
    · rw [show a = b + 1 by omega]; exact Nat.le_refl _
theorem pcnt_le (l : Nat) : pcnt r tf S l ≤ l := by
  induction l with
  | zero => exact Nat.le_refl _
  | succ l ih =>
    by_cases h : isL r tf S l l
    · rw [pcnt_pos h]; omega
    · rw [pcnt_neg h]; omega
theorem prt_eq {l h : Nat} (hl : isL r tf S l h) : prt r tf S h = pcnt r tf S l := by
  unfold prt
  rw [isL_un (Classical.choose_spec (isL_ex (r := r) (tf := tf) (S := S) h)).1 hl]
theorem prt_lt {h m : Nat} (hm : h < m) : prt r tf S h < pcnt r tf S m := by
  obtain ⟨l, hl, hle⟩ := isL_ex (r := r) (tf := tf) (S := S) h
  rw [prt_eq hl]
  have := pcnt_pos (isL_self hl)
  have := pcnt_mono (r := r) (tf := tf) (S := S) (show l + 1 ≤ m by omega)
  omega
theorem prt_cn (ht : tfo n r tf) {g h : Nat} (hg : g < n) (hc : cn r tf S g h) : prt r tf S g = prt r tf S h := by
  obtain ⟨l, hl, hle⟩ := isL_ex (r := r) (tf := tf) (S := S) g
  have h2 : isL r tf S l h := ⟨cn_tr hl.1 hc, fun l' hlt z => hl.2 l' hlt (cn_tr z (cn_sy ht hg hc))⟩
  rw [prt_eq hl, prt_eq h2]
theorem prt_inj (ht : tfo n r tf) {g h : Nat} (hg : g < n) (hh : h < n) (he : prt r tf S g = prt r tf S h) : cn r tf S g h := by
  obtain ⟨l, hl, hle⟩ := isL_ex (r := r) (tf := tf) (S := S) g
  obtain ⟨l', hl', hle'⟩ := isL_ex (r := r) (tf := tf) (S := S) h
  rw [prt_eq hl, prt_eq hl'] at he
  have hll : l = l' := by
    rcases Nat.lt_trichotomy l l' with h1 | h1 | h1
    · have a1 := pcnt_pos (isL_self hl)
      have a2 := pcnt_mono (r := r) (tf := tf) (S := S) (show l + 1 ≤ l' by omega)
      omega
    · exact h1
    · have a1 := pcnt_pos (isL_self hl')
      have a2 := pcnt_mono (r := r) (tf := tf) (S := S) (show l' + 1 ≤ l by omega)
      omega
  subst hll
  exact cn_tr (cn_sy ht (Nat.lt_of_le_of_lt hle hg) hl.1) hl'.1
theorem prt_st (ht : tfo n r tf) {g i : Nat} (hg : g < n) (hi : i < r) (hs : S i = true) : prt r tf S (tf g i) = prt r tf S g := (prt_cn ht hg (cn_st (cn_rf g) hi hs)).symm
/-- every label below the count is some element's -/
theorem prt_ex {p m : Nat} (hp : p < pcnt r tf S m) : ∃ l, l < m ∧ isL r tf S l l ∧ prt r tf S l = p := by
  induction m with
  | zero => exact absurd hp (Nat.not_lt_zero _)
  | succ m ih =>
    by_cases hm : p < pcnt r tf S m
    · obtain ⟨l, h1, h2, h3⟩ := ih hm
      exact ⟨l, by omega, h2, h3⟩
    · by_cases h : isL r tf S m m
      · rw [pcnt_pos h] at hp
        exact ⟨m, by omega, h, by rw [prt_eq h]; omega⟩
      · rw [pcnt_neg h] at hp; omega
/-- how many are without a label -/
def um : Nat → (Nat → Int32) → Nat
  | 0, _ => 0
  | n + 1, f => um n f + if f n = -1 then 1 else 0
theorem um_upd {f : Nat → Int32} {h : Nat} {v : Int32} (hf : f h = -1) (hv : ¬ v = -1) : ∀ {n : Nat}, (h < n → um n (upd f h v) + 1 = um n f) ∧ (¬ h < n → um n (upd f h v) = um n f) := by
  intro n
  induction n with
  | zero => exact ⟨fun z => absurd z (Nat.not_lt_zero _), fun _ => rfl⟩
  | succ n ih =>
    have e : upd f h v n = if n = h then v else f n := rfl
    constructor
    · intro hlt
      show um n (upd f h v) + (if upd f h v n = -1 then 1 else 0) + 1 = um n f + if f n = -1 then 1 else 0
      by_cases hn : n = h
      · subst hn
        rw [e, if_pos rfl, if_neg hv, if_pos hf, ih.2 (Nat.lt_irrefl _)]
      · rw [e, if_neg hn]
        have := ih.1 (by omega)
        omega
    · intro hge
      show um n (upd f h v) + (if upd f h v n = -1 then 1 else 0) = um n f + if f n = -1 then 1 else 0
      have hn : ¬ n = h := by omega
      rw [e, if_neg hn, ih.2 (by omega)]
theorem um_le (f : Nat → Int32) : ∀ n, um n f ≤ n := by
  intro n
  induction n with
  | zero => exact Nat.le_refl _
  | succ n ih => show um n f + (if f n = -1 then 1 else 0) ≤ n + 1; split <;> omega
theorem um_pos {f : Nat → Int32} {h : Nat} (hf : f h = -1) : ∀ {n : Nat}, h < n → 1 ≤ um n f := by
  intro n
  induction n with
  | zero => intro z; exact absurd z (Nat.not_lt_zero _)
  | succ n ih =>
    intro hlt
    show 1 ≤ um n f + if f n = -1 then 1 else 0
    by_cases hn : n = h
    · subst hn; rw [if_pos hf]; omega
    · have := ih (by omega); omega
/-- between two parts: what hangs together with an element below g is labelled -/
def pO (n r : Nat) (tf : Nat → Nat → Nat) (S : Nat → Bool) (g : Nat) (row : Nat → Int32) : Prop := ∀ h, h < n → (row h = -1 ∧ ∀ l, l < g → ¬ cn r tf S l h) ∨ (row h = nI (prt r tf S h) ∧ ∃ l, l < g ∧ cn r tf S l h)
/-- within the part of g: row so far, the queue's end e, its place k, the mirror i -/
def pJ (n r : Nat) (tf : Nat → Nat → Nat) (S : Nat → Bool) (g : Nat) (row0 row queue : Nat → Int32) (e k i : Nat) : Prop :=
  (∀ h, h < n → (cn r tf S g h ∧ (row h = -1 ∨ row h = nI (pcnt r tf S g))) ∨ (¬ cn r tf S g h ∧ row h = row0 h)) ∧
  (∀ j, j < e → ∃ q, q < n ∧ queue j = nI q ∧ cn r tf S g q ∧ row q = nI (pcnt r tf S g)) ∧
  (∀ h, h < n → cn r tf S g h → row h = nI (pcnt r tf S g) → ∃ j, j < e ∧ queue j = nI h) ∧
  (∀ j x q, j < e → x < r → (j < k ∨ (j = k ∧ x < i)) → q < n → queue j = nI q → S x = true → row (tf q x) = nI (pcnt r tf S g)) ∧
  e + um n row ≤ n ∧ row g = nI (pcnt r tf S g)
theorem pO_start {row : Nat → Int32} (h : ∀ h, h < n → row h = -1) : pO n r tf S 0 row := fun x hx => Or.inl ⟨h x hx, fun l hl => absurd hl (Nat.not_lt_zero l)⟩
theorem pO_end {row : Nat → Int32} (h : pO n r tf S n row) {x : Nat} (hx : x < n) : row x = nI (prt r tf S x) := by
  rcases h x hx with h1 | h1
  · exact absurd (cn_rf x) (h1.2 x hx)
  · exact h1.1
theorem pO_skip (ht : tfo n r tf) {g : Nat} {row : Nat → Int32} (h : pO n r tf S g row) (hg : g < n) (hr : ¬ row g = -1) : pO n r tf S (g + 1) row ∧ pcnt r tf S (g + 1) = pcnt r tf S g := by
  have h1 : ∃ l, l < g ∧ cn r tf S l g := by
    rcases h g hg with h1 | h1
    · exact absurd h1.1 hr
    · exact h1.2
  obtain ⟨l, hl, hc⟩ := h1
  refine ⟨fun x hx => ?_, pcnt_neg (fun z => z.2 l hl hc)⟩
  rcases h x hx with h2 | h2
  · refine Or.inl ⟨h2.1, fun l' hl' z => ?_⟩
    by_cases e : l' = g
    · subst e; exact h2.2 l hl (cn_tr hc z)
    · exact h2.2 l' (by omega) z
  · obtain ⟨l', h3, h4⟩ := h2.2
    exact Or.inr ⟨h2.1, l', by omega, h4⟩
theorem pO_first (ht : tfo n r tf) {g : Nat} {row : Nat → Int32} (h : pO n r tf S g row) (hg : g < n) (hn : n < 2147483648) (hr : row g = -1) : isL r tf S g g ∧ ∀ x, x < n → cn r tf S g x → row x = -1 := by
  have h1 : ∀ l, l < g → ¬ cn r tf S l g := by
    rcases h g hg with h1 | h1
    · exact h1.2
    · exact absurd (h1.1.symm.trans hr) (nI_m1 (Nat.lt_of_lt_of_le (prt_lt (Nat.lt_succ_self g)) (Nat.le_trans (pcnt_le _) (by omega))))
  refine ⟨⟨cn_rf g, h1⟩, fun x hx hc => ?_⟩
  rcases h x hx with h2 | h2
  · exact h2.1
  · obtain ⟨l, hl, hlc⟩ := h2.2
    exact absurd (cn_tr hlc (cn_sy ht hg hc)) (h1 l hl)
theorem pJ_start (ht : tfo n r tf) {g : Nat} {row queue : Nat → Int32} (h : pO n r tf S g row) (hg : g < n) (hn : n < 2147483648) (hr : row g = -1) : pJ n r tf S g row (upd row g (nI (pcnt r tf S g))) (upd queue 0 (nI g)) 1 0 0 := by
  obtain ⟨hf, ha⟩ := pO_first ht h hg hn hr
  have hp : pcnt r tf S g < 2147483648 := Nat.lt_of_le_of_lt (pcnt_le g) (by omega)
  refine ⟨fun x hx => ?_, fun j hj => ?_, fun x hx hc hrow => ?_, fun j x q hj hx hor => ?_, ?_, ?_⟩
  · by_cases hc : cn r tf S g x
    · refine Or.inl ⟨hc, ?_⟩
      show (if x = g then _ else _) = _ ∨ (if x = g then _ else _) = _
      by_cases e : x = g
      · rw [if_pos e]; exact Or.inr rfl
      · rw [if_neg e]; exact Or.inl (ha x hx hc)
    · refine Or.inr ⟨hc, ?_⟩
      show (if x = g then _ else _) = _
      rw [if_neg (fun e : x = g => hc (by rw [e]; exact cn_rf g))]
  · rw [show j = 0 by omega]
    refine ⟨g, hg, ?_, cn_rf g, ?_⟩
    · show (if 0 = 0 then _ else _) = _; rw [if_pos rfl]
    · show (if g = g then _ else _) = _; rw [if_pos rfl]
  · refine ⟨0, by omega, ?_⟩
    by_cases e : x = g
    · subst e; show (if 0 = 0 then _ else _) = _; rw [if_pos rfl]
    · have e2 : upd row g (nI (pcnt r tf S g)) x = row x := by show (if x = g then _ else _) = _; rw [if_neg e]
      rw [e2, ha x hx hc] at hrow
      exact absurd hrow.symm (nI_m1 hp)
  · rcases hor with h1 | h1 <;> omega
  · have := (um_upd (f := row) (h := g) (v := nI (pcnt r tf S g)) hr (nI_m1 hp) (n := n)).1 hg
    have := um_le row n
    omega
  · show (if g = g then _ else _) = _; rw [if_pos rfl]
theorem pJ_skip {g : Nat} {row0 row queue : Nat → Int32} {e k i q : Nat} (ht : tfo n r tf) (hn : n < 2147483648) (h : pJ n r tf S g row0 row queue e k i) (hk : k < e) (hi : i < r) (hq : q < n) (hqk : queue k = nI q) (hs : S i = true → ¬ row (tf q i) = -1) : pJ n r tf S g row0 row queue e k (i + 1) := by
  obtain ⟨h1, h2, h3, h4, h5, h6⟩ := h
  refine ⟨h1, h2, h3, fun j x q' hj hx hor hq' hqj hsx => ?_, h5, h6⟩
  by_cases hc : j < k ∨ (j = k ∧ x < i)
  · exact h4 j x q' hj hx hc hq' hqj hsx
  · have hj2 : j = k ∧ x = i := by omega
    obtain ⟨rfl, rfl⟩ := hj2
    have hqq : q' = q := (nI_eq (by omega) (by omega)).mp (hqj.symm.trans hqk)
    subst hqq
    obtain ⟨q2, hq2, e2, hc2, -⟩ := h2 j hj
    have hqq : q2 = q' := (nI_eq (by omega) (by omega)).mp (e2.symm.trans hqk)
    subst hqq
    rcases h1 (tf q2 x) (ht q2 x hq hx).1 with h7 | h7
    · exact h7.2.resolve_left (hs hsx)
    · exact absurd (cn_st hc2 hx hsx) h7.1
theorem pJ_push {g : Nat} {row0 row queue : Nat → Int32} {e k i q : Nat} (ht : tfo n r tf) (hn : n < 2147483648) (hg : g < n) (h : pJ n r tf S g row0 row queue e k i) (hk : k < e) (hi : i < r) (hq : q < n) (hqk : queue k = nI q) (hs : S i = true) (hr : row (tf q i) = -1) :
    e < n ∧ pJ n r tf S g row0 (upd row (tf q i) (nI (pcnt r tf S g))) (upd queue e (nI (tf q i))) (e + 1) k (i + 1) := by
  obtain ⟨h1, h2, h3, h4, h5, h6⟩ := h
  have hp : pcnt r tf S g < 2147483648 := Nat.lt_of_le_of_lt (pcnt_le g) (by omega)
  have hlt := (ht q i hq hi).1
  have hum := um_pos hr hlt
  have hum2 := (um_upd (f := row) (h := tf q i) (v := nI (pcnt r tf S g)) hr (nI_m1 hp) (n := n)).1 hlt
  obtain ⟨q2, hq2, e2, hc2, -⟩ := h2 k hk
  have hqq : q2 = q := (nI_eq (by omega) (by omega)).mp (e2.symm.trans hqk)
  subst hqq
  have hcn : cn r tf S g (tf q2 i) := cn_st hc2 hi hs
  have hu : ∀ x, upd row (tf q2 i) (nI (pcnt r tf S g)) x = if x = tf q2 i then nI (pcnt r tf S g) else row x := fun _ => rfl
  have hu2 : ∀ x, upd queue e (nI (tf q2 i)) x = if x = e then nI (tf q2 i) else queue x := fun _ => rfl
  have hne : ∀ x, row x = nI (pcnt r tf S g) → ¬ x = tf q2 i := fun x hx e => nI_m1 hp (hx.symm.trans (e ▸ hr))
  refine ⟨by omega, fun x hx => ?_, fun j hj => ?_, fun x hx hc hrow => ?_, fun j x q' hj hx hor hq' hqj hsx => ?_, by omega, ?_⟩
  · rw [hu]
    by_cases e : x = tf q2 i
    · rw [if_pos e]; exact Or.inl ⟨e ▸ hcn, Or.inr rfl⟩
    · rw [if_neg e]; exact h1 x hx
  · by_cases ej : j = e
    · refine ⟨tf q2 i, hlt, ?_, hcn, ?_⟩
      · rw [hu2, if_pos ej]
      · rw [hu, if_pos rfl]
    · obtain ⟨q', a1, a2, a3, a4⟩ := h2 j (by omega)
      refine ⟨q', a1, ?_, a3, ?_⟩
      · rw [hu2, if_neg ej]; exact a2
      · rw [hu, if_neg (hne q' a4)]; exact a4
  · by_cases e0 : x = tf q2 i
    · exact ⟨e, by omega, by rw [hu2, if_pos rfl, e0]⟩
    · rw [hu, if_neg e0] at hrow
      obtain ⟨j, a1, a2⟩ := h3 x hx hc hrow
      exact ⟨j, by omega, by rw [hu2, if_neg (by omega)]; exact a2⟩
  · rw [hu]
    by_cases e0 : tf q' x = tf q2 i
    · rw [if_pos e0]
    · rw [if_neg e0]
      have hje : ¬ j = e := by omega
      rw [hu2, if_neg hje] at hqj
      by_cases hc : j < k ∨ (j = k ∧ x < i)
      · exact h4 j x q' (by omega) hx hc hq' hqj hsx
      · have hj2 : j = k ∧ x = i := by omega
        obtain ⟨rfl, rfl⟩ := hj2
        have hqq : q' = q2 := (nI_eq (by omega) (by omega)).mp (hqj.symm.trans hqk)
        exact absurd (by rw [hqq]) e0
  · rw [hu, if_neg (hne g h6)]; exact h6
theorem pJ_next {g : Nat} {row0 row queue : Nat → Int32} {e k : Nat} (h : pJ n r tf S g row0 row queue e k r) : pJ n r tf S g row0 row queue e (k + 1) 0 := by
  obtain ⟨h1, h2, h3, h4, h5, h6⟩ := h
  exact ⟨h1, h2, h3, fun j x q hj hx hor hq hqj hsx => h4 j x q hj hx (by omega) hq hqj hsx, h5, h6⟩
theorem pJ_end (ht : tfo n r tf) {g : Nat} {row0 row queue : Nat → Int32} {e : Nat} (h0 : pO n r tf S g row0) (hg : g < n) (hn : n < 2147483648) (hr : row0 g = -1) (h : pJ n r tf S g row0 row queue e e 0) : pO n r tf S (g + 1) row ∧ pcnt r tf S (g + 1) = pcnt r tf S g + 1 := by
  obtain ⟨hf, ha⟩ := pO_first ht h0 hg hn hr
  obtain ⟨h1, h2, h3, h4, h5, h6⟩ := h
  have hp : pcnt r tf S g < 2147483648 := Nat.lt_of_le_of_lt (pcnt_le g) (by omega)
  have key : ∀ (w : List Nat) (x : Nat), x < n → cn r tf S g x → row x = nI (pcnt r tf S g) → (∀ y ∈ w, y < r ∧ S y = true) → row (w.foldl tf x) = nI (pcnt r tf S g) := by
    intro w
    induction w with
    | nil => intro x _ _ hx _; exact hx
    | cons y w ih =>
      intro x hx hc hrow hw
      have hy := hw y List.mem_cons_self
      obtain ⟨j, a1, a2⟩ := h3 x hx hc hrow
      exact ih (tf x y) (ht x y hx hy.1).1 (cn_st hc hy.1 hy.2) (h4 j y x a1 hy.1 (Or.inl a1) hx a2 hy.2) (fun z hz => hw z (List.mem_cons_of_mem _ hz))
  refine ⟨fun x hx => ?_, pcnt_pos hf⟩
  by_cases hc : cn r tf S g x
  · obtain ⟨w, w1, w2⟩ := id hc
    have hl : isL r tf S g x := ⟨hc, fun l hl z => hf.2 l hl (cn_tr z (cn_sy ht hg hc))⟩
    refine Or.inr ⟨?_, g, by omega, hc⟩
    rw [prt_eq hl, ← w2]
    exact key w g hg (cn_rf g) h6 w1
  · rcases h1 x hx with h7 | h7
    · exact absurd h7.1 hc
    · rw [h7.2]
      rcases h0 x hx with h8 | h8
      · refine Or.inl ⟨h8.1, fun l hl z => ?_⟩
        by_cases e : l = g
        · exact hc (e ▸ z)
        · exact h8.2 l (by omega) z
      · obtain ⟨l, a1, a2⟩ := h8.2
        exact Or.inr ⟨h8.1, l, by omega, a2⟩
end CN

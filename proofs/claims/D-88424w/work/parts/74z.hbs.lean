set_option maxRecDepth 100000
theorem hb_all : ∀ e ∈ tabs, e.1 = 3 → ∀ r, 1 ≤ r → r < 8 → ∃ d, hck e r d = true := by
  unfold tabs
  refine List.forall_mem_cons.mpr ⟨fun h => absurd h (show ¬ (1 : Nat) = 3 by decide), ?_⟩
  refine List.forall_mem_cons.mpr ⟨fun h => absurd h (show ¬ (2 : Nat) = 3 by decide), ?_⟩
  refine List.forall_mem_cons.mpr ⟨fun h => absurd h (show ¬ (2 : Nat) = 3 by decide), ?_⟩
  refine List.forall_mem_cons.mpr ⟨fun h => absurd h (show ¬ (2 : Nat) = 3 by decide), ?_⟩
  refine List.forall_mem_cons.mpr ⟨fun h => absurd h (show ¬ (2 : Nat) = 3 by decide), ?_⟩
  refine List.forall_mem_cons.mpr ⟨fun h => absurd h (show ¬ (2 : Nat) = 3 by decide), ?_⟩
  refine List.forall_mem_cons.mpr ⟨fun _ r h1 h2 => h7 h1 h2 ⟨_, hb_6_1⟩ ⟨_, hb_6_2⟩ ⟨_, hb_6_3⟩ ⟨_, hb_6_4⟩ ⟨_, hb_6_5⟩ ⟨_, hb_6_6⟩ ⟨_, hb_6_7⟩, ?_⟩
  refine List.forall_mem_cons.mpr ⟨fun _ r h1 h2 => h7 h1 h2 ⟨_, hb_7_1⟩ ⟨_, hb_7_2⟩ ⟨_, hb_7_3⟩ ⟨_, hb_7_4⟩ ⟨_, hb_7_5⟩ ⟨_, hb_7_6⟩ ⟨_, hb_7_7⟩, ?_⟩
  refine List.forall_mem_cons.mpr ⟨fun _ r h1 h2 => h7 h1 h2 ⟨_, hb_8_1⟩ ⟨_, hb_8_2⟩ ⟨_, hb_8_3⟩ ⟨_, hb_8_4⟩ ⟨_, hb_8_5⟩ ⟨_, hb_8_6⟩ ⟨_, hb_8_7⟩, ?_⟩
  refine List.forall_mem_cons.mpr ⟨fun _ r h1 h2 => h7 h1 h2 ⟨_, hb_9_1⟩ ⟨_, hb_9_2⟩ ⟨_, hb_9_3⟩ ⟨_, hb_9_4⟩ ⟨_, hb_9_5⟩ ⟨_, hb_9_6⟩ ⟨_, hb_9_7⟩, ?_⟩
  refine List.forall_mem_cons.mpr ⟨fun _ r h1 h2 => h7 h1 h2 ⟨_, hb_10_1⟩ ⟨_, hb_10_2⟩ ⟨_, hb_10_3⟩ ⟨_, hb_10_4⟩ ⟨_, hb_10_5⟩ ⟨_, hb_10_6⟩ ⟨_, hb_10_7⟩, ?_⟩
  refine List.forall_mem_cons.mpr ⟨fun _ r h1 h2 => h7 h1 h2 ⟨_, hb_11_1⟩ ⟨_, hb_11_2⟩ ⟨_, hb_11_3⟩ ⟨_, hb_11_4⟩ ⟨_, hb_11_5⟩ ⟨_, hb_11_6⟩ ⟨_, hb_11_7⟩, ?_⟩
  refine List.forall_mem_cons.mpr ⟨fun _ r h1 h2 => h7 h1 h2 ⟨_, hb_12_1⟩ ⟨_, hb_12_2⟩ ⟨_, hb_12_3⟩ ⟨_, hb_12_4⟩ ⟨_, hb_12_5⟩ ⟨_, hb_12_6⟩ ⟨_, hb_12_7⟩, ?_⟩
  refine List.forall_mem_cons.mpr ⟨fun _ r h1 h2 => h7 h1 h2 ⟨_, hb_13_1⟩ ⟨_, hb_13_2⟩ ⟨_, hb_13_3⟩ ⟨_, hb_13_4⟩ ⟨_, hb_13_5⟩ ⟨_, hb_13_6⟩ ⟨_, hb_13_7⟩, ?_⟩
  refine List.forall_mem_cons.mpr ⟨fun _ r h1 h2 => h7 h1 h2 ⟨_, hb_14_1⟩ ⟨_, hb_14_2⟩ ⟨_, hb_14_3⟩ ⟨_, hb_14_4⟩ ⟨_, hb_14_5⟩ ⟨_, hb_14_6⟩ ⟨_, hb_14_7⟩, ?_⟩
  refine List.forall_mem_cons.mpr ⟨fun _ r h1 h2 => h7 h1 h2 ⟨_, hb_15_1⟩ ⟨_, hb_15_2⟩ ⟨_, hb_15_3⟩ ⟨_, hb_15_4⟩ ⟨_, hb_15_5⟩ ⟨_, hb_15_6⟩ ⟨_, hb_15_7⟩, ?_⟩
  refine List.forall_mem_cons.mpr ⟨fun _ r h1 h2 => h7 h1 h2 ⟨_, hb_16_1⟩ ⟨_, hb_16_2⟩ ⟨_, hb_16_3⟩ ⟨_, hb_16_4⟩ ⟨_, hb_16_5⟩ ⟨_, hb_16_6⟩ ⟨_, hb_16_7⟩, ?_⟩
  refine List.forall_mem_cons.mpr ⟨fun _ r h1 h2 => h7 h1 h2 ⟨_, hb_17_1⟩ ⟨_, hb_17_2⟩ ⟨_, hb_17_3⟩ ⟨_, hb_17_4⟩ ⟨_, hb_17_5⟩ ⟨_, hb_17_6⟩ ⟨_, hb_17_7⟩, ?_⟩
  refine List.forall_mem_cons.mpr ⟨fun _ r h1 h2 => h7 h1 h2 ⟨_, hb_18_1⟩ ⟨_, hb_18_2⟩ ⟨_, hb_18_3⟩ ⟨_, hb_18_4⟩ ⟨_, hb_18_5⟩ ⟨_, hb_18_6⟩ ⟨_, hb_18_7⟩, ?_⟩
  refine List.forall_mem_cons.mpr ⟨fun _ r h1 h2 => h7 h1 h2 ⟨_, hb_19_1⟩ ⟨_, hb_19_2⟩ ⟨_, hb_19_3⟩ ⟨_, hb_19_4⟩ ⟨_, hb_19_5⟩ ⟨_, hb_19_6⟩ ⟨_, hb_19_7⟩, ?_⟩
  refine List.forall_mem_cons.mpr ⟨fun _ r h1 h2 => h7 h1 h2 ⟨_, hb_20_1⟩ ⟨_, hb_20_2⟩ ⟨_, hb_20_3⟩ ⟨_, hb_20_4⟩ ⟨_, hb_20_5⟩ ⟨_, hb_20_6⟩ ⟨_, hb_20_7⟩, ?_⟩
  refine List.forall_mem_cons.mpr ⟨fun _ r h1 h2 => h7 h1 h2 ⟨_, hb_21_1⟩ ⟨_, hb_21_2⟩ ⟨_, hb_21_3⟩ ⟨_, hb_21_4⟩ ⟨_, hb_21_5⟩ ⟨_, hb_21_6⟩ ⟨_, hb_21_7⟩, ?_⟩
  refine List.forall_mem_cons.mpr ⟨fun _ r h1 h2 => h7 h1 h2 ⟨_, hb_22_1⟩ ⟨_, hb_22_2⟩ ⟨_, hb_22_3⟩ ⟨_, hb_22_4⟩ ⟨_, hb_22_5⟩ ⟨_, hb_22_6⟩ ⟨_, hb_22_7⟩, ?_⟩
  refine List.forall_mem_cons.mpr ⟨fun _ r h1 h2 => h7 h1 h2 ⟨_, hb_23_1⟩ ⟨_, hb_23_2⟩ ⟨_, hb_23_3⟩ ⟨_, hb_23_4⟩ ⟨_, hb_23_5⟩ ⟨_, hb_23_6⟩ ⟨_, hb_23_7⟩, ?_⟩
  refine List.forall_mem_cons.mpr ⟨fun _ r h1 h2 => h7 h1 h2 ⟨_, hb_24_1⟩ ⟨_, hb_24_2⟩ ⟨_, hb_24_3⟩ ⟨_, hb_24_4⟩ ⟨_, hb_24_5⟩ ⟨_, hb_24_6⟩ ⟨_, hb_24_7⟩, ?_⟩
  refine List.forall_mem_cons.mpr ⟨fun _ r h1 h2 => h7 h1 h2 ⟨_, hb_25_1⟩ ⟨_, hb_25_2⟩ ⟨_, hb_25_3⟩ ⟨_, hb_25_4⟩ ⟨_, hb_25_5⟩ ⟨_, hb_25_6⟩ ⟨_, hb_25_7⟩, ?_⟩
  refine List.forall_mem_cons.mpr ⟨fun _ r h1 h2 => h7 h1 h2 ⟨_, hb_26_1⟩ ⟨_, hb_26_2⟩ ⟨_, hb_26_3⟩ ⟨_, hb_26_4⟩ ⟨_, hb_26_5⟩ ⟨_, hb_26_6⟩ ⟨_, hb_26_7⟩, ?_⟩
  refine List.forall_mem_cons.mpr ⟨fun _ r h1 h2 => h7 h1 h2 ⟨_, hb_27_1⟩ ⟨_, hb_27_2⟩ ⟨_, hb_27_3⟩ ⟨_, hb_27_4⟩ ⟨_, hb_27_5⟩ ⟨_, hb_27_6⟩ ⟨_, hb_27_7⟩, ?_⟩
  refine List.forall_mem_cons.mpr ⟨fun _ r h1 h2 => h7 h1 h2 ⟨_, hb_28_1⟩ ⟨_, hb_28_2⟩ ⟨_, hb_28_3⟩ ⟨_, hb_28_4⟩ ⟨_, hb_28_5⟩ ⟨_, hb_28_6⟩ ⟨_, hb_28_7⟩, ?_⟩
  refine List.forall_mem_cons.mpr ⟨fun _ r h1 h2 => h7 h1 h2 ⟨_, hb_29_1⟩ ⟨_, hb_29_2⟩ ⟨_, hb_29_3⟩ ⟨_, hb_29_4⟩ ⟨_, hb_29_5⟩ ⟨_, hb_29_6⟩ ⟨_, hb_29_7⟩, ?_⟩
  refine List.forall_mem_cons.mpr ⟨fun _ r h1 h2 => h7 h1 h2 ⟨_, hb_30_1⟩ ⟨_, hb_30_2⟩ ⟨_, hb_30_3⟩ ⟨_, hb_30_4⟩ ⟨_, hb_30_5⟩ ⟨_, hb_30_6⟩ ⟨_, hb_30_7⟩, ?_⟩
  refine List.forall_mem_cons.mpr ⟨fun _ r h1 h2 => h7 h1 h2 ⟨_, hb_31_1⟩ ⟨_, hb_31_2⟩ ⟨_, hb_31_3⟩ ⟨_, hb_31_4⟩ ⟨_, hb_31_5⟩ ⟨_, hb_31_6⟩ ⟨_, hb_31_7⟩, ?_⟩
  refine List.forall_mem_cons.mpr ⟨fun _ r h1 h2 => h7 h1 h2 ⟨_, hb_32_1⟩ ⟨_, hb_32_2⟩ ⟨_, hb_32_3⟩ ⟨_, hb_32_4⟩ ⟨_, hb_32_5⟩ ⟨_, hb_32_6⟩ ⟨_, hb_32_7⟩, ?_⟩
  refine List.forall_mem_cons.mpr ⟨fun _ r h1 h2 => h7 h1 h2 ⟨_, hb_33_1⟩ ⟨_, hb_33_2⟩ ⟨_, hb_33_3⟩ ⟨_, hb_33_4⟩ ⟨_, hb_33_5⟩ ⟨_, hb_33_6⟩ ⟨_, hb_33_7⟩, ?_⟩
  refine List.forall_mem_cons.mpr ⟨fun h => absurd h (show ¬ (4 : Nat) = 3 by decide), ?_⟩
  refine List.forall_mem_cons.mpr ⟨fun h => absurd h (show ¬ (4 : Nat) = 3 by decide), ?_⟩
  refine List.forall_mem_cons.mpr ⟨fun h => absurd h (show ¬ (4 : Nat) = 3 by decide), ?_⟩
  refine List.forall_mem_cons.mpr ⟨fun h => absurd h (show ¬ (4 : Nat) = 3 by decide), ?_⟩
  refine List.forall_mem_cons.mpr ⟨fun h => absurd h (show ¬ (4 : Nat) = 3 by decide), ?_⟩
  refine List.forall_mem_cons.mpr ⟨fun h => absurd h (show ¬ (4 : Nat) = 3 by decide), ?_⟩
  refine List.forall_mem_cons.mpr ⟨fun h => absurd h (show ¬ (4 : Nat) = 3 by decide), ?_⟩
  refine List.forall_mem_cons.mpr ⟨fun h => absurd h (show ¬ (4 : Nat) = 3 by decide), ?_⟩
  refine List.forall_mem_cons.mpr ⟨fun h => absurd h (show ¬ (4 : Nat) = 3 by decide), ?_⟩
  refine List.forall_mem_cons.mpr ⟨fun h => absurd h (show ¬ (4 : Nat) = 3 by decide), ?_⟩
  refine List.forall_mem_cons.mpr ⟨fun h => absurd h (show ¬ (4 : Nat) = 3 by decide), ?_⟩
  refine List.forall_mem_cons.mpr ⟨fun h => absurd h (show ¬ (4 : Nat) = 3 by decide), ?_⟩
  refine List.forall_mem_cons.mpr ⟨fun h => absurd h (show ¬ (4 : Nat) = 3 by decide), ?_⟩
  refine List.forall_mem_cons.mpr ⟨fun h => absurd h (show ¬ (4 : Nat) = 3 by decide), ?_⟩
  refine List.forall_mem_cons.mpr ⟨fun h => absurd h (show ¬ (4 : Nat) = 3 by decide), ?_⟩
  refine List.forall_mem_cons.mpr ⟨fun h => absurd h (show ¬ (4 : Nat) = 3 by decide), ?_⟩
  refine List.forall_mem_cons.mpr ⟨fun h => absurd h (show ¬ (4 : Nat) = 3 by decide), ?_⟩
  refine List.forall_mem_cons.mpr ⟨fun h => absurd h (show ¬ (4 : Nat) = 3 by decide), ?_⟩
  refine List.forall_mem_cons.mpr ⟨fun h => absurd h (show ¬ (4 : Nat) = 3 by decide), ?_⟩
  refine List.forall_mem_cons.mpr ⟨fun h => absurd h (show ¬ (4 : Nat) = 3 by decide), ?_⟩
  refine List.forall_mem_cons.mpr ⟨fun h => absurd h (show ¬ (4 : Nat) = 3 by decide), ?_⟩
  refine List.forall_mem_cons.mpr ⟨fun h => absurd h (show ¬ (4 : Nat) = 3 by decide), ?_⟩
  refine List.forall_mem_cons.mpr ⟨fun h => absurd h (show ¬ (4 : Nat) = 3 by decide), ?_⟩
  refine List.forall_mem_cons.mpr ⟨fun h => absurd h (show ¬ (4 : Nat) = 3 by decide), ?_⟩
  refine List.forall_mem_cons.mpr ⟨fun h => absurd h (show ¬ (4 : Nat) = 3 by decide), ?_⟩
  refine List.forall_mem_cons.mpr ⟨fun h => absurd h (show ¬ (4 : Nat) = 3 by decide), ?_⟩
  refine List.forall_mem_cons.mpr ⟨fun h => absurd h (show ¬ (4 : Nat) = 3 by decide), ?_⟩
  refine List.forall_mem_cons.mpr ⟨fun h => absurd h (show ¬ (4 : Nat) = 3 by decide), ?_⟩
  refine List.forall_mem_cons.mpr ⟨fun h => absurd h (show ¬ (4 : Nat) = 3 by decide), ?_⟩
  refine List.forall_mem_cons.mpr ⟨fun h => absurd h (show ¬ (4 : Nat) = 3 by decide), ?_⟩
  refine List.forall_mem_cons.mpr ⟨fun h => absurd h (show ¬ (4 : Nat) = 3 by decide), ?_⟩
  refine List.forall_mem_cons.mpr ⟨fun h => absurd h (show ¬ (4 : Nat) = 3 by decide), ?_⟩
  refine List.forall_mem_cons.mpr ⟨fun h => absurd h (show ¬ (4 : Nat) = 3 by decide), ?_⟩
  refine List.forall_mem_cons.mpr ⟨fun h => absurd h (show ¬ (4 : Nat) = 3 by decide), ?_⟩
  refine List.forall_mem_cons.mpr ⟨fun h => absurd h (show ¬ (4 : Nat) = 3 by decide), ?_⟩
  refine List.forall_mem_cons.mpr ⟨fun h => absurd h (show ¬ (4 : Nat) = 3 by decide), ?_⟩
  refine List.forall_mem_cons.mpr ⟨fun h => absurd h (show ¬ (4 : Nat) = 3 by decide), ?_⟩
  refine List.forall_mem_cons.mpr ⟨fun h => absurd h (show ¬ (4 : Nat) = 3 by decide), ?_⟩
  refine List.forall_mem_cons.mpr ⟨fun h => absurd h (show ¬ (4 : Nat) = 3 by decide), ?_⟩
  refine List.forall_mem_cons.mpr ⟨fun h => absurd h (show ¬ (4 : Nat) = 3 by decide), ?_⟩
  refine List.forall_mem_cons.mpr ⟨fun h => absurd h (show ¬ (4 : Nat) = 3 by decide), ?_⟩
  refine List.forall_mem_cons.mpr ⟨fun h => absurd h (show ¬ (4 : Nat) = 3 by decide), ?_⟩
  refine List.forall_mem_cons.mpr ⟨fun h => absurd h (show ¬ (4 : Nat) = 3 by decide), ?_⟩
  refine List.forall_mem_cons.mpr ⟨fun h => absurd h (show ¬ (4 : Nat) = 3 by decide), ?_⟩
  refine List.forall_mem_cons.mpr ⟨fun h => absurd h (show ¬ (4 : Nat) = 3 by decide), ?_⟩
  refine List.forall_mem_cons.mpr ⟨fun h => absurd h (show ¬ (4 : Nat) = 3 by decide), ?_⟩
  refine List.forall_mem_cons.mpr ⟨fun h => absurd h (show ¬ (4 : Nat) = 3 by decide), ?_⟩
  refine List.forall_mem_cons.mpr ⟨fun h => absurd h (show ¬ (4 : Nat) = 3 by decide), ?_⟩
  refine List.forall_mem_cons.mpr ⟨fun h => absurd h (show ¬ (4 : Nat) = 3 by decide), ?_⟩
  refine List.forall_mem_cons.mpr ⟨fun h => absurd h (show ¬ (4 : Nat) = 3 by decide), ?_⟩
  refine List.forall_mem_cons.mpr ⟨fun h => absurd h (show ¬ (4 : Nat) = 3 by decide), ?_⟩
  refine List.forall_mem_cons.mpr ⟨fun h => absurd h (show ¬ (4 : Nat) = 3 by decide), ?_⟩
  refine List.forall_mem_cons.mpr ⟨fun h => absurd h (show ¬ (4 : Nat) = 3 by decide), ?_⟩
  refine List.forall_mem_cons.mpr ⟨fun h => absurd h (show ¬ (4 : Nat) = 3 by decide), ?_⟩
  refine List.forall_mem_cons.mpr ⟨fun h => absurd h (show ¬ (4 : Nat) = 3 by decide), ?_⟩
  refine List.forall_mem_cons.mpr ⟨fun h => absurd h (show ¬ (4 : Nat) = 3 by decide), ?_⟩
  refine List.forall_mem_cons.mpr ⟨fun h => absurd h (show ¬ (4 : Nat) = 3 by decide), ?_⟩
  refine List.forall_mem_cons.mpr ⟨fun h => absurd h (show ¬ (4 : Nat) = 3 by decide), ?_⟩
  refine List.forall_mem_cons.mpr ⟨fun h => absurd h (show ¬ (4 : Nat) = 3 by decide), ?_⟩
  refine List.forall_mem_cons.mpr ⟨fun h => absurd h (show ¬ (4 : Nat) = 3 by decide), ?_⟩
  refine List.forall_mem_cons.mpr ⟨fun h => absurd h (show ¬ (4 : Nat) = 3 by decide), ?_⟩
  refine List.forall_mem_cons.mpr ⟨fun h => absurd h (show ¬ (4 : Nat) = 3 by decide), ?_⟩
  refine List.forall_mem_cons.mpr ⟨fun h => absurd h (show ¬ (4 : Nat) = 3 by decide), ?_⟩
  refine List.forall_mem_cons.mpr ⟨fun h => absurd h (show ¬ (4 : Nat) = 3 by decide), ?_⟩
  refine List.forall_mem_cons.mpr ⟨fun h => absurd h (show ¬ (4 : Nat) = 3 by decide), ?_⟩
  refine List.forall_mem_cons.mpr ⟨fun h => absurd h (show ¬ (4 : Nat) = 3 by decide), ?_⟩
  refine List.forall_mem_cons.mpr ⟨fun h => absurd h (show ¬ (4 : Nat) = 3 by decide), ?_⟩
  refine List.forall_mem_cons.mpr ⟨fun h => absurd h (show ¬ (4 : Nat) = 3 by decide), ?_⟩
  refine List.forall_mem_cons.mpr ⟨fun h => absurd h (show ¬ (4 : Nat) = 3 by decide), ?_⟩
  refine List.forall_mem_cons.mpr ⟨fun h => absurd h (show ¬ (4 : Nat) = 3 by decide), ?_⟩
  refine List.forall_mem_cons.mpr ⟨fun h => absurd h (show ¬ (4 : Nat) = 3 by decide), ?_⟩
  refine List.forall_mem_cons.mpr ⟨fun h => absurd h (show ¬ (4 : Nat) = 3 by decide), ?_⟩
  refine List.forall_mem_cons.mpr ⟨fun h => absurd h (show ¬ (4 : Nat) = 3 by decide), ?_⟩
  refine List.forall_mem_cons.mpr ⟨fun h => absurd h (show ¬ (4 : Nat) = 3 by decide), ?_⟩
  refine List.forall_mem_cons.mpr ⟨fun h => absurd h (show ¬ (4 : Nat) = 3 by decide), ?_⟩
  refine List.forall_mem_cons.mpr ⟨fun h => absurd h (show ¬ (4 : Nat) = 3 by decide), ?_⟩
  refine List.forall_mem_cons.mpr ⟨fun h => absurd h (show ¬ (4 : Nat) = 3 by decide), ?_⟩
  refine List.forall_mem_cons.mpr ⟨fun h => absurd h (show ¬ (4 : Nat) = 3 by decide), ?_⟩
  refine List.forall_mem_cons.mpr ⟨fun h => absurd h (show ¬ (4 : Nat) = 3 by decide), ?_⟩
  refine List.forall_mem_cons.mpr ⟨fun h => absurd h (show ¬ (4 : Nat) = 3 by decide), ?_⟩
  refine List.forall_mem_cons.mpr ⟨fun h => absurd h (show ¬ (4 : Nat) = 3 by decide), ?_⟩
  refine List.forall_mem_cons.mpr ⟨fun h => absurd h (show ¬ (4 : Nat) = 3 by decide), ?_⟩
  refine List.forall_mem_cons.mpr ⟨fun h => absurd h (show ¬ (4 : Nat) = 3 by decide), ?_⟩
  refine List.forall_mem_cons.mpr ⟨fun h => absurd h (show ¬ (4 : Nat) = 3 by decide), ?_⟩
  refine List.forall_mem_cons.mpr ⟨fun h => absurd h (show ¬ (4 : Nat) = 3 by decide), ?_⟩
  refine List.forall_mem_cons.mpr ⟨fun h => absurd h (show ¬ (4 : Nat) = 3 by decide), ?_⟩
  refine List.forall_mem_cons.mpr ⟨fun h => absurd h (show ¬ (4 : Nat) = 3 by decide), ?_⟩
  refine List.forall_mem_cons.mpr ⟨fun h => absurd h (show ¬ (4 : Nat) = 3 by decide), ?_⟩
  refine List.forall_mem_cons.mpr ⟨fun h => absurd h (show ¬ (4 : Nat) = 3 by decide), ?_⟩
  refine List.forall_mem_cons.mpr ⟨fun h => absurd h (show ¬ (4 : Nat) = 3 by decide), ?_⟩
  refine List.forall_mem_cons.mpr ⟨fun h => absurd h (show ¬ (4 : Nat) = 3 by decide), ?_⟩
  refine List.forall_mem_cons.mpr ⟨fun h => absurd h (show ¬ (4 : Nat) = 3 by decide), ?_⟩
  refine List.forall_mem_cons.mpr ⟨fun h => absurd h (show ¬ (4 : Nat) = 3 by decide), ?_⟩
  refine List.forall_mem_cons.mpr ⟨fun h => absurd h (show ¬ (4 : Nat) = 3 by decide), ?_⟩
  refine List.forall_mem_cons.mpr ⟨fun h => absurd h (show ¬ (4 : Nat) = 3 by decide), ?_⟩
  refine List.forall_mem_cons.mpr ⟨fun h => absurd h (show ¬ (4 : Nat) = 3 by decide), ?_⟩
  refine List.forall_mem_cons.mpr ⟨fun h => absurd h (show ¬ (4 : Nat) = 3 by decide), ?_⟩
  refine List.forall_mem_cons.mpr ⟨fun h => absurd h (show ¬ (4 : Nat) = 3 by decide), ?_⟩
  refine List.forall_mem_cons.mpr ⟨fun h => absurd h (show ¬ (4 : Nat) = 3 by decide), ?_⟩
  refine List.forall_mem_cons.mpr ⟨fun h => absurd h (show ¬ (4 : Nat) = 3 by decide), ?_⟩
  refine List.forall_mem_cons.mpr ⟨fun h => absurd h (show ¬ (4 : Nat) = 3 by decide), ?_⟩
  refine List.forall_mem_cons.mpr ⟨fun h => absurd h (show ¬ (4 : Nat) = 3 by decide), ?_⟩
  refine List.forall_mem_cons.mpr ⟨fun h => absurd h (show ¬ (4 : Nat) = 3 by decide), ?_⟩
  refine List.forall_mem_cons.mpr ⟨fun h => absurd h (show ¬ (4 : Nat) = 3 by decide), ?_⟩
  refine List.forall_mem_cons.mpr ⟨fun h => absurd h (show ¬ (4 : Nat) = 3 by decide), ?_⟩
  refine List.forall_mem_cons.mpr ⟨fun h => absurd h (show ¬ (4 : Nat) = 3 by decide), ?_⟩
  refine List.forall_mem_cons.mpr ⟨fun h => absurd h (show ¬ (4 : Nat) = 3 by decide), ?_⟩
  refine List.forall_mem_cons.mpr ⟨fun h => absurd h (show ¬ (4 : Nat) = 3 by decide), ?_⟩
  refine List.forall_mem_cons.mpr ⟨fun h => absurd h (show ¬ (4 : Nat) = 3 by decide), ?_⟩
  refine List.forall_mem_cons.mpr ⟨fun h => absurd h (show ¬ (4 : Nat) = 3 by decide), ?_⟩
  refine List.forall_mem_cons.mpr ⟨fun h => absurd h (show ¬ (4 : Nat) = 3 by decide), ?_⟩
  refine List.forall_mem_cons.mpr ⟨fun h => absurd h (show ¬ (4 : Nat) = 3 by decide), ?_⟩
  refine List.forall_mem_cons.mpr ⟨fun h => absurd h (show ¬ (4 : Nat) = 3 by decide), ?_⟩
  refine List.forall_mem_cons.mpr ⟨fun h => absurd h (show ¬ (4 : Nat) = 3 by decide), ?_⟩
  refine List.forall_mem_cons.mpr ⟨fun h => absurd h (show ¬ (4 : Nat) = 3 by decide), ?_⟩
  refine List.forall_mem_cons.mpr ⟨fun h => absurd h (show ¬ (4 : Nat) = 3 by decide), ?_⟩
  refine List.forall_mem_cons.mpr ⟨fun h => absurd h (show ¬ (4 : Nat) = 3 by decide), ?_⟩
  refine List.forall_mem_cons.mpr ⟨fun h => absurd h (show ¬ (4 : Nat) = 3 by decide), ?_⟩
  refine List.forall_mem_cons.mpr ⟨fun h => absurd h (show ¬ (4 : Nat) = 3 by decide), ?_⟩
  refine List.forall_mem_cons.mpr ⟨fun h => absurd h (show ¬ (4 : Nat) = 3 by decide), ?_⟩
  refine List.forall_mem_cons.mpr ⟨fun h => absurd h (show ¬ (4 : Nat) = 3 by decide), ?_⟩
  refine List.forall_mem_cons.mpr ⟨fun h => absurd h (show ¬ (4 : Nat) = 3 by decide), ?_⟩
  refine List.forall_mem_cons.mpr ⟨fun h => absurd h (show ¬ (4 : Nat) = 3 by decide), ?_⟩
  refine List.forall_mem_cons.mpr ⟨fun h => absurd h (show ¬ (4 : Nat) = 3 by decide), ?_⟩
  refine List.forall_mem_cons.mpr ⟨fun h => absurd h (show ¬ (4 : Nat) = 3 by decide), ?_⟩
  refine List.forall_mem_cons.mpr ⟨fun h => absurd h (show ¬ (4 : Nat) = 3 by decide), ?_⟩
  refine List.forall_mem_cons.mpr ⟨fun h => absurd h (show ¬ (4 : Nat) = 3 by decide), ?_⟩
  refine List.forall_mem_cons.mpr ⟨fun h => absurd h (show ¬ (4 : Nat) = 3 by decide), ?_⟩
  refine List.forall_mem_cons.mpr ⟨fun h => absurd h (show ¬ (4 : Nat) = 3 by decide), ?_⟩
  refine List.forall_mem_cons.mpr ⟨fun h => absurd h (show ¬ (4 : Nat) = 3 by decide), ?_⟩
  refine List.forall_mem_cons.mpr ⟨fun h => absurd h (show ¬ (4 : Nat) = 3 by decide), ?_⟩
  refine List.forall_mem_cons.mpr ⟨fun h => absurd h (show ¬ (4 : Nat) = 3 by decide), ?_⟩
  refine List.forall_mem_cons.mpr ⟨fun h => absurd h (show ¬ (4 : Nat) = 3 by decide), ?_⟩
  refine List.forall_mem_cons.mpr ⟨fun h => absurd h (show ¬ (4 : Nat) = 3 by decide), ?_⟩
  refine List.forall_mem_cons.mpr ⟨fun h => absurd h (show ¬ (4 : Nat) = 3 by decide), ?_⟩
  refine List.forall_mem_cons.mpr ⟨fun h => absurd h (show ¬ (4 : Nat) = 3 by decide), ?_⟩
  refine List.forall_mem_cons.mpr ⟨fun h => absurd h (show ¬ (4 : Nat) = 3 by decide), ?_⟩
  refine List.forall_mem_cons.mpr ⟨fun h => absurd h (show ¬ (4 : Nat) = 3 by decide), ?_⟩
  refine List.forall_mem_cons.mpr ⟨fun h => absurd h (show ¬ (4 : Nat) = 3 by decide), ?_⟩
  refine List.forall_mem_cons.mpr ⟨fun h => absurd h (show ¬ (4 : Nat) = 3 by decide), ?_⟩
  refine List.forall_mem_cons.mpr ⟨fun h => absurd h (show ¬ (4 : Nat) = 3 by decide), ?_⟩
  refine List.forall_mem_cons.mpr ⟨fun h => absurd h (show ¬ (4 : Nat) = 3 by decide), ?_⟩
  refine List.forall_mem_cons.mpr ⟨fun h => absurd h (show ¬ (4 : Nat) = 3 by decide), ?_⟩
  refine List.forall_mem_cons.mpr ⟨fun h => absurd h (show ¬ (4 : Nat) = 3 by decide), ?_⟩
  refine List.forall_mem_cons.mpr ⟨fun h => absurd h (show ¬ (4 : Nat) = 3 by decide), ?_⟩
  refine List.forall_mem_cons.mpr ⟨fun h => absurd h (show ¬ (4 : Nat) = 3 by decide), ?_⟩
  refine List.forall_mem_cons.mpr ⟨fun h => absurd h (show ¬ (4 : Nat) = 3 by decide), ?_⟩
  refine List.forall_mem_cons.mpr ⟨fun h => absurd h (show ¬ (4 : Nat) = 3 by decide), ?_⟩
  refine List.forall_mem_cons.mpr ⟨fun h => absurd h (show ¬ (4 : Nat) = 3 by decide), ?_⟩
  refine List.forall_mem_cons.mpr ⟨fun h => absurd h (show ¬ (4 : Nat) = 3 by decide), ?_⟩
  refine List.forall_mem_cons.mpr ⟨fun h => absurd h (show ¬ (4 : Nat) = 3 by decide), ?_⟩
  refine List.forall_mem_cons.mpr ⟨fun h => absurd h (show ¬ (4 : Nat) = 3 by decide), ?_⟩
  refine List.forall_mem_cons.mpr ⟨fun h => absurd h (show ¬ (4 : Nat) = 3 by decide), ?_⟩
  refine List.forall_mem_cons.mpr ⟨fun h => absurd h (show ¬ (4 : Nat) = 3 by decide), ?_⟩
  refine List.forall_mem_cons.mpr ⟨fun h => absurd h (show ¬ (4 : Nat) = 3 by decide), ?_⟩
  refine List.forall_mem_cons.mpr ⟨fun h => absurd h (show ¬ (4 : Nat) = 3 by decide), ?_⟩
  refine List.forall_mem_cons.mpr ⟨fun h => absurd h (show ¬ (4 : Nat) = 3 by decide), ?_⟩
  refine List.forall_mem_cons.mpr ⟨fun h => absurd h (show ¬ (4 : Nat) = 3 by decide), ?_⟩
  refine List.forall_mem_cons.mpr ⟨fun h => absurd h (show ¬ (4 : Nat) = 3 by decide), ?_⟩
  refine List.forall_mem_cons.mpr ⟨fun h => absurd h (show ¬ (4 : Nat) = 3 by decide), ?_⟩
  refine List.forall_mem_cons.mpr ⟨fun h => absurd h (show ¬ (4 : Nat) = 3 by decide), ?_⟩
  refine List.forall_mem_cons.mpr ⟨fun h => absurd h (show ¬ (4 : Nat) = 3 by decide), ?_⟩
  refine List.forall_mem_cons.mpr ⟨fun h => absurd h (show ¬ (4 : Nat) = 3 by decide), ?_⟩
  refine List.forall_mem_cons.mpr ⟨fun h => absurd h (show ¬ (4 : Nat) = 3 by decide), ?_⟩
  refine List.forall_mem_cons.mpr ⟨fun h => absurd h (show ¬ (4 : Nat) = 3 by decide), ?_⟩
  refine List.forall_mem_cons.mpr ⟨fun h => absurd h (show ¬ (4 : Nat) = 3 by decide), ?_⟩
  refine List.forall_mem_cons.mpr ⟨fun h => absurd h (show ¬ (4 : Nat) = 3 by decide), ?_⟩
  refine List.forall_mem_cons.mpr ⟨fun h => absurd h (show ¬ (4 : Nat) = 3 by decide), ?_⟩
  refine List.forall_mem_cons.mpr ⟨fun h => absurd h (show ¬ (4 : Nat) = 3 by decide), ?_⟩
  refine List.forall_mem_cons.mpr ⟨fun h => absurd h (show ¬ (4 : Nat) = 3 by decide), ?_⟩
  refine List.forall_mem_cons.mpr ⟨fun h => absurd h (show ¬ (4 : Nat) = 3 by decide), ?_⟩
  refine List.forall_mem_cons.mpr ⟨fun h => absurd h (show ¬ (4 : Nat) = 3 by decide), ?_⟩
  refine List.forall_mem_cons.mpr ⟨fun h => absurd h (show ¬ (4 : Nat) = 3 by decide), ?_⟩
  exact fun e h => absurd h List.not_mem_nil

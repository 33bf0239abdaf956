section
/-- one step of the walk -/
def hs_st (x : Int32) : Int32 := if x - x / 2 * 2 = 0 then x / 2 else 3 * x + 1
/-- the walk from x -/
def hs_w (x : Int32) : Nat → Int32
  | 0 => x
  | k + 1 => hs_st (hs_w x k)
/-- the answer over the places 0 .. M of the walk: the first place that holds 1, or the last place's number negated -/
def hs_R (x : Int32) (M : Nat) (r : Int32) : Prop := (∃ d, d ≤ M ∧ hs_w x d = 1 ∧ (∀ j, j < d → ¬ hs_w x j = 1) ∧ r = nI d) ∨ ((∀ j, j < M + 1 → ¬ hs_w x j = 1) ∧ r = 0 - hs_w x M)
theorem hs_uniq {x : Int32} {M : Nat} {r r' : Int32} (h : hs_R x M r) (h' : hs_R x M r') : r = r' := by
  rcases h with ⟨d, d1, d2, d3, d4⟩ | ⟨d1, d2⟩
  · rcases h' with ⟨e, e1, e2, e3, e4⟩ | ⟨e1, e2⟩
    · rcases Nat.lt_trichotomy d e with z | z | z
      · exact absurd d2 (e3 d z)
      · rw [d4, e4, z]
      · exact absurd e2 (d3 e z)
    · exact absurd d2 (e1 d (by omega))
  · rcases h' with ⟨e, e1, e2, e3, e4⟩ | ⟨e1, e2⟩
    · exact absurd e2 (d1 e (by omega))
    · rw [d2, e2]
theorem hs_ext {P : Nat → Prop} {i : Nat} (h : ∀ j, j < i → P j) (e : P i) : ∀ j, j < i + 1 → P j := by
  intro j hj
  by_cases g : j = i
  · rw [g]
    exact e
  · exact h j (by omega)
theorem hs_even {x : Int32} (h : x - x / 2 * 2 = 0) : x / 2 = hs_st x := by
  unfold hs_st
  rw [if_pos h]
theorem hs_odd {x : Int32} (h : ¬ x - x / 2 * 2 = 0) : 3 * x + 1 = hs_st x := by
  unfold hs_st
  rw [if_neg h]
theorem hs_three (x : Int32) : x + x + x + 1 = 3 * x + 1 := by grind
theorem hs_odd2 {x : Int32} (h : ¬ x - x / 2 * 2 = 0) : x + x + x + 1 = hs_st x := by
  rw [hs_three, hs_odd h]
theorem hs_neg (x : Int32) : -x = 0 - x := by grind
theorem hs_two : ¬ (2 : Int32) = 0 := by decide
/-- one turn of the class's loop -/
theorem hs_turn {post : Int32 → Prop} {p1 x : Int32} {n i : Nat} (h1 : x = 1 → post (nI i)) (h2 : ¬ x = 1 → wX0_hailSteps_32 post (wX0_hailSteps_2 post p1 n) (hs_st x) p1 (nI (i + 1))) : wX0_hailSteps_2 post p1 (n + 1) x (nI i) :=
  br_c (fun h => br_t h (h1 h)) (fun h => nm_r (nI_1 i) ⟨hs_two, br_c (fun g => ⟨hs_two, nm_r (hs_even g) (h2 h)⟩) (fun g => nm_r (hs_odd g) (h2 h))⟩)
/-- the class's method: at most m + 1 steps -/
theorem hs_A {post : Int32 → Prop} {x p1 : Int32} {m : Nat} (hlt : ∀ i, i < m → nI (i + 1) < p1) (hge : ¬ nI (m + 1) < p1) (H : ∀ r, hs_R x (m + 1) r → post r) : wpX0_hailSteps post () x p1 :=
  pk_loop (σ := Unit) (fun n i _ => wX0_hailSteps_2 post p1 n (hs_w x i) (nI i)) (fun i _ => ∀ j, j < i → ¬ hs_w x j = 1) m 0 () (by omega) (fun j hj => absurd hj (by omega))
    (fun n _ h => hs_turn (fun e => H _ (Or.inl ⟨m, by omega, e, h, rfl⟩)) (fun e => br_f hge (br_c (fun g => H _ (Or.inl ⟨m + 1, by omega, g, hs_ext h e, rfl⟩)) (fun g => H _ (Or.inr ⟨hs_ext (hs_ext h e) g, hs_neg _⟩)))))
    (fun n i _ hi h hw => hs_turn (fun e => H _ (Or.inl ⟨i, by omega, e, h, rfl⟩)) (fun e => br_t (hlt i hi) (hw () (hs_ext h e))))
/-- the twin's second loop: it looks for the first 1 -/
theorem hs_75 {post : Int32 → St0 → Prop} {mc ms kc ks M : Nat} {x : Int32} {f : Nat → Int32} (hM : M < 1000) (hf : ∀ j, j < M + 1 → f j = hs_w x j) (H : ∀ r, hs_R x M r → post r ()) : ∃ n, wX1_hailSteps_75 post mc ms (nI M) kc ks f (M + 1) n 0 :=
  pk_loop (σ := Unit) (fun n i _ => wX1_hailSteps_75 post mc ms (nI M) kc ks f (M + 1) n (nI i)) (fun i _ => ∀ j, j < i → ¬ hs_w x j = 1) (M + 1) 0 () (by omega) (fun j hj => absurd hj (by omega))
    (fun n _ h => pk_lt M (M + 1) (fun _ => ⟨pk_in M (M + 1) (by omega), by
      rw [nI_clamp (show M < 2 ^ 31 by omega), hf M (by omega)]
      exact H _ (Or.inr ⟨h, rfl⟩)⟩) (fun z => absurd z (by omega)))
    (fun n i _ hi h hw => pk_lt M i (fun z => absurd z (by omega)) (fun _ => ⟨pk_in i (M + 1) hi, by
      rw [nI_clamp (show i < 2 ^ 31 by omega), hf i hi]
      exact br_c (fun e => H _ (Or.inl ⟨i, by omega, e, h, rfl⟩)) (fun e => nm_r (nI_1 i) (hw () (hs_ext h e)))⟩))
theorem hs_fill {x : Int32} {s : Nat → Int32} {i : Nat} (h : ∀ j, j < i + 1 → s j = hs_w x j) : ∀ j, j < i + 1 + 1 → upd s (i + 1) (hs_w x (i + 1)) j = hs_w x j := by
  intro j hj
  by_cases e : j = i + 1
  · rw [e, pk_us]
  · rw [pk_un e]
    exact h j (by omega)
/-- the twin's first loop: it fills the walk -/
theorem hs_24 {post : Int32 → St0 → Prop} {mc ms kc ks M : Nat} {x : Int32} {f : Nat → Int32} (hM : M < 1000) (hf : f 0 = x) (H : ∀ r, hs_R x M r → post r ()) : ∃ n, wX1_hailSteps_24 post mc ms (nI M) kc ks (M + 1) n 1 f :=
  pk_loop (fun n i s => wX1_hailSteps_24 post mc ms (nI M) kc ks (M + 1) n (nI (i + 1)) s) (fun i s => ∀ j, j < i + 1 → s j = hs_w x j) M 0 f (by omega)
    (fun j hj => by
      have e : j = 0 := by omega
      rw [e, hf]
      rfl)
    (fun n s h => pk_lt M (M + 1) (fun _ => hs_75 hM h H) (fun z => absurd z (by omega)))
    (fun n i s hi h hw => pk_lt M (i + 1) (fun z => absurd z (by omega)) (fun _ => ⟨pk_in i (M + 1) (by omega) (nI_pred i),
      nm_r (show s (nI (i + 1) - 1).toNatClampNeg = hs_w x i by rw [nI_pred, nI_clamp (show i < 2 ^ 31 by omega), h i (by omega)]) ⟨hs_two, br_c
        (fun g => ⟨hs_two, pk_in (i + 1) (M + 1) (by omega), nm_r (show upd s (nI (i + 1)).toNatClampNeg (hs_w x i / 2) = upd s (i + 1) (hs_w x (i + 1)) by rw [nI_clamp (show i + 1 < 2 ^ 31 by omega), hs_even g]; rfl) (nm_r (nI_1 (i + 1)) (hw _ (hs_fill h)))⟩)
        (fun g => ⟨pk_in (i + 1) (M + 1) (by omega), nm_r (show upd s (nI (i + 1)).toNatClampNeg (hs_w x i + hs_w x i + hs_w x i + 1) = upd s (i + 1) (hs_w x (i + 1)) by rw [nI_clamp (show i + 1 < 2 ^ 31 by omega), hs_odd2 g]; rfl) (nm_r (nI_1 (i + 1)) (hw _ (hs_fill h)))⟩)⟩⟩))
theorem hs_10 {post : Int32 → St0 → Prop} {M : Nat} {x : Int32} (hM : M < 1000) (H : ∀ r, hs_R x M r → post r ()) : wX1_hailSteps_10 post 1 (M + 1) x (nI M) 0 0 := by
  unfold wX1_hailSteps_10
  refine ⟨?_, nm_r (pk_cl (M + 1) (nI_1 M)) ⟨by omega, by omega, by omega, pk_in 0 (M + 1) (by omega), nm_e (hs_24 hM ?_ H)⟩⟩
  · rw [nI_1]
    exact nI_pos (by omega)
  · show upd (fun _ => 0) 0 x 0 = x
    exact pk_us
end
section
/-- the limit: m + 1 with m ≤ 26, or below 1 (then one step, m = 0) -/
theorem hs_small : ∀ j, j < 5 → ¬ (1 : Int32) ≤ nI j - 4 ∧ ¬ nI (0 + 1) < nI j - 4 := by decide +kernel
theorem hs_lim (x : Int32) : ∃ m, m ≤ 26 ∧ (((x &&& 31) - 4 = nI (m + 1)) ∨ (m = 0 ∧ ¬ (1 : Int32) ≤ (x &&& 31) - 4 ∧ ¬ nI (0 + 1) < (x &&& 31) - 4)) := by
  obtain ⟨j, hj, e⟩ := pk_andE x (m := 31) 5 (by decide)
  rw [e]
  by_cases h : j < 5
  · exact ⟨0, by omega, Or.inr ⟨rfl, hs_small j h⟩⟩
  · refine ⟨j - 5, by omega, Or.inl ?_⟩
    have t : nI j - nI 4 = nI (j - 4) := pk_sub (by omega)
    rw [show j - 5 + 1 = j - 4 by omega, ← t]
    rfl
theorem hs_14 {post : Int32 → St0 → Prop} {x1 z0 : Int32} (H : post 1 ()) : wL_lawOf_14 post 8 128 x1 z0 0 0 := by
  unfold wL_lawOf_14
  obtain ⟨m, hm, e | ⟨e0, e1, e2⟩⟩ := hs_lim x1
  · refine nm_r e (hs_A (m := m) (fun i hi => nI_lt (by omega) (by omega)) (nI_nlt (Nat.le_refl _) (by omega)) (fun r3 h3 => ⟨1, m + 1 + 1, by omega, by omega, ?_⟩))
    exact pk_le 1 (m + 1) (fun _ => hs_10 (by omega) (fun r4 h4 => br_t (hs_uniq h3 h4) H)) (fun z => absurd z (by omega))
  · refine nm_e (hs_A (m := 0) (fun i hi => absurd hi (by omega)) e2 (fun r3 h3 => ⟨1, 2, by omega, by omega, ?_⟩))
    exact br_f e1 (hs_10 (M := 1) (by omega) (fun r4 h4 => br_t (hs_uniq h3 h4) H))
theorem hs_lawOf {post : Int32 → St0 → Prop} {p0 p1 p2 : Int32} (H : post 1 ()) : wpL_lawOf post 8 128 () p0 p1 p2 :=
  br_c (fun _ => hs_14 H) (fun _ => hs_14 H)
theorem hs_cell {P : Int32 → Prop} {L : Nat} {xs : Nat → Int32} (hL : L ≤ 3) (k : Nat) (hk : k < 3) (H : ∀ r, P r) : wpL_cellAt P L xs () (nI k) :=
  pk_le L k (fun _ => H 0) (fun z => ⟨pk_in k L z, H _⟩)
/-! ===== WHAT IS OWED for FlowStepsLaw: one statement: the law answers true on every script of L ints xs ===== -/
theorem i_vc (xs : Nat → Int32) (L : Nat) (hL : L ≤ 3) : wpL_law (fun r => r = 1) L xs := by
  unfold wpL_law
  exact hs_cell hL 0 (by omega) (fun r1 => hs_cell hL 1 (by omega) (fun r2 => hs_cell hL 2 (by omega) (fun r3 => ⟨8, 128, by omega, by omega, hs_lawOf rfl⟩)))
end

section
/-- the picture of a resized array: at each place below n, a0's cell if a0 has one there, else 0 -/
def ac_R (a0 : Nat → Int32) (n0 n : Nat) (r : Nat → Int32) : Prop := ∀ j, j < n → r j = if j < n0 then a0 j else 0
/-- cellAt: it answers something, and nothing more is needed of it -/
theorem ac_cell {post : Int32 → Prop} {L : Nat} {xs : Nat → Int32} (k : Nat) (hL : L ≤ 4) (hk : k < 4) (H : ∀ r, post r) : wpL_cellAt post L xs () (nI k) :=
  pk_le L k (fun _ => H 0) (fun z => ⟨pk_in k L z, H _⟩)
/-- mix: an array of at most 7 cells, whatever they hold -/
theorem ac_mix {post : St1 → Prop} {mc ms : Nat} {p0 p1 p2 : Int32} (hmc : 1 ≤ mc) (hms : 7 ≤ ms) (H : ∀ a n, n ≤ 7 → post (a, n)) : wpL_mix post mc ms () p0 p1 p2 := by
  obtain ⟨k, hk, e⟩ := pk_andE p2 (m := 7) 3 (by decide)
  unfold wpL_mix
  rw [e]
  refine ⟨nI_pos (by omega), nm_r (nI_clamp (by omega)) ⟨by omega, hmc, by omega, ?_⟩⟩
  exact pk_loop (fun n i s => wL_mix_10 post mc ms p0 p1 1 (0 + k) k n (nI i) s) (fun _ _ => True) k 0 (fun _ => 0) (by omega) trivial
    (fun n s _ => pk_le k k (fun _ => H s k (by omega)) (fun z => absurd z (by omega)))
    (fun n i s hi _ hw => pk_le k i (fun z => absurd z (by omega)) (fun _ => br_c (fun _ => ⟨pk_in i k hi, nm_e (nm_r (nI_1 i) (hw _ trivial))⟩) (fun _ => ⟨pk_in i k hi, nm_e (nm_r (nI_1 i) (hw _ trivial))⟩)))
/-- the smaller of the two lengths, as the JDK's Math.min is printed -/
theorem ac_min {n n0 : Nat} (hn0 : n0 < 2 ^ 31) (hn : n < 2 ^ 31) : (if nI n < Int32.ofNat n0 then nI n else Int32.ofNat n0) = nI (min n n0) := by
  by_cases h : n < n0
  · rw [if_pos (show nI n < Int32.ofNat n0 from nI_lt h hn0), Nat.min_eq_left (Nat.le_of_lt h)]
  · rw [if_neg (show ¬ nI n < Int32.ofNat n0 from nI_nlt (Nat.le_of_not_lt h) hn), Nat.min_eq_right (Nat.le_of_not_lt h)]
    rfl
/-- what System.arraycopy leaves is the picture -/
theorem ac_cpy {a0 : Nat → Int32} {n0 n : Nat} : ac_R a0 n0 n (va_cpy a0 (fun _ => 0) 0 0 (min n n0)) := by
  intro j hj
  by_cases h : j < n0
  · rw [if_pos h]
    exact sb_cpy0 (by omega)
  · rw [if_neg h]
    exact pk_cpy_out (Or.inr (by omega))
/-- the class's resized (Arrays.copyOf): the picture -/
theorem ac_x0 {post : St2 → Prop} {mc ms : Nat} {a0 : Nat → Int32} {n0 n : Nat} (hmc : 1 ≤ mc) (hms : n ≤ ms) (hn0 : n0 ≤ 7) (hn : n ≤ 15) (H : ∀ r, ac_R a0 n0 n r → post (a0, n0, r, n)) : wpX0_resized post mc ms (a0, n0) (nI n) := by
  refine ⟨1, n, by omega, by omega, ?_⟩
  refine pk_eq n n0 (fun z => ?_) (fun z => ?_)
  · subst z
    exact ⟨Nat.le_refl 1, by omega, H a0 (fun j hj => (if_pos hj).symm)⟩
  · refine ⟨nI_pos (by omega), nm_r (nI_clamp (by omega)) ⟨by omega, Nat.le_refl 1, by omega, by decide, by decide, ?_⟩⟩
    rw [ac_min (by omega) (by omega), sb_cl0, nI_clamp (by omega)]
    exact ⟨nI_pos (by omega), by omega, by omega, nm_e (H _ ac_cpy)⟩
/-- the twin's resized (a loop that counts down): the picture -/
theorem ac_x1 {post : St2 → Prop} {mc ms : Nat} {a0 : Nat → Int32} {n0 n : Nat} (hmc : 1 ≤ mc) (hms : n ≤ ms) (hn0 : n0 ≤ 7) (hn : n ≤ 15) (H : ∀ r, ac_R a0 n0 n r → post (a0, n0, r, n)) : wpX1_resized post mc ms (a0, n0) (nI n) := by
  refine ⟨nI_pos (by omega), nm_r (nI_clamp (by omega)) ⟨by omega, hmc, by omega, nm_e ⟨n0 + 1, ?_⟩⟩⟩
  refine pk_loopD (fun f i s => wX1_resized_9 post mc ms (nI n) 1 (0 + n) n0 n f (nI i - 1) a0 s) (fun i s => i ≤ n0 ∧ ∀ j, j < n → s j = if i ≤ j ∧ j < n0 then a0 j else 0) ?_ ?_ n0 (fun _ => 0) ⟨Nat.le_refl _, fun j hj => ?_⟩
  · intro f s h
    refine br_t (by decide) (H s (fun j hj => ?_))
    rw [h.2 j hj]
    by_cases g : j < n0
    · rw [if_pos ⟨Nat.zero_le j, g⟩, if_pos g]
    · rw [if_neg (fun q => g q.2), if_neg g]
  · intro f i s h hw
    obtain ⟨hi, hs⟩ := h
    show wX1_resized_9 post mc ms (nI n) 1 (0 + n) n0 n (f + 1) (nI (i + 1) - 1) a0 s
    rw [nI_pred]
    have e : nI i + (-1) = nI i - 1 := (Int32.sub_eq_add_neg _ _).symm
    refine br_f (nI_pos (by omega)) (pk_le n i (fun z => nm_r e (hw s ⟨by omega, fun j hj => ?_⟩)) (fun z => ⟨pk_in i n0 (by omega), pk_in i n z, nm_e (nm_r e (hw _ ⟨by omega, fun j hj => ?_⟩))⟩))
    · rw [hs j hj, if_neg (show ¬ (i + 1 ≤ j ∧ j < n0) by omega), if_neg (show ¬ (i ≤ j ∧ j < n0) by omega)]
    · rw [nI_clamp (show i < 2 ^ 31 by omega)]
      by_cases g : j = i
      · rw [g, pk_us, if_pos (show i ≤ i ∧ i < n0 by omega)]
      · rw [pk_un g, hs j hj]
        by_cases c : i + 1 ≤ j ∧ j < n0
        · rw [if_pos c, if_pos (show i ≤ j ∧ j < n0 by omega)]
        · rw [if_neg c, if_neg (show ¬ (i ≤ j ∧ j < n0) by omega)]
  · exact (if_neg (show ¬ (n0 ≤ j ∧ j < n0) by omega)).symm
/-- eqInts: two arrays of one length that agree below it -/
theorem ac_eq {post : Int32 → Prop} {a b : Nat → Int32} {n : Nat} (hn : n ≤ 15) (h : ∀ j, j < n → a j = b j) (H : post 1) : wpL_eqInts post (a, n, b, n) :=
  br_t rfl (pk_loop (σ := Unit) (fun f i _ => wL_eqInts_11 post a n b n f (nI i)) (fun _ _ => True) n 0 () (by omega) trivial
    (fun f _ _ => pk_le n n (fun _ => H) (fun z => absurd z (by omega)))
    (fun f i _ hi _ hw => pk_le n i (fun z => absurd z (by omega)) (fun z => ⟨pk_in i n hi, pk_in i n hi, br_t (by rw [nI_clamp (by omega)]; exact h i hi) (nm_r (nI_1 i) (hw () trivial))⟩)))
end
section
/-- lawOf: both resized arrays match the one picture, so eqInts answers 1 -/
theorem ac_lawOf {post : Int32 → St0 → Prop} {mc ms : Nat} {p0 p1 p2 p3 : Int32} (hmc : 3 ≤ mc) (hms : 37 ≤ ms) (H : post 1 ()) : wpL_lawOf post mc ms () p0 p1 p2 p3 := by
  obtain ⟨n, hn, e⟩ := pk_andE p3 (m := 15) 4 (by decide)
  unfold wpL_lawOf
  rw [e]
  refine ⟨1, 7, by omega, by omega, ac_mix (by omega) (by omega) (fun a k hk => ?_)⟩
  refine ⟨1, 15, by omega, by omega, ac_x0 (by omega) (by omega) hk (by omega) (fun r hr => ?_)⟩
  refine ⟨1, 15, by omega, by omega, ac_x1 (by omega) (by omega) hk (by omega) (fun q hq => ?_)⟩
  exact ac_eq (by omega) (fun j hj => (hr j hj).trans (hq j hj).symm) ⟨by rfl, H⟩
theorem i_vc (xs : Nat → Int32) (L : Nat) (hL : L ≤ 4) : wpL_law (fun r => r = 1) L xs := by
  unfold wpL_law
  refine ac_cell 0 hL (by omega) (fun r1 => ?_)
  refine ac_cell 1 hL (by omega) (fun r2 => ?_)
  refine ac_cell 2 hL (by omega) (fun r3 => ?_)
  refine ac_cell 3 hL (by omega) (fun r4 => ?_)
  exact ⟨13, 208, by omega, by omega, ac_lawOf (by omega) (by omega) rfl⟩
end

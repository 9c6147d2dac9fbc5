section
/-- the size of a long -/
def dc_N (x : Int64) : Nat := x.toInt.natAbs
/-- c is the number of decimal digits of N (zero has one), at most 19 -/
def dc_C (N c : Nat) : Prop := 1 ≤ c ∧ c ≤ 19 ∧ N < 10 ^ c ∧ (c = 1 ∨ 10 ^ (c - 1) ≤ N)
theorem dc_lt (x : Int64) : dc_N x < 10 ^ 19 := by
  have h1 := Int64.toInt_lt x
  have h2 := Int64.le_toInt x
  unfold dc_N
  omega
theorem dc_0 (x : Int64) : x = 0 ↔ dc_N x = 0 := by
  rw [← Int64.toInt_inj, Int64.toInt_zero]
  unfold dc_N
  omega
theorem dc_div (x : Int64) (m : Nat) (h : m < 2 ^ 63) : dc_N (x / lN m) = dc_N x / m := by
  have e : (lN m).toInt = (m : Int) := pk_lT h
  have hn : lN m ≠ -1 := by
    intro z
    rw [z] at e
    have e1 : (-1 : Int64).toInt = -1 := by decide
    omega
  unfold dc_N
  rw [Int64.toInt_div_of_ne_right _ _ hn, e, Int.natAbs_tdiv, Int.natAbs_natCast]
  rfl
theorem dc_ex (N : Nat) (h : N < 10 ^ 19) : ∃ c, dc_C N c := by
  obtain ⟨c, h1, h2⟩ := pk_least (fun c => 1 ≤ c ∧ N < 10 ^ c) ⟨19, by omega, h⟩
  refine ⟨c, h1.1, ?_, h1.2, ?_⟩
  · rcases Nat.lt_or_ge 19 c with z | z
    · exact absurd ⟨by omega, h⟩ (h2 19 z)
    · exact z
  · rcases Nat.lt_or_ge 1 c with z | z
    · right
      rcases Nat.lt_or_ge N (10 ^ (c - 1)) with g | g
      · exact absurd ⟨by omega, g⟩ (h2 (c - 1) (by omega))
      · exact g
    · left
      have := h1.1
      omega
theorem dc_last {N c : Nat} (h : dc_C N (c + 1)) (hz : N / 10 = 0) : c = 0 := by
  obtain ⟨h1, h2, h3, h4⟩ := h
  cases c with
  | zero => rfl
  | succ d =>
    rcases h4 with h4 | h4
    · omega
    · have h5 : (10 : Nat) ^ (d + 1) ≤ N := h4
      have e2 : (10 : Nat) ^ (d + 1) = 10 ^ d * 10 := Nat.pow_succ _ _
      have e3 : 0 < (10 : Nat) ^ d := Nat.pow_pos (by omega)
      omega
theorem dc_step {N c : Nat} (h : dc_C N (c + 1)) (hz : ¬ N / 10 = 0) : dc_C (N / 10) c := by
  obtain ⟨h1, h2, h3, h4⟩ := h
  cases c with
  | zero =>
    have h5 : N < 10 := h3
    omega
  | succ d =>
    have e1 : (10 : Nat) ^ (d + 1 + 1) = 10 ^ (d + 1) * 10 := Nat.pow_succ _ _
    have e2 : (10 : Nat) ^ (d + 1) = 10 ^ d * 10 := Nat.pow_succ _ _
    rcases h4 with h4 | h4
    · omega
    · have h5 : (10 : Nat) ^ (d + 1) ≤ N := h4
      refine ⟨by omega, by omega, by omega, Or.inr ?_⟩
      show 10 ^ d ≤ N / 10
      omega
theorem dc_le {N c k : Nat} (h : dc_C N c) (hk : c ≤ k) : N / 10 ^ k = 0 :=
  Nat.div_eq_of_lt (Nat.lt_of_lt_of_le h.2.2.1 (Nat.pow_le_pow_right (by omega) hk))
theorem dc_gt {N c k : Nat} (h : dc_C N c) (h1 : 1 ≤ k) (hk : k < c) : ¬ N / 10 ^ k = 0 := by
  have a : 10 ^ k ≤ N := Nat.le_trans (Nat.pow_le_pow_right (by omega) (show k ≤ c - 1 by omega)) (h.2.2.2.resolve_left (by omega))
  have b : 0 < N / 10 ^ k := Nat.div_pos a (Nat.pow_pos (by omega))
  omega
theorem dc_x0 {post : Int32 → Prop} : ∀ (c : Nat) (x0 : Int64) (k : Nat), dc_C (dc_N x0) c → post (nI (k + c)) → wX0_digitCount_2 post c x0 (nI k) := by
  intro c
  induction c with
  | zero =>
    intro x0 k h hp
    exact absurd h.1 (by omega)
  | succ c ih =>
    intro x0 k h hp
    have e : dc_N (x0 / 10) = dc_N x0 / 10 := dc_div x0 10 (by omega)
    unfold wX0_digitCount_2
    refine nm_r (nI_1 k) ⟨by decide, nm_e (br_c (fun z => ?_) (fun z => ?_))⟩
    · rw [dc_0, e] at z
      have hc := dc_last h z
      rw [hc] at hp
      exact hp
    · rw [dc_0, e] at z
      refine ih (x0 / 10) (k + 1) (by rw [e]; exact dc_step h z) ?_
      rw [show k + 1 + c = k + (c + 1) by omega]
      exact hp
theorem dc_27 {post : Int32 → Prop} {J : Int32 → Int64 → Int32 → Prop} {x0 : Int64} {x2 : Int32} {i : Nat} (hi : i ≤ 17) (H : J x2 (lN (10 ^ (min (i + 2) 18))) (nI (i + 3))) : wX1_digitCount_27 post J x0 x2 (lN (10 ^ (i + 1))) (nI (i + 2)) := by
  unfold wX1_digitCount_27
  refine pk_le 19 (i + 2) (fun z => nm_r (nI_1 (i + 2)) ?_) (fun z => nm_r (e' := lN (10 ^ (i + 2))) ?_ (nm_r (nI_1 (i + 2)) ?_))
  · rw [show min (i + 2) 18 = i + 1 by omega] at H
    exact H
  · rw [show (10 : Nat) ^ (i + 2) = 10 ^ (i + 1) * 10 from Nat.pow_succ _ _]
    exact lN_mul (10 ^ (i + 1)) 10
  · rw [show min (i + 2) 18 = i + 2 by omega] at H
    exact H
theorem dc_x1 {post : Int32 → Prop} {x0 : Int64} {c : Nat} (h : dc_C (dc_N x0) c) (hp : post (nI c)) : ∀ (f i : Nat), i ≤ 18 → 18 < i + f → wX1_digitCount_9 post x0 f (nI (min c (i + 1))) (lN (10 ^ (min (i + 1) 18))) (nI (i + 2)) := by
  have hc := h.2.1
  intro f
  induction f with
  | zero =>
    intro i h1 h2
    exact absurd h2 (by omega)
  | succ f ih =>
    intro i h1 h2
    unfold wX1_digitCount_9
    refine pk_lt 19 (i + 2) (fun z => ?_) (fun z => ?_)
    · rw [show min c (i + 1) = c by omega]
      exact hp
    · rw [show min (i + 1) 18 = i + 1 by omega]
      have hb : (10 : Nat) ^ (i + 1) < 2 ^ 63 := Nat.lt_of_le_of_lt (Nat.pow_le_pow_right (by omega) (show i + 1 ≤ 18 by omega)) (by decide)
      have hb0 : 0 < (10 : Nat) ^ (i + 1) := Nat.pow_pos (by omega)
      have hd := dc_div x0 (10 ^ (i + 1)) hb
      have IH := ih (i + 1) (by omega) (by omega)
      refine ⟨?_, br_c (fun e => dc_27 (by omega) ?_) (fun e => dc_27 (by omega) ?_)⟩
      · intro e
        have e' := (pk_lEQ hb (show 0 < 2 ^ 63 by omega)).mp (show lN (10 ^ (i + 1)) = lN 0 from e)
        omega
      · rw [dc_0, hd] at e
        have g : c ≤ i + 1 := by
          rcases Nat.lt_or_ge (i + 1) c with g | g
          · exact absurd e (dc_gt h (by omega) g)
          · exact g
        rw [show min c (i + 1 + 1) = min c (i + 1) by omega] at IH
        exact IH
      · rw [dc_0, hd] at e
        have g : i + 1 < c := by
          rcases Nat.lt_or_ge (i + 1) c with g | g
          · exact g
          · exact absurd (dc_le h g) e
        rw [show min c (i + 1 + 1) = i + 2 by omega] at IH
        exact IH
theorem dc_X0 {post : Int32 → Prop} {x : Int64} {c : Nat} (h : dc_C (dc_N x) c) (hp : post (nI c)) : wpX0_digitCount post () x :=
  ⟨c, dc_x0 c x 0 h (by rw [Nat.zero_add]; exact hp)⟩
theorem dc_X1 {post : Int32 → Prop} {x : Int64} {c : Nat} (h : dc_C (dc_N x) c) (hp : post (nI c)) : wpX1_digitCount post () x := by
  have t := dc_x1 h hp 19 0 (by omega) (by omega)
  have h1 := h.1
  rw [show min c (0 + 1) = 1 by omega, show (10 : Nat) ^ (min (0 + 1) 18) = 10 by decide] at t
  exact ⟨19, t⟩
end
section
theorem dc_lawOf (p0 : Int64) (p1 : Int32) : wpL_lawOf (fun r => r = 1) () p0 p1 := by
  unfold wpL_lawOf
  intro x _
  obtain ⟨c, hc⟩ := dc_ex (dc_N x) (dc_lt x)
  exact dc_X0 hc (dc_X1 hc (br_t rfl rfl))
theorem dc_cell {post : Int32 → Prop} {L : Nat} {xs : Nat → Int32} (hL : L ≤ 3) (k : Nat) (hk : k ≤ 2) (H : ∀ r, post r) : wpL_cellAt post L xs () (nI k) :=
  pk_le L k (fun _ => H 0) (fun z => ⟨pk_in k L z, H _⟩)
theorem i_vc (xs : Nat → Int32) (L : Nat) (hL : L ≤ 3) : wpL_law (fun r => r = 1) L xs :=
  dc_cell hL 0 (by omega) (fun r1 => dc_cell hL 1 (by omega) (fun r2 => dc_cell hL 2 (by omega) (fun r3 => dc_lawOf _ _)))
end

section
/-- what both sides decide: one of the 31 powers of two that an int holds -/
def bm_P (x : Int32) : Prop := ∃ j : Nat, j < 31 ∧ x = nI (2 ^ j)
theorem bm_pow {j : Nat} (h : j < 31) : 2 ^ j < 2 ^ 31 := Nat.pow_lt_pow_right (by omega) h
theorem bm_pos (j : Nat) : 0 < 2 ^ j := Nat.pow_pos (by omega)
theorem bm_le0 {x : Int32} (h : x ≤ 0) : ¬ bm_P x := by
  intro hp
  obtain ⟨j, hj, rfl⟩ := hp
  exact nI_nle (bm_pos j) (bm_pow hj) h
/-- a place is known by the powers around it -/
theorem bm_uni {a b m : Nat} (h1 : 2 ^ a ≤ m) (h2 : m < 2 ^ (a + 1)) (h3 : 2 ^ b ≤ m) (h4 : m < 2 ^ (b + 1)) : a = b := by
  have h5 : a < b + 1 := (Nat.pow_lt_pow_iff_right (a := 2) (by omega)).mp (Nat.lt_of_le_of_lt h1 h4)
  have h6 : b < a + 1 := (Nat.pow_lt_pow_iff_right (a := 2) (by omega)).mp (Nat.lt_of_le_of_lt h3 h2)
  omega
theorem bm_iff {m e : Nat} (he : e < 31) (h1 : 2 ^ e ≤ m) (h2 : m < 2 ^ (e + 1)) (hm : m < 2 ^ 31) : 2 ^ e = m ↔ bm_P (nI m) := by
  constructor
  · intro h
    exact ⟨e, he, by rw [h]⟩
  · intro h
    obtain ⟨j, hj, hx⟩ := h
    have hx' : m = 2 ^ j := (nI_eq hm (bm_pow hj)).mp hx
    have hs : 2 ^ j < 2 ^ (j + 1) := Nat.pow_lt_pow_right (by omega) (by omega)
    have ej : e = j := bm_uni h1 h2 (by omega) (by omega)
    rw [ej, hx']
theorem bm_and (a b : Nat) : nI a &&& nI b = nI (a &&& b) := by
  apply Int32.toBitVec_inj.1
  show BitVec.ofNat 32 a &&& BitVec.ofNat 32 b = BitVec.ofNat 32 (a &&& b)
  apply BitVec.eq_of_getLsbD_eq
  intro i hi
  simp [hi]
theorem bm_top : ∀ e, e < 31 → (((-2147483648 : Int32).toUInt32 >>> ((nI (31 - e)).toUInt32 &&& Int32.toUInt32 31)).toInt32) = nI (2 ^ e) := by decide +kernel
/-- the top bit alone is left -/
theorem bm_hi {m e : Nat} (h1 : 2 ^ e ≤ m) (h2 : m < 2 ^ (e + 1)) : m &&& 2 ^ e = 2 ^ e := by
  have hd : m / 2 ^ e = 1 := Nat.div_eq_of_lt_le (by omega) (by rw [Nat.pow_succ] at h2; omega)
  have ht : m.testBit e = true := by
    rw [Nat.testBit_eq_decide_div_mod_eq, hd]
    decide
  apply Nat.eq_of_testBit_eq
  intro i
  rw [Nat.testBit_and, Nat.testBit_two_pow]
  by_cases h : e = i
  · subst h
    rw [ht]
    simp
  · rw [decide_eq_false h, Bool.and_false]
theorem bm_m {a c : Nat} (h : c ≤ a) : nI a + (-nI c) = nI (a - c) := by
  rw [← Int32.sub_eq_add_neg, pk_sub h]
end
section
theorem bm_61 {post : Int32 → Prop} {q s : Nat} (h0 : 0 < q) (h1 : q < 16) (hs : s + 3 ≤ 31) (H : ∀ t, 2 ^ t ≤ q → q < 2 ^ (t + 1) → post (nI (31 - (s + t)))) : wJ6_numberOfLeadingZeros_0f7a4_565d2_61 post (nI q) (nI (31 - s)) := by
  unfold wJ6_numberOfLeadingZeros_0f7a4_565d2_61
  refine pk_lt q 4 (fun z => ?_) (fun z => ?_)
  · rw [pk_ushrN (by omega) 1 1 (by decide), pk_sub (by omega)]
    have hq : q = 1 ∨ q = 2 ∨ q = 3 := by omega
    rcases hq with rfl | rfl | rfl
    · exact H 0 (by decide) (by decide)
    · exact H 1 (by decide) (by decide)
    · exact H 1 (by decide) (by decide)
  · refine nm_r (bm_m (c := 2) (by omega)) (nm_r (pk_ushrN (by omega) 2 2 (by decide)) ?_)
    rw [pk_ushrN (by omega) 1 1 (by decide), pk_sub (by omega)]
    have hq : (4 ≤ q ∧ q < 8) ∨ (8 ≤ q ∧ q < 16) := by omega
    rcases hq with ⟨a, b⟩ | ⟨a, b⟩
    · have e : 31 - s - 2 - q / 2 ^ 2 / 2 ^ 1 = 31 - (s + 2) := by omega
      rw [e]
      exact H 2 a b
    · have e : 31 - s - 2 - q / 2 ^ 2 / 2 ^ 1 = 31 - (s + 3) := by omega
      rw [e]
      exact H 3 a b
theorem bm_sh {post : Int32 → Prop} {q s : Nat} (c p : Nat) (hp : 2 ^ c = p) (H : ∀ t, 2 ^ t ≤ q → q < 2 ^ (t + 1) → post (nI (31 - (s + t)))) : ∀ t, 2 ^ t ≤ q / p → q / p < 2 ^ (t + 1) → post (nI (31 - (s + c + t))) := by
  intro t h1 h2
  have hpos : 0 < p := by rw [← hp]; exact bm_pos c
  have e1 : 2 ^ (c + t) ≤ q := by
    rw [Nat.add_comm, Nat.pow_add, hp]
    exact (Nat.le_div_iff_mul_le hpos).mp h1
  have e2 : q < 2 ^ (c + t + 1) := by
    rw [Nat.add_assoc, Nat.add_comm, Nat.pow_add, hp]
    exact (Nat.div_lt_iff_lt_mul hpos).mp h2
  rw [Nat.add_assoc]
  exact H (c + t) e1 e2
theorem bm_48 {post : Int32 → Prop} {q s : Nat} (h0 : 0 < q) (h1 : q < 256) (hs : s + 7 ≤ 31) (H : ∀ t, 2 ^ t ≤ q → q < 2 ^ (t + 1) → post (nI (31 - (s + t)))) : wJ6_numberOfLeadingZeros_0f7a4_565d2_48 post (nI q) (nI (31 - s)) := by
  unfold wJ6_numberOfLeadingZeros_0f7a4_565d2_48
  refine pk_lt q 16 (fun z => bm_61 h0 z (by omega) H) (fun z => ?_)
  refine nm_r (bm_m (c := 4) (by omega)) (nm_r (pk_ushrN (by omega) 4 4 (by decide)) ?_)
  rw [show 31 - s - 4 = 31 - (s + 4) by omega]
  exact bm_61 (q := q / 2 ^ 4) (by omega) (by omega) (by omega) (bm_sh 4 _ rfl H)
theorem bm_33 {post : Int32 → Prop} {q s : Nat} (h0 : 0 < q) (h1 : q < 65536) (hs : s + 15 ≤ 31) (H : ∀ t, 2 ^ t ≤ q → q < 2 ^ (t + 1) → post (nI (31 - (s + t)))) : wJ6_numberOfLeadingZeros_0f7a4_565d2_33 post (nI q) (nI (31 - s)) := by
  unfold wJ6_numberOfLeadingZeros_0f7a4_565d2_33
  refine pk_lt q 256 (fun z => bm_48 h0 z (by omega) H) (fun z => ?_)
  refine nm_r (bm_m (c := 8) (by omega)) (nm_r (pk_ushrN (by omega) 8 8 (by decide)) ?_)
  rw [show 31 - s - 8 = 31 - (s + 8) by omega]
  exact bm_48 (q := q / 2 ^ 8) (by omega) (by omega) (by omega) (bm_sh 8 _ rfl H)
/-- Integer.numberOfLeadingZeros of a positive number -/
theorem bm_nlz {post : Int32 → Prop} {m : Nat} (h0 : 0 < m) (h1 : m < 2 ^ 31) (H : ∀ e, 2 ^ e ≤ m → m < 2 ^ (e + 1) → post (nI (31 - e))) : wpJ6_numberOfLeadingZeros_0f7a4_565d2 post () (nI m) := by
  have H' : ∀ t, 2 ^ t ≤ m → m < 2 ^ (t + 1) → post (nI (31 - (0 + t))) := by
    intro t a b
    rw [Nat.zero_add]
    exact H t a b
  unfold wpJ6_numberOfLeadingZeros_0f7a4_565d2
  refine pk_lt 0 m (fun _ => ?_) (fun z => absurd z (by omega))
  refine pk_lt m 65536 (fun z => bm_33 (s := 0) h0 z (by omega) H') (fun z => ?_)
  refine nm_r (e' := nI (31 - (0 + 16))) (by decide) (nm_r (pk_ushrN (by omega) 16 16 (by decide)) ?_)
  exact bm_33 (q := m / 2 ^ 16) (by omega) (by omega) (by omega) (bm_sh 16 _ rfl H')
theorem bm_e31 {m e : Nat} (h1 : m < 2 ^ 31) (h : 2 ^ e ≤ m) : e < 31 :=
  (Nat.pow_lt_pow_iff_right (a := 2) (by omega)).mp (Nat.lt_of_le_of_lt h h1)
/-- Integer.highestOneBit of a positive number -/
theorem bm_hob {post : Int32 → Prop} {m : Nat} (h0 : 0 < m) (h1 : m < 2 ^ 31) (H : ∀ e, e < 31 → 2 ^ e ≤ m → m < 2 ^ (e + 1) → post (nI (2 ^ e))) : wpJ6_highestOneBit_0f7a4_565d2 post () (nI m) := by
  unfold wpJ6_highestOneBit_0f7a4_565d2
  refine bm_nlz h0 h1 (fun e a b => ?_)
  have he : e < 31 := bm_e31 h1 a
  rw [bm_top e he, bm_and, bm_hi a b]
  exact H e he a b
/-- the class -/
theorem bm_x0 {post : Int32 → Prop} {x : Int32} (H1 : bm_P x → post 1) (H0 : ¬ bm_P x → post 0) : wpX0_isPower post () x := by
  unfold wpX0_isPower
  refine br_c (fun h => H0 (bm_le0 h)) (fun h => ?_)
  have hn : ¬ x < 0 := fun z => h (Int32.le_of_lt z)
  obtain ⟨m, hm, rfl⟩ := nI_of hn
  have h0 : 0 < m := by
    rcases Nat.eq_zero_or_pos m with z | z
    · exact absurd (show nI m ≤ 0 by rw [z]; decide) h
    · exact z
  refine bm_hob h0 hm (fun e he a b => ?_)
  refine pk_eq (2 ^ e) m (fun z => H1 ((bm_iff he a b hm).mp z)) (fun z => H0 (fun g => z ((bm_iff he a b hm).mpr g))) rfl rfl (bm_pow he) hm
/-- the twin's loop: k rounds done -/
theorem bm_6 {post : Int32 → Prop} {x : Int32} (H1 : bm_P x → post 1) (H0 : ¬ bm_P x → post 0) : ∀ (d k : Nat) (r : Int32), k + d = 31 → ((r = 1 ∧ bm_P x) ∨ (r = 0 ∧ ∀ j, j < k → ¬ x = nI (2 ^ j))) → wX1_isPower_6 post x (d + 1) r (nI (2 ^ k)) (nI k) := by
  intro d
  induction d with
  | zero =>
    intro k r hk hr
    refine pk_lt 30 k (fun _ => ?_) (fun z => absurd z (by omega))
    rcases hr with ⟨rfl, hp⟩ | ⟨rfl, hp⟩
    · exact ⟨rfl, H1 hp⟩
    · refine ⟨rfl, H0 (fun g => ?_)⟩
      obtain ⟨j, hj, hx⟩ := g
      exact hp j (by omega) hx
  | succ d ih =>
    intro k r hk hr
    have e2 : nI (2 ^ k) + nI (2 ^ k) = nI (2 ^ (k + 1)) := by
      rw [nI_add, Nat.pow_succ, Nat.mul_two]
    refine pk_lt 30 k (fun z => absurd z (by omega)) (fun _ => ?_)
    refine br_c (fun hx => nm_r e2 (nm_r (nI_1 k) ?_)) (fun hx => nm_r e2 (nm_r (nI_1 k) ?_))
    · exact ih (k + 1) 1 (by omega) (Or.inl ⟨rfl, k, by omega, hx⟩)
    · refine ih (k + 1) r (by omega) ?_
      rcases hr with hr | ⟨hr, hp⟩
      · exact Or.inl hr
      · refine Or.inr ⟨hr, fun j hj => ?_⟩
        rcases Nat.lt_succ_iff_lt_or_eq.mp hj with z | z
        · exact hp j z
        · rw [z]
          exact hx
/-- the twin -/
theorem bm_x1 {post : Int32 → Prop} {x : Int32} (H1 : bm_P x → post 1) (H0 : ¬ bm_P x → post 0) : wpX1_isPower post () x :=
  ⟨32, bm_6 H1 H0 31 0 0 rfl (Or.inr ⟨rfl, fun j hj => absurd hj (by omega)⟩)⟩
end
section
theorem bm_law (x : Int32) : wL_lawOf_24 (fun r => r = 1) x := by
  unfold wL_lawOf_24
  refine bm_x0 (fun h => ?_) (fun h => ?_)
  · exact bm_x1 (fun _ => br_t rfl rfl) (fun g => absurd h g)
  · exact bm_x1 (fun g => absurd g h) (fun _ => br_t rfl rfl)
theorem bm_cell {post : Int32 → Prop} {L : Nat} {xs : Nat → Int32} (hL : L ≤ 2) (k : Nat) (hk : k < 2) (H : ∀ v, post v) : wpL_cellAt post L xs () (nI k) :=
  pk_le L k (fun _ => H 0) (fun z => ⟨pk_in k L z, H _⟩)
theorem i_vc (xs : Nat → Int32) (L : Nat) (hL : L ≤ 2) : wpL_law (fun r => r = 1) L xs :=
  bm_cell hL 0 (by omega) (fun a => bm_cell hL 1 (by omega) (fun h => br_c (fun _ => bm_law _) (fun _ => bm_law _)))
end

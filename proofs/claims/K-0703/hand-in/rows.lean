section
/-! ===== numbers: remainders of a long that is not negative (from kit/rows, PURE-ROWS) ===== -/
theorem pk_lT {n : Nat} (h : n < 2 ^ 63) : (lN n).toInt = (n : Int) := lg_ofNat_toInt h
theorem pk_lOf {x : Int64} (h : ¬ x < 0) : ∃ k : Nat, k < 2 ^ 63 ∧ x = lN k := by
  rw [Int64.lt_iff_toInt_lt] at h
  have h0 : (0 : Int64).toInt = 0 := by decide
  have hx := Int64.toInt_lt x
  refine ⟨x.toInt.toNat, by omega, Int64.toInt_inj.mp ?_⟩
  rw [pk_lT (by omega)]
  omega
theorem pk_lDiv {a b : Nat} (ha : a < 2 ^ 63) (h0 : 0 < b) (hb : b < 2 ^ 63) : lN a / lN b = lN (a / b) := by
  apply Int64.toInt_inj.mp
  rw [lg_ldiv_nonneg (by rw [pk_lT ha]; omega) (by rw [pk_lT hb]; omega), pk_lT ha, pk_lT hb, pk_lT (Nat.lt_of_le_of_lt (Nat.div_le_self a b) ha)]
  rfl
theorem pk_lRem {a b : Nat} (ha : a < 2 ^ 63) (h0 : 0 < b) (hb : b < 2 ^ 63) : lN a - lN a / lN b * lN b = lN (a % b) := by
  rw [pk_lDiv ha h0 hb, lN_mul, lN_sub (Nat.div_mul_le_self a b)]
  exact congrArg lN (by have := Nat.div_add_mod' a b; omega)

/-! ===== the two tables of adjustments: by the remainder by 5, by the last digit ===== -/
def cs_aX (i : Int32) : Int64 := if i = 0 then 0 else if i = 1 then -1 else if i = 2 then -2 else if i = 3 then 2 else 1
def cs_aY (k : Int32) : Int32 :=
  if k < 1 then 0 else if 9 < k then 0 else if k = 1 then -1 else if k = 2 then -2 else if k = 3 then 2 else if k = 4 then 1
  else if k = 5 then 0 else if k = 6 then -1 else if k = 7 then -2 else if k = 8 then 2 else if k = 9 then 1 else 0
theorem cs_tab : ∀ j, j < 10 → (cs_aY (nI j)).toInt64 = cs_aX (nI (j % 5)) ∧ (cs_aX (nI (j % 5)) ≤ 0 ↔ cs_aY (nI j) ≤ 0) := by
  decide +kernel
/-- the plain law: for a price that is not negative the two tables give one adjustment -/
theorem cs_adj {p : Int64} (h : 0 ≤ p) : (cs_aY (p - p / 10 * 10).toInt32).toInt64 = cs_aX (p - p / 5 * 5).toInt32
    ∧ (cs_aX (p - p / 5 * 5).toInt32 ≤ 0 ↔ cs_aY (p - p / 10 * 10).toInt32 ≤ 0) := by
  obtain ⟨k, hk, rfl⟩ := pk_lOf (x := p) (Int64.not_lt.mpr h)
  have e5 : (lN k - lN k / 5 * 5).toInt32 = nI (k % 10 % 5) := by
    rw [show (5 : Int64) = lN 5 from rfl, pk_lRem hk (by decide) (by decide), lN_i]
    exact congrArg nI (by omega)
  have e10 : (lN k - lN k / 10 * 10).toInt32 = nI (k % 10) := by
    rw [show (10 : Int64) = lN 10 from rfl, pk_lRem hk (by decide) (by decide), lN_i]
  rw [e5, e10]
  exact cs_tab (k % 10) (Nat.mod_lt _ (by decide))
end
section
/-! ===== the walks: each side's round, down to its join, by its own table ===== -/
theorem cs_x {post : Int64 → SX → Prop} {p d : Int64} {c : Int32} (h0 : 0 ≤ p)
    (h : wX_round_69 post p (cs_aX (p - p / 5 * 5).toInt32) d c) : wpX_round post (d, c) p := by
  refine br_t h0 ⟨by decide, nm_e ?_⟩
  generalize (p - p / 5 * 5).toInt32 = i at h ⊢
  unfold cs_aX at h
  refine br_c (fun e => by rw [if_pos e] at h; exact h) (fun n => ?_)
  rw [if_neg n] at h
  refine br_c (fun e => by rw [if_pos e] at h; exact h) (fun n => ?_)
  rw [if_neg n] at h
  refine br_c (fun e => by rw [if_pos e] at h; exact h) (fun n => ?_)
  rw [if_neg n] at h
  refine br_c (fun e => by rw [if_pos e] at h; exact h) (fun n => ?_)
  rw [if_neg n] at h
  exact h
theorem cs_y {post : Int64 → SY → Prop} {p d : Int64} {c : Int32} (h0 : 0 ≤ p)
    (h : wY_round_91 post p (cs_aY (p - p / 10 * 10).toInt32) d c) : wpY_round post (d, c) p := by
  refine br_t h0 ⟨by decide, nm_e ?_⟩
  generalize (p - p / 10 * 10).toInt32 = i at h ⊢
  unfold cs_aY at h
  iterate 11
    refine br_c (fun e => by rw [if_pos e] at h; exact h) (fun n => ?_)
    rw [if_neg n] at h
    clear n
  exact trivial
/-- behind the joins: one outcome for both sides, whatever is asked of it -/
theorem cs_out {A : Int64} {B : Int32} (e : B.toInt64 = A) (h : A ≤ 0 ↔ B ≤ 0) (p d : Int64) (c : Int32) :
    ∃ (r : Int64) (s : Int64 × Int32), (∀ post : Int64 → SX → Prop, post r s → wX_round_69 post p A d c)
      ∧ (∀ post : Int64 → SY → Prop, post r s → wY_round_91 post p B d c) := by
  subst e
  by_cases hA : B.toInt64 ≤ 0
  · exact ⟨p + B.toInt64, (d + B.toInt64, c), fun _ hp => nm_e (br_t hA hp), fun _ hp => br_t (h.mp hA) (nm_e hp)⟩
  · have hB : ¬ B ≤ 0 := fun z => hA (h.mpr z)
    by_cases hc : c = 2147483647
    · subst hc
      exact ⟨p + B.toInt64, (d + B.toInt64, 2147483647), fun _ hp => nm_e (br_f hA (br_t rfl hp)), fun _ hp => br_f hB (nm_e (br_t rfl (nm_e hp)))⟩
    · exact ⟨p + B.toInt64, (d + B.toInt64, c + 1), fun _ hp => nm_e (br_f hA (br_f hc (nm_e hp))), fun _ hp => br_f hB (nm_e (br_f hc (nm_e hp)))⟩
end
section
/-- the two objects hold the same sum and the same count -/
def i_Rel (_ : Nat) (u : SX) (v : SY) : Prop := u = v
theorem i_up {k : Nat} {u : SX} {v : SY} (h : i_Rel k u v) : i_Rel (k + 3) u v := h
theorem i_vc0 : wpX_init (fun u => wpY_init (fun v => i_Rel 0 u v)) := rfl
theorem i_vc_round {k : Nat} {u : SX} {v : SY} (I : i_Rel k u v) (hk : k + 3 ≤ 1536) (a0 : Int64) : wpX_round (fun r u' => wpY_round (fun r' v' => r' = r ∧ i_Rel (k + 3) u' v') v a0) u a0 := by
  cases I
  obtain ⟨d, c⟩ := u
  by_cases h0 : 0 ≤ a0
  · obtain ⟨r, s, hX, hY⟩ := cs_out (cs_adj h0).1 (cs_adj h0).2 a0 d c
    exact cs_x h0 (hX _ (cs_y h0 (hY _ ⟨rfl, rfl⟩)))
  · exact br_f h0 (br_f h0 ⟨rfl, rfl⟩)
theorem i_vc_diff {k : Nat} {u : SX} {v : SY} (I : i_Rel k u v) (hk : k + 3 ≤ 1536) : wpX_diff (fun r => wpY_diff (fun r' => r' = r ∧ i_Rel (k + 3) u v) v) u := by
  cases I
  exact ⟨rfl, rfl⟩
theorem i_vc_count {k : Nat} {u : SX} {v : SY} (I : i_Rel k u v) (hk : k + 3 ≤ 1536) : wpX_count (fun r => wpY_count (fun r' => r' = r ∧ i_Rel (k + 3) u v) v) u := by
  cases I
  exact ⟨rfl, rfl⟩
end

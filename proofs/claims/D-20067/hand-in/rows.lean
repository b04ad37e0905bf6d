section
/-- bit i of an int -/
def bm_t (x : Int32) (i : Nat) : Bool := x.toBitVec.getLsbD i
/-- a positive number is a power of two times an odd one -/
theorem bm_odd : ∀ m : Nat, 0 < m → ∃ k q : Nat, m = 2 ^ (k + 1) * q + 2 ^ k := by
  intro m
  induction m using Nat.strongRecOn with
  | _ m ih =>
    intro hm
    rcases Nat.mod_two_eq_zero_or_one m with h | h
    · obtain ⟨k, q, e⟩ := ih (m / 2) (by omega) (by omega)
      refine ⟨k + 1, q, ?_⟩
      have p1 : 2 ^ (k + 1 + 1) * q = 2 * (2 ^ (k + 1) * q) := by rw [Nat.pow_succ', Nat.mul_assoc]
      have p2 : 2 ^ (k + 1) = 2 * 2 ^ k := Nat.pow_succ'
      have e1 : m = 2 * (m / 2) := by omega
      have e2 : 2 * (2 ^ (k + 1) * q + 2 ^ k) = 2 ^ (k + 1 + 1) * q + 2 ^ (k + 1) := by rw [p1, Nat.mul_add, ← p2]
      exact e1.trans ((congrArg (fun z => 2 * z) e).trans e2)
    · refine ⟨0, m / 2, ?_⟩
      show m = 2 * (m / 2) + 1
      omega
theorem bm_tb (k q j : Nat) : (2 ^ (k + 1) * q + 2 ^ k).testBit j = if j < k + 1 then decide (k = j) else q.testBit (j - (k + 1)) := by
  rw [Nat.testBit_two_pow_mul_add q (Nat.pow_lt_pow_right (by decide) (Nat.lt_succ_self k)) j, Nat.testBit_two_pow]
theorem bm_tp (k q j : Nat) : (2 ^ (k + 1) * q + (2 ^ k - 1)).testBit j = if j < k + 1 then decide (j < k) else q.testBit (j - (k + 1)) := by
  have h : 2 ^ k - 1 < 2 ^ (k + 1) := Nat.lt_of_le_of_lt (Nat.sub_le _ _) (Nat.pow_lt_pow_right (by decide) (Nat.lt_succ_self k))
  rw [Nat.testBit_two_pow_mul_add q h j, Nat.testBit_two_pow_sub_one]
/-- one less, where nothing is borrowed -/
theorem bm_sub1 {x : Int32} (h : 0 < x.toBitVec.toNat) : (x - 1).toBitVec.toNat = x.toBitVec.toNat - 1 := by
  have h2 : x.toBitVec.toNat < 2 ^ 32 := x.toBitVec.isLt
  have h3 : (1 : Int32).toBitVec.toNat = 1 := by decide
  rw [Int32.toBitVec_sub, BitVec.toNat_sub, h3]
  omega
theorem bm_m1 : ∀ j, j < 32 → (-1 : Int32).toBitVec.getLsbD j = true := by decide +kernel
/-- ~x & (x - 1): the ones below the lowest bit -/
theorem bm_mask {x : Int32} {k q : Nat} (hx : x.toBitVec.toNat = 2 ^ (k + 1) * q + 2 ^ k) : (x ^^^ (-1)) &&& (x - 1) = nI (2 ^ k - 1) := by
  have hk : 0 < 2 ^ k := Nat.two_pow_pos k
  have hp : (x - 1).toBitVec.toNat = 2 ^ (k + 1) * q + (2 ^ k - 1) := by
    rw [bm_sub1 (by rw [hx]; exact Nat.lt_of_lt_of_le hk (Nat.le_add_left _ _)), hx]
    exact Nat.add_sub_assoc hk _
  apply Int32.toBitVec_inj.mp
  apply BitVec.eq_of_getLsbD_eq
  intro j hj
  have a1 : x.toBitVec.getLsbD j = if j < k + 1 then decide (k = j) else q.testBit (j - (k + 1)) := by rw [← BitVec.testBit_toNat, hx, bm_tb]
  have a2 : (x - 1).toBitVec.getLsbD j = if j < k + 1 then decide (j < k) else q.testBit (j - (k + 1)) := by rw [← BitVec.testBit_toNat, hp, bm_tp]
  have a3 : (nI (2 ^ k - 1)).toBitVec.getLsbD j = decide (j < k) := by
    show (BitVec.ofNat 32 (2 ^ k - 1)).getLsbD j = _
    rw [BitVec.getLsbD_ofNat, Nat.testBit_two_pow_sub_one, decide_eq_true hj, Bool.true_and]
  rw [Int32.toBitVec_and, BitVec.getLsbD_and, Int32.toBitVec_xor, BitVec.getLsbD_xor, a1, a2, a3, bm_m1 j hj]
  by_cases h : j < k + 1
  · rw [if_pos h, if_pos h]
    by_cases h' : k = j
    · subst h'
      simp
    · have h'' : j < k := by omega
      simp [h', h'']
  · rw [if_neg h, if_neg h]
    have h' : ¬ j < k := by omega
    cases q.testBit (j - (k + 1)) <;> simp [h']
/-- an int has a lowest bit t, or is 0 and t = 32 -/
theorem bm_low (x : Int32) : ∃ t : Nat, t ≤ 32 ∧ (∀ j, j < t → bm_t x j = false) ∧ (t < 32 → bm_t x t = true) ∧ (x ^^^ (-1)) &&& (x - 1) = nI (2 ^ t - 1) := by
  rcases Nat.eq_zero_or_pos x.toBitVec.toNat with h | h
  · have hx : x = 0 := Int32.toBitVec_inj.mp (BitVec.eq_of_toNat_eq h)
    subst hx
    exact ⟨32, Nat.le_refl 32, fun j _ => BitVec.getLsbD_zero, fun z => absurd z (by omega), by decide +kernel⟩
  · obtain ⟨k, q, e⟩ := bm_odd _ h
    have hk : k < 32 := by
      rcases Nat.lt_or_ge k 32 with z | z
      · exact z
      · have h1 : 2 ^ 32 ≤ 2 ^ k := Nat.pow_le_pow_right (by decide) z
        have h2 : x.toBitVec.toNat < 2 ^ 32 := x.toBitVec.isLt
        have h3 : 2 ^ k ≤ x.toBitVec.toNat := by
          rw [e]
          exact Nat.le_add_left _ _
        exact absurd (Nat.lt_of_le_of_lt (Nat.le_trans h1 h3) h2) (Nat.lt_irrefl _)
    refine ⟨k, Nat.le_of_lt hk, fun j hj => ?_, fun _ => ?_, bm_mask e⟩
    · show x.toBitVec.getLsbD j = false
      rw [← BitVec.testBit_toNat, e, bm_tb, if_pos (by omega)]
      exact decide_eq_false (by omega)
    · show x.toBitVec.getLsbD k = true
      rw [← BitVec.testBit_toNat, e, bm_tb, if_pos (by omega)]
      exact decide_eq_true rfl
theorem bm_and1 (y : Int32) : (y &&& 1) = 1 ↔ y.toBitVec.getLsbD 0 = true := by
  rw [pk_and y (m := 1) 1 (by decide), ← BitVec.testBit_toNat, Nat.testBit_zero]
  show nI (y.toBitVec.toNat % 2) = nI 1 ↔ _
  have h : y.toBitVec.toNat % 2 < 2 := Nat.mod_lt _ (by decide)
  rw [nI_eq (by omega) (by decide)]
  simp
theorem bm_sl : ∀ n, n < 32 → ((nI n &&& 31).toBitVec.smod 32).toNat = n := by decide +kernel
/-- the twin's test of a bit -/
theorem bm_bit (x : Int32) (i : Nat) (hi : i < 32) : ((x >>> (nI i &&& 31)) &&& 1) = 1 ↔ bm_t x i = true := by
  rw [bm_and1]
  have e : (x >>> (nI i &&& 31)).toBitVec.getLsbD 0 = bm_t x i := by
    unfold bm_t
    rw [Int32.toBitVec_shiftRight]
    show (x.toBitVec.sshiftRight ((nI i &&& 31).toBitVec.smod 32).toNat).getLsbD 0 = _
    rw [bm_sl i hi, BitVec.getLsbD_sshiftRight]
    simp [hi]
  rw [e]
end
section
/-- what Integer.numberOfTrailingZeros computes, as a function -/
def bm_f62 (x0 x1 : Int32) : Int32 := if x0 ≤ 4 then x1 + ((x0.toUInt32 >>> ((1 : Int32).toUInt32 &&& Int32.toUInt32 31)).toInt32) else (x1 + 2) + ((((x0.toUInt32 >>> ((2 : Int32).toUInt32 &&& Int32.toUInt32 31)).toInt32).toUInt32 >>> ((1 : Int32).toUInt32 &&& Int32.toUInt32 31)).toInt32)
def bm_f49 (x0 x1 : Int32) : Int32 := if x0 ≤ 16 then bm_f62 x0 x1 else bm_f62 ((x0.toUInt32 >>> ((4 : Int32).toUInt32 &&& Int32.toUInt32 31)).toInt32) (x1 + 4)
def bm_f34 (x0 x1 : Int32) : Int32 := if x0 ≤ 256 then bm_f49 x0 x1 else bm_f49 ((x0.toUInt32 >>> ((8 : Int32).toUInt32 &&& Int32.toUInt32 31)).toInt32) (x1 + 8)
def bm_g (x0 : Int32) : Int32 := if 0 < x0 then (if x0 ≤ 65536 then bm_f34 x0 1 else bm_f34 ((x0.toUInt32 >>> ((16 : Int32).toUInt32 &&& Int32.toUInt32 31)).toInt32) (1 + 16)) else x0 &&& 32
theorem bm_w62 {post : Int32 → Prop} {x0 x1 : Int32} (h : post (bm_f62 x0 x1)) : wJ6_numberOfTrailingZeros_0f7a4_565d2_62 post x0 x1 := by
  unfold bm_f62 at h
  unfold wJ6_numberOfTrailingZeros_0f7a4_565d2_62
  exact br_c (fun c => by rw [if_pos c] at h; exact h) (fun c => nm_e (nm_e (by rw [if_neg c] at h; exact h)))
theorem bm_w49 {post : Int32 → Prop} {x0 x1 : Int32} (h : post (bm_f49 x0 x1)) : wJ6_numberOfTrailingZeros_0f7a4_565d2_49 post x0 x1 := by
  unfold bm_f49 at h
  unfold wJ6_numberOfTrailingZeros_0f7a4_565d2_49
  exact br_c (fun c => bm_w62 (by rw [if_pos c] at h; exact h)) (fun c => nm_e (nm_e (bm_w62 (by rw [if_neg c] at h; exact h))))
theorem bm_w34 {post : Int32 → Prop} {x0 x1 : Int32} (h : post (bm_f34 x0 x1)) : wJ6_numberOfTrailingZeros_0f7a4_565d2_34 post x0 x1 := by
  unfold bm_f34 at h
  unfold wJ6_numberOfTrailingZeros_0f7a4_565d2_34
  exact br_c (fun c => bm_w49 (by rw [if_pos c] at h; exact h)) (fun c => nm_e (nm_e (bm_w49 (by rw [if_neg c] at h; exact h))))
theorem bm_wJ {post : Int32 → Prop} {x : Int32} (h : post (bm_g ((x ^^^ (-1)) &&& (x - 1)))) : wpJ6_numberOfTrailingZeros_0f7a4_565d2 post () x := by
  unfold wpJ6_numberOfTrailingZeros_0f7a4_565d2
  refine nm_e ?_
  unfold bm_g at h
  refine br_c (fun c => ?_) (fun c => ?_)
  · rw [if_pos c] at h
    exact br_c (fun d => bm_w34 (by rw [if_pos d] at h; exact h)) (fun d => nm_e (nm_e (bm_w34 (by rw [if_neg d] at h; exact h))))
  · rw [if_neg c] at h
    exact h
/-- the table: of the 33 masks -/
theorem bm_tab : ∀ t, t < 33 → bm_g (nI (2 ^ t - 1)) = nI t := by decide +kernel
/-- the twin's loop: at place i - 1 the answer stands already if it is i or more -/
theorem bm_loop {post : Int32 → Prop} {x : Int32} {t : Nat} (ht : t ≤ 32) (h0 : ∀ j, j < t → bm_t x j = false) (h1 : t < 32 → bm_t x t = true) (hp : post (nI t)) : ∃ n, wX1_lowZeros_6 post x n 32 31 := by
  have hx : ∀ (n : Nat) (s : Int32), (0 ≤ 32 ∧ (0 ≤ t → s = nI t)) → wX1_lowZeros_6 post x (n + 1) s (nI 0 + (-1)) := by
    intro n s h
    have hc : nI 0 + (-1) < 0 := by decide
    exact br_t hc (by rw [h.2 (Nat.zero_le t)]; exact hp)
  have hs : ∀ (n i : Nat) (s : Int32), (i + 1 ≤ 32 ∧ (i + 1 ≤ t → s = nI t)) → (∀ s', (i ≤ 32 ∧ (i ≤ t → s' = nI t)) → wX1_lowZeros_6 post x n s' (nI i + (-1))) → wX1_lowZeros_6 post x (n + 1) s (nI (i + 1) + (-1)) := by
    intro n i s h hk
    rw [pk_m1]
    have hi : i < 32 := h.1
    refine br_f (nI_pos (by omega)) (br_c (fun c => nm_e (hk _ ⟨Nat.le_of_lt hi, fun hit => ?_⟩)) (fun c => nm_e (hk _ ⟨Nat.le_of_lt hi, fun hit => ?_⟩)))
    · have hb := (bm_bit x i hi).mp c
      rcases Nat.lt_or_ge i t with z | z
      · rw [h0 i z] at hb
        exact absurd hb (by decide)
      · rw [show i = t by omega]
    · by_cases z : i = t
      · exact absurd ((bm_bit x i hi).mpr (by rw [z]; exact h1 (by omega))) c
      · exact h.2 (by omega)
  have key : wX1_lowZeros_6 post x 33 32 (nI 32 + (-1)) := pk_loopD (σ := Int32) (fun n i s => wX1_lowZeros_6 post x n s (nI i + (-1))) (fun i s => i ≤ 32 ∧ (i ≤ t → s = nI t)) hx hs 32 32 ⟨Nat.le_refl 32, fun h => by rw [show t = 32 by omega]; rfl⟩
  have e : nI 32 + (-1) = 31 := by decide
  rw [e] at key
  exact ⟨33, key⟩
end
section
theorem bm_lawOf (a b : Int32) : wpL_lawOf (fun r => r = 1) () a b := by
  unfold wpL_lawOf
  intro x _
  obtain ⟨t, ht, h0, h1, hm⟩ := bm_low x
  unfold wpX0_lowZeros
  refine bm_wJ ?_
  rw [hm, bm_tab t (by omega)]
  unfold wpX1_lowZeros
  exact bm_loop ht h0 h1 (br_t rfl rfl)
theorem bm_cell {post : Int32 → Prop} {L : Nat} {xs : Nat → Int32} {p : Int32} (hL : L ≤ 2) (i : Nat) (hi : i < 2) (hp : p = nI i) (H : ∀ r, post r) : wpL_cellAt post L xs () p := by
  subst hp
  unfold wpL_cellAt
  exact pk_le L i (fun _ => H _) (fun z => ⟨pk_in i L z, H _⟩)
theorem i_vc (xs : Nat → Int32) (L : Nat) (hL : L ≤ 2) : wpL_law (fun r => r = 1) L xs := by
  unfold wpL_law
  exact bm_cell hL 0 (by omega) rfl (fun r => bm_cell hL 1 (by omega) rfl (fun r' => bm_lawOf r r'))
end

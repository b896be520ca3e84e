section
/-! rows of the kit's rows to paste (pk_l.., wb_..): longs from naturals -/
theorem pk_lT {n : Nat} (h : n < 2 ^ 63) : (lN n).toInt = (n : Int) := lg_ofNat_toInt h
theorem pk_lLE {a b : Nat} (ha : a < 2 ^ 63) (hb : b < 2 ^ 63) : lN a ≤ lN b ↔ a ≤ b := by
  rw [Int64.le_iff_toInt_le, pk_lT ha, pk_lT hb]; omega
theorem pk_lOf {x : Int64} (h : ¬ x < 0) : ∃ k : Nat, k < 2 ^ 63 ∧ x = lN k := by
  rw [Int64.lt_iff_toInt_lt] at h
  have h0 : (0 : Int64).toInt = 0 := by decide
  have hx := Int64.toInt_lt x
  refine ⟨x.toInt.toNat, by omega, Int64.toInt_inj.mp ?_⟩
  rw [pk_lT (by omega)]
  omega
theorem pk_lDiv {a b : Nat} (ha : a < 2 ^ 63) (h0 : 0 < b) (hb : b < 2 ^ 63) : lN a / lN b = lN (a / b) := by
  apply Int64.toInt_inj.mp
  rw [lg_ldiv_nonneg (by rw [pk_lT ha]; omega) (by rw [pk_lT hb]; omega), pk_lT ha, pk_lT hb, pk_lT (Nat.lt_of_le_of_lt (Nat.div_le_self a b) ha)]
  rfl
theorem wb_tb (n : Nat) : (lN n).toBitVec = BitVec.ofNat 64 n := rfl
theorem wb_inj {a b : Int64} (h : a.toBitVec = b.toBitVec) : a = b := Int64.toBitVec_inj.mp h
theorem wb_tn {n : Nat} (h : n < 2 ^ 64) : (lN n).toBitVec.toNat = n := by rw [wb_tb, BitVec.toNat_ofNat, Nat.mod_eq_of_lt h]
/-! own rows: the mask of the reference's rounding is the component's division and product -/
theorem bp_bit : ∀ i, i < 64 → (18446744073709551608#64).getLsbD i = decide (3 ≤ i) := by decide +kernel
theorem bp_bits (b : BitVec 64) : b &&& 18446744073709551608#64 = (b >>> 3) <<< 3 := by
  apply BitVec.eq_of_getLsbD_eq
  intro i hi
  rw [BitVec.getLsbD_and, bp_bit i hi, BitVec.getLsbD_shiftLeft, BitVec.getLsbD_ushiftRight]
  by_cases h3 : 3 ≤ i
  · have e : 3 + (i - 3) = i := by omega
    have h3' : ¬ i < 3 := by omega
    rw [e, decide_eq_true h3, decide_eq_false h3', decide_eq_true hi]
    simp
  · have h3' : i < 3 := by omega
    rw [decide_eq_false h3, decide_eq_true h3']
    simp
theorem bp_m8 : (-8 : Int64).toBitVec = 18446744073709551608#64 := by decide +kernel
theorem bp_mask {n : Nat} (h : n < 2 ^ 63) : lN n &&& (-8) = lN (n / 8 * 8) := by
  apply wb_inj
  rw [Int64.toBitVec_and, bp_m8, bp_bits]
  apply BitVec.eq_of_toNat_eq
  rw [BitVec.toNat_shiftLeft, BitVec.toNat_ushiftRight, wb_tn (by omega), wb_tn (by omega), Nat.shiftRight_eq_div_pow, Nat.shiftLeft_eq]
  omega
theorem bp_le0 {p : Int64} (h : ¬ p ≤ 0) : ¬ p < 0 := fun hn => h (Int64.le_of_lt hn)
theorem bp_round {p : Int64} (h : ¬ p ≤ 0) (h1 : p ≤ 1099511627776) : (p + 7) / 8 * 8 = (p + 7) &&& (-8) := by
  obtain ⟨k, hk, rfl⟩ := pk_lOf (bp_le0 h)
  have e : (1099511627776 : Int64) = lN 1099511627776 := rfl
  rw [e, pk_lLE hk (by decide)] at h1
  show (lN k + lN 7) / lN 8 * lN 8 = (lN k + lN 7) &&& (-8)
  rw [lN_add, pk_lDiv (by omega) (by decide) (by decide), lN_mul, bp_mask (by omega)]
/-! own rows: equations of the ring of longs -/
theorem bp_ptr (s q t : Int64) : s * 256 + 64 + q * 64 + 8 + t = s * 256 + (1 + q) * 64 + 8 + t := by grind
theorem bp_pos0 (s : Int64) : s * 216 + 0 + 0 = s * 216 := by grind
theorem bp_pos1 (s t : Int64) : s * 216 + 0 + t = s * 216 + t := by grind
theorem bp_pos2 (s p : Int64) : s * 216 + (48 + (p - 1) * 56) + 0 = s * 216 + 48 + (p - 1) * 56 := by grind
theorem bp_pos3 (s p t : Int64) : s * 216 + (48 + (p - 1) * 56) + t = s * 216 + 48 + (p - 1) * 56 + t := by grind
theorem bp_back (c r : Int64) : c + r - r = c := by grind
theorem bp_216 : ¬ (216 : Int64) = 0 := by decide
theorem bp_56 : ¬ (56 : Int64) = 0 := by decide
theorem bp_256 : ¬ (256 : Int64) = 0 := by decide
theorem bp_64 : ¬ (64 : Int64) = 0 := by decide
theorem bp_8 : ¬ (8 : Int64) = 0 := by decide
end
section
/-! each method: one answer (and one new counter) for both sides, for every post -/
theorem bp_toPtr (a : Int64) : ∃ r : Int64, (∀ (post : Int64 → Prop) (u : SX), post r → wpX_toPtr post u a) ∧ (∀ (post : Int64 → Prop) (v : SY), post r → wpY_toPtr post v a) := by
  by_cases h0 : a < 0
  · exact ⟨-1, fun _ _ hp => br_t h0 hp, fun _ _ hp => br_t h0 hp⟩
  by_cases h1 : a ≤ 1099511627776
  · by_cases h2 : (48 : Int64) ≤ a - a / 216 * 216
    · refine ⟨a / 216 * 256 + (1 + (a - a / 216 * 216 - 48) / 56) * 64 + 8 + (a - a / 216 * 216 - 48 - (a - a / 216 * 216 - 48) / 56 * 56), fun post u hp => br_f h0 (br_t h1 ⟨bp_216, nm_e ⟨bp_216, nm_e (nm_e (br_t h2 (nm_e ⟨bp_56, nm_e ⟨bp_56, nm_e hp⟩⟩)))⟩⟩), fun post v hp => ?_⟩
      rw [← bp_ptr] at hp
      exact br_f h0 (br_t h1 ⟨bp_216, nm_e ⟨bp_216, nm_e (br_t h2 (nm_e ⟨bp_56, bp_56, hp⟩))⟩⟩)
    · exact ⟨a / 216 * 256 + 16 + (a - a / 216 * 216), fun post u hp => br_f h0 (br_t h1 ⟨bp_216, nm_e ⟨bp_216, nm_e (nm_e (br_f h2 hp))⟩⟩), fun post v hp => br_f h0 (br_t h1 ⟨bp_216, nm_e ⟨bp_216, nm_e (br_f h2 hp)⟩⟩)⟩
  · exact ⟨-1, fun _ _ hp => br_f h0 (br_f h1 hp), fun _ _ hp => br_f h0 (br_f h1 hp)⟩
/-- the reference's toPos behind its four names: s the segment, p the page, t the place in it -/
theorem bp_yPos (post : Int64 → Prop) (s p t f : Int64) (h00 : p = 0 → 16 ≤ t → post (s * 216 + (t - 16))) (h01 : p = 0 → ¬ 16 ≤ t → post (s * 216)) (h10 : ¬ p = 0 → 8 ≤ t → post (s * 216 + 48 + (p - 1) * 56 + (t - 8))) (h11 : ¬ p = 0 → ¬ 8 ≤ t → post (s * 216 + 48 + (p - 1) * 56)) : (p = 0 → wY_toPos_63 post s p t 16 f) ∧ (¬ p = 0 → wY_toPos_63 post s p t 8 f) := by
  refine br_c (fun hp => br_c (fun ht => br_t hp ?_) (fun ht => br_t hp ?_)) (fun hp => br_c (fun ht => br_f hp ?_) (fun ht => br_f hp ?_))
  · have h := h00 hp ht
    rw [← bp_pos1] at h
    exact h
  · have h := h01 hp ht
    rw [← bp_pos0] at h
    exact h
  · have h := h10 hp ht
    rw [← bp_pos3] at h
    exact h
  · have h := h11 hp ht
    rw [← bp_pos2] at h
    exact h
/-- what the component asks behind the same names gives what the reference asks -/
theorem bp_toPos (a : Int64) : ∃ r : Int64, (∀ (post : Int64 → Prop) (u : SX), post r → wpX_toPos post u a) ∧ (∀ (post : Int64 → Prop) (v : SY), post r → wpY_toPos post v a) := by
  by_cases h0 : a < 0
  · exact ⟨-1, fun _ _ hp => br_t h0 hp, fun _ _ hp => br_t h0 hp⟩
  by_cases h1 : a ≤ 2199023255552
  · by_cases hp : (a - a / 256 * 256) / 64 = 0
    · by_cases ht : (16 : Int64) ≤ (a - a / 256 * 256) - (a - a / 256 * 256) / 64 * 64
      · exact ⟨a / 256 * 216 + ((a - a / 256 * 256) - (a - a / 256 * 256) / 64 * 64 - 16), fun post u h => br_f h0 (br_t h1 ⟨bp_256, nm_e ⟨bp_256, nm_e ⟨bp_64, nm_e ⟨bp_64, nm_e (nm_e (br_t hp (br_t ht h)))⟩⟩⟩⟩), fun post v h => br_f h0 (br_t h1 ⟨bp_256, nm_e ⟨bp_256, nm_e ⟨bp_64, nm_e ⟨bp_64, nm_e (bp_yPos post _ _ _ v (fun _ _ => h) (fun _ n => absurd ht n) (fun n => absurd hp n) (fun n => absurd hp n))⟩⟩⟩⟩)⟩
      · exact ⟨a / 256 * 216, fun post u h => br_f h0 (br_t h1 ⟨bp_256, nm_e ⟨bp_256, nm_e ⟨bp_64, nm_e ⟨bp_64, nm_e (nm_e (br_t hp (br_f ht h)))⟩⟩⟩⟩), fun post v h => br_f h0 (br_t h1 ⟨bp_256, nm_e ⟨bp_256, nm_e ⟨bp_64, nm_e ⟨bp_64, nm_e (bp_yPos post _ _ _ v (fun _ n => absurd n ht) (fun _ _ => h) (fun n => absurd hp n) (fun n => absurd hp n))⟩⟩⟩⟩)⟩
    · by_cases ht : (8 : Int64) ≤ (a - a / 256 * 256) - (a - a / 256 * 256) / 64 * 64
      · exact ⟨a / 256 * 216 + 48 + ((a - a / 256 * 256) / 64 - 1) * 56 + ((a - a / 256 * 256) - (a - a / 256 * 256) / 64 * 64 - 8), fun post u h => br_f h0 (br_t h1 ⟨bp_256, nm_e ⟨bp_256, nm_e ⟨bp_64, nm_e ⟨bp_64, nm_e (nm_e (br_f hp (nm_e (br_t ht h))))⟩⟩⟩⟩), fun post v h => br_f h0 (br_t h1 ⟨bp_256, nm_e ⟨bp_256, nm_e ⟨bp_64, nm_e ⟨bp_64, nm_e (bp_yPos post _ _ _ v (fun n => absurd n hp) (fun n => absurd n hp) (fun _ _ => h) (fun _ n => absurd ht n))⟩⟩⟩⟩)⟩
      · exact ⟨a / 256 * 216 + 48 + ((a - a / 256 * 256) / 64 - 1) * 56, fun post u h => br_f h0 (br_t h1 ⟨bp_256, nm_e ⟨bp_256, nm_e ⟨bp_64, nm_e ⟨bp_64, nm_e (nm_e (br_f hp (nm_e (br_f ht h))))⟩⟩⟩⟩), fun post v h => br_f h0 (br_t h1 ⟨bp_256, nm_e ⟨bp_256, nm_e ⟨bp_64, nm_e ⟨bp_64, nm_e (bp_yPos post _ _ _ v (fun n => absurd n hp) (fun n => absurd n hp) (fun _ n => absurd n ht) (fun _ _ => h))⟩⟩⟩⟩)⟩
  · exact ⟨-1, fun _ _ hp => br_f h0 (br_f h1 hp), fun _ _ hp => br_f h0 (br_f h1 hp)⟩
theorem bp_reserve (c : Int64) (a : Int64) : ∃ r c' : Int64, (∀ post : Int64 → SX → Prop, post r c' → wpX_reserve post c a) ∧ (∀ post : Int64 → SY → Prop, post r c' → wpY_reserve post c a) := by
  by_cases h0 : a ≤ 0
  · exact ⟨-1, c, fun _ hp => br_t h0 hp, fun _ hp => br_t h0 hp⟩
  by_cases h1 : a ≤ 1099511627776
  · by_cases h2 : c + ((a + 7) &&& (-8)) ≤ 1099511627776
    · obtain ⟨r, hX, hY⟩ := bp_toPtr c
      refine ⟨r, c + ((a + 7) &&& (-8)), fun post hp => br_f h0 (br_t h1 ⟨bp_8, nm_r (bp_round h0 h1) (br_t h2 (hX _ _ (nm_e hp)))⟩), fun post hp => br_f h0 (br_t h1 (nm_e (br_t h2 (nm_e ?_))))⟩
      rw [bp_back]
      exact hY _ _ hp
    · exact ⟨-2, c, fun _ hp => br_f h0 (br_t h1 ⟨bp_8, nm_r (bp_round h0 h1) (br_f h2 hp)⟩), fun _ hp => br_f h0 (br_t h1 (nm_e (br_f h2 hp)))⟩
  · exact ⟨-1, c, fun _ hp => br_f h0 (br_f h1 hp), fun _ hp => br_f h0 (br_f h1 hp)⟩
end
section
/-- the component's counter is the reference's -/
def i_Rel (_ : Nat) (u : SX) (v : SY) : Prop := u = v
theorem i_up {k : Nat} {u : SX} {v : SY} (h : i_Rel k u v) : i_Rel (k + 3) u v := h
theorem i_vc0 : wpX_init (fun u => wpY_init (fun v => i_Rel 0 u v)) := rfl
theorem i_vc_toPtr {k : Nat} {u : SX} {v : SY} (I : i_Rel k u v) (hk : k + 3 ≤ 1536) (a0 : Int64) : wpX_toPtr (fun r => wpY_toPtr (fun r' => r' = r ∧ i_Rel (k + 3) u v) v a0) u a0 := by
  obtain ⟨r, hX, hY⟩ := bp_toPtr a0
  exact hX _ _ (hY _ _ ⟨rfl, I⟩)
theorem i_vc_toPos {k : Nat} {u : SX} {v : SY} (I : i_Rel k u v) (hk : k + 3 ≤ 1536) (a0 : Int64) : wpX_toPos (fun r => wpY_toPos (fun r' => r' = r ∧ i_Rel (k + 3) u v) v a0) u a0 := by
  obtain ⟨r, hX, hY⟩ := bp_toPos a0
  exact hX _ _ (hY _ _ ⟨rfl, I⟩)
theorem i_vc_reserve {k : Nat} {u : SX} {v : SY} (I : i_Rel k u v) (hk : k + 3 ≤ 1536) (a0 : Int64) : wpX_reserve (fun r u' => wpY_reserve (fun r' v' => r' = r ∧ i_Rel (k + 3) u' v') v a0) u a0 := by
  cases I
  obtain ⟨r, c, hX, hY⟩ := bp_reserve u a0
  exact hX _ (hY _ ⟨rfl, rfl⟩)
theorem i_vc_used {k : Nat} {u : SX} {v : SY} (I : i_Rel k u v) (hk : k + 3 ≤ 1536) : wpX_used (fun r => wpY_used (fun r' => r' = r ∧ i_Rel (k + 3) u v) v) u := ⟨I.symm, I⟩
end

section
/-- bit i of a long -/
def rc_b (x : Int64) (i : Nat) : Bool := x.toBitVec.getLsbD i
theorem rc_ext {x y : Int64} (h : ∀ i, i < 64 → rc_b x i = rc_b y i) : x = y := Int64.toBitVec_inj.mp (BitVec.eq_of_getLsbD_eq (fun i hi => h i hi))
theorem rc_or (x y : Int64) (i : Nat) : rc_b (x ||| y) i = (rc_b x i || rc_b y i) := by unfold rc_b; rw [Int64.toBitVec_or, BitVec.getLsbD_or]
theorem rc_and (x y : Int64) (i : Nat) : rc_b (x &&& y) i = (rc_b x i && rc_b y i) := by unfold rc_b; rw [Int64.toBitVec_and, BitVec.getLsbD_and]
theorem rc_xor (x y : Int64) (i : Nat) : rc_b (x ^^^ y) i = (rc_b x i ^^ rc_b y i) := by unfold rc_b; rw [Int64.toBitVec_xor, BitVec.getLsbD_xor]
theorem rc_big {x : Int64} {i : Nat} (h : 64 ≤ i) : rc_b x i = false := BitVec.getLsbD_of_ge _ _ h
theorem rc_0 (i : Nat) : rc_b 0 i = false := BitVec.getLsbD_zero
theorem rc_m1 : ∀ i, i < 64 → rc_b (-1) i = true := by decide +kernel
theorem rc_3 : ∀ i, i < 64 → rc_b 3 i = decide (i < 2) := by decide +kernel
theorem rc_sl : ∀ n, n < 64 → (((nI n).toInt64 &&& 63).toBitVec.smod 64).toNat = n := by decide +kernel
theorem rc_su : ∀ n, n < 64 → (((nI n).toInt64.toUInt64 &&& Int64.toUInt64 63).toBitVec % 64).toNat = n := by decide +kernel
theorem rc_shl (n : Nat) (hn : n < 64) (x : Int64) {i : Nat} (hi : i < 64) : rc_b (x <<< ((nI n).toInt64 &&& 63)) i = (decide (n ≤ i) && rc_b x (i - n)) := by
  unfold rc_b
  rw [Int64.toBitVec_shiftLeft]
  show (x.toBitVec <<< (((nI n).toInt64 &&& 63).toBitVec.smod 64).toNat).getLsbD i = _
  rw [rc_sl n hn, BitVec.getLsbD_shiftLeft]
  rcases Nat.lt_or_ge i n with h | h
  · simp [h, Nat.not_le.mpr h]
  · simp [hi, h, Nat.not_lt.mpr h]
theorem rc_ushr (n : Nat) (hn : n < 64) (x : Int64) (i : Nat) : rc_b ((x.toUInt64 >>> ((nI n).toInt64.toUInt64 &&& Int64.toUInt64 63)).toInt64) i = rc_b x (n + i) := by
  show (x.toUInt64 >>> ((nI n).toInt64.toUInt64 &&& Int64.toUInt64 63)).toBitVec.getLsbD i = x.toUInt64.toBitVec.getLsbD (n + i)
  rw [UInt64.toBitVec_shiftRight]
  show (x.toUInt64.toBitVec >>> (((nI n).toInt64.toUInt64 &&& Int64.toUInt64 63).toBitVec % 64).toNat).getLsbD i = _
  rw [rc_su n hn, BitVec.getLsbD_ushiftRight]
/-- where bit i comes from when blocks of s bits change places, m the mask of the low blocks -/
def rc_p (s : Nat) (m : Int64) (i : Nat) : Nat := if rc_b m i = true then s + i else i - s
/-- one swap of neighbouring blocks -/
theorem rc_step (s : Nat) (hs : s < 64) (m : Int64) (hm : ∀ i, i < 64 → (s ≤ i → rc_b m (i - s) = !rc_b m i) ∧ (s ≤ i ∨ rc_b m i = true)) (x : Int64) {i : Nat} (hi : i < 64) : rc_b ((((x.toUInt64 >>> ((nI s).toInt64.toUInt64 &&& Int64.toUInt64 63)).toInt64) &&& m) ||| ((x &&& m) <<< ((nI s).toInt64 &&& 63))) i = rc_b x (rc_p s m i) := by
  obtain ⟨h1, h2⟩ := hm i hi
  rw [rc_or, rc_and, rc_ushr s hs, rc_shl s hs _ hi, rc_and]
  unfold rc_p
  rcases Bool.eq_false_or_eq_true (rc_b m i) with e | e
  · rw [if_pos e, e, Bool.and_true]
    rcases Nat.lt_or_ge i s with h | h
    · rw [decide_eq_false (Nat.not_le.mpr h), Bool.false_and, Bool.or_false]
    · rw [h1 h, e, Bool.not_true, Bool.and_false, Bool.and_false, Bool.or_false]
  · have h : s ≤ i := by
      rcases h2 with h | h
      · exact h
      · rw [e] at h; exact absurd h (by decide)
    have hn : ¬ rc_b m i = true := by rw [e]; decide
    rw [if_neg hn, h1 h, e, Bool.not_false, Bool.and_true, Bool.and_false, Bool.false_or, decide_eq_true h, Bool.true_and]
theorem rc_st2 (x : Int64) {i : Nat} (hi : i < 64) : rc_b ((((x.toUInt64 >>> ((2 : Int32).toInt64.toUInt64 &&& Int64.toUInt64 63)).toInt64) &&& 3689348814741910323) ||| ((x &&& 3689348814741910323) <<< ((2 : Int32).toInt64 &&& 63))) i = rc_b x (rc_p 2 3689348814741910323 i) := rc_step 2 (by decide) 3689348814741910323 (by decide +kernel) x hi
theorem rc_st4 (x : Int64) {i : Nat} (hi : i < 64) : rc_b ((((x.toUInt64 >>> ((4 : Int32).toInt64.toUInt64 &&& Int64.toUInt64 63)).toInt64) &&& 1085102592571150095) ||| ((x &&& 1085102592571150095) <<< ((4 : Int32).toInt64 &&& 63))) i = rc_b x (rc_p 4 1085102592571150095 i) := rc_step 4 (by decide) 1085102592571150095 (by decide +kernel) x hi
theorem rc_st8 (x : Int64) {i : Nat} (hi : i < 64) : rc_b ((((x.toUInt64 >>> ((8 : Int32).toInt64.toUInt64 &&& Int64.toUInt64 63)).toInt64) &&& 71777214294589695) ||| ((x &&& 71777214294589695) <<< ((8 : Int32).toInt64 &&& 63))) i = rc_b x (rc_p 8 71777214294589695 i) := rc_step 8 (by decide) 71777214294589695 (by decide +kernel) x hi
theorem rc_st16 (x : Int64) {i : Nat} (hi : i < 64) : rc_b ((((x.toUInt64 >>> ((16 : Int32).toInt64.toUInt64 &&& Int64.toUInt64 63)).toInt64) &&& 281470681808895) ||| ((x &&& 281470681808895) <<< ((16 : Int32).toInt64 &&& 63))) i = rc_b x (rc_p 16 281470681808895 i) := rc_step 16 (by decide) 281470681808895 (by decide +kernel) x hi
/-- the last swap has no mask -/
theorem rc_st32 (x : Int64) {i : Nat} (hi : i < 64) : rc_b (((x.toUInt64 >>> ((32 : Int32).toInt64.toUInt64 &&& Int64.toUInt64 63)).toInt64) ||| (x <<< ((32 : Int32).toInt64 &&& 63))) i = rc_b x (if i < 32 then 32 + i else i - 32) := by
  rw [rc_or]
  have a : rc_b ((x.toUInt64 >>> ((32 : Int32).toInt64.toUInt64 &&& Int64.toUInt64 63)).toInt64) i = rc_b x (32 + i) := rc_ushr 32 (by decide) x i
  have b : rc_b (x <<< ((32 : Int32).toInt64 &&& 63)) i = (decide (32 ≤ i) && rc_b x (i - 32)) := rc_shl 32 (by decide) x hi
  rw [a, b]
  rcases Nat.lt_or_ge i 32 with h | h
  · rw [if_pos h, decide_eq_false (Nat.not_le.mpr h), Bool.false_and, Bool.or_false]
  · rw [if_neg (Nat.not_lt.mpr h), decide_eq_true h, Bool.true_and, rc_big (show 64 ≤ 32 + i by omega), Bool.false_or]
/-- each swap stays below 64 -/
theorem rc_l2 : ∀ i, i < 64 → rc_p 2 3689348814741910323 i < 64 := by decide +kernel
theorem rc_l4 : ∀ i, i < 64 → rc_p 4 1085102592571150095 i < 64 := by decide +kernel
theorem rc_l8 : ∀ i, i < 64 → rc_p 8 71777214294589695 i < 64 := by decide +kernel
theorem rc_l16 : ∀ i, i < 64 → rc_p 16 281470681808895 i < 64 := by decide +kernel
theorem rc_l32 (i : Nat) (h : i < 64) : (if i < 32 then 32 + i else i - 32) < 64 := by
  rcases Nat.lt_or_ge i 32 with g | g
  · rw [if_pos g]; omega
  · rw [if_neg (Nat.not_lt.mpr g)]; omega
/-- the five swaps together turn the 32 groups round -/
theorem rc_all : ∀ i, i < 64 → rc_p 2 3689348814741910323 (rc_p 4 1085102592571150095 (rc_p 8 71777214294589695 (rc_p 16 281470681808895 (if i < 32 then 32 + i else i - 32)))) = 62 - 2 * (i / 2) + i % 2 := by decide +kernel
/-- the component's word before its last shift -/
theorem rc_X (w a b c d e f : Int64) (ha : a = w ^^^ (-1))
    (hb : b = (((a.toUInt64 >>> ((2 : Int32).toInt64.toUInt64 &&& Int64.toUInt64 63)).toInt64) &&& 3689348814741910323) ||| ((a &&& 3689348814741910323) <<< ((2 : Int32).toInt64 &&& 63)))
    (hc : c = (((b.toUInt64 >>> ((4 : Int32).toInt64.toUInt64 &&& Int64.toUInt64 63)).toInt64) &&& 1085102592571150095) ||| ((b &&& 1085102592571150095) <<< ((4 : Int32).toInt64 &&& 63)))
    (hd : d = (((c.toUInt64 >>> ((8 : Int32).toInt64.toUInt64 &&& Int64.toUInt64 63)).toInt64) &&& 71777214294589695) ||| ((c &&& 71777214294589695) <<< ((8 : Int32).toInt64 &&& 63)))
    (he : e = (((d.toUInt64 >>> ((16 : Int32).toInt64.toUInt64 &&& Int64.toUInt64 63)).toInt64) &&& 281470681808895) ||| ((d &&& 281470681808895) <<< ((16 : Int32).toInt64 &&& 63)))
    (hf : f = ((e.toUInt64 >>> ((32 : Int32).toInt64.toUInt64 &&& Int64.toUInt64 63)).toInt64) ||| (e <<< ((32 : Int32).toInt64 &&& 63)))
    (i : Nat) (hi : i < 64) : rc_b f i = !rc_b w (62 - 2 * (i / 2) + i % 2) := by
  have l1 := rc_l32 i hi
  have l2 := rc_l16 _ l1
  have l3 := rc_l8 _ l2
  have l4 := rc_l4 _ l3
  have l5 := rc_l2 _ l4
  rw [hf, rc_st32 e hi, he, rc_st16 d l1, hd, rc_st8 c l2, hc, rc_st4 b l3, hb, rc_st2 a l4, ha, rc_xor, rc_m1 _ l5, Bool.xor_true, rc_all i hi]
end
section
/-- what both sides answer for the lowest m groups of w: bit j of r -/
def rc_Rev (w : Int64) (m : Nat) (r : Int64) : Prop := ∀ j, j < 64 → rc_b r j = (decide (j < 2 * m) && !rc_b w (2 * m - 2 - 2 * (j / 2) + j % 2))
theorem rc_cmpT : ∀ n, n < 4 → ∀ j, j < 64 → rc_b (3 - lN n) j = (decide (j < 2) && !rc_b (lN n) j) := by decide +kernel
theorem rc_and3 (x : Int64) : ∃ n : Nat, n < 4 ∧ x &&& 3 = lN n := by
  refine ⟨(x &&& 3).toBitVec.toNat, ?_, ?_⟩
  · rw [Int64.toBitVec_and, BitVec.toNat_and]
    exact Nat.lt_of_le_of_lt Nat.and_le_right (by decide)
  · apply Int64.toBitVec_inj.mp
    show (x &&& 3).toBitVec = BitVec.ofNat 64 (x &&& 3).toBitVec.toNat
    rw [BitVec.ofNat_toNat, BitVec.setWidth_eq]
/-- the complement of the lowest group -/
theorem rc_cmp (x : Int64) (j : Nat) (hj : j < 64) : rc_b (3 - (x &&& 3)) j = (decide (j < 2) && !rc_b x j) := by
  obtain ⟨n, hn, e⟩ := rc_and3 x
  have h := rc_and x 3 j
  rw [rc_3 j hj] at h
  rw [e, rc_cmpT n hn j hj, ← e, h]
  rcases Nat.lt_or_ge j 2 with g | g
  · rw [decide_eq_true g, Bool.and_true]
  · rw [decide_eq_false (Nat.not_lt.mpr g), Bool.false_and, Bool.false_and]
/-- one turn of the reference's loop -/
theorem rc_turn (w x1 x3 : Int64) (i : Nat) (h1 : ∀ j, rc_b x1 j = rc_b w (2 * i + j)) (h3 : rc_Rev w i x3) : rc_Rev w (i + 1) ((x3 <<< ((2 : Int32).toInt64 &&& 63)) ||| (3 - (x1 &&& 3))) := by
  intro j hj
  have s : rc_b (x3 <<< ((2 : Int32).toInt64 &&& 63)) j = (decide (2 ≤ j) && rc_b x3 (j - 2)) := rc_shl 2 (by decide) x3 hj
  rw [rc_or, s, rc_cmp x1 j hj, h1 j]
  rcases Nat.lt_or_ge j 2 with g | g
  · have a : 2 * i + j = 2 * (i + 1) - 2 - 2 * (j / 2) + j % 2 := by omega
    rw [decide_eq_false (Nat.not_le.mpr g), decide_eq_true g, decide_eq_true (show j < 2 * (i + 1) by omega), Bool.false_and, Bool.false_or, a]
  · rw [decide_eq_true g, decide_eq_false (Nat.not_lt.mpr g), Bool.true_and, Bool.false_and, Bool.or_false, h3 (j - 2) (by omega)]
    rcases Nat.lt_or_ge j (2 * (i + 1)) with k | k
    · have a : 2 * i - 2 - 2 * ((j - 2) / 2) + (j - 2) % 2 = 2 * (i + 1) - 2 - 2 * (j / 2) + j % 2 := by omega
      rw [decide_eq_true k, decide_eq_true (show j - 2 < 2 * i by omega), a]
    · rw [decide_eq_false (Nat.not_lt.mpr k), decide_eq_false (show ¬ j - 2 < 2 * i by omega), Bool.false_and, Bool.false_and]
theorem rc_drop (w x1 : Int64) (i : Nat) (h1 : ∀ j, rc_b x1 j = rc_b w (2 * i + j)) (j : Nat) : rc_b ((x1.toUInt64 >>> ((2 : Int32).toInt64.toUInt64 &&& Int64.toUInt64 63)).toInt64) j = rc_b w (2 * (i + 1) + j) := by
  have s : rc_b ((x1.toUInt64 >>> ((2 : Int32).toInt64.toUInt64 &&& Int64.toUInt64 63)).toInt64) j = rc_b x1 (2 + j) := rc_ushr 2 (by decide) x1 j
  have a : 2 * i + (2 + j) = 2 * (i + 1) + j := by omega
  rw [s, h1, a]
/-- the reference's loop -/
theorem rc_loop (w fw : Int64) (m : Nat) (hm : m ≤ 32) (r : Int64) (hr : rc_Rev w m r) (post : Int64 → Prop) (hp : post r) : ∀ d i : Nat, i + d = m → ∀ x1 x3 : Int64, (∀ j, rc_b x1 j = rc_b w (2 * i + j)) → rc_Rev w i x3 → wY_revComp_10 post (nI m) fw (d + 1) x1 x3 (nI i) := by
  intro d
  induction d with
  | zero =>
    intro i hi x1 x3 h1 h3
    have e : i = m := by omega
    subst e
    have x : x3 = r := rc_ext fun j hj => by rw [h3 j hj, hr j hj]
    subst x
    have h : nI i ≤ nI i := nI_le (Nat.le_refl i) (by omega)
    exact br_t h hp
  | succ d ih =>
    intro i hi x1 x3 h1 h3
    have h : ¬ nI m ≤ nI i := nI_ge (by omega) (by omega)
    refine br_f h (nm_e (nm_e (nm_r (nI_1 i) ?_)))
    exact ih (i + 1) (by omega) _ _ (rc_drop w x1 i h1) (rc_turn w x1 x3 i h1 h3)
theorem rc_Y (w : Int64) (m : Nat) (hm : m ≤ 32) (r : Int64) (hr : rc_Rev w m r) (post : Int64 → Prop) (hp : post r) : wpY_revComp post (nI m, w) := by
  have h0 : ∀ j, rc_b w j = rc_b w (2 * 0 + j) := fun j => by rw [Nat.mul_zero, Nat.zero_add]
  have h3 : rc_Rev w 0 0 := fun j _ => by
    rw [rc_0, decide_eq_false (show ¬ j < 2 * 0 by omega), Bool.false_and]
  have h := rc_loop w w m hm r hr post hp m 0 (Nat.zero_add m) w 0 h0 h3
  unfold wpY_revComp
  dsimp only
  rw [nI_0] at h
  exact ⟨m + 1, h⟩
theorem rc_64 : ∀ m, m < 33 → (64 : Int32) - 2 * nI m = nI (64 - 2 * m) := by decide +kernel
/-- there is such an answer -/
theorem rc_ex (w : Int64) : ∀ i : Nat, ∃ x1 x3 : Int64, (∀ j, rc_b x1 j = rc_b w (2 * i + j)) ∧ rc_Rev w i x3 := by
  intro i
  induction i with
  | zero =>
    refine ⟨w, 0, fun j => by rw [Nat.mul_zero, Nat.zero_add], fun j _ => ?_⟩
    rw [rc_0, decide_eq_false (show ¬ j < 2 * 0 by omega), Bool.false_and]
  | succ i ih =>
    obtain ⟨x1, x3, h1, h3⟩ := ih
    exact ⟨_, _, rc_drop w x1 i h1, rc_turn w x1 x3 i h1 h3⟩
/-- the component's straight line -/
theorem rc_XR (w : Int64) (m : Nat) (h1 : 1 ≤ m) (hm : m ≤ 32) (r : Int64) (hr : rc_Rev w m r) (post : Int64 → Prop) (hp : post r) : wpX_revComp post (nI m, w) := by
  unfold wpX_revComp
  dsimp only
  intro a ha b hb c hc d hd e he f hf
  have F := rc_X w a b c d e f ha hb hc hd he hf
  rcases Nat.lt_or_ge m 32 with h | h
  · have h32 : ¬ (32 : Int32) ≤ nI m := nI_ge (b := 32) h (by decide)
    refine br_f h32 fun y ey => ?_
    have q : y = r := rc_ext fun j hj => by
      rw [ey, rc_64 m (by omega), rc_ushr (64 - 2 * m) (by omega), hr j hj]
      rcases Nat.lt_or_ge j (2 * m) with g | g
      · have k : 62 - 2 * ((64 - 2 * m + j) / 2) + (64 - 2 * m + j) % 2 = 2 * m - 2 - 2 * (j / 2) + j % 2 := by omega
        rw [F (64 - 2 * m + j) (by omega), k, decide_eq_true g, Bool.true_and]
      · rw [rc_big (show 64 ≤ 64 - 2 * m + j by omega), decide_eq_false (Nat.not_lt.mpr g), Bool.false_and]
    rw [q]; exact hp
  · have h32 : (32 : Int32) ≤ nI m := nI_le (a := 32) h (by omega)
    refine br_t h32 ?_
    have q : f = r := rc_ext fun j hj => by
      have k : 62 - 2 * (j / 2) + j % 2 = 2 * m - 2 - 2 * (j / 2) + j % 2 := by omega
      rw [F j hj, hr j hj, k, decide_eq_true (show j < 2 * m by omega), Bool.true_and]
    rw [q]; exact hp
/-- one answer for both sides -/
theorem rc_both (w : Int64) (m : Nat) (h1 : 1 ≤ m) (hm : m ≤ 32) : ∃ r : Int64, (∀ post : Int64 → Prop, post r → wpX_revComp post (nI m, w)) ∧ (∀ post : Int64 → Prop, post r → wpY_revComp post (nI m, w)) := by
  obtain ⟨_, r, _, hr⟩ := rc_ex w m
  exact ⟨r, fun post hp => rc_XR w m h1 hm r hr post hp, fun post hp => rc_Y w m hm r hr post hp⟩
theorem rc_canX {post : Int64 → Prop} {f : Int32} {w r : Int64} (hX : ∀ p : Int64 → Prop, p r → wpX_revComp p (f, w)) (h : (w ^^^ (-9223372036854775808) ≤ r ^^^ (-9223372036854775808) → post w) ∧ (¬ w ^^^ (-9223372036854775808) ≤ r ^^^ (-9223372036854775808) → post r)) : wpX_canonical post (f, w) := by
  unfold wpX_canonical
  dsimp only
  exact hX _ (nm_e (nm_e h))
theorem rc_canY {post : Int64 → Prop} {f : Int32} {w r : Int64} (hY : ∀ p : Int64 → Prop, p r → wpY_revComp p (f, w)) (h : (r ^^^ (-9223372036854775808) < w ^^^ (-9223372036854775808) → post r) ∧ (¬ r ^^^ (-9223372036854775808) < w ^^^ (-9223372036854775808) → post w)) : wpY_canonical post (f, w) := by
  unfold wpY_canonical
  dsimp only
  exact hY _ h
/-- the word that a load keeps -/
def rc_ld (m : Nat) (p0 p1 : Int32) : Int64 := ((p0.toInt64 <<< ((32 : Int32).toInt64 &&& 63)) ||| (p1.toInt64 &&& 4294967295)) &&& (((-1 : Int64).toUInt64 >>> ((64 - (2 * nI m)).toInt64.toUInt64 &&& Int64.toUInt64 63)).toInt64)
theorem rc_mk : ∀ m, m < 32 → 1 ≤ m → (((1 : Int64) <<< ((2 * nI m).toInt64 &&& 63)) - 1) = (((-1 : Int64).toUInt64 >>> ((64 - (2 * nI m)).toInt64.toUInt64 &&& Int64.toUInt64 63)).toInt64) := by decide +kernel
theorem rc_mk32 : (((-1 : Int64).toUInt64 >>> ((64 - (2 * nI 32)).toInt64.toUInt64 &&& Int64.toUInt64 63)).toInt64) = -1 := by decide +kernel
theorem rc_andm1 (x : Int64) : x &&& (-1) = x := rc_ext fun i hi => by rw [rc_and, rc_m1 i hi, Bool.and_true]
theorem rc_ld0 : ∀ m, m < 33 → rc_ld m 0 0 = 0 := by decide +kernel
theorem rc_loadX {post : Int64 → SX → Prop} (m : Nat) (h1 : 1 ≤ m) (hm : m ≤ 32) (w : Int64) (p0 p1 : Int32) (h : post (rc_ld m p0 p1) (nI m, rc_ld m p0 p1)) : wpX_load post (nI m, w) p0 p1 := by
  unfold wpX_load
  dsimp only
  intro x ex
  rcases Nat.lt_or_ge m 32 with g | g
  · have h32 : ¬ (32 : Int32) ≤ nI m := nI_ge (b := 32) g (by decide)
    refine br_f h32 fun y ey => ?_
    have e : y = rc_ld m p0 p1 := by rw [ey, ex, rc_mk m g h1]; rfl
    rw [e]; exact h
  · have h32 : (32 : Int32) ≤ nI m := nI_le (a := 32) g (by omega)
    refine br_t h32 ?_
    have k : m = 32 := by omega
    subst k
    have e : x = rc_ld 32 p0 p1 := by unfold rc_ld; rw [rc_mk32, rc_andm1]; exact ex
    rw [e]; exact h
theorem rc_loadY {post : Int64 → SY → Prop} (m : Nat) (w : Int64) (p0 p1 : Int32) (h : post (rc_ld m p0 p1) (nI m, rc_ld m p0 p1)) : wpY_load post (nI m, w) p0 p1 := by
  unfold wpY_load
  dsimp only
  exact nm_e (nm_e h)
theorem rc_initY {post : SY → Prop} (m : Nat) (hm : m ≤ 32) (h : post (nI m, 0)) : wY_init_26 post (nI m) 0 0 := by
  unfold wY_init_26
  refine rc_loadY m 0 0 0 ?_
  dsimp only
  rw [rc_ld0 m (by omega)]
  exact h
end
section
/-- both keep the same k, 1 to 32, and the same word -/
def i_Rel (_ : Nat) (u : SX) (v : SY) : Prop := ∃ (m : Nat) (w : Int64), 1 ≤ m ∧ m ≤ 32 ∧ u = (nI m, w) ∧ v = (nI m, w)
theorem i_up {k : Nat} {u : SX} {v : SY} (h : i_Rel k u v) : i_Rel (k + 3) u v := h
theorem rc_rel (k m : Nat) (w : Int64) (h1 : 1 ≤ m) (hm : m ≤ 32) : i_Rel k (nI m, w) (nI m, w) := ⟨m, w, h1, hm, rfl, rfl⟩
theorem i_vc0 (k0 : Int32) : wpX_init (fun u => wpY_init (fun v => i_Rel 1 u v) k0) k0 := by
  by_cases h1 : 1 ≤ k0
  · by_cases h2 : k0 ≤ 32
    · have h0 : ¬ k0 < 0 := Int32.not_lt.mpr (Int32.le_trans (by decide) h1)
      obtain ⟨j, hj, rfl⟩ := nI_of2 (x := k0) (M := 32) (n := 32) (by decide) h0 h2
      have h3 : nI 1 ≤ nI j := h1
      rw [nI_leI (by omega) (by omega)] at h3
      exact br_t h1 (br_t h2 (br_t h1 (br_t h2 (rc_initY j hj (rc_rel 1 j 0 h3 hj)))))
    · exact br_t h1 (br_f h2 (br_t h1 (br_f h2 (rc_initY 32 (by decide) (rc_rel 1 32 0 (by decide) (by decide))))))
  · have h2 : (1 : Int32) ≤ 32 := by decide
    exact br_f h1 (br_t h2 (br_f h1 (rc_initY 1 (by decide) (rc_rel 1 1 0 (by decide) (by decide)))))
theorem i_vc_load {k : Nat} {u : SX} {v : SY} (I : i_Rel k u v) (hk : k + 3 ≤ 1537) (v1 : Int32) (v2 : Int32) : wpX_load (fun r u' => wpY_load (fun r' v' => r' = r ∧ i_Rel (k + 3) u' v') v v1 v2) u v1 v2 := by
  obtain ⟨m, w, h1, hm, rfl, rfl⟩ := I
  refine rc_loadX m h1 hm w v1 v2 ?_
  refine rc_loadY m w v1 v2 ?_
  exact ⟨rfl, rc_rel _ m _ h1 hm⟩
theorem i_vc_revComp {k : Nat} {u : SX} {v : SY} (I : i_Rel k u v) (hk : k + 3 ≤ 1537) : wpX_revComp (fun r => wpY_revComp (fun r' => r' = r ∧ i_Rel (k + 3) u v) v) u := by
  obtain ⟨m, w, h1, hm, rfl, rfl⟩ := I
  obtain ⟨r, hX, hY⟩ := rc_both w m h1 hm
  refine hX _ ?_
  refine hY _ ?_
  exact ⟨rfl, rc_rel _ m _ h1 hm⟩
theorem i_vc_canonical {k : Nat} {u : SX} {v : SY} (I : i_Rel k u v) (hk : k + 3 ≤ 1537) : wpX_canonical (fun r => wpY_canonical (fun r' => r' = r ∧ i_Rel (k + 3) u v) v) u := by
  obtain ⟨m, w, h1, hm, rfl, rfl⟩ := I
  obtain ⟨r, hX, hY⟩ := rc_both w m h1 hm
  refine rc_canX hX (br_c (fun c => ?_) (fun c => ?_))
  · refine rc_canY hY (br_f (Int64.not_lt.mpr c) ?_)
    exact ⟨rfl, rc_rel _ m _ h1 hm⟩
  · refine rc_canY hY (br_t (Int64.not_le.mp c) ?_)
    exact ⟨rfl, rc_rel _ m _ h1 hm⟩
theorem i_vc_k {k : Nat} {u : SX} {v : SY} (I : i_Rel k u v) (hk : k + 3 ≤ 1537) : wpX_k (fun r => wpY_k (fun r' => r' = r ∧ i_Rel (k + 3) u v) v) u := by
  obtain ⟨m, w, h1, hm, rfl, rfl⟩ := I
  unfold wpX_k wpY_k
  exact ⟨rfl, rc_rel _ m _ h1 hm⟩
end

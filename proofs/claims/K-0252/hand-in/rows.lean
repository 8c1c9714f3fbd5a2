section
/-! Int32 by its bits (rows of the kit, pasted) -/
def bt (x : Int32) (i : Nat) : Bool := x.toBitVec.getLsbD i
theorem b_ext {x y : Int32} (h : ∀ i, i < 32 → bt x i = bt y i) : x = y := Int32.toBitVec_inj.mp (BitVec.eq_of_getLsbD_eq (fun i hi => h i hi))
theorem b_or (x y : Int32) (i : Nat) : bt (x ||| y) i = (bt x i || bt y i) := by unfold bt; rw [Int32.toBitVec_or, BitVec.getLsbD_or]
theorem b_and (x y : Int32) (i : Nat) : bt (x &&& y) i = (bt x i && bt y i) := by unfold bt; rw [Int32.toBitVec_and, BitVec.getLsbD_and]
theorem b_xor (x y : Int32) (i : Nat) : bt (x ^^^ y) i = (bt x i ^^ bt y i) := by unfold bt; rw [Int32.toBitVec_xor, BitVec.getLsbD_xor]
theorem b_big {x : Int32} {i : Nat} (h : 32 ≤ i) : bt x i = false := BitVec.getLsbD_of_ge _ _ h
theorem b_0 (i : Nat) : bt 0 i = false := BitVec.getLsbD_zero
theorem s_l : ∀ n, n < 32 → ((nI n &&& 31).toBitVec.smod 32).toNat = n := by decide +kernel
theorem s_u : ∀ n, n < 32 → (((nI n).toUInt32 &&& Int32.toUInt32 31).toBitVec % 32).toNat = n := by decide +kernel
theorem b_shl (n : Nat) (hn : n < 32) (x : Int32) {i : Nat} (hi : i < 32) : bt (x <<< (nI n &&& 31)) i = (decide (n ≤ i) && bt x (i - n)) := by
  unfold bt
  rw [Int32.toBitVec_shiftLeft]
  show (x.toBitVec <<< ((nI n &&& 31).toBitVec.smod 32).toNat).getLsbD i = _
  rw [s_l n hn, BitVec.getLsbD_shiftLeft]
  rcases Nat.lt_or_ge i n with h | h
  · simp [h, Nat.not_le.mpr h]
  · simp [hi, h, Nat.not_lt.mpr h]
theorem b_ushr (n : Nat) (hn : n < 32) (x : Int32) (i : Nat) : bt ((x.toUInt32 >>> ((nI n).toUInt32 &&& Int32.toUInt32 31)).toInt32) i = bt x (n + i) := by
  show (x.toUInt32 >>> ((nI n).toUInt32 &&& Int32.toUInt32 31)).toBitVec.getLsbD i = x.toUInt32.toBitVec.getLsbD (n + i)
  rw [UInt32.toBitVec_shiftRight]
  show (x.toUInt32.toBitVec >>> (((nI n).toUInt32 &&& Int32.toUInt32 31).toBitVec % 32).toNat).getLsbD i = _
  rw [s_u n hn, BitVec.getLsbD_ushiftRight]
/-! the bit of a column as both sides print it; a short's store; bounds of the votes -/
theorem sm_b1 (i : Nat) : bt 1 i = decide (i = 0) := by
  rcases Nat.lt_or_ge i 32 with h | h
  · exact (by decide +kernel : ∀ i, i < 32 → bt 1 i = decide (i = 0)) i h
  · rw [b_big h, decide_eq_false (by omega)]
theorem sm_cf {x : Int32} {j : Nat} (hj : j < 32) (hb : bt x j = false) : ((x.toUInt32 >>> ((nI j).toUInt32 &&& Int32.toUInt32 31)).toInt32) &&& 1 = 0 := by
  apply b_ext
  intro i hi
  rw [b_and, b_ushr j hj, sm_b1, b_0]
  by_cases h : i = 0
  · subst h
    rw [Nat.add_zero, hb]
    rfl
  · rw [decide_eq_false h, Bool.and_false]
theorem sm_ct {x : Int32} {j : Nat} (hj : j < 32) (hb : bt x j = true) : ((x.toUInt32 >>> ((nI j).toUInt32 &&& Int32.toUInt32 31)).toInt32) &&& 1 = 1 := by
  apply b_ext
  intro i hi
  rw [b_and, b_ushr j hj, sm_b1]
  by_cases h : i = 0
  · subst h
    rw [Nat.add_zero, hb]
    rfl
  · rw [decide_eq_false h, Bool.and_false]
/-- or with a shifted 0 changes nothing; or with a shifted 1 sets that one bit -/
theorem sm_or0 (p : Int32) {j : Nat} (hj : j < 32) : p ||| ((0 : Int32) <<< (nI j &&& 31)) = p := by
  apply b_ext
  intro i hi
  rw [b_or, b_shl j hj 0 hi, b_0, Bool.and_false, Bool.or_false]
theorem sm_or1 (p : Int32) {i j : Nat} (hj : j < 32) (hi : i < 32) : bt (p ||| ((1 : Int32) <<< (nI j &&& 31))) i = (bt p i || decide (i = j)) := by
  rw [b_or, b_shl j hj 1 hi, sm_b1]
  congr 1
  by_cases h : i = j
  · subst h
    simp
  · rw [decide_eq_false h]
    rcases Nat.lt_or_ge i j with g | g
    · rw [decide_eq_false (Nat.not_le.mpr g), Bool.false_and]
    · rw [decide_eq_false (show ¬ i - j = 0 by omega), Bool.and_false]
theorem sm_one : (1 : Int32).toInt = 1 := by decide
theorem sm_sh {x : Int32} (h1 : -32768 ≤ x.toInt) (h2 : x.toInt < 32768) : vp_nar .short (x.toInt16.toInt32) = x := by
  rw [vp_nar_short, lg_i2s_small h1 h2, lg_i2s_small h1 h2]
/-- every vote lies between -limit and +limit -/
def sm_B (L : Int32) (a : Nat → Int32) : Prop := ∀ j, -L.toInt ≤ (a j).toInt ∧ (a j).toInt ≤ L.toInt
theorem sm_B0 {L : Int32} (h : 1 ≤ L.toInt) : sm_B L (fun _ => 0) := by
  intro j
  have e : (0 : Int32).toInt = 0 := by decide
  show -L.toInt ≤ (0 : Int32).toInt ∧ (0 : Int32).toInt ≤ L.toInt
  omega
theorem sm_Bu {L : Int32} {a : Nat → Int32} {k : Nat} {x : Int32} (h : sm_B L a) (h1 : -L.toInt ≤ x.toInt) (h2 : x.toInt ≤ L.toInt) : sm_B L (upd a k x) := by
  intro j
  unfold upd
  split
  · exact ⟨h1, h2⟩
  · exact h j
theorem sm_uu (a : Nat → Int32) (k : Nat) (x : Int32) : upd (upd a k x) k (a k) = a := by
  funext j
  unfold upd
  by_cases h : j = k
  · rw [if_pos h, h]
  · rw [if_neg h, if_neg h]
end
section
/-! feed: the two loops in lockstep, column by column: one outcome for both sides -/
theorem sm_feed {L : Int32} (l1 : 1 ≤ L.toInt) (l2 : L.toInt ≤ 1000) (x1 : Int32) : ∀ d j : Nat, j + d = 32 → ∀ (x2 : Int32) (a : Nat → Int32), sm_B L a → ∃ (r : Int32) (a' : Nat → Int32), sm_B L a' ∧ (∀ post : Int32 → SX → Prop, post r (L, a') → wX_feed_4 post x1 L (d + 1) x2 (nI j) a) ∧ (∀ post : Int32 → SY → Prop, post r (L, a') → wY_feed_4 post x1 L (d + 1) x2 (nI j) a) := by
  intro d
  induction d with
  | zero =>
    intro j hj x2 a hB
    have h : (32 : Int32) ≤ nI j := nI_le (a := 32) (by omega) (by omega)
    exact ⟨x2, a, hB, fun _ hp => br_t h hp, fun _ hp => br_t h hp⟩
  | succ d ih =>
    intro j hj x2 a hB
    have h : ¬ (32 : Int32) ≤ nI j := nI_ge (b := 32) (by omega) (by decide)
    have hi : vp_in (nI j) 32 := vp_in_nI (by omega) (by omega)
    have hc : (nI j).toNatClampNeg = j := nI_clamp (by omega)
    have hv := hB j
    have hn : (-L).toInt = -L.toInt := Jvm.Kit.i32_neg (by omega)
    have one := sm_one
    have hs : (a j - 1).toInt = (a j).toInt - 1 := by
      rw [Jvm.Kit.i32_sub (by omega) (by omega), one]
    have ha : (a j + 1).toInt = (a j).toInt + 1 := by
      rw [Jvm.Kit.i32_add (by omega) (by omega), one]
    have es : (a (nI j).toNatClampNeg - 1).toInt16.toInt32 = a j - 1 := by
      rw [hc, lg_i2s_small (by omega) (by omega)]
    have ea : (a (nI j).toNatClampNeg + 1).toInt16.toInt32 = a j + 1 := by
      rw [hc, lg_i2s_small (by omega) (by omega)]
    have us : upd a (nI j).toNatClampNeg (vp_nar .short ((a (nI j).toNatClampNeg - 1).toInt16.toInt32)) = upd a j (a j - 1) := by
      rw [hc, sm_sh (by omega) (by omega)]
    have ua : upd a (nI j).toNatClampNeg (vp_nar .short ((a (nI j).toNatClampNeg + 1).toInt16.toInt32)) = upd a j (a j + 1) := by
      rw [hc, sm_sh (by omega) (by omega)]
    have xs : upd a (nI j).toNatClampNeg (vp_nar .short ((a j - 1).toInt16.toInt32)) = upd a j (a j - 1) := by
      rw [hc, sm_sh (by omega) (by omega)]
    have xa : upd a (nI j).toNatClampNeg (vp_nar .short ((a j + 1).toInt16.toInt32)) = upd a j (a j + 1) := by
      rw [hc, sm_sh (by omega) (by omega)]
    cases hb : bt x1 j with
    | false =>
      have z := sm_cf (by omega) hb
      by_cases e : a j = -L
      · have e2 : (a j).toInt = -L.toInt := by rw [e, hn]
        obtain ⟨r, a', hB', hX, hY⟩ := ih (j + 1) (by omega) (x2 + 1) a hB
        refine ⟨r, a', hB', fun post hp => ?_, fun post hp => ?_⟩
        · exact br_f h ⟨hi, nm_r (congrArg a hc) (br_t z (br_t e (nm_e (nm_r (nI_1 j) (hX post hp)))))⟩
        · have c : ¬ (-L) ≤ (a (nI j).toNatClampNeg - 1).toInt16.toInt32 := by
            rw [es, Int32.le_iff_toInt_le, hs, hn]
            omega
          have w : upd (upd a j (a j - 1)) (nI j).toNatClampNeg (vp_nar .short ((-L).toInt16.toInt32)) = a := by
            rw [hc, sm_sh (by omega) (by omega), ← e, sm_uu]
          exact br_f h (br_t z ⟨hi, hi, nm_r us (br_f c ⟨hi, nm_r w (nm_e (nm_r (nI_1 j) (hY post hp)))⟩)⟩)
      · have e2 : (a j).toInt ≠ -L.toInt := fun q => e (Int32.toInt_inj.mp (q.trans hn.symm))
        obtain ⟨r, a', hB', hX, hY⟩ := ih (j + 1) (by omega) x2 (upd a j (a j - 1)) (sm_Bu hB (by omega) (by omega))
        refine ⟨r, a', hB', fun post hp => ?_, fun post hp => ?_⟩
        · exact br_f h ⟨hi, nm_r (congrArg a hc) (br_t z (br_f e ⟨hi, nm_r xs (nm_r (nI_1 j) (hX post hp))⟩))⟩
        · have c : (-L) ≤ (a (nI j).toNatClampNeg - 1).toInt16.toInt32 := by
            rw [es, Int32.le_iff_toInt_le, hs, hn]
            omega
          exact br_f h (br_t z ⟨hi, hi, nm_r us (br_t c (nm_r (nI_1 j) (hY post hp)))⟩)
    | true =>
      have z : ¬ ((x1.toUInt32 >>> ((nI j).toUInt32 &&& Int32.toUInt32 31)).toInt32) &&& 1 = 0 := by
        rw [sm_ct (by omega) hb]
        decide
      by_cases e : a j = L
      · have e2 : (a j).toInt = L.toInt := by rw [e]
        obtain ⟨r, a', hB', hX, hY⟩ := ih (j + 1) (by omega) (x2 + 1) a hB
        refine ⟨r, a', hB', fun post hp => ?_, fun post hp => ?_⟩
        · exact br_f h ⟨hi, nm_r (congrArg a hc) (br_f z (br_t e (nm_e (nm_r (nI_1 j) (hX post hp)))))⟩
        · have c : ¬ (a (nI j).toNatClampNeg + 1).toInt16.toInt32 ≤ L := by
            rw [ea, Int32.le_iff_toInt_le, ha]
            omega
          have w : upd (upd a j (a j + 1)) (nI j).toNatClampNeg (vp_nar .short L.toInt16.toInt32) = a := by
            rw [hc, sm_sh (by omega) (by omega)]
            exact (congrArg (upd (upd a j (a j + 1)) j) e.symm).trans (sm_uu a j (a j + 1))
          exact br_f h (br_f z ⟨hi, hi, nm_r ua (br_f c ⟨hi, nm_r w (nm_e (nm_r (nI_1 j) (hY post hp)))⟩)⟩)
      · have e2 : (a j).toInt ≠ L.toInt := fun q => e (Int32.toInt_inj.mp q)
        obtain ⟨r, a', hB', hX, hY⟩ := ih (j + 1) (by omega) x2 (upd a j (a j + 1)) (sm_Bu hB (by omega) (by omega))
        refine ⟨r, a', hB', fun post hp => ?_, fun post hp => ?_⟩
        · exact br_f h ⟨hi, nm_r (congrArg a hc) (br_f z (br_f e ⟨hi, nm_r xa (nm_r (nI_1 j) (hX post hp))⟩))⟩
        · have c : (a (nI j).toNatClampNeg + 1).toInt16.toInt32 ≤ L := by
            rw [ea, Int32.le_iff_toInt_le, ha]
            omega
          exact br_f h (br_f z ⟨hi, hi, nm_r ua (br_t c (nm_r (nI_1 j) (hY post hp)))⟩)
end
section
/-! print and distance against the reference's one scan -/
theorem sm_s30 {post : Int32 → Prop} {J : Int32 → Int32 → Int32 → Prop} {x1 x2 p q z L p' q' : Int32} {j : Nat} {a : Nat → Int32} (hp : p ||| (z <<< (nI j &&& 31)) = p') (hq : (z = (((x1.toUInt32 >>> ((nI j).toUInt32 &&& Int32.toUInt32 31)).toInt32) &&& 1) ∧ q' = q) ∨ (¬ z = (((x1.toUInt32 >>> ((nI j).toUInt32 &&& Int32.toUInt32 31)).toInt32) &&& 1) ∧ q' = q + 1)) (hJ : J p' q' (nI (j + 1))) : wY_scan_30 post J x1 x2 p q (nI j) z L a := by
  unfold wY_scan_30
  rcases hq with ⟨g, rfl⟩ | ⟨g, rfl⟩
  · exact nm_r hp (br_t g (nm_r (nI_1 j) hJ))
  · exact nm_r hp (br_f g (nm_e (nm_r (nI_1 j) hJ)))
theorem sm_print {L : Int32} {a : Nat → Int32} : ∀ d j : Nat, j + d = 32 → ∀ p : Int32, (∀ i, i < 32 → bt p i = (decide (i < j) && !decide (a i ≤ 0))) → ∃ r : Int32, (∀ i, i < 32 → bt r i = !decide (a i ≤ 0)) ∧ (∀ post : Int32 → Prop, post r → wX_print_4 post L a (d + 1) p (nI j)) ∧ (∀ (post : Int32 → Prop) (x1 q : Int32), post r → wY_scan_8 post x1 0 L a (d + 1) p q (nI j)) := by
  intro d
  induction d with
  | zero =>
    intro j hj p hb
    have h : (32 : Int32) ≤ nI j := nI_le (a := 32) (by omega) (by omega)
    refine ⟨p, fun i hi => ?_, fun _ hp => br_t h hp, fun _ _ _ hp => br_t h (br_t rfl hp)⟩
    rw [hb i hi, decide_eq_true (show i < j by omega), Bool.true_and]
  | succ d ih =>
    intro j hj p hb
    have h : ¬ (32 : Int32) ≤ nI j := nI_ge (b := 32) (by omega) (by decide)
    have hi : vp_in (nI j) 32 := vp_in_nI (by omega) (by omega)
    have hc : (nI j).toNatClampNeg = j := nI_clamp (by omega)
    by_cases z : a j ≤ 0
    · have z' : a (nI j).toNatClampNeg ≤ 0 := by rw [hc]; exact z
      obtain ⟨r, hr, hX, hY⟩ := ih (j + 1) (by omega) p (by
        intro i hi
        rw [hb i hi]
        by_cases e : i = j
        · subst e
          rw [decide_eq_true z, Bool.not_true, Bool.and_false, Bool.and_false]
        · rw [decide_eq_decide.mpr (show i < j ↔ i < j + 1 by omega)])
      refine ⟨r, hr, fun post hp => ?_, fun post x1 q hp => ?_⟩
      · exact br_f h ⟨hi, br_t z' (nm_r (nI_1 j) (hX post hp))⟩
      · refine br_f h ⟨hi, br_t z' ?_⟩
        by_cases g : (0 : Int32) = (((x1.toUInt32 >>> ((nI j).toUInt32 &&& Int32.toUInt32 31)).toInt32) &&& 1)
        · exact sm_s30 (sm_or0 p (by omega)) (Or.inl ⟨g, rfl⟩) (hY post x1 q hp)
        · exact sm_s30 (sm_or0 p (by omega)) (Or.inr ⟨g, rfl⟩) (hY post x1 (q + 1) hp)
    · have z' : ¬ a (nI j).toNatClampNeg ≤ 0 := by rw [hc]; exact z
      obtain ⟨r, hr, hX, hY⟩ := ih (j + 1) (by omega) (p ||| ((1 : Int32) <<< (nI j &&& 31))) (by
        intro i hi
        rw [sm_or1 p (by omega) hi, hb i hi]
        by_cases e : i = j
        · subst e
          rw [decide_eq_false z, decide_eq_true (rfl : i = i), decide_eq_true (show i < i + 1 by omega), Bool.or_true]
          rfl
        · rw [decide_eq_false e, Bool.or_false, decide_eq_decide.mpr (show i < j ↔ i < j + 1 by omega)])
      refine ⟨r, hr, fun post hp => ?_, fun post x1 q hp => ?_⟩
      · exact br_f h ⟨hi, br_f z' (nm_e (nm_r (nI_1 j) (hX post hp)))⟩
      · refine br_f h ⟨hi, br_f z' ?_⟩
        by_cases g : (1 : Int32) = (((x1.toUInt32 >>> ((nI j).toUInt32 &&& Int32.toUInt32 31)).toInt32) &&& 1)
        · exact sm_s30 rfl (Or.inl ⟨g, rfl⟩) (hY post x1 q hp)
        · exact sm_s30 rfl (Or.inr ⟨g, rfl⟩) (hY post x1 (q + 1) hp)
theorem sm_dist {L : Int32} {a : Nat → Int32} {x o : Int32} (hx : ∀ i, i < 32 → bt x i = ((!decide (a i ≤ 0)) ^^ bt o i)) : ∀ d j : Nat, j + d = 32 → ∀ c : Int32, ∃ r : Int32, (∀ post : Int32 → Prop, post r → wX_distance_12 post x L a (d + 1) c (nI j)) ∧ (∀ (post : Int32 → Prop) (p : Int32), post r → wY_scan_8 post o 1 L a (d + 1) p c (nI j)) := by
  intro d
  induction d with
  | zero =>
    intro j hj c
    have h : (32 : Int32) ≤ nI j := nI_le (a := 32) (by omega) (by omega)
    exact ⟨c, fun _ hp => br_t h hp, fun _ _ hp => br_t h (br_f (by decide) hp)⟩
  | succ d ih =>
    intro j hj c
    have hj2 : j < 32 := by omega
    have h : ¬ (32 : Int32) ≤ nI j := nI_ge (b := 32) (by omega) (by decide)
    have hi : vp_in (nI j) 32 := vp_in_nI (by omega) (by omega)
    have hc : (nI j).toNatClampNeg = j := nI_clamp (by omega)
    have hb := hx j hj2
    have x0 : bt x j = false → c + (((x.toUInt32 >>> ((nI j).toUInt32 &&& Int32.toUInt32 31)).toInt32) &&& 1) = c := by
      intro e
      rw [sm_cf hj2 e, Int32.add_zero]
    have x1 : bt x j = true → c + (((x.toUInt32 >>> ((nI j).toUInt32 &&& Int32.toUInt32 31)).toInt32) &&& 1) = c + 1 := by
      intro e
      rw [sm_ct hj2 e]
    by_cases z : a j ≤ 0
    · have z' : a (nI j).toNatClampNeg ≤ 0 := by rw [hc]; exact z
      rw [decide_eq_true z] at hb
      cases ho : bt o j with
      | false =>
        rw [ho] at hb
        obtain ⟨r, hX, hY⟩ := ih (j + 1) (by omega) c
        refine ⟨r, fun post hp => br_f h (nm_r (x0 hb) (nm_r (nI_1 j) (hX post hp))), fun post p hp => br_f h ⟨hi, br_t z' ?_⟩⟩
        exact sm_s30 rfl (Or.inl ⟨(sm_cf hj2 ho).symm, rfl⟩) (hY post _ hp)
      | true =>
        rw [ho] at hb
        obtain ⟨r, hX, hY⟩ := ih (j + 1) (by omega) (c + 1)
        refine ⟨r, fun post hp => br_f h (nm_r (x1 hb) (nm_r (nI_1 j) (hX post hp))), fun post p hp => br_f h ⟨hi, br_t z' ?_⟩⟩
        exact sm_s30 rfl (Or.inr ⟨by rw [sm_ct hj2 ho]; decide, rfl⟩) (hY post _ hp)
    · have z' : ¬ a (nI j).toNatClampNeg ≤ 0 := by rw [hc]; exact z
      rw [decide_eq_false z] at hb
      cases ho : bt o j with
      | false =>
        rw [ho] at hb
        obtain ⟨r, hX, hY⟩ := ih (j + 1) (by omega) (c + 1)
        refine ⟨r, fun post hp => br_f h (nm_r (x1 hb) (nm_r (nI_1 j) (hX post hp))), fun post p hp => br_f h ⟨hi, br_f z' ?_⟩⟩
        exact sm_s30 rfl (Or.inr ⟨by rw [sm_cf hj2 ho]; decide, rfl⟩) (hY post _ hp)
      | true =>
        rw [ho] at hb
        obtain ⟨r, hX, hY⟩ := ih (j + 1) (by omega) c
        refine ⟨r, fun post hp => br_f h (nm_r (x0 hb) (nm_r (nI_1 j) (hX post hp))), fun post p hp => br_f h ⟨hi, br_f z' ?_⟩⟩
        exact sm_s30 rfl (Or.inl ⟨(sm_ct hj2 ho).symm, rfl⟩) (hY post _ hp)
end
section
/-- both objects hold the same limit, 1 to 1000, and the same votes, each between -limit and +limit -/
def i_Rel (k : Nat) (u : SX) (v : SY) : Prop := ∃ (L : Int32) (a : Nat → Int32), u = (L, a) ∧ v = (L, a) ∧ 1 ≤ L.toInt ∧ L.toInt ≤ 1000 ∧ sm_B L a
theorem i_up {k : Nat} {u : SX} {v : SY} (h : i_Rel k u v) : i_Rel (k + 2) u v := h
theorem sm_i0 {L : Int32} (h1 : 1 ≤ L.toInt) (h2 : L.toInt ≤ 1000) : i_Rel 1 (L, fun _ => 0) (L, fun _ => 0) := ⟨L, fun _ => 0, rfl, rfl, h1, h2, sm_B0 h1⟩
theorem i_vc0 (k0 : Int32) : wpX_init (fun u => wpY_init (fun v => i_Rel 1 u v) k0) k0 := by
  by_cases h1 : 1 ≤ k0
  · by_cases h2 : k0 ≤ 1000
    · have g1 : (1 : Int32).toInt ≤ k0.toInt := Int32.le_iff_toInt_le.mp h1
      have g2 : k0.toInt ≤ (1000 : Int32).toInt := Int32.le_iff_toInt_le.mp h2
      exact br_t h1 (br_t h2 (br_t h1 (br_t h2 (sm_i0 g1 g2))))
    · exact br_t h1 (br_f h2 (br_t h1 (br_f h2 (sm_i0 (by decide) (by decide)))))
  · exact br_f h1 (br_f h1 (sm_i0 (by decide) (by decide)))
theorem i_vc_feed {k : Nat} {u : SX} {v : SY} (I : i_Rel k u v) (hk : k + 2 ≤ 1025) (v1 : Int32) : wpX_feed (fun r u' => wpY_feed (fun r' v' => r' = r ∧ i_Rel (k + 2) u' v') v v1) u v1 := by
  obtain ⟨L, a, rfl, rfl, h1, h2, hB⟩ := I
  obtain ⟨r, a', hB', hX, hY⟩ := sm_feed h1 h2 v1 32 0 rfl 0 a hB
  exact ⟨33, hX _ ⟨33, hY _ ⟨rfl, L, a', rfl, rfl, h1, h2, hB'⟩⟩⟩
theorem sm_p0 {L : Int32} {a : Nat → Int32} : ∃ r : Int32, (∀ i, i < 32 → bt r i = !decide (a i ≤ 0)) ∧ (∀ post : Int32 → Prop, post r → wX_print_4 post L a 33 0 0) ∧ (∀ (post : Int32 → Prop) (x1 q : Int32), post r → wY_scan_8 post x1 0 L a 33 0 q 0) :=
  sm_print 32 0 rfl 0 (fun i _ => by rw [b_0, decide_eq_false (Nat.not_lt_zero i), Bool.false_and])
theorem i_vc_print {k : Nat} {u : SX} {v : SY} (I : i_Rel k u v) (hk : k + 2 ≤ 1025) : wpX_print (fun r => wpY_print (fun r' => r' = r ∧ i_Rel (k + 2) u v) v) u := by
  have I' := i_up I
  obtain ⟨L, a, rfl, rfl, h1, h2, hB⟩ := I
  obtain ⟨r, hr, hX, hY⟩ := sm_p0 (L := L) (a := a)
  refine ⟨33, hX _ ?_⟩
  unfold wpY_print
  exact ⟨33, hY _ 0 0 ⟨rfl, I'⟩⟩
theorem i_vc_distance {k : Nat} {u : SX} {v : SY} (I : i_Rel k u v) (hk : k + 2 ≤ 1025) (v1 : Int32) : wpX_distance (fun r => wpY_distance (fun r' => r' = r ∧ i_Rel (k + 2) u v) v v1) u v1 := by
  have I' := i_up I
  obtain ⟨L, a, rfl, rfl, h1, h2, hB⟩ := I
  obtain ⟨r, hr, hX, hY⟩ := sm_p0 (L := L) (a := a)
  obtain ⟨s, hS, hT⟩ := sm_dist (L := L) (a := a) (x := r ^^^ v1) (o := v1) (fun i hi => by rw [b_xor, hr i hi]) 32 0 rfl 0
  unfold wpX_distance
  refine ⟨33, hX _ (nm_e ⟨33, hS _ ?_⟩)⟩
  unfold wpY_distance
  exact ⟨33, hT _ 0 ⟨rfl, I'⟩⟩
theorem i_vc_vote {k : Nat} {u : SX} {v : SY} (I : i_Rel k u v) (hk : k + 2 ≤ 1025) (v1 : Int32) : wpX_vote (fun r => wpY_vote (fun r' => r' = r ∧ i_Rel (k + 2) u v) v v1) u v1 := by
  have I' := i_up I
  obtain ⟨L, a, rfl, rfl, h1, h2, hB⟩ := I
  by_cases h0 : v1 < 0
  · exact br_t h0 (br_t h0 ⟨rfl, I'⟩)
  · by_cases h31 : v1 ≤ 31
    · have hi : vp_in v1 32 := by
        obtain ⟨j, hj, rfl⟩ := nI_of2 (M := 31) (n := 31) (by decide) h0 h31
        exact vp_in_nI (by omega) (by omega)
      exact br_f h0 (br_t h31 ⟨hi, br_f h0 (br_t h31 ⟨hi, rfl, I'⟩)⟩)
    · exact br_f h0 (br_f h31 (br_f h0 (br_f h31 ⟨rfl, I'⟩)))
end

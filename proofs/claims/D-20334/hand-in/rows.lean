section
/-! the plain law, over the bits of a BitVec: turning left by k places -/
/-- y is x turned left by k places -/
def sg_T {w : Nat} (x y : BitVec w) (k : Nat) : Prop := ∀ i, i < w → y.getLsbD i = if i < k then x.getLsbD (i + (w - k)) else x.getLsbD (i - k)
theorem sg_T0 {w : Nat} (x : BitVec w) : sg_T x x 0 := by
  intro i hi
  rw [if_neg (by omega), Nat.sub_zero]
theorem sg_one {w k : Nat} {x y z : BitVec w} (h : sg_T x y k) (h' : sg_T x z k) : y = z :=
  BitVec.eq_of_getLsbD_eq (fun i hi => (h i hi).trans (h' i hi).symm)
/-- the bits of y + y + b -/
theorem sg_dbl {w : Nat} (y c : BitVec w) (b : Bool) (hc : c.toNat = b.toNat) (i : Nat) (hi : i < w) :
    (y + y + c).getLsbD i = if i = 0 then b else y.getLsbD (i - 1) := by
  rw [← BitVec.testBit_toNat, BitVec.toNat_add, BitVec.toNat_add, Nat.mod_add_mod, Nat.testBit_mod_two_pow, decide_eq_true hi, Bool.true_and, hc]
  cases i with
  | zero =>
    rw [if_pos rfl, Nat.testBit_zero]
    cases b
    · exact decide_eq_false (by show ¬ (y.toNat + y.toNat + 0) % 2 = 1; omega)
    · exact decide_eq_true (by show (y.toNat + y.toNat + 1) % 2 = 1; omega)
  | succ j =>
    rw [if_neg (by omega), Nat.add_sub_cancel, Nat.testBit_succ, ← BitVec.testBit_toNat]
    have hb : b.toNat < 2 := Bool.toNat_lt b
    rw [show (y.toNat + y.toNat + b.toNat) / 2 = y.toNat by omega]
/-- one step of the reference's loops -/
theorem sg_step {w k : Nat} {x y c : BitVec w} (hk : k < w) (h : sg_T x y k) (hc : c.toNat = y.msb.toNat) : sg_T x (y + y + c) (k + 1) := by
  intro i hi
  rw [sg_dbl y c y.msb hc i hi]
  cases i with
  | zero =>
    rw [if_pos rfl, if_pos (by omega), BitVec.msb_eq_getLsbD_last, h (w - 1) (by omega), if_neg (by omega)]
    exact congrArg x.getLsbD (by omega)
  | succ j =>
    rw [if_neg (by omega), Nat.add_sub_cancel, h j (by omega)]
    by_cases g : j < k
    · rw [if_pos g, if_pos (by omega)]
      exact congrArg x.getLsbD (by omega)
    · rw [if_neg g, if_neg (by omega)]
      exact congrArg x.getLsbD (by omega)
/-- the JDK's rotateLeft -/
theorem sg_rot {w n m : Nat} (x : BitVec w) (hn : n < w) (hm : m = (w - n) % w) : sg_T x (x <<< n ||| x >>> m) n := by
  intro i hi
  rw [BitVec.getLsbD_or, BitVec.getLsbD_shiftLeft, BitVec.getLsbD_ushiftRight, decide_eq_true hi, Bool.true_and]
  by_cases h0 : n = 0
  · have hm0 : m = 0 := by rw [hm, h0, Nat.sub_zero, Nat.mod_self]
    rw [h0, hm0, if_neg (by omega), decide_eq_false (by omega), Bool.not_false, Bool.true_and, Nat.zero_add, Nat.sub_zero, Bool.or_self]
  · have hm' : m = w - n := by rw [hm]; exact Nat.mod_eq_of_lt (by omega)
    rw [hm']
    by_cases h : i < n
    · rw [if_pos h, decide_eq_true h, Bool.not_true, Bool.false_and, Bool.false_or, Nat.add_comm]
    · rw [if_neg h, decide_eq_false h, Bool.not_false, Bool.true_and, BitVec.getLsbD_of_ge x (w - n + i) (by omega), Bool.or_false]
/-- the JDK's rotateRight undoes it -/
theorem sg_back {w n m : Nat} {x l : BitVec w} (hn : n < w) (hm : m = (w - n) % w) (h : sg_T x l n) : l >>> n ||| l <<< m = x := by
  apply BitVec.eq_of_getLsbD_eq
  intro i hi
  rw [BitVec.getLsbD_or, BitVec.getLsbD_shiftLeft, BitVec.getLsbD_ushiftRight, decide_eq_true hi, Bool.true_and]
  by_cases h0 : n = 0
  · have hm0 : m = 0 := by rw [hm, h0, Nat.sub_zero, Nat.mod_self]
    rw [h0] at h
    rw [h0, hm0, decide_eq_false (by omega), Bool.not_false, Bool.true_and, Nat.zero_add, Nat.sub_zero, Bool.or_self, h i hi, if_neg (by omega), Nat.sub_zero]
  · have hm' : m = w - n := by rw [hm]; exact Nat.mod_eq_of_lt (by omega)
    rw [hm']
    by_cases g : i < w - n
    · rw [decide_eq_true g, Bool.not_true, Bool.false_and, Bool.or_false, h (n + i) (by omega), if_neg (by omega), Nat.add_sub_cancel_left]
    · rw [decide_eq_false g, Bool.not_false, Bool.true_and, BitVec.getLsbD_of_ge l (n + i) (by omega), Bool.false_or, h (i - (w - n)) (by omega), if_pos (by omega)]
      exact congrArg x.getLsbD (by omega)
end
section
/-! the same for Int32 and Int64: counts of shifts, the JDK's three members, the reference's steps and its remainder -/
theorem sg_c32 (d : Int32) : ((d &&& 31).toBitVec.smod 32).toNat = d.toBitVec.toNat % 32 := by
  rw [pk_and d 5 (by decide)]
  exact (by decide +kernel : ∀ n, n < 32 → ((nI n).toBitVec.smod 32).toNat = n) _ (Nat.mod_lt _ (by decide))
theorem sg_cu32 (d : Int32) : ((d.toUInt32 &&& Int32.toUInt32 31).toBitVec % 32).toNat = d.toBitVec.toNat % 32 := by
  show ((d &&& 31).toBitVec % 32).toNat = _
  rw [pk_and d 5 (by decide)]
  exact (by decide +kernel : ∀ n, n < 32 → ((nI n).toBitVec % 32).toNat = n) _ (Nat.mod_lt _ (by decide))
theorem sg_neg (d : Int32) : (-d).toBitVec.toNat % 32 = (32 - d.toBitVec.toNat % 32) % 32 ∧ (-d).toBitVec.toNat % 64 = (64 - d.toBitVec.toNat % 64) % 64 := by
  have h := d.toBitVec.isLt
  rw [Int32.toBitVec_neg, BitVec.toNat_neg]
  omega
theorem sg_l32 (x d : Int32) : sg_T x.toBitVec ((x <<< (d &&& 31)) ||| ((x.toUInt32 >>> ((-d).toUInt32 &&& Int32.toUInt32 31)).toInt32)).toBitVec (d.toBitVec.toNat % 32) := by
  have e : ((x <<< (d &&& 31)) ||| ((x.toUInt32 >>> ((-d).toUInt32 &&& Int32.toUInt32 31)).toInt32)).toBitVec = x.toBitVec <<< ((d &&& 31).toBitVec.smod 32).toNat ||| x.toBitVec >>> (((-d).toUInt32 &&& Int32.toUInt32 31).toBitVec % 32).toNat := rfl
  rw [e, sg_c32, sg_cu32]
  exact sg_rot _ (Nat.mod_lt _ (by decide)) (sg_neg d).1
theorem sg_r32 {x l d : Int32} (h : sg_T x.toBitVec l.toBitVec (d.toBitVec.toNat % 32)) : ((l.toUInt32 >>> (d.toUInt32 &&& Int32.toUInt32 31)).toInt32) ||| (l <<< ((-d) &&& 31)) = x := by
  apply Int32.toBitVec_inj.mp
  have e : (((l.toUInt32 >>> (d.toUInt32 &&& Int32.toUInt32 31)).toInt32) ||| (l <<< ((-d) &&& 31))).toBitVec = l.toBitVec >>> ((d.toUInt32 &&& Int32.toUInt32 31).toBitVec % 32).toNat ||| l.toBitVec <<< ((-d &&& 31).toBitVec.smod 32).toNat := rfl
  rw [e, sg_c32, sg_cu32]
  exact sg_back (Nat.mod_lt _ (by decide)) (sg_neg d).1 h
theorem sg_se (d : Int32) : (d.toInt64 &&& 63).toBitVec = BitVec.ofNat 64 (d.toBitVec.toNat % 64) := by
  apply BitVec.eq_of_toNat_eq
  show (d.toBitVec.signExtend 64 &&& 63#64).toNat = _
  rw [BitVec.toNat_and, show (63#64).toNat = 2 ^ 6 - 1 from by decide, Nat.and_two_pow_sub_one_eq_mod, BitVec.toNat_signExtend, BitVec.toNat_setWidth, BitVec.toNat_ofNat]
  have h := d.toBitVec.isLt
  split <;> omega
theorem sg_c64 (d : Int32) : ((d.toInt64 &&& 63).toBitVec.smod 64).toNat = d.toBitVec.toNat % 64 := by
  rw [sg_se]
  exact (by decide +kernel : ∀ n, n < 64 → ((BitVec.ofNat 64 n).smod 64).toNat = n) _ (Nat.mod_lt _ (by decide))
theorem sg_cu64 (d : Int32) : ((d.toInt64.toUInt64 &&& Int64.toUInt64 63).toBitVec % 64).toNat = d.toBitVec.toNat % 64 := by
  show ((d.toInt64 &&& 63).toBitVec % 64).toNat = _
  rw [sg_se]
  exact (by decide +kernel : ∀ n, n < 64 → ((BitVec.ofNat 64 n) % 64).toNat = n) _ (Nat.mod_lt _ (by decide))
theorem sg_l64 (x : Int64) (d : Int32) : sg_T x.toBitVec ((x <<< (d.toInt64 &&& 63)) ||| ((x.toUInt64 >>> ((-d).toInt64.toUInt64 &&& Int64.toUInt64 63)).toInt64)).toBitVec (d.toBitVec.toNat % 64) := by
  have e : ((x <<< (d.toInt64 &&& 63)) ||| ((x.toUInt64 >>> ((-d).toInt64.toUInt64 &&& Int64.toUInt64 63)).toInt64)).toBitVec = x.toBitVec <<< ((d.toInt64 &&& 63).toBitVec.smod 64).toNat ||| x.toBitVec >>> (((-d).toInt64.toUInt64 &&& Int64.toUInt64 63).toBitVec % 64).toNat := rfl
  rw [e, sg_c64, sg_cu64]
  exact sg_rot _ (Nat.mod_lt _ (by decide)) (sg_neg d).2
/-- a step of the two loops -/
theorem sg_m32 (y : Int32) : y.toBitVec.msb = decide (¬ 0 ≤ y) := by
  rw [BitVec.msb_eq_toInt]
  apply decide_eq_decide.mpr
  rw [Int32.le_iff_toInt_le, show (0 : Int32).toInt = 0 from by decide]
  exact Int.not_le.symm
theorem sg_m64 (y : Int64) : y.toBitVec.msb = decide (¬ 0 ≤ y) := by
  rw [BitVec.msb_eq_toInt]
  apply decide_eq_decide.mpr
  rw [Int64.le_iff_toInt_le, show (0 : Int64).toInt = 0 from by decide]
  exact Int.not_le.symm
theorem sg_a32 {x y : Int32} {k : Nat} (hk : k < 32) (h : sg_T x.toBitVec y.toBitVec k) (g : 0 ≤ y) : sg_T x.toBitVec (y + y + 0).toBitVec (k + 1) :=
  sg_step (c := 0#32) hk h (by rw [sg_m32, decide_eq_false (not_not_intro g)]; rfl)
theorem sg_b32 {x y : Int32} {k : Nat} (hk : k < 32) (h : sg_T x.toBitVec y.toBitVec k) (g : ¬ 0 ≤ y) : sg_T x.toBitVec (y + y + 1).toBitVec (k + 1) :=
  sg_step (c := 1#32) hk h (by rw [sg_m32, decide_eq_true g]; rfl)
theorem sg_a64 {x y : Int64} {k : Nat} (hk : k < 64) (h : sg_T x.toBitVec y.toBitVec k) (g : 0 ≤ y) : sg_T x.toBitVec (y + y + 0).toBitVec (k + 1) :=
  sg_step (c := 0#64) hk h (by rw [sg_m64, decide_eq_false (not_not_intro g)]; rfl)
theorem sg_b64 {x y : Int64} {k : Nat} (hk : k < 64) (h : sg_T x.toBitVec y.toBitVec k) (g : ¬ 0 ≤ y) : sg_T x.toBitVec (y + y + 1).toBitVec (k + 1) :=
  sg_step (c := 1#64) hk h (by rw [sg_m64, decide_eq_true g]; rfl)
/-- the remainder -/
theorem sg_td (a b : Int) : (0 ≤ a → a.tdiv b = a / b) ∧ (a < 0 → a.tdiv b = -((-a) / b)) := by
  constructor
  · exact Int.tdiv_eq_ediv_of_nonneg
  · intro h
    have e := Int.neg_tdiv (-a) b
    rw [Int.neg_neg] at e
    rw [e, Int.tdiv_eq_ediv_of_nonneg (by omega)]
theorem sg_bm {a : Int} (h : -2147483648 ≤ a) (h' : a < 2147483648) : a.bmod (2 ^ 32) = a := Int.bmod_eq_of_le (by omega) (by omega)
theorem sg_rem (d : Int32) {m : Nat} (hm : m = 32 ∨ m = 64) : (d - d / nI m * nI m).toInt = if 0 ≤ d.toInt then d.toInt % m else -((-d.toInt) % m) := by
  have hn : (nI m).toInt = (m : Int) := nI_toInt (by omega)
  have ne : nI m ≠ -1 := by rcases hm with rfl | rfl <;> decide
  have hq : (d / nI m).toInt = d.toInt.tdiv m := by rw [Int32.toInt_div_of_ne_right _ _ ne, hn]
  have lo := d.le_toInt
  have hi := d.toInt_lt
  rw [Int32.toInt_sub, Int32.toInt_mul, hq, hn]
  revert lo hi
  generalize d.toInt = a
  intro lo hi
  obtain ⟨t1, t2⟩ := sg_td a m
  by_cases h : 0 ≤ a
  · rw [if_pos h, t1 h]
    rcases hm with rfl | rfl
    · rw [sg_bm (a := a / (32 : Nat) * (32 : Nat)) (by omega) (by omega), sg_bm (by omega) (by omega)]
      omega
    · rw [sg_bm (a := a / (64 : Nat) * (64 : Nat)) (by omega) (by omega), sg_bm (by omega) (by omega)]
      omega
  · rw [if_neg h, t2 (by omega)]
    rcases hm with rfl | rfl
    · rw [sg_bm (a := -(-a / (32 : Nat)) * (32 : Nat)) (by omega) (by omega), sg_bm (by omega) (by omega)]
      omega
    · rw [sg_bm (a := -(-a / (64 : Nat)) * (64 : Nat)) (by omega) (by omega), sg_bm (by omega) (by omega)]
      omega
theorem sg_tI (d : Int32) : d.toInt = if 2 * d.toBitVec.toNat < 2 ^ 32 then (d.toBitVec.toNat : Int) else (d.toBitVec.toNat : Int) - (2 ^ 32 : Nat) := BitVec.toInt_eq_toNat_cond d.toBitVec
theorem sg_ar {N m : Nat} {a r : Int} (hm : m = 32 ∨ m = 64) (hN : N < 2 ^ 32) (ht : a = if 2 * N < 2 ^ 32 then (N : Int) else (N : Int) - (2 ^ 32 : Nat)) (hr : r = if 0 ≤ a then a % m else -((-a) % m)) :
    (0 ≤ r → r = (N % m : Nat)) ∧ (¬ 0 ≤ r → r + m = (N % m : Nat)) := by
  rcases hm with rfl | rfl
  · split at ht
    · split at hr <;> constructor <;> omega
    · split at hr <;> constructor <;> omega
  · split at ht
    · split at hr <;> constructor <;> omega
    · split at hr <;> constructor <;> omega
theorem sg_mod (d : Int32) {m : Nat} (hm : m = 32 ∨ m = 64) {x : Int32} (ex : x = d - d / nI m * nI m) :
    (0 ≤ x → x = nI (d.toBitVec.toNat % m)) ∧ (¬ 0 ≤ x → x + nI m = nI (d.toBitVec.toNat % m)) := by
  have hr := sg_rem d hm
  rw [← ex] at hr
  have hN := d.toBitVec.isLt
  obtain ⟨h1, h2⟩ := sg_ar hm hN (sg_tI d) hr
  have hl : d.toBitVec.toNat % m < 2 ^ 31 := by rcases hm with rfl | rfl <;> omega
  have e2 := nI_toInt hl
  have e3 : (nI m).toInt = (m : Int) := nI_toInt (by omega)
  rw [Int32.le_iff_toInt_le, show (0 : Int32).toInt = 0 from by decide]
  constructor
  · intro h
    apply Int32.toInt_inj.mp
    rw [e2]
    exact h1 h
  · intro h
    apply Int32.toInt_inj.mp
    rw [e2, Int32.toInt_add, e3, h2 h]
    exact sg_bm (by omega) (by omega)
end
section
/-! the walk: places, the two loops, the law -/
theorem sg_pl {post : Int32 → Prop} {d : Int32} {m : Nat} (hm : m = 32 ∨ m = 64) (H : post (nI (d.toBitVec.toNat % m))) : wpX1_places post () d (nI m) :=
  ⟨nI_ne0 (by omega) (by omega), fun x ex => br_c (fun h => by rw [(sg_mod d hm ex).1 h]; exact H) (fun h => by rw [(sg_mod d hm ex).2 h]; exact H)⟩
theorem sg_p32 {post : Int32 → Prop} {d : Int32} (H : post (nI (d.toBitVec.toNat % 32))) : wpX1_places post () d 32 := sg_pl (m := 32) (Or.inl rfl) H
theorem sg_p64 {post : Int32 → Prop} {d : Int32} (H : post (nI (d.toBitVec.toNat % 64))) : wpX1_places post () d 64 := sg_pl (m := 64) (Or.inr rfl) H
theorem sg_w44 {post : Int64 → Prop} {x : Int64} {d y : Int32} (H : ∀ z : Int64, sg_T x.toBitVec z.toBitVec (d.toBitVec.toNat % 64) → post (z ^^^ y.toInt64)) : ∃ n, wX1_spinGap_44 post d y n x 0 :=
  pk_loop (fun n i s => wX1_spinGap_44 post d y n s (nI i)) (fun i s => sg_T x.toBitVec s.toBitVec i) (d.toBitVec.toNat % 64) 0 x (Nat.zero_le _) (sg_T0 _)
    (fun n s h => sg_p64 (pk_le (d.toBitVec.toNat % 64) (d.toBitVec.toNat % 64) (fun _ => H s h) (fun z => absurd z (Nat.lt_irrefl _))))
    (fun n i s hi h hw => sg_p64 (pk_le (d.toBitVec.toNat % 64) i (fun z => absurd z (by omega)) (fun _ => br_c
      (fun g => nm_e (nm_r (nI_1 i) (hw _ (sg_a64 (by omega) h g))))
      (fun g => nm_e (nm_r (nI_1 i) (hw _ (sg_b64 (by omega) h g)))))))
theorem sg_w4 {post : Int64 → Prop} {x d : Int32} (H : ∀ (y : Int32) (z : Int64), sg_T x.toBitVec y.toBitVec (d.toBitVec.toNat % 32) → sg_T x.toInt64.toBitVec z.toBitVec (d.toBitVec.toNat % 64) → post (z ^^^ y.toInt64)) : wpX1_spinGap post () x d :=
  pk_loop (fun n i s => wX1_spinGap_4 post x d n s (nI i)) (fun i s => sg_T x.toBitVec s.toBitVec i) (d.toBitVec.toNat % 32) 0 x (Nat.zero_le _) (sg_T0 _)
    (fun n s h => sg_p32 (pk_le (d.toBitVec.toNat % 32) (d.toBitVec.toNat % 32) (fun _ => sg_w44 (fun z hz => H s z h hz)) (fun z => absurd z (Nat.lt_irrefl _))))
    (fun n i s hi h hw => sg_p32 (pk_le (d.toBitVec.toNat % 32) i (fun z => absurd z (by omega)) (fun _ => br_c
      (fun g => nm_e (nm_r (nI_1 i) (hw _ (sg_a32 (by omega) h g))))
      (fun g => nm_e (nm_r (nI_1 i) (hw _ (sg_b32 (by omega) h g)))))))
theorem sg_lawOf (x d : Int32) : wpL_lawOf (fun r => r = 1) () x d := by
  unfold wpL_lawOf wpX0_spinGap wpJ6_rotateLeft_7cf53_48e5c wpJ6_rotateRight_7cf53_48e5c wpJ13_rotateLeft_b2ac5_48e5c
  dsimp only
  refine br_t (sg_r32 (sg_l32 x d)) (sg_w4 (fun y z hy hz => br_t ?_ rfl))
  rw [Int32.toBitVec_inj.mp (sg_one (sg_l32 x d) hy), Int64.toBitVec_inj.mp (sg_one (sg_l64 x.toInt64 d) hz)]
theorem sg_cell {post : Int32 → Prop} {L : Nat} {xs : Nat → Int32} (hL : L ≤ 2) {k : Nat} (hk : k < 2) (H : ∀ v, post v) : wpL_cellAt post L xs () (nI k) :=
  pk_le L k (fun _ => H _) (fun z => ⟨pk_in k L z, H _⟩)
/-! ===== WHAT IS OWED for BitMembersLaw: one statement: the law answers true on every script of L ints xs ===== -/
theorem i_vc (xs : Nat → Int32) (L : Nat) (hL : L ≤ 2) : wpL_law (fun r => r = 1) L xs :=
  sg_cell (k := 0) hL (by decide) (fun a => sg_cell (k := 1) hL (by decide) (fun b => sg_lawOf a b))
end

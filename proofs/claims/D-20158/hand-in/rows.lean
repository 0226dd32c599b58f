section
/-! ===== numbers: what wraps to itself, what a shift keeps, what an or of two small longs is ===== -/
theorem ms_b32 {n : Int} (h1 : -2147483648 ≤ n) (h2 : n < 2147483648) : n.bmod (2 ^ 32) = n :=
  Int.bmod_eq_of_le (by omega) (by omega)
theorem ms_b64 {n : Int} (h1 : -9223372036854775808 ≤ n) (h2 : n < 9223372036854775808) : n.bmod (2 ^ 64) = n :=
  Int.bmod_eq_of_le (by omega) (by omega)
/-- (x << 22) >> 22 lies in -512 .. 511 -/
theorem ms_s22 (x : Int32) : -512 ≤ ((x <<< ((22 : Int32) &&& 31)) >>> ((22 : Int32) &&& 31)).toInt ∧ ((x <<< ((22 : Int32) &&& 31)) >>> ((22 : Int32) &&& 31)).toInt ≤ 511 := by
  have h1 := Int32.toInt_lt (x <<< ((22 : Int32) &&& 31))
  have h2 := Int32.le_toInt (x <<< ((22 : Int32) &&& 31))
  rw [pk_shr _ _ 22 (by decide), Int.shiftRight_eq_div_pow]
  generalize (x <<< ((22 : Int32) &&& 31)).toInt = z at h1 h2 ⊢
  omega
/-- (x << 21) >> 21 lies in -1024 .. 1023 -/
theorem ms_s21 (x : Int32) : -1024 ≤ ((x <<< ((21 : Int32) &&& 31)) >>> ((21 : Int32) &&& 31)).toInt ∧ ((x <<< ((21 : Int32) &&& 31)) >>> ((21 : Int32) &&& 31)).toInt ≤ 1023 := by
  have h1 := Int32.toInt_lt (x <<< ((21 : Int32) &&& 31))
  have h2 := Int32.le_toInt (x <<< ((21 : Int32) &&& 31))
  rw [pk_shr _ _ 21 (by decide), Int.shiftRight_eq_div_pow]
  generalize (x <<< ((21 : Int32) &&& 31)).toInt = z at h1 h2 ⊢
  omega
/-- Math.abs of an int that isn't the least -/
theorem ms_abs {w : Int32} (h1 : -512 ≤ w.toInt) (h2 : w.toInt ≤ 511) : (if 0 ≤ w then w else 0 - w) = nI w.toInt.natAbs := by
  have h0 : (0 : Int32).toInt = 0 := by decide
  apply Int32.toInt_inj.mp
  rw [nI_toInt (by omega)]
  split
  · rename_i g
    rw [Int32.le_iff_toInt_le, h0] at g
    omega
  · rename_i g
    rw [Int32.le_iff_toInt_le, h0] at g
    rw [Int32.toInt_sub, h0, ms_b32 (by omega) (by omega)]
    omega
theorem ms_natL {x : Int64} (h0 : 0 ≤ x.toInt) (h1 : x.toInt < 2147483648) : x.toBitVec.toNat < 2 ^ 31 := by
  have e : x.toInt = _ := BitVec.toInt_eq_toNat_cond x.toBitVec
  have hb := x.toBitVec.isLt
  generalize x.toInt = z at e h0 h1
  split at e <;> omega
/-- the long Math.abs, as multiplyExact takes it -/
theorem ms_absL {t : Int64} (h1 : -2147483648 < t.toInt) (h2 : t.toInt < 2147483648) : (if 0 < t then t else -t).toBitVec.toNat < 2 ^ 31 := by
  have h0 : (0 : Int64).toInt = 0 := by decide
  split
  · rename_i g
    rw [Int64.lt_iff_toInt_lt, h0] at g
    exact ms_natL (by omega) h2
  · rename_i g
    rw [Int64.lt_iff_toInt_lt, h0] at g
    have e : (-t).toInt = -t.toInt := by
      rw [Int64.toInt_neg]
      exact ms_b64 (by omega) (by omega)
    exact ms_natL (by omega) (by omega)
/-- t >>> n is 0 when t is below 2 ^ n -/
theorem ms_ushr0 {t : Int64} {x : UInt64} {n : Nat} (hx : x.toNat % 64 = n) (h : t.toBitVec.toNat < 2 ^ n) : (t.toUInt64 >>> x).toInt64 = 0 := by
  rw [← Int64.toBitVec_inj, ← BitVec.toNat_inj]
  show (t.toUInt64 >>> x).toNat = 0
  rw [UInt64.toNat_shiftRight, hx, Nat.shiftRight_eq_div_pow]
  exact Nat.div_eq_of_lt h
theorem ms_or31 {a b : Int64} (ha : a.toBitVec.toNat < 2 ^ 31) (hb : b.toBitVec.toNat < 2 ^ 31) : ((a ||| b).toUInt64 >>> ((31 : Int32).toInt64.toUInt64 &&& Int64.toUInt64 63)).toInt64 = 0 := by
  refine ms_ushr0 (n := 31) (by decide) ?_
  rw [Int64.toBitVec_or, BitVec.toNat_or]
  exact Nat.or_lt_two_pow ha hb
/-- addExact's test: a sum that doesn't wrap has the sign of one of its parts -/
theorem ms_sign {a b s : Int32} (hs : s.toInt = a.toInt + b.toInt) : 0 ≤ ((a ^^^ s) &&& (b ^^^ s)) := by
  have h0 : (0 : Int32).toInt = 0 := by decide
  rw [Int32.le_iff_toInt_le, h0]
  refine BitVec.toInt_nonneg_of_msb_false ?_
  have ea : a.toBitVec.msb = decide (a.toInt < 0) := BitVec.msb_eq_toInt
  have eb : b.toBitVec.msb = decide (b.toInt < 0) := BitVec.msb_eq_toInt
  have es : s.toBitVec.msb = decide (s.toInt < 0) := BitVec.msb_eq_toInt
  rw [Int32.toBitVec_and, Int32.toBitVec_xor, Int32.toBitVec_xor, BitVec.msb_and, BitVec.msb_xor, BitVec.msb_xor, ea, eb, es]
  by_cases h1 : a.toInt < 0 <;> by_cases h2 : b.toInt < 0 <;> by_cases h3 : s.toInt < 0 <;> first | (exfalso; omega) | simp [h1, h2, h3]
/-- the pure answer -/
def ms_val (x y t : Int) : Int := t * ((x.natAbs * y.natAbs : Nat) : Int) + x + y
theorem ms_area {x y : Int} (bx : -512 ≤ x ∧ x ≤ 511) (bh : -512 ≤ y ∧ y ≤ 511) : x.natAbs * y.natAbs ≤ 262144 := by
  have h1 : x.natAbs ≤ 512 := by omega
  have h2 : y.natAbs ≤ 512 := by omega
  exact Nat.mul_le_mul h1 h2
theorem ms_bd {t : Int} {q : Nat} (bt : -1024 ≤ t ∧ t ≤ 1023) (hq : q ≤ 262144) : -268435456 ≤ t * (q : Int) ∧ t * (q : Int) ≤ 268435456 := by
  have hm : (t * (q : Int)).natAbs ≤ 1024 * 262144 := by
    rw [Int.natAbs_mul, Int.natAbs_natCast]
    exact Nat.mul_le_mul (by omega) hq
  generalize t * (q : Int) = z at hm ⊢
  omega
end
section
/-! ===== the JDK's four exact members ===== -/
theorem ms_mulI {post : Int32 → Prop} {u : StJ02238} {A B : Nat} (hA : A ≤ 512) (hB : B ≤ 512) (hq : A * B ≤ 262144) (h : post (nI (A * B))) : wpJ9_multiplyExact_7cf53_48e5c post u (nI A) (nI B) := by
  have e : (nI A).toInt64 * (nI B).toInt64 = lN (A * B) := by
    rw [nI_l (by omega), nI_l (by omega), lN_mul]
  unfold wpJ9_multiplyExact_7cf53_48e5c
  intro x ex
  rw [e] at ex
  subst ex
  refine br_t ?_ ?_
  · rw [lN_i, nI_l (by omega)]
  · rw [lN_i]
    exact h
theorem ms_mulL {post : Int64 → Prop} {u : StJ02238} {t p : Int64} (ht : -2147483648 < t.toInt) (ht' : t.toInt < 2147483648) (hp : -2147483648 < p.toInt) (hp' : p.toInt < 2147483648) (h : post (t * p)) : wpJ9_multiplyExact_f86c9_48e5c post u t p := by
  unfold wpJ9_multiplyExact_f86c9_48e5c
  intro x4 e4 x6 e6 x8 e8
  have h6 := ms_absL ht ht'
  have h8 := ms_absL hp hp'
  rw [← e6] at h6
  rw [← e8] at h8
  rw [e4]
  exact br_t (ms_or31 h6 h8) h
theorem ms_addI {post : Int32 → Prop} {u : StJ02238} {a b : Int32} (ha : -512 ≤ a.toInt ∧ a.toInt ≤ 511) (hb : -512 ≤ b.toInt ∧ b.toInt ≤ 511) (h : post (a + b)) : wpJ9_addExact_7cf53_48e5c post u a b := by
  unfold wpJ9_addExact_7cf53_48e5c
  intro x e
  rw [e]
  refine br_t (ms_sign ?_) h
  rw [Int32.toInt_add]
  exact ms_b32 (by omega) (by omega)
theorem ms_toI {post : Int32 → Prop} {u : StJ02238} {p : Int64} (h1 : -2147483648 ≤ p.toInt) (h2 : p.toInt < 2147483648) (h : post p.toInt32) : wpJ9_toIntExact_95d88_565d2 post u p :=
  br_t (Int64.toInt_inj.mp (by rw [Int32.toInt_toInt64, Int64.toInt_toInt32, ms_b32 h1 h2])) h
/-! ===== the two methods: both answer ms_val ===== -/
theorem ms_sum {w h s : Int32} {q : Nat} (bw : -512 ≤ w.toInt ∧ w.toInt ≤ 511) (bh : -512 ≤ h.toInt ∧ h.toInt ≤ 511) (bz : -268435456 ≤ s.toInt * (q : Int) ∧ s.toInt * (q : Int) ≤ 268435456) (hq : q ≤ 262144) : (s.toInt64 * (nI q).toInt64 + (w + h).toInt64).toInt = s.toInt * (q : Int) + w.toInt + h.toInt := by
  have e1 : (s.toInt64 * (nI q).toInt64).toInt = s.toInt * (q : Int) := by
    rw [Int64.toInt_mul, Int32.toInt_toInt64, Int32.toInt_toInt64, nI_toInt (by omega)]
    exact ms_b64 (by omega) (by omega)
  have e2 : (w + h).toInt64.toInt = w.toInt + h.toInt := by
    rw [Int32.toInt_toInt64, Int32.toInt_add]
    exact ms_b32 (by omega) (by omega)
  rw [Int64.toInt_add, e1, e2]
  generalize s.toInt * (q : Int) = z at bz ⊢
  rw [ms_b64 (by omega) (by omega)]
  omega
theorem ms_x0 {post : Int32 → Prop} {u : St0} {w h s : Int32} (bw : -512 ≤ w.toInt ∧ w.toInt ≤ 511) (bh : -512 ≤ h.toInt ∧ h.toInt ≤ 511) (bs : -1024 ≤ s.toInt ∧ s.toInt ≤ 1023) (H : ∀ r : Int32, r.toInt = ms_val w.toInt h.toInt s.toInt → post r) : wpX0_scaledArea post u w h s.toInt64 := by
  have hq := ms_area bw bh
  have hz := ms_bd bs hq
  have hv := ms_sum bw bh hz hq
  unfold wpX0_scaledArea
  rw [ms_abs bw.1 bw.2, ms_abs bh.1 bh.2]
  refine ms_mulI (by omega) (by omega) hq ?_
  unfold ms_val at H
  generalize w.toInt.natAbs * h.toInt.natAbs = q at hq hz hv H ⊢
  have ep : (nI q).toInt64.toInt = (q : Int) := by rw [Int32.toInt_toInt64, nI_toInt (by omega)]
  have et : s.toInt64.toInt = s.toInt := Int32.toInt_toInt64 s
  refine ms_mulL (by omega) (by omega) (by omega) (by omega) ?_
  refine ms_addI bw bh ?_
  generalize s.toInt * (q : Int) = z at hz hv H
  refine ms_toI (by omega) (by omega) (H _ ?_)
  rw [Int64.toInt_toInt32, hv]
  exact ms_b32 (by omega) (by omega)
theorem ms_x15 {post : Int32 → Prop} {w h s x4 : Int32} {q : Nat} (bw : -512 ≤ w.toInt ∧ w.toInt ≤ 511) (bh : -512 ≤ h.toInt ∧ h.toInt ≤ 511) (bz : -268435456 ≤ s.toInt * (q : Int) ∧ s.toInt * (q : Int) ≤ 268435456) (hx : x4.toInt = (q : Int)) (H : ∀ r : Int32, r.toInt = s.toInt * (q : Int) + w.toInt + h.toInt → post r) : wX1_scaledArea_15 post w h s.toInt64 x4 := by
  unfold wX1_scaledArea_15
  intro x5 e5
  have h5 : x5.toInt = s.toInt * (q : Int) := by
    rw [e5, Int32.toInt32_toInt64, Int32.toInt_mul, hx]
    exact ms_b32 (by omega) (by omega)
  refine H _ ?_
  generalize s.toInt * (q : Int) = z at bz h5 ⊢
  rw [Int32.toInt_add, Int32.toInt_add, h5, ms_b32 (n := z + w.toInt) (by omega) (by omega)]
  exact ms_b32 (by omega) (by omega)
theorem ms_x1 {post : Int32 → Prop} {u : St0} {w h s : Int32} (bw : -512 ≤ w.toInt ∧ w.toInt ≤ 511) (bh : -512 ≤ h.toInt ∧ h.toInt ≤ 511) (bs : -1024 ≤ s.toInt ∧ s.toInt ≤ 1023) (H : ∀ r : Int32, r.toInt = ms_val w.toInt h.toInt s.toInt → post r) : wpX1_scaledArea post u w h s.toInt64 := by
  have h0 : (0 : Int32).toInt = 0 := by decide
  have hq := ms_area bw bh
  have hz := ms_bd bs hq
  have ha : (w.toInt * h.toInt).natAbs = w.toInt.natAbs * h.toInt.natAbs := Int.natAbs_mul _ _
  have hp : (w * h).toInt = w.toInt * h.toInt := by
    rw [Int32.toInt_mul]
    generalize w.toInt * h.toInt = m at ha ⊢
    exact ms_b32 (by omega) (by omega)
  unfold ms_val at H
  generalize w.toInt.natAbs * h.toInt.natAbs = q at ha hq hz H
  generalize w.toInt * h.toInt = m at ha hp
  unfold wpX1_scaledArea
  intro x4 e4
  rw [← e4] at hp
  refine br_c (fun g => ?_) (fun g => ?_)
  · rw [Int32.le_iff_toInt_le, h0] at g
    exact ms_x15 bw bh hz (by omega) H
  · rw [Int32.le_iff_toInt_le, h0] at g
    intro x ex
    refine ms_x15 bw bh hz ?_ H
    rw [ex, Int32.toInt_neg, ms_b32 (by omega) (by omega)]
    omega
/-! ===== the law ===== -/
theorem ms_lawOf (a b c : Int32) : wpL_lawOf (fun r => r = 1) () a b c := by
  unfold wpL_lawOf
  intro w ew h eh s es
  have bw := ms_s22 a
  have bh := ms_s22 b
  have bs := ms_s21 c
  rw [← ew] at bw
  rw [← eh] at bh
  rw [← es] at bs
  exact ms_x0 bw bh bs (fun r hr => ms_x1 bw bh bs (fun r' hr' => br_t (Int32.toInt_inj.mp (hr.trans hr'.symm)) rfl))
theorem ms_cell {post : Int32 → Prop} {L : Nat} {xs : Nat → Int32} {u : St0} {k : Nat} (hL : L ≤ 3) (hk : k < 2 ^ 31) (h : ∀ r, post r) : wpL_cellAt post L xs u (nI k) :=
  br_c (fun _ => h _) (fun g => ⟨vp_in_nI (Nat.lt_of_not_le (fun z => g (nI_le z hk))) (by omega), h _⟩)
theorem i_vc (xs : Nat → Int32) (L : Nat) (hL : L ≤ 3) : wpL_law (fun r => r = 1) L xs :=
  ms_cell (k := 0) hL (by decide) (fun a => ms_cell (k := 1) hL (by decide) (fun b => ms_cell (k := 2) hL (by decide) (fun c => ms_lawOf a b c)))
end

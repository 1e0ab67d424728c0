section
/-! ===== the plain law: bounds, and exact arithmetic within them ===== -/
theorem ws_price (a : Int32) : -32768 ≤ a.toInt16.toInt32.toInt ∧ a.toInt16.toInt32.toInt ≤ 32767 := by
  have h1 := Int16.toInt_lt a.toInt16
  have h2 := Int16.le_toInt a.toInt16
  rw [Int16.toInt_toInt32]
  omega
theorem ws_shr (z s : Int32) (k : Nat) (hs : (s.toBitVec.smod 32).toNat = k) : (z >>> s).toInt = z.toInt / ((2 ^ k : Nat) : Int) := by
  rw [pk_shr z s k hs, Int.shiftRight_eq_div_pow]
theorem ws_count (z : Int32) : -8192 ≤ (z >>> ((18 : Int32) &&& 31)).toInt ∧ (z >>> ((18 : Int32) &&& 31)).toInt ≤ 8191 := by
  have h1 := Int32.toInt_lt z
  have h2 := Int32.le_toInt z
  rw [ws_shr z _ 18 (by decide)]
  omega
theorem ws_fee (z : Int32) : -268435456 ≤ (z >>> ((3 : Int32) &&& 31)).toInt ∧ (z >>> ((3 : Int32) &&& 31)).toInt ≤ 268435455 := by
  have h1 := Int32.toInt_lt z
  have h2 := Int32.le_toInt z
  rw [ws_shr z _ 3 (by decide)]
  omega
theorem ws_prod {p c : Int} (h1 : -32768 ≤ p) (h2 : p ≤ 32767) (h3 : -8192 ≤ c) (h4 : c ≤ 8191) : -268435456 ≤ p * c ∧ p * c ≤ 268435456 := by
  have h : (p * c).natAbs ≤ 32768 * 8192 := by
    rw [Int.natAbs_mul]
    exact Nat.mul_le_mul (by omega) (by omega)
  generalize p * c = m at h ⊢
  omega
theorem ws_bm32 {x : Int} (h1 : -2147483648 ≤ x) (h2 : x ≤ 2147483647) : x.bmod (2 ^ 32) = x :=
  Int.bmod_eq_of_le (by omega) (by omega)
theorem ws_bm64 {x : Int} (h1 : -2147483648 ≤ x) (h2 : x ≤ 2147483647) : x.bmod (2 ^ 64) = x :=
  Int.bmod_eq_of_le (by omega) (by omega)
theorem ws_mulI {a b : Int32} (h1 : -2147483648 ≤ a.toInt * b.toInt) (h2 : a.toInt * b.toInt ≤ 2147483647) : (a * b).toInt = a.toInt * b.toInt := by
  rw [Int32.toInt_mul, ws_bm32 h1 h2]
theorem ws_addI {a b : Int32} (h1 : -2147483648 ≤ a.toInt + b.toInt) (h2 : a.toInt + b.toInt ≤ 2147483647) : (a + b).toInt = a.toInt + b.toInt := by
  rw [Int32.toInt_add, ws_bm32 h1 h2]
theorem ws_mul32 (a b : Int32) : (a.toInt64 * b.toInt64).toInt32 = a * b := by
  rw [Int64.toInt32_mul, Int32.toInt32_toInt64, Int32.toInt32_toInt64]
theorem ws_tot32 (a b c : Int32) : (a.toInt64 * b.toInt64 + c.toInt64).toInt32 = a * b + c := by
  rw [Int64.toInt32_add, ws_mul32, Int32.toInt32_toInt64]
theorem ws_fit {a b : Int32} (h1 : -2147483648 ≤ a.toInt * b.toInt) (h2 : a.toInt * b.toInt ≤ 2147483647) : (a.toInt64 * b.toInt64).toInt32.toInt64 = a.toInt64 * b.toInt64 := by
  rw [← Int64.toInt_inj, ws_mul32, Int32.toInt_toInt64, ws_mulI h1 h2, Int64.toInt_mul, Int32.toInt_toInt64, Int32.toInt_toInt64, ws_bm64 h1 h2]
theorem ws_sign {a b : Int} : ((decide (a < 0) ^^ decide (a + b < 0)) && (decide (b < 0) ^^ decide (a + b < 0))) = false := by
  by_cases ha : a < 0 <;> by_cases hb : b < 0 <;> by_cases hs : a + b < 0 <;> simp [ha, hb, hs] <;> omega
theorem ws_noover {a b : Int32} (h1 : -2147483648 ≤ a.toInt + b.toInt) (h2 : a.toInt + b.toInt ≤ 2147483647) : 0 ≤ ((a ^^^ (a + b)) &&& (b ^^^ (a + b))) := by
  have e : (a + b).toBitVec.toInt = a.toBitVec.toInt + b.toBitVec.toInt := ws_addI h1 h2
  rw [Int32.le_iff_toInt_le]
  show 0 ≤ ((a ^^^ (a + b)) &&& (b ^^^ (a + b))).toBitVec.toInt
  refine BitVec.toInt_nonneg_of_msb_false ?_
  rw [Int32.toBitVec_and, Int32.toBitVec_xor, Int32.toBitVec_xor, BitVec.msb_and, BitVec.msb_xor, BitVec.msb_xor, BitVec.msb_eq_toInt, BitVec.msb_eq_toInt, BitVec.msb_eq_toInt, e]
  exact ws_sign
end
section
/-! ===== the walk: a lemma a method ===== -/
theorem ws_multiplyExact {post : Int32 → Prop} {u : StJ02238} {a b : Int32} (h1 : -2147483648 ≤ a.toInt * b.toInt) (h2 : a.toInt * b.toInt ≤ 2147483647) (h : post (a * b)) : wpJ9_multiplyExact_7cf53_48e5c post u a b := by
  unfold wpJ9_multiplyExact_7cf53_48e5c
  refine nm_e (br_t (ws_fit h1 h2) ?_)
  rw [ws_mul32]
  exact h
theorem ws_addExact {post : Int32 → Prop} {u : StJ02238} {a b : Int32} (h1 : -2147483648 ≤ a.toInt + b.toInt) (h2 : a.toInt + b.toInt ≤ 2147483647) (h : post (a + b)) : wpJ9_addExact_7cf53_48e5c post u a b := by
  unfold wpJ9_addExact_7cf53_48e5c
  exact nm_e (br_t (ws_noover h1 h2) h)
theorem ws_total0 {post : Int32 → Prop} {u : St0} {a b c : Int32} (h1 : -2147483648 ≤ a.toInt * b.toInt) (h2 : a.toInt * b.toInt ≤ 2147483647) (h3 : -2147483648 ≤ a.toInt * b.toInt + c.toInt) (h4 : a.toInt * b.toInt + c.toInt ≤ 2147483647) (h : post (a * b + c)) : wpX0_totalPrice post u a b c := by
  have e := ws_mulI h1 h2
  unfold wpX0_totalPrice
  exact ws_multiplyExact h1 h2 (ws_addExact (by rw [e]; exact h3) (by rw [e]; exact h4) h)
theorem ws_total1 {post : Int32 → Prop} {u : St0} {a b c : Int32} (h : post (a * b + c)) : wpX1_totalPrice post u a b c := by
  unfold wpX1_totalPrice
  refine nm_e (nm_e ?_)
  rw [ws_tot32]
  exact h
theorem ws_lawOf {post : Int32 → Prop} {u : St0} (a b c : Int32) (h : post 1) : wpL_lawOf post u a b c := by
  unfold wpL_lawOf
  refine nm_e (nm_e ?_)
  have p := ws_price a
  have q := ws_count (b <<< ((18 : Int32) &&& 31))
  have f := ws_fee (c <<< ((3 : Int32) &&& 31))
  have m := ws_prod p.1 p.2 q.1 q.2
  exact ws_total0 (by omega) (by omega) (by omega) (by omega) (ws_total1 (br_t rfl h))
theorem ws_cellAt {post : Int32 → Prop} {L : Nat} {xs : Nat → Int32} {u : St0} {i : Int32} (hi : 0 ≤ i.toInt) (hL : L < 2 ^ 31) (h : ∀ r, post r) : wpL_cellAt post L xs u i := by
  unfold wpL_cellAt
  refine br_c (fun _ => h _) (fun z => ⟨vp_in_iff.mpr ⟨hi, ?_⟩, h _⟩)
  rw [Int32.le_iff_toInt_le] at z
  have e : (Int32.ofNat L).toInt = (L : Int) := nI_toInt hL
  omega
/-! ===== WHAT IS OWED for WholeStepsLaw: one statement: the law answers true on every script of L ints xs ===== -/
theorem i_vc (xs : Nat → Int32) (L : Nat) (hL : L ≤ 3) : wpL_law (fun r => r = 1) L xs := by
  have hl : L < 2 ^ 31 := by omega
  unfold wpL_law
  exact ws_cellAt (by decide) hl (fun r1 => ws_cellAt (by decide) hl (fun r2 => ws_cellAt (by decide) hl (fun r3 => ws_lawOf r1 r2 r3 rfl)))
end

section
/-! Plain laws over Int64: the low word, the sign bit, addExact's test. md_andw began as pf_andw of BITS.to-paste. -/
theorem md_andw (x : Int64) : ∃ m, m < 2 ^ 32 ∧ x &&& 4294967295 = lN m := ⟨x.toBitVec.toNat % 2 ^ 32, Nat.mod_lt _ (by decide), Int64.toBitVec_inj.mp (BitVec.eq_of_toNat_eq (by
  show (x.toBitVec &&& 4294967295#64).toNat = (BitVec.ofNat 64 (x.toBitVec.toNat % 2 ^ 32)).toNat
  rw [BitVec.toNat_and, show (4294967295#64).toNat = 2 ^ 32 - 1 from by decide, Nat.and_two_pow_sub_one_eq_mod, BitVec.toNat_ofNat]
  omega))⟩
theorem md_msb {z : Int64} : 0 ≤ z ↔ z.toBitVec.msb = false := by
  rw [Int64.le_iff_toInt_le, BitVec.msb_eq_toInt, Int64.toInt_zero, decide_eq_false_iff_not, Int.not_lt]
  exact Iff.rfl
/-- a sum that fits is the sum of the numbers -/
theorem md_sum {a b : Int64} (h1 : -9223372036854775808 ≤ a.toInt + b.toInt) (h2 : a.toInt + b.toInt < 9223372036854775808) : (a + b).toInt = a.toInt + b.toInt := by
  rw [Int64.toInt_add]
  apply Int.bmod_eq_of_le <;> omega
theorem md_dif {a b : Int64} (h1 : -9223372036854775808 ≤ a.toInt - b.toInt) (h2 : a.toInt - b.toInt < 9223372036854775808) : (a - b).toInt = a.toInt - b.toInt := by
  rw [Int64.toInt_sub]
  apply Int.bmod_eq_of_le <;> omega
/-- addExact's test passes where the sum fits -/
theorem md_fits {a b : Int64} (h1 : -9223372036854775808 ≤ a.toInt + b.toInt) (h2 : a.toInt + b.toInt < 9223372036854775808) : 0 ≤ ((a ^^^ (a + b)) &&& (b ^^^ (a + b))) := by
  have hs := md_sum h1 h2
  rw [md_msb]
  show ((a.toBitVec ^^^ (a + b).toBitVec) &&& (b.toBitVec ^^^ (a + b).toBitVec)).msb = false
  rw [BitVec.msb_and, BitVec.msb_xor, BitVec.msb_xor]
  simp only [BitVec.msb_eq_toInt, Int64.toInt_toBitVec, hs]
  by_cases ha : a.toInt < 0 <;> by_cases hb : b.toInt < 0 <;> by_cases hc : a.toInt + b.toInt < 0 <;> simp [ha, hb, hc] <;> omega
/-- the amount n = p - (away's low word): at most p, and the deposit fits -/
theorem md_amount (p q w : Int32) : p.toInt64 - (w.toInt64 &&& 4294967295) ≤ p.toInt64 ∧ -9223372036854775808 ≤ q.toInt64.toInt + (p.toInt64 - (w.toInt64 &&& 4294967295)).toInt ∧ q.toInt64.toInt + (p.toInt64 - (w.toInt64 &&& 4294967295)).toInt < 9223372036854775808 := by
  obtain ⟨m, hm, e⟩ := md_andw w.toInt64
  have hp1 := p.le_toInt
  have hp2 := p.toInt_lt
  have hq1 := q.le_toInt
  have hq2 := q.toInt_lt
  have ep := Int32.toInt_toInt64 p
  have eq := Int32.toInt_toInt64 q
  have el : (lN m).toInt = (m : Int) := pk_lT (by omega)
  have hd : (p.toInt64 - lN m).toInt = p.toInt64.toInt - (lN m).toInt := md_dif (by omega) (by omega)
  rw [e, Int64.le_iff_toInt_le, hd, ep, eq, el]
  refine ⟨?_, ?_, ?_⟩ <;> omega
/-- the two answers agree, whatever wraps -/
theorem md_gap (f g n : Int64) : (f - n) - (g + n) = ((f - g) - n) - n := by
  grind
end
section
/-! A lemma a method, and the law. -/
theorem md_withdraw {post : St1 → Prop} {f n : Int64} (h : n ≤ f) (hp : post (f - n)) : wpX4_withdraw post f n := br_t h (nm_e hp)
theorem md_deposit {post : St1 → Prop} {f n : Int64} (h1 : -9223372036854775808 ≤ f.toInt + n.toInt) (h2 : f.toInt + n.toInt < 9223372036854775808) (hp : post (f + n)) : wpX4_deposit post f n := nm_e (br_t (md_fits h1 h2) hp)
theorem md_move7 {post : Int64 → St2 → Prop} {f g n : Int64} (h : n ≤ f) (h1 : -9223372036854775808 ≤ g.toInt + n.toInt) (h2 : g.toInt + n.toInt < 9223372036854775808) (hp : post ((f - n) - (g + n)) (f - n, g + n)) : wpX7_move post (f, g) n := by
  unfold wpX7_move
  exact md_withdraw h (md_deposit h1 h2 hp)
theorem md_move8 {post : Int64 → St2 → Prop} {f g n : Int64} (h : n ≤ f) (h1 : -9223372036854775808 ≤ g.toInt + n.toInt) (h2 : g.toInt + n.toInt < 9223372036854775808) (hp : post (((f - g) - n) - n) (f - n, g + n)) : wpX8_move post (f, g) n := by
  unfold wpX8_move
  exact nm_e (md_deposit h1 h2 (md_withdraw h hp))
theorem md_lawOf {post : Int32 → St0 → Prop} (p q w : Int32) (hp : post 1 ()) : wpL_lawOf post 4 4 () p q w := by
  obtain ⟨h, h1, h2⟩ := md_amount p q w
  refine nm_e ⟨by decide, by decide, by decide, by decide, by decide, by decide, by decide, by decide, ?_⟩
  unfold wpX4_init
  refine md_move7 h h1 h2 ?_
  refine md_move8 h h1 h2 ?_
  exact br_t (md_gap _ _ _) (br_t rfl (br_t rfl hp))
theorem md_cell {post : Int32 → Prop} {L : Nat} {xs : Nat → Int32} (hL : L ≤ 3) (k : Nat) (hk : k < 3) (h : ∀ v, post v) : wpL_cellAt post L xs () (nI k) :=
  ⟨fun _ => h _, fun hn => ⟨vp_in_nI (Nat.lt_of_not_le fun hle => hn (nI_le hle (by omega))) (by omega), h _⟩⟩
/-! ===== WHAT IS OWED for MeterDeskLaw: one statement: the law answers true on every script of L ints xs ===== -/
theorem i_vc (xs : Nat → Int32) (L : Nat) (hL : L ≤ 3) : wpL_law (fun r => r = 1) L xs :=
  md_cell hL 0 (by decide) fun p => md_cell hL 1 (by decide) fun q => md_cell hL 2 (by decide) fun w =>
    ⟨4, 4, by decide, by decide, md_lawOf p q w rfl⟩
end

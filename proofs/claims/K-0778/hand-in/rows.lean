section
theorem pk_mul (a b : Nat) : nI a * nI b = nI (a * b) := (Int32.ofNat_mul a b).symm
theorem pk_tn {n : Nat} (h : n < 2 ^ 32) : (nI n).toBitVec.toNat = n := Nat.mod_eq_of_lt h
theorem pk_and (x : Int32) {m : Int32} (k : Nat) (hm : m.toBitVec.toNat = 2 ^ k - 1) : x &&& m = nI (x.toBitVec.toNat % 2 ^ k) := by
  apply Int32.toBitVec_inj.mp
  apply BitVec.eq_of_toNat_eq
  rw [Int32.toBitVec_and, BitVec.toNat_and, hm, Nat.and_two_pow_sub_one_eq_mod]
  show _ = (BitVec.ofNat 32 _).toNat
  rw [BitVec.toNat_ofNat]
  exact (Nat.mod_eq_of_lt (Nat.lt_of_le_of_lt (Nat.mod_le _ _) x.toBitVec.isLt)).symm
theorem pk_andN {n : Nat} (h : n < 2 ^ 32) {m : Int32} (k : Nat) (hm : m.toBitVec.toNat = 2 ^ k - 1) : nI n &&& m = nI (n % 2 ^ k) := by
  rw [pk_and _ k hm, pk_tn h]
theorem pk_shl (a s : Int32) (k : Nat) (hs : (s.toBitVec.smod 32).toNat = k) : (a <<< s).toBitVec.toNat = a.toBitVec.toNat * 2 ^ k % 2 ^ 32 := by
  show (a.toBitVec <<< (s.toBitVec.smod 32).toNat).toNat = _
  rw [hs, BitVec.toNat_shiftLeft, Nat.shiftLeft_eq]
theorem pk_shlN {n : Nat} (s : Int32) (k : Nat) (hs : (s.toBitVec.smod 32).toNat = k) (h : n * 2 ^ k < 2 ^ 32) : nI n <<< s = nI (n * 2 ^ k) := by
  apply Int32.toBitVec_inj.mp
  apply BitVec.eq_of_toNat_eq
  have hn : n < 2 ^ 32 := Nat.lt_of_le_of_lt (Nat.le_mul_of_pos_right n (Nat.two_pow_pos k)) h
  rw [pk_shl _ _ k hs, pk_tn hn, pk_tn h, Nat.mod_eq_of_lt h]
theorem pk_ushr (x s : Int32) (k : Nat) (hs : ((s.toUInt32 &&& Int32.toUInt32 31).toBitVec % 32).toNat = k) : (x.toUInt32 >>> (s.toUInt32 &&& Int32.toUInt32 31)).toInt32.toBitVec.toNat = x.toBitVec.toNat / 2 ^ k := by
  have e : (x.toUInt32 >>> (s.toUInt32 &&& Int32.toUInt32 31)).toInt32.toBitVec = x.toBitVec >>> k := by
    rw [← hs]
    exact UInt32.toBitVec_shiftRight _ _
  rw [e, BitVec.toNat_ushiftRight, Nat.shiftRight_eq_div_pow]
theorem pk_ushrN {n : Nat} (hn : n < 2 ^ 32) (s : Int32) (k : Nat) (hs : ((s.toUInt32 &&& Int32.toUInt32 31).toBitVec % 32).toNat = k) : ((nI n).toUInt32 >>> (s.toUInt32 &&& Int32.toUInt32 31)).toInt32 = nI (n / 2 ^ k) := by
  apply Int32.toBitVec_inj.mp
  apply BitVec.eq_of_toNat_eq
  rw [pk_ushr _ s k hs, pk_tn hn, pk_tn (Nat.lt_of_le_of_lt (Nat.div_le_self _ _) hn)]
theorem pk_lT {n : Nat} (h : n < 2 ^ 63) : (lN n).toInt = (n : Int) := lg_ofNat_toInt h
theorem pk_lDiv {a b : Nat} (ha : a < 2 ^ 63) (h0 : 0 < b) (hb : b < 2 ^ 63) : lN a / lN b = lN (a / b) := by
  apply Int64.toInt_inj.mp
  rw [lg_ldiv_nonneg (by rw [pk_lT ha]; omega) (by rw [pk_lT hb]; omega), pk_lT ha, pk_lT hb, pk_lT (Nat.lt_of_le_of_lt (Nat.div_le_self a b) ha)]
  rfl
theorem wb_tb (n : Nat) : (lN n).toBitVec = BitVec.ofNat 64 n := rfl
theorem wb_inj {a b : Int64} (h : a.toBitVec = b.toBitVec) : a = b := Int64.toBitVec_inj.mp h
theorem wb_c : ∀ k, k < 64 → ((nI k).toInt64 &&& 63) = lN k := by decide +kernel
theorem wb_sm : ∀ k, k < 64 → (BitVec.ofNat 64 k).smod 64 = BitVec.ofNat 64 k := by decide +kernel
theorem wb_shl (n : Nat) {k : Nat} (hk : k < 64) : lN n <<< ((nI k).toInt64 &&& 63) = lN (n * 2 ^ k) := by
  rw [wb_c k hk]
  apply wb_inj
  rw [Int64.toBitVec_shiftLeft, wb_tb, wb_tb, wb_tb, wb_sm k hk]
  apply BitVec.eq_of_toNat_eq
  rw [BitVec.shiftLeft_eq', BitVec.toNat_shiftLeft, BitVec.toNat_ofNat, BitVec.toNat_ofNat, BitVec.toNat_ofNat, Nat.mod_eq_of_lt (show k < 2 ^ 64 by omega), Nat.shiftLeft_eq, Nat.mul_mod, Nat.mod_mod, ← Nat.mul_mod]
theorem pf_lI {a : Nat} (h : a < 2 ^ 63) : (lN a).toInt = (a : Int) := lg_ofNat_toInt h
theorem pf_shr {a d : Nat} {D : Int64} (hD : (D.toBitVec.smod 64).toNat = d) (h : a < 2 ^ 62) : lN a >>> D = lN (a / 2 ^ d) := by
  have hd : a / 2 ^ d ≤ a := Nat.div_le_self _ _
  apply Int64.toInt_inj.mp
  have e : (lN a >>> D).toInt = (lN a).toInt >>> d := by
    rw [← hD]
    exact BitVec.toInt_sshiftRight ..
  rw [e, Int.shiftRight_eq_div_pow, pf_lI (by omega), pf_lI (by omega)]
  rfl
end
section
/-- an int's signed remainder by 2^32, of a number counted from -2^31 -/
theorem es_b32 (t : Nat) : ((t : Int) - 2147483648).bmod (2 ^ 32) = (t : Int) - 2147483648 - ((t / 4294967296 : Nat) : Int) * 4294967296 := by
  have e : (t : Int) - 2147483648 = (((t % 4294967296 : Nat) : Int) - 2147483648) + ((t / 4294967296 : Nat) : Int) * 4294967296 := by omega
  have b : ((((t % 4294967296 : Nat) : Int) - 2147483648) + ((t / 4294967296 : Nat) : Int) * 4294967296).bmod (2 ^ 32) = (((t % 4294967296 : Nat) : Int) - 2147483648).bmod (2 ^ 32) := Int.add_mul_bmod_self_right _ _ (2 ^ 32)
  have c : (((t % 4294967296 : Nat) : Int) - 2147483648).bmod (2 ^ 32) = ((t % 4294967296 : Nat) : Int) - 2147483648 := Int.bmod_eq_of_le (by omega) (by omega)
  rw [e, b, c]
  omega
/-- t counts the seconds from -2^31; q is the epoch -/
theorem es_split {s : Int64} (z0 : -2147483648 ≤ s.toInt) (z1 : s.toInt ≤ 15032385535) : ∃ t q : Nat, t < 17179869184 ∧ q < 4 ∧ t / 4294967296 = q ∧ s - s.toInt32.toInt64 = lN (q * 4294967296) ∧ s + 2147483648 = lN t := by
  obtain ⟨t, et⟩ : ∃ t : Nat, s.toInt = (t : Int) - 2147483648 := ⟨(s.toInt + 2147483648).toNat, by omega⟩
  have ht : t < 17179869184 := by omega
  refine ⟨t, t / 4294967296, ht, by omega, rfl, ?_, ?_⟩
  · apply Int64.toInt_inj.mp
    rw [Int64.toInt_sub, Int32.toInt_toInt64, Int64.toInt_toInt32, pk_lT (by omega), et, es_b32]
    rw [Int.bmod_eq_of_le (by omega) (by omega)]
    omega
  · apply Int64.toInt_inj.mp
    rw [Int64.toInt_add, et, show (2147483648 : Int64).toInt = 2147483648 from by decide, pk_lT (by omega)]
    rw [Int.bmod_eq_of_le (by omega) (by omega)]
    omega
theorem es_or {q m : Nat} (hq : q < 4) (hm : m * 4 + q < 2 ^ 32) : nI q ||| nI (m * 2 ^ 2) = nI (m * 4 + q) := by
  apply Int32.toBitVec_inj.mp
  apply BitVec.eq_of_toNat_eq
  have h1 : q ||| m * 2 ^ 2 = m * 4 + q := by
    rw [Nat.or_comm, ← Nat.shiftLeft_eq, ← Nat.shiftLeft_add_eq_or_of_lt (by omega), Nat.shiftLeft_eq]
  rw [Int32.toBitVec_or, BitVec.toNat_or, pk_tn (by omega), pk_tn (by omega), pk_tn hm, h1]
end
section
/-- the three getters answer alike: seconds, nanos, extra -/
def i_Rel (_ : Nat) (u : SX) (v : SY) : Prop :=
  u.1.toInt64 + (((u.2 &&& 3).toInt64) <<< ((32 : Int32).toInt64 &&& 63)) = v.1 ∧
  (u.2.toUInt32 >>> ((2 : Int32).toUInt32 &&& Int32.toUInt32 31)).toInt32 = v.2 ∧
  (v.2 * 4) + (((v.1 + 2147483648) / 4294967296).toInt32) = u.2
theorem i_up {k : Nat} {u : SX} {v : SY} (h : i_Rel k u v) : i_Rel (k + 4) u v := h
theorem i_vc0 : wpX_init (fun u => wpY_init (fun v => i_Rel 0 u v)) := by
  unfold wpX_init wpY_init wpY_store wY_store_31 i_Rel
  dsimp only
  exact br_f (by decide) (br_t (by decide) (br_t (by decide) (br_t (by decide) ⟨by decide, by decide, by decide⟩)))
/-- a stamp within the range, as it is stored, is related to what the reference stores -/
theorem es_rel (k : Nat) {s : Int64} {n : Int32} (hs0 : (-2147483648) ≤ s) (hs1 : s ≤ 15032385535) (hn0 : ¬ n < 0) (hn1 : n ≤ 999999999) : i_Rel k (s.toInt32, ((((s - s.toInt32.toInt64) >>> ((32 : Int32).toInt64 &&& 63)).toInt32) &&& 3) ||| (n <<< ((2 : Int32) &&& 31))) (s, n) := by
  obtain ⟨m, hm, rfl⟩ := nI_of2 (n := 999999999) (by decide) hn0 hn1
  have z0 : -2147483648 ≤ s.toInt := by
    have h := Int64.le_iff_toInt_le.mp hs0
    rwa [show (-2147483648 : Int64).toInt = -2147483648 from by decide] at h
  have z1 : s.toInt ≤ 15032385535 := by
    have h := Int64.le_iff_toInt_le.mp hs1
    rwa [show (15032385535 : Int64).toInt = 15032385535 from by decide] at h
  obtain ⟨t, q, ht, hq, hqt, e1, e2⟩ := es_split z0 z1
  have eE : (((s - s.toInt32.toInt64) >>> ((32 : Int32).toInt64 &&& 63)).toInt32) &&& 3 = nI q := by
    rw [e1, pf_shr (d := 32) (by decide) (by omega), lN_i, pk_andN (by omega) 2 (by decide)]
    exact congrArg nI (by omega)
  have eN : nI m <<< ((2 : Int32) &&& 31) = nI (m * 2 ^ 2) := pk_shlN _ 2 (by decide) (by omega)
  have e32 : lN q <<< ((32 : Int32).toInt64 &&& 63) = lN (q * 4294967296) := wb_shl q (k := 32) (by decide)
  have eD : lN t / 4294967296 = lN (t / 4294967296) := pk_lDiv (b := 4294967296) (by omega) (by decide) (by decide)
  have e4 : nI m * 4 = nI (m * 4) := pk_mul m 4
  unfold i_Rel
  dsimp only
  rw [eE, eN, es_or hq (by omega)]
  refine ⟨?_, ?_, ?_⟩
  · rw [pk_andN (by omega) 2 (by decide), show (m * 4 + q) % 2 ^ 2 = q by omega, nI_l (by omega), e32, ← e1, Int64.add_comm, Int64.sub_add_cancel]
  · rw [pk_ushrN (by omega) 2 2 (by decide)]
    exact congrArg nI (by omega)
  · rw [e2, eD, lN_i, hqt, e4, nI_add]
theorem es_x45 {post : Int64 → SX → Prop} {n : Int32} {s : Int64} {l e : Int32} (h : post s (s.toInt32, ((((s - s.toInt32.toInt64) >>> ((32 : Int32).toInt64 &&& 63)).toInt32) &&& 3) ||| (n <<< ((2 : Int32) &&& 31)))) : wX_store_45 post n s l e := nm_e (nm_e h)
theorem i_vc_store {k : Nat} {u : SX} {v : SY} (I : i_Rel k u v) (hk : k + 4 ≤ 2048) (a0 : Int64) (v3 : Int32) : wpX_store (fun r u' => wpY_store (fun r' v' => r' = r ∧ i_Rel (k + 4) u' v') v a0 v3) u a0 v3 := by
  obtain ⟨l, e⟩ := u
  obtain ⟨c, d⟩ := v
  unfold wpX_store wpY_store
  dsimp only
  by_cases h0 : v3 < 0
  · exact br_t h0 (br_t h0 ⟨rfl, I⟩)
  · by_cases h9 : v3 ≤ 999999999
    · refine br_f h0 (br_t h9 ?_)
      by_cases hl : (-2147483648) ≤ a0
      · refine br_t hl ?_
        by_cases hh : a0 ≤ 15032385535
        · exact br_t hh (es_x45 (br_f h0 (br_t h9 (br_t hl (br_t hh ⟨rfl, es_rel (k + 4) hl hh h0 h9⟩)))))
        · exact br_f hh (es_x45 (br_f h0 (br_t h9 (br_t hl (br_f hh ⟨rfl, es_rel (k + 4) (by decide) (by decide) h0 h9⟩)))))
      · have hm : (-2147483648 : Int64) ≤ 15032385535 := by decide
        exact br_f hl (br_t hm (es_x45 (br_f h0 (br_t h9 (br_f hl (br_t hm ⟨rfl, es_rel (k + 4) (by decide) hm h0 h9⟩))))))
    · exact br_f h0 (br_f h9 (br_f h0 (br_f h9 ⟨rfl, I⟩)))
theorem i_vc_seconds {k : Nat} {u : SX} {v : SY} (I : i_Rel k u v) (hk : k + 4 ≤ 2048) : wpX_seconds (fun r => wpY_seconds (fun r' => r' = r ∧ i_Rel (k + 4) u v) v) u := by
  obtain ⟨l, e⟩ := u
  obtain ⟨c, d⟩ := v
  exact And.intro I.1.symm I
theorem i_vc_nanos {k : Nat} {u : SX} {v : SY} (I : i_Rel k u v) (hk : k + 4 ≤ 2048) : wpX_nanos (fun r => wpY_nanos (fun r' => r' = r ∧ i_Rel (k + 4) u v) v) u := by
  obtain ⟨l, e⟩ := u
  obtain ⟨c, d⟩ := v
  exact And.intro I.2.1.symm I
theorem i_vc_extra {k : Nat} {u : SX} {v : SY} (I : i_Rel k u v) (hk : k + 4 ≤ 2048) : wpX_extra (fun r => wpY_extra (fun r' => r' = r ∧ i_Rel (k + 4) u v) v) u := by
  obtain ⟨l, e⟩ := u
  obtain ⟨c, d⟩ := v
  exact And.intro (by decide) (And.intro I.2.2 I)
end

set_option maxRecDepth 100000
/-! ===== reads and writes of the virtual heap ===== -/
section VHA
variable {h : VH} {a b f g c n N k : Nat} {v : Int32} {w : Int64} {r : Nat}
theorem hset_at (h : VH) (a : Nat) (c : VC) (b : Nat) : (hset h a c).1 b = if b = a then c else h.1 b := rfl
theorem kd_sI : kd (sI h f a v) b = kd h b := by unfold kd sI; rw [hset_at]; by_cases e : b = a <;> simp [e, cI]
theorem kd_sL : kd (sL h f a w) b = kd h b := by unfold kd sL; rw [hset_at]; by_cases e : b = a <;> simp [e, cL]
theorem kd_sR : kd (sR h f a r) b = kd h b := by unfold kd sR; rw [hset_at]; by_cases e : b = a <;> simp [e, cR]
theorem ln_sI : ln (sI h f a v) b = ln h b := by unfold ln sI; rw [hset_at]; by_cases e : b = a <;> simp [e, cI]
theorem ln_sL : ln (sL h f a w) b = ln h b := by unfold ln sL; rw [hset_at]; by_cases e : b = a <;> simp [e, cL]
theorem ln_sR : ln (sR h f a r) b = ln h b := by unfold ln sR; rw [hset_at]; by_cases e : b = a <;> simp [e, cR]
theorem hz_sI : hz (sI h f a v) = hz h := rfl
theorem hz_sL : hz (sL h f a w) = hz h := rfl
theorem hz_sR : hz (sR h f a r) = hz h := rfl
theorem hs_sI : hs (sI h f a v) = hs h := rfl
theorem hs_sL : hs (sL h f a w) = hs h := rfl
theorem hs_sR : hs (sR h f a r) = hs h := rfl
theorem gI_sI : gI (sI h f a v) g b = if b = a ∧ g = f then v else gI h g b := by
  unfold gI sI; rw [hset_at]
  by_cases e : b = a
  · subst e; by_cases e2 : g = f <;> simp [e2, cI]
  · simp [e]
theorem gL_sL : gL (sL h f a w) g b = if b = a ∧ g = f then w else gL h g b := by
  unfold gL sL; rw [hset_at]
  by_cases e : b = a
  · subst e; by_cases e2 : g = f <;> simp [e2, cL]
  · simp [e]
theorem gR_sR : gR (sR h f a r) g b = if b = a ∧ g = f then r else gR h g b := by
  unfold gR sR; rw [hset_at]
  by_cases e : b = a
  · subst e; by_cases e2 : g = f <;> simp [e2, cR]
  · simp [e]
theorem gI_eq : gI (sI h f a v) f a = v := by rw [gI_sI, if_pos ⟨rfl, rfl⟩]
theorem gL_eq : gL (sL h f a w) f a = w := by rw [gL_sL, if_pos ⟨rfl, rfl⟩]
theorem gR_eq : gR (sR h f a r) f a = r := by rw [gR_sR, if_pos ⟨rfl, rfl⟩]
theorem gI_ne (e : b ≠ a) : gI (sI h f a v) g b = gI h g b := by rw [gI_sI, if_neg (fun q => e q.1)]
theorem gL_ne (e : b ≠ a) : gL (sL h f a w) g b = gL h g b := by rw [gL_sL, if_neg (fun q => e q.1)]
theorem gR_ne (e : b ≠ a) : gR (sR h f a r) g b = gR h g b := by rw [gR_sR, if_neg (fun q => e q.1)]
theorem gI_nf (e : g ≠ f) : gI (sI h f a v) g b = gI h g b := by rw [gI_sI, if_neg (fun q => e q.2)]
theorem gL_nf (e : g ≠ f) : gL (sL h f a w) g b = gL h g b := by rw [gL_sL, if_neg (fun q => e q.2)]
theorem gR_nf (e : g ≠ f) : gR (sR h f a r) g b = gR h g b := by rw [gR_sR, if_neg (fun q => e q.2)]
theorem gL_sI : gL (sI h f a v) g b = gL h g b := by unfold gL sI; rw [hset_at]; by_cases e : b = a <;> simp [e, cI]
theorem gR_sI : gR (sI h f a v) g b = gR h g b := by unfold gR sI; rw [hset_at]; by_cases e : b = a <;> simp [e, cI]
theorem gI_sL : gI (sL h f a w) g b = gI h g b := by unfold gI sL; rw [hset_at]; by_cases e : b = a <;> simp [e, cL]
theorem gR_sL : gR (sL h f a w) g b = gR h g b := by unfold gR sL; rw [hset_at]; by_cases e : b = a <;> simp [e, cL]
theorem gI_sR : gI (sR h f a r) g b = gI h g b := by unfold gI sR; rw [hset_at]; by_cases e : b = a <;> simp [e, cR]
theorem gL_sR : gL (sR h f a r) g b = gL h g b := by unfold gL sR; rw [hset_at]; by_cases e : b = a <;> simp [e, cR]
/-! a new cell -/
theorem al_at (b : Nat) : (al h c n N).1 b = if b = hz h then vc0 c n else h.1 b := rfl
theorem hz_al : hz (al h c n N) = hz h + 1 := rfl
theorem hs_al : hs (al h c n N) = hs h + N := rfl
theorem kd_al : kd (al h c n N) (hz h) = c := by unfold kd; rw [al_at, if_pos rfl]; rfl
theorem ln_al : ln (al h c n N) (hz h) = n := by unfold ln; rw [al_at, if_pos rfl]; rfl
theorem gI_al : gI (al h c n N) f (hz h) = 0 := by unfold gI; rw [al_at, if_pos rfl]; rfl
theorem gL_al : gL (al h c n N) f (hz h) = 0 := by unfold gL; rw [al_at, if_pos rfl]; rfl
theorem gR_al : gR (al h c n N) f (hz h) = 0 := by unfold gR; rw [al_at, if_pos rfl]; rfl
theorem kd_alne (e : b ≠ hz h) : kd (al h c n N) b = kd h b := by unfold kd; rw [al_at, if_neg e]
theorem ln_alne (e : b ≠ hz h) : ln (al h c n N) b = ln h b := by unfold ln; rw [al_at, if_neg e]
theorem gI_alne (e : b ≠ hz h) : gI (al h c n N) f b = gI h f b := by unfold gI; rw [al_at, if_neg e]
theorem gL_alne (e : b ≠ hz h) : gL (al h c n N) f b = gL h f b := by unfold gL; rw [al_at, if_neg e]
theorem gR_alne (e : b ≠ hz h) : gR (al h c n N) f b = gR h f b := by unfold gR; rw [al_at, if_neg e]
/-! whole cells: what two heaps share -/
theorem kd_of {h1 : VH} (e : h1.1 b = h.1 b) : kd h1 b = kd h b := by unfold kd; rw [e]
theorem ln_of {h1 : VH} (e : h1.1 b = h.1 b) : ln h1 b = ln h b := by unfold ln; rw [e]
theorem gI_of {h1 : VH} (e : h1.1 b = h.1 b) : gI h1 f b = gI h f b := by unfold gI; rw [e]
theorem gL_of {h1 : VH} (e : h1.1 b = h.1 b) : gL h1 f b = gL h f b := by unfold gL; rw [e]
theorem gR_of {h1 : VH} (e : h1.1 b = h.1 b) : gR h1 f b = gR h f b := by unfold gR; rw [e]
theorem sI_at (e : b ≠ a) : (sI h f a v).1 b = h.1 b := if_neg e
theorem sL_at (e : b ≠ a) : (sL h f a w).1 b = h.1 b := if_neg e
theorem sR_at (e : b ≠ a) : (sR h f a r).1 b = h.1 b := if_neg e
theorem al_ne (e : b ≠ hz h) : (al h c n N).1 b = h.1 b := if_neg e
end VHA
/-! clones and copies -/
section VHB
variable {h : VH} {a b f n k s d sp dp : Nat}
theorem hz_acl : hz (acl h a) = hz h + 1 := rfl
theorem hs_acl : hs (acl h a) = hs h + ln h a := rfl
theorem kd_acl : kd (acl h a) (hz h) = if kd h a < 300 then kd h a else kd h a - 100 := by unfold kd acl hz; simp
theorem ln_acl : ln (acl h a) (hz h) = ln h a := by unfold ln acl hz; simp
theorem gI_acl : gI (acl h a) f (hz h) = gI h f a := by unfold gI acl hz; simp
theorem gL_acl : gL (acl h a) f (hz h) = gL h f a := by unfold gL acl hz; simp
theorem gR_acl : gR (acl h a) f (hz h) = gR h f a := by unfold gR acl hz; simp
theorem acl_ne (e : b ≠ hz h) : (acl h a).1 b = h.1 b := if_neg e
theorem hz_acI : hz (acI h s sp d dp n) = hz h := rfl
theorem hs_acI : hs (acI h s sp d dp n) = hs h := rfl
theorem hz_acR : hz (acR h s sp d dp n) = hz h := rfl
theorem hs_acR : hs (acR h s sp d dp n) = hs h := rfl
theorem acI_ne (e : b ≠ d) : (acI h s sp d dp n).1 b = h.1 b := if_neg e
theorem acR_ne (e : b ≠ d) : (acR h s sp d dp n).1 b = h.1 b := if_neg e
theorem kd_acI : kd (acI h s sp d dp n) b = kd h b := by unfold kd acI; rw [hset_at]; by_cases e : b = d <;> simp [e]
theorem kd_acR : kd (acR h s sp d dp n) b = kd h b := by unfold kd acR; rw [hset_at]; by_cases e : b = d <;> simp [e]
theorem ln_acI : ln (acI h s sp d dp n) b = ln h b := by unfold ln acI; rw [hset_at]; by_cases e : b = d <;> simp [e]
theorem ln_acR : ln (acR h s sp d dp n) b = ln h b := by unfold ln acR; rw [hset_at]; by_cases e : b = d <;> simp [e]
theorem gI_acI : gI (acI h s sp d dp n) k d = if dp ≤ k ∧ k < dp + n then gI h (sp + (k - dp)) s else gI h k d := by unfold gI acI; rw [hset_at, if_pos rfl]; rfl
theorem gR_acR : gR (acR h s sp d dp n) k d = if dp ≤ k ∧ k < dp + n then gR h (sp + (k - dp)) s else gR h k d := by unfold gR acR; rw [hset_at, if_pos rfl]; rfl
end VHB
/-! ===== numbers: an int as jI z ===== -/
section NUM
variable {a b z : Int}
theorem jI_toInt (h1 : -2147483648 ≤ a) (h2 : a < 2147483648) : (jI a).toInt = a := Int32.toInt_ofInt_of_le h1 h2
theorem jI_of (x : Int32) : jI x.toInt = x := Int32.ofInt_toInt x
theorem jI_add : jI a + jI b = jI (a + b) := (Int32.ofInt_add a b).symm
theorem jI_sub : jI a - jI b = jI (a - b) := (Int32.ofInt_sub a b).symm
theorem jI_mul : jI a * jI b = jI (a * b) := (Int32.ofInt_mul a b).symm
theorem jI_neg : -jI a = jI (-a) := (Int32.ofInt_neg a).symm
theorem jI_eq (h1 : -2147483648 ≤ a) (h2 : a < 2147483648) (h3 : -2147483648 ≤ b) (h4 : b < 2147483648) : (jI a = jI b) ↔ a = b := by
  constructor
  · intro h
    have := congrArg Int32.toInt h
    rwa [jI_toInt h1 h2, jI_toInt h3 h4] at this
  · intro h; rw [h]
theorem jI_lt (h1 : -2147483648 ≤ a) (h2 : a < 2147483648) (h3 : -2147483648 ≤ b) (h4 : b < 2147483648) : (jI a < jI b) ↔ a < b := by
  rw [Int32.lt_iff_toInt_lt, jI_toInt h1 h2, jI_toInt h3 h4]
theorem jI_le (h1 : -2147483648 ≤ a) (h2 : a < 2147483648) (h3 : -2147483648 ≤ b) (h4 : b < 2147483648) : (jI a ≤ jI b) ↔ a ≤ b := by
  rw [Int32.le_iff_toInt_le, jI_toInt h1 h2, jI_toInt h3 h4]
theorem jI_0 : (0 : Int32) = jI 0 := rfl
theorem jI_ofNat (n : Nat) : Int32.ofNat n = jI (n : Int) := by
  show Int32.ofNat n = Int32.ofInt (n : Int)
  exact (Int32.ofInt_eq_ofNat).symm
theorem jI_eq0 (h1 : -2147483648 ≤ a) (h2 : a < 2147483648) : (jI a = 0) ↔ a = 0 := by
  rw [jI_0, jI_eq h1 h2 (by decide) (by decide)]
theorem jI_lt0 (h1 : -2147483648 ≤ a) (h2 : a < 2147483648) : (jI a < 0) ↔ a < 0 := by
  rw [jI_0, jI_lt h1 h2 (by decide) (by decide)]
theorem jI_0lt (h1 : -2147483648 ≤ a) (h2 : a < 2147483648) : (0 < jI a) ↔ 0 < a := by
  rw [jI_0, jI_lt (by decide) (by decide) h1 h2]
theorem jI_le0 (h1 : -2147483648 ≤ a) (h2 : a < 2147483648) : (jI a ≤ 0) ↔ a ≤ 0 := by
  rw [jI_0, jI_le h1 h2 (by decide) (by decide)]
theorem jI_0le (h1 : -2147483648 ≤ a) (h2 : a < 2147483648) : (0 ≤ jI a) ↔ 0 ≤ a := by
  rw [jI_0, jI_le (by decide) (by decide) h1 h2]
theorem jI_clamp (h1 : 0 ≤ a) (h2 : a < 2147483648) : (jI a).toNatClampNeg = a.toNat := by
  show (jI a).toInt.toNat = a.toNat
  rw [jI_toInt (by omega) h2]
theorem jI_clampN {n : Nat} (h2 : n < 2147483648) : (jI (n : Int)).toNatClampNeg = n := by
  rw [jI_clamp (by omega) (by omega)]; rfl
theorem jI_div (h1 : 0 ≤ a) (h2 : a < 2147483648) (h3 : 0 < b) (h4 : b < 2147483648) : jI a / jI b = jI (a / b) := by
  apply Int32.toInt_inj.mp
  have h5 : 0 ≤ a / b := Int.ediv_nonneg h1 (by omega)
  have h6 : a / b ≤ a := Int.ediv_le_self _ h1
  have h8 : jI a ≠ Int32.minValue := by
    intro e
    have h9 := congrArg Int32.toInt e
    rw [jI_toInt (by omega) h2] at h9
    have h7 : Int32.minValue.toInt = -2147483648 := by decide
    rw [h7] at h9
    omega
  rw [Int32.toInt_div_of_ne_left _ _ h8, jI_toInt (by omega) h2, jI_toInt (by omega) h4, jI_toInt (by omega) (by omega), Int.tdiv_eq_ediv_of_nonneg h1]
theorem jI_rem (h1 : 0 ≤ a) (h2 : a < 2147483648) (h3 : 0 < b) (h4 : b < 2147483648) : jrem (jI a) (jI b) = jI (a % b) := by
  unfold jrem
  rw [jI_div h1 h2 h3 h4, jI_mul, jI_sub, Int.mul_comm]
  congr 1
  have := Int.mul_ediv_add_emod a b
  omega
theorem jL_toInt (h1 : -9223372036854775808 ≤ a) (h2 : a < 9223372036854775808) : (jL a).toInt = a := Int64.toInt_ofInt_of_le h1 h2
theorem jL_add : jL a + jL b = jL (a + b) := (Int64.ofInt_add a b).symm
theorem jL_sub : jL a - jL b = jL (a - b) := (Int64.ofInt_sub a b).symm
theorem jL_mul : jL a * jL b = jL (a * b) := (Int64.ofInt_mul a b).symm
theorem jL_eq (h1 : -9223372036854775808 ≤ a) (h2 : a < 9223372036854775808) (h3 : -9223372036854775808 ≤ b) (h4 : b < 9223372036854775808) : (jL a = jL b) ↔ a = b := by
  constructor
  · intro h
    have := congrArg Int64.toInt h
    rwa [jL_toInt h1 h2, jL_toInt h3 h4] at this
  · intro h; rw [h]
theorem jL_lt (h1 : -9223372036854775808 ≤ a) (h2 : a < 9223372036854775808) (h3 : -9223372036854775808 ≤ b) (h4 : b < 9223372036854775808) : (jL a < jL b) ↔ a < b := by
  rw [Int64.lt_iff_toInt_lt, jL_toInt h1 h2, jL_toInt h3 h4]
theorem jL_le (h1 : -9223372036854775808 ≤ a) (h2 : a < 9223372036854775808) (h3 : -9223372036854775808 ≤ b) (h4 : b < 9223372036854775808) : (jL a ≤ jL b) ↔ a ≤ b := by
  rw [Int64.le_iff_toInt_le, jL_toInt h1 h2, jL_toInt h3 h4]
theorem jL_div (h1 : 0 ≤ a) (h2 : a < 9223372036854775808) (h3 : 0 < b) (h4 : b < 9223372036854775808) : jL a / jL b = jL (a / b) := by
  apply Int64.toInt_inj.mp
  have h5 : 0 ≤ a / b := Int.ediv_nonneg h1 (by omega)
  have h6 : a / b ≤ a := Int.ediv_le_self _ h1
  have h8 : jL a ≠ Int64.minValue := by
    intro e
    have h9 := congrArg Int64.toInt e
    rw [jL_toInt (by omega) h2] at h9
    have h7 : Int64.minValue.toInt = -9223372036854775808 := by decide
    rw [h7] at h9
    omega
  rw [Int64.toInt_div_of_ne_left _ _ h8, jL_toInt (by omega) h2, jL_toInt (by omega) h4, jL_toInt (by omega) (by omega), Int.tdiv_eq_ediv_of_nonneg h1]
theorem jL_rem (h1 : 0 ≤ a) (h2 : a < 9223372036854775808) (h3 : 0 < b) (h4 : b < 9223372036854775808) : jlrem (jL a) (jL b) = jL (a % b) := by
  unfold jlrem
  rw [jL_div h1 h2 h3 h4, jL_mul, jL_sub, Int.mul_comm]
  congr 1
  have := Int.mul_ediv_add_emod a b
  omega
theorem jL_of32 (h1 : -2147483648 ≤ a) (h2 : a < 2147483648) : (jI a).toInt64 = jL a := Int32.toInt64_ofInt (by show (-2147483648 : Int) ≤ a; exact h1) (by show a ≤ (2147483647 : Int); omega)
theorem jI_of64 : (jL a).toInt32 = jI a := Int64.toInt32_ofInt
theorem j_mask {k : Nat} (hk : k < 32) : (jI (k : Int) &&& 31).toBitVec.smod 32 = BitVec.ofNat 32 k := by
  have : ∀ k : Fin 32, (jI ((k : Nat) : Int) &&& 31).toBitVec.smod 32 = BitVec.ofNat 32 (k : Nat) := by decide
  exact this ⟨k, hk⟩
theorem j_ofNat {k : Nat} (hk : k < 32) : (BitVec.ofNat 32 k).toNat = k := by
  rw [BitVec.toNat_ofNat]; exact Nat.mod_eq_of_lt (by omega)
theorem jI_shl {k : Nat} (hk : k < 32) : jshl (jI a) (jI (k : Int)) = jI (a * 2 ^ k) := by
  unfold jshl
  apply Int32.toBitVec_inj.mp
  show (jI a).toBitVec <<< ((jI (k : Int) &&& 31).toBitVec.smod 32) = _
  rw [j_mask hk]
  show (BitVec.ofInt 32 a) <<< (BitVec.ofNat 32 k).toNat = BitVec.ofInt 32 (a * 2 ^ k)
  rw [j_ofNat hk, ← BitVec.mul_twoPow_eq_shiftLeft, BitVec.ofInt_mul]
  congr 1
  apply BitVec.eq_of_toNat_eq
  have h1 : ((2 : Int) ^ k) = ((2 ^ k : Nat) : Int) := by norm_cast
  rw [h1, BitVec.ofInt_natCast, BitVec.toNat_twoPow, BitVec.toNat_ofNat]
theorem jI_shr {k : Nat} (hk : k < 32) (h1 : -2147483648 ≤ a) (h2 : a < 2147483648) : jshr (jI a) (jI (k : Int)) = jI (a / 2 ^ k) := by
  unfold jshr
  have hp : (0 : Int) < 2 ^ k := Int.pow_pos (by decide)
  have h3 : a / 2 ^ k < 2147483648 := by
    rw [Int.ediv_lt_iff_lt_mul hp]
    have : (1 : Int) ≤ 2 ^ k := hp
    omega
  have h4 : -2147483648 ≤ a / 2 ^ k := by
    rw [Int.le_ediv_iff_mul_le hp]
    have : (1 : Int) ≤ 2 ^ k := hp
    omega
  apply Int32.toInt_inj.mp
  rw [jI_toInt h4 h3]
  show (BitVec.sshiftRight (jI a).toBitVec ((jI (k : Int) &&& 31).toBitVec.smod 32).toNat).toInt = _
  rw [j_mask hk, j_ofNat hk, BitVec.toInt_sshiftRight]
  show (jI a).toInt >>> k = _
  rw [jI_toInt h1 h2, Int.shiftRight_eq_div_pow]
  norm_cast
end NUM
theorem nar_b0 : narrow .boolean (.int (jI 0)) = .int (jI 0) := by decide
theorem nar_b1 : narrow .boolean (.int (jI 1)) = .int (jI 1) := by decide
theorem vp_byte (x : Int32) : vp_nar .byte x = ji2b x := rfl
theorem vp_bool0 : vp_nar .boolean (jI 0) = jI 0 := by decide
theorem vp_bool1 : vp_nar .boolean (jI 1) = jI 1 := by decide
theorem nar_char {c : Int} (h : 0 ≤ c ∧ c < 256) : narrow .char (.int (jI c)) = .int (jI c) := by
  have main : ∀ c : Fin 256, (jI ((c : Nat) : Int)).toUInt32.toUInt16.toUInt32.toInt32 = jI ((c : Nat) : Int) := by decide +kernel
  have := main ⟨c.toNat, by omega⟩
  simp only [Int.toNat_of_nonneg h.1] at this
  show Value.int _ = Value.int _
  rw [this]
theorem nar_byte {c : Int} (h : -128 ≤ c ∧ c < 128) : narrow .byte (.int (jI c)) = .int (jI c) := by
  have main : ∀ k : Fin 256, (jI (((k : Nat) : Int) - 128)).toInt8.toInt32 = jI (((k : Nat) : Int) - 128) := by decide +kernel
  have := main ⟨(c + 128).toNat, by omega⟩
  simp only [Int.toNat_of_nonneg (show 0 ≤ c + 128 by omega), show c + 128 - 128 = c by omega] at this
  show Value.int _ = Value.int _
  rw [this]

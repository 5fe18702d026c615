section
theorem pk_sub {a b : Nat} (h : b ≤ a) : nI a - nI b = nI (a - b) := by
  obtain ⟨c, rfl⟩ : ∃ c, a = c + b := ⟨a - b, by omega⟩
  rw [← nI_add, Int32.add_sub_cancel, Nat.add_sub_cancel]
theorem pk_mul (a b : Nat) : nI a * nI b = nI (a * b) := (Int32.ofNat_mul a b).symm
theorem pk_div {a d : Nat} (ha : a < 2 ^ 31) (h0 : 0 < d) (hd : d < 2 ^ 31) : nI a / nI d = nI (a / d) := by
  apply Int32.toInt_inj.mp
  rw [lg_idiv_nonneg (by rw [nI_toInt ha]; omega) (by rw [nI_toInt hd]; omega), nI_toInt ha, nI_toInt hd, nI_toInt (Nat.lt_of_le_of_lt (Nat.div_le_self a d) ha)]
  first | rfl | exact (Int.natCast_ediv _ _).symm
theorem pk_tn {n : Nat} (h : n < 2 ^ 32) : (nI n).toBitVec.toNat = n := Nat.mod_eq_of_lt h
theorem pk_shl (a s : Int32) (k : Nat) (hs : (s.toBitVec.smod 32).toNat = k) : (a <<< s).toBitVec.toNat = a.toBitVec.toNat * 2 ^ k % 2 ^ 32 := by
  show (a.toBitVec <<< (s.toBitVec.smod 32).toNat).toNat = _
  rw [hs, BitVec.toNat_shiftLeft, Nat.shiftLeft_eq]
theorem pk_ns (z : Int32) : narrow .short (.int z.toInt16.toInt32) = .int z.toInt16.toInt32 := congrArg Value.int (by simp)
theorem pk_fs (r : Int32) : fits .short (.int r.toInt16.toInt32) = true := by
  have ⟨a, b⟩ := lg_i2s_range r
  have h1 : (-32768 : Int32).toInt = -32768 := by decide
  have h2 : (32767 : Int32).toInt = 32767 := by decide
  simp only [fits, Bool.and_eq_true, decide_eq_true_eq, Int32.le_iff_toInt_le, h1, h2]
  omega
theorem wb_tb (n : Nat) : (lN n).toBitVec = BitVec.ofNat 64 n := rfl
theorem wb_inj {a b : Int64} (h : a.toBitVec = b.toBitVec) : a = b := Int64.toBitVec_inj.mp h
theorem wb_c : ∀ k, k < 64 → ((nI k).toInt64 &&& 63) = lN k := by decide +kernel
theorem wb_sm : ∀ k, k < 64 → (BitVec.ofNat 64 k).smod 64 = BitVec.ofNat 64 k := by decide +kernel
theorem wb_lt2 {a b : Nat} (h : a < b) : 2 ^ a < 2 ^ b := Nat.pow_lt_pow_right (by decide) h
theorem wb_shl (n : Nat) {k : Nat} (hk : k < 64) : lN n <<< ((nI k).toInt64 &&& 63) = lN (n * 2 ^ k) := by
  rw [wb_c k hk]
  apply wb_inj
  rw [Int64.toBitVec_shiftLeft, wb_tb, wb_tb, wb_tb, wb_sm k hk]
  apply BitVec.eq_of_toNat_eq
  rw [BitVec.shiftLeft_eq', BitVec.toNat_shiftLeft, BitVec.toNat_ofNat, BitVec.toNat_ofNat, BitVec.toNat_ofNat, Nat.mod_eq_of_lt (show k < 2 ^ 64 by omega), Nat.shiftLeft_eq, Nat.mul_mod, Nat.mod_mod, ← Nat.mul_mod]
theorem wb_and {a b : Nat} (ha : a < 2 ^ 64) (hb : b < 2 ^ 64) : lN a &&& lN b = lN (a &&& b) := by
  apply wb_inj
  rw [Int64.toBitVec_and, wb_tb, wb_tb, wb_tb]
  apply BitVec.eq_of_toNat_eq
  rw [BitVec.toNat_and, BitVec.toNat_ofNat, BitVec.toNat_ofNat, BitVec.toNat_ofNat, Nat.mod_eq_of_lt ha, Nat.mod_eq_of_lt hb, Nat.mod_eq_of_lt (Nat.and_lt_two_pow _ hb)]
theorem wb_mask {n k : Nat} (hn : n < 2 ^ 64) (hk : k < 64) : lN n &&& lN (2 ^ k - 1) = lN (n % 2 ^ k) := by
  rw [wb_and hn (by have := wb_lt2 hk; omega), Nat.and_two_pow_sub_one_eq_mod]
theorem u_tn {n : Nat} (h : n < 2 ^ 64) : (UInt64.ofNat n).toNat = n := Nat.mod_eq_of_lt h
theorem g_or {k p a b : Nat} (hp : 2 ^ k = p) (ha : a < p) (h : b * p + a < 2 ^ 64) : lN (b * p) ||| lN a = lN (b * p + a) := by
  subst hp
  have h1 : b * 2 ^ k ||| a = b * 2 ^ k + a := by rw [← Nat.shiftLeft_eq, Nat.shiftLeft_add_eq_or_of_lt ha]
  have h3 : UInt64.ofNat (b * 2 ^ k) ||| UInt64.ofNat a = UInt64.ofNat (b * 2 ^ k + a) := UInt64.toNat_inj.mp (by rw [UInt64.toNat_or, u_tn (by omega), u_tn (by omega), u_tn h, h1])
  have h2 := congrArg UInt64.toInt64 h3
  exact h2
theorem lN_bv (n : Nat) : (lN n).toBitVec = BitVec.ofNat 64 n := rfl
theorem lN_nat {n : Nat} (h : n < 2 ^ 64) : (lN n).toBitVec.toNat = n := by rw [lN_bv, BitVec.toNat_ofNat]; exact Nat.mod_eq_of_lt h
theorem lN_ti {m : Nat} (h : m < 2 ^ 64) : (lN m).toInt = if m < 2 ^ 63 then (m : Int) else (m : Int) - 2 ^ 64 := by
  have c := BitVec.toInt_eq_toNat_cond (lN m).toBitVec
  rw [lN_nat h] at c
  show (lN m).toBitVec.toInt = _
  rw [c]
  split <;> split <;> omega
end
section
/-! the mask against the floor: plain rows about ints, no program in sight -/
/-- a short, shifted up by 32768, is a natural below 65536 -/
theorem bc_held {H : Int32} (h1 : -32768 ≤ H.toInt) (h2 : H.toInt < 32768) : ∃ w : Nat, w < 65536 ∧ H + 32768 = nI w ∧ H.toBitVec.toNat = (w + 4294934528) % 4294967296 := by
  refine ⟨(H.toInt + 32768).toNat, by omega, ?_, ?_⟩
  · apply Int32.toInt_inj.mp
    have e : (32768 : Int32).toInt = 32768 := by decide
    rw [Jvm.Kit.i32_add (by rw [e]; omega) (by rw [e]; omega), e, nI_toInt (by omega)]
    omega
  · have c := BitVec.toInt_eq_toNat_cond H.toBitVec
    have e : H.toBitVec.toInt = H.toInt := rfl
    have l := H.toBitVec.isLt
    rw [e] at c
    split at c <;> omega
theorem bc_bits (x : BitVec 32) (s : Nat) : x &&& (BitVec.allOnes 32 <<< s) = (x >>> s) <<< s := by
  apply BitVec.eq_of_getLsbD_eq
  intro i hi
  rw [BitVec.getLsbD_and, BitVec.getLsbD_shiftLeft, BitVec.getLsbD_shiftLeft, BitVec.getLsbD_allOnes, BitVec.getLsbD_ushiftRight]
  rcases Nat.lt_or_ge i s with h | h
  · rw [decide_eq_true h]; simp
  · rw [show s + (i - s) = i by omega, decide_eq_true (show i - s < 32 by omega), decide_eq_true hi, decide_eq_false (show ¬ i < s by omega)]
    simp
/-- 'and' with -1 << s clears the s low bits -/
theorem bc_and (x t : Int32) (s : Nat) (ht : (t.toBitVec.smod 32).toNat = s) : (x &&& ((-1 : Int32) <<< t)).toBitVec.toNat = x.toBitVec.toNat / 2 ^ s * 2 ^ s := by
  have e0 : (-1 : Int32).toBitVec = BitVec.allOnes 32 := by decide
  have e : (x &&& ((-1 : Int32) <<< t)).toBitVec = x.toBitVec &&& (BitVec.allOnes 32 <<< (t.toBitVec.smod 32).toNat) := by
    rw [Int32.toBitVec_and, Int32.toBitVec_shiftLeft, e0]
    rfl
  rw [e, ht, bc_bits, BitVec.toNat_shiftLeft, BitVec.toNat_ushiftRight, Nat.shiftLeft_eq, Nat.shiftRight_eq_div_pow]
  exact Nat.mod_eq_of_lt (Nat.lt_of_le_of_lt (Nat.div_mul_le_self _ _) x.toBitVec.isLt)
theorem bc_cnt : ∀ d, d < 17 → 1 ≤ d → (((16 - nI d) &&& 31).toBitVec.smod 32).toNat = 16 - d := by decide +kernel
/-- 32768 is a multiple of 2^s for s below 16: the floor of the shifted value is the shifted floor -/
theorem bc_ar (s w : Nat) (hs : s < 16) (hw : w < 65536) : (w + 4294934528) % 4294967296 / 2 ^ s * 2 ^ s = (w / 2 ^ s * 2 ^ s + 4294934528) % 4294967296 := by
  have c : s = 0 ∨ s = 1 ∨ s = 2 ∨ s = 3 ∨ s = 4 ∨ s = 5 ∨ s = 6 ∨ s = 7 ∨ s = 8 ∨ s = 9 ∨ s = 10 ∨ s = 11 ∨ s = 12 ∨ s = 13 ∨ s = 14 ∨ s = 15 := by omega
  rcases c with rfl | rfl | rfl | rfl | rfl | rfl | rfl | rfl | rfl | rfl | rfl | rfl | rfl | rfl | rfl | rfl <;> omega
theorem bc_sub {q : Nat} (hq : q < 2 ^ 32) : (nI q - 32768).toBitVec.toNat = (q + 4294934528) % 4294967296 := by
  have e : (32768 : Int32).toBitVec.toNat = 32768 := by decide
  rw [Int32.toBitVec_sub, BitVec.toNat_sub, pk_tn hq, e]
  omega
/-- the reference's floor is the component's mask -/
theorem bc_core {H : Int32} (h1 : -32768 ≤ H.toInt) (h2 : H.toInt < 32768) {d : Nat} (hd : 1 ≤ d) (hd' : d ≤ 16) : ((H + 32768) - ((H + 32768) - (H + 32768) / nI (2 ^ (16 - d)) * nI (2 ^ (16 - d)))) - 32768 = H &&& ((-1 : Int32) <<< ((16 - nI d) &&& 31)) := by
  obtain ⟨w, hw, e1, e3⟩ := bc_held h1 h2
  have hp : 2 ^ (16 - d) < 2 ^ 31 := Nat.pow_lt_pow_right (by decide) (by omega)
  have hq : w / 2 ^ (16 - d) * 2 ^ (16 - d) ≤ w := Nat.div_mul_le_self _ _
  rw [e1, pk_div (by omega) (Nat.two_pow_pos _) hp, pk_mul, pk_sub hq, pk_sub (Nat.sub_le _ _), Nat.sub_sub_self hq]
  apply Int32.toBitVec_inj.mp
  apply BitVec.eq_of_toNat_eq
  rw [bc_sub (by omega), bc_and _ _ (16 - d) (bc_cnt d (by omega) hd), e3, bc_ar (16 - d) w (by omega) hw]
/-! the packed word: 'or' of parts that don't overlap is the sum -/
/-- the low 16 bits of a short, as a long -/
theorem bc_hi {H : Int32} (h1 : -32768 ≤ H.toInt) (h2 : H.toInt < 32768) : ∃ q : Nat, q < 65536 ∧ H.toInt64 &&& 65535 = lN q ∧ (0 ≤ H → H.toInt64 = lN q) ∧ (¬ 0 ≤ H → (H + 65536).toInt64 = lN q) := by
  by_cases h : 0 ≤ H
  · obtain ⟨q, hq, rfl⟩ := nI_of (Int32.not_lt.mpr h)
    rw [nI_toInt hq] at h2
    have e := nI_l hq
    refine ⟨q, by omega, ?_, fun _ => e, fun z => absurd h z⟩
    rw [e]
    have m := wb_mask (n := q) (k := 16) (by omega) (by decide)
    exact m.trans (congrArg lN (Nat.mod_eq_of_lt (by omega)))
  · have hn : H.toInt < 0 := by
      have z : (0 : Int32).toInt = 0 := by decide
      rw [Int32.le_iff_toInt_le, z] at h
      omega
    have e6 : (65536 : Int32).toInt = 65536 := by decide
    have e : H.toInt64 = lN (H.toInt + 18446744073709551616).toNat := by
      apply Int64.toInt_inj.mp
      rw [Int32.toInt_toInt64, lN_ti (by omega), if_neg (by omega)]
      omega
    refine ⟨(H.toInt + 65536).toNat, by omega, ?_, fun z => absurd z h, fun _ => ?_⟩
    · rw [e]
      have m := wb_mask (n := (H.toInt + 18446744073709551616).toNat) (k := 16) (by omega) (by decide)
      exact m.trans (congrArg lN (by omega))
    · apply Int64.toInt_inj.mp
      rw [Int32.toInt_toInt64, Jvm.Kit.i32_add (by rw [e6]; omega) (by rw [e6]; omega), e6, lN_ti (by omega), if_pos (by omega)]
      omega
theorem bc_byte {l : Nat} (h : l < 256) : (nI l).toInt64 &&& 255 = lN l := by
  rw [nI_l (by omega)]
  have m := wb_mask (n := l) (k := 8) (by omega) (by decide)
  exact m.trans (congrArg lN (Nat.mod_eq_of_lt (by omega)))
theorem bc_pack {h l o d : Nat} (hh : h < 65536) (hl : l < 256) (ho : o < 256) (hd : d < 256) : (((lN h <<< ((32 : Int32).toInt64 &&& 63)) ||| (lN l <<< ((16 : Int32).toInt64 &&& 63))) ||| (lN o <<< ((8 : Int32).toInt64 &&& 63))) ||| lN d = ((lN h * 4294967296 + lN l * 65536) + lN o * 256) + lN d := by
  have a1 : lN h <<< ((32 : Int32).toInt64 &&& 63) = lN (h * 4294967296) := wb_shl h (k := 32) (by decide)
  have a2 : lN l <<< ((16 : Int32).toInt64 &&& 63) = lN (l * 65536) := wb_shl l (k := 16) (by decide)
  have a3 : lN o <<< ((8 : Int32).toInt64 &&& 63) = lN (o * 256) := wb_shl o (k := 8) (by decide)
  have b1 : lN (h * 4294967296) ||| lN (l * 65536) = lN (h * 4294967296 + l * 65536) := g_or (k := 32) (p := 4294967296) (by decide) (by omega) (by omega)
  have b2 : lN (h * 4294967296 + l * 65536) ||| lN (o * 256) = lN (h * 4294967296 + l * 65536 + o * 256) := by
    have t := g_or (k := 16) (p := 65536) (a := o * 256) (b := h * 65536 + l) (by decide) (by omega) (by omega)
    rw [show (h * 65536 + l) * 65536 = h * 4294967296 + l * 65536 by omega] at t
    exact t
  have b3 : lN (h * 4294967296 + l * 65536 + o * 256) ||| lN d = lN (h * 4294967296 + l * 65536 + o * 256 + d) := by
    have t := g_or (k := 8) (p := 256) (a := d) (b := h * 16777216 + l * 256 + o) (by decide) (by omega) (by omega)
    rw [show (h * 16777216 + l * 256 + o) * 256 = h * 4294967296 + l * 65536 + o * 256 by omega] at t
    exact t
  have c1 : lN h * 4294967296 = lN (h * 4294967296) := lN_mul h 4294967296
  have c2 : lN l * 65536 = lN (l * 65536) := lN_mul l 65536
  have c3 : lN o * 256 = lN (o * 256) := lN_mul o 256
  rw [a1, a2, a3, b1, b2, b3, c1, c2, c3, lN_add, lN_add, lN_add]
end
section
/-! the reference's loop of doublings, then what is owed -/
theorem bc_loop {post : Int32 → SY → Prop} {H l o D : Int32} : ∀ e j s : Nat, j + e = 16 → wY_process_34 post H l o D 1 (nI (s * 2 ^ e)) 16 → wY_process_34 post H l o D (e + 1) (nI s) (nI j) := by
  intro e
  induction e with
  | zero =>
    intro j s hj h
    have e : j = 16 := by omega
    subst e
    rw [Nat.pow_zero, Nat.mul_one] at h
    exact h
  | succ e ih =>
    intro j s hj h
    refine br_f (nI_ge (b := 16) (by omega) (by decide)) (nm_r (pk_mul s 2) (nm_r (nI_1 j) (ih (j + 1) (s * 2) (by omega) ?_)))
    rw [Nat.mul_assoc, ← Nat.pow_succ']
    exact h
theorem bc_Y {post : Int32 → SY → Prop} {x l o : Int32} {d : Nat} (hd : 1 ≤ d) (hd' : d ≤ 16) (h : post ((lw_i16 x &&& ((-1 : Int32) <<< ((16 - nI d) &&& 31))).toInt16.toInt32) (lw_i16 x, l, o, nI d)) : ∃ n : Nat, wY_process_34 post (lw_i16 x) l o (nI d) n 1 (nI d) := by
  have hp : 2 ^ (16 - d) < 2 ^ 31 := Nat.pow_lt_pow_right (by decide) (by omega)
  refine ⟨16 - d + 1, bc_loop (16 - d) d 1 (by omega) ?_⟩
  rw [Nat.one_mul]
  refine br_t (by decide) (nm_e ⟨nI_ne0 (Nat.two_pow_pos _) hp, pk_ns _, ?_⟩)
  rw [bc_core (lw_i16_r x).1 (lw_i16_r x).2 hd hd']
  exact h
/-- both objects hold the same four fields: a short, a countdown to 64, a hold of 1 to 64, a depth of 1 to 16 -/
def i_Rel (_ : Nat) (u : SX) (v : SY) : Prop := ∃ (x : Int32) (l o d : Nat), u = (lw_i16 x, nI l, nI o, nI d) ∧ v = (lw_i16 x, nI l, nI o, nI d) ∧ l ≤ 64 ∧ 1 ≤ o ∧ o ≤ 64 ∧ 1 ≤ d ∧ d ≤ 16
theorem i_up {k : Nat} {u : SX} {v : SY} (h : i_Rel k u v) : i_Rel (k + 2) u v := h
theorem bc_0 : ((0, 0, 1, 16) : SX) = (lw_i16 0, nI 0, nI 1, nI 16) := by decide
theorem i_vc0 : wpX_init (fun u => wpY_init (fun v => i_Rel 0 u v)) := ⟨0, 0, 1, 16, bc_0, bc_0, by omega, by omega, by omega, by omega, by omega⟩
theorem i_vc_process {k : Nat} {u : SX} {v : SY} (I : i_Rel k u v) (hk : k + 2 ≤ 1024) (v1 : Int32) : wpX_process (fun r u' => wpY_process (fun r' v' => r' = r ∧ i_Rel (k + 2) u' v') v (lw_i16 v1)) u (lw_i16 v1) := by
  obtain ⟨x, l, o, d, rfl, rfl, hl, ho, ho', hd, hd'⟩ := I
  by_cases hc : (0 : Int32) < nI l - 1
  · have hl1 : ∃ m, l = m + 1 := by
      cases l with
      | zero => exact absurd hc (by decide)
      | succ m => exact ⟨m, rfl⟩
    obtain ⟨m, rfl⟩ := hl1
    intro f ef
    refine br_t (by rw [ef]; exact hc) (And.intro (pk_ns _) ?_)
    intro g eg
    refine br_t hc (bc_Y hd hd' ⟨rfl, x, m, o, d, ?_, ?_, by omega, ho, ho', hd, hd'⟩)
    · rw [ef, nI_pred]
    · rw [eg, nI_pred]
  · intro f ef
    refine br_f (by rw [ef]; exact hc) (And.intro (lw_i16_n v1) (And.intro (pk_fs v1) (And.intro (pk_ns _) ?_)))
    intro g eg
    exact br_f hc (And.intro (lw_i16_n v1) (And.intro (pk_fs v1) (bc_Y hd hd' ⟨rfl, v1, o, o, d, rfl, rfl, ho', ho, ho', hd, hd'⟩)))
theorem bc_rng {x M : Int32} {n : Nat} (hM : M.toInt = n) (h1 : 1 ≤ x) (h2 : x ≤ M) : ∃ j : Nat, 1 ≤ j ∧ j ≤ n ∧ x = nI j := by
  have z0 : (0 : Int32).toInt = 0 := by decide
  have z1 : (1 : Int32).toInt = 1 := by decide
  rw [Int32.le_iff_toInt_le, z1] at h1
  obtain ⟨j, hj, e⟩ := nI_of2 hM (by rw [Int32.lt_iff_toInt_lt, z0]; omega) h2
  refine ⟨j, ?_, hj, e⟩
  cases j with
  | zero => rw [e, nI_0, z0] at h1; omega
  | succ j => omega
theorem i_vc_setDepth {k : Nat} {u : SX} {v : SY} (I : i_Rel k u v) (hk : k + 2 ≤ 1024) (v1 : Int32) : wpX_setDepth (fun r u' => wpY_setDepth (fun r' v' => r' = r ∧ i_Rel (k + 2) u' v') v v1) u v1 := by
  obtain ⟨x, l, o, d, rfl, rfl, hl, ho, ho', hd, hd'⟩ := I
  by_cases h1 : 1 ≤ v1
  · by_cases h2 : v1 ≤ 16
    · obtain ⟨j, a, b, rfl⟩ := bc_rng (n := 16) (by decide) h1 h2
      exact br_t h1 (br_t h2 (br_t h1 (br_t h2 ⟨rfl, x, l, o, j, rfl, rfl, hl, ho, ho', a, b⟩)))
    · exact br_t h1 (br_f h2 (br_t h1 (br_f h2 ⟨rfl, x, l, o, 16, rfl, rfl, hl, ho, ho', by omega, by omega⟩)))
  · exact br_f h1 (br_f h1 ⟨rfl, x, l, o, 1, rfl, rfl, hl, ho, ho', by omega, by omega⟩)
theorem i_vc_setHold {k : Nat} {u : SX} {v : SY} (I : i_Rel k u v) (hk : k + 2 ≤ 1024) (v1 : Int32) : wpX_setHold (fun r u' => wpY_setHold (fun r' v' => r' = r ∧ i_Rel (k + 2) u' v') v v1) u v1 := by
  obtain ⟨x, l, o, d, rfl, rfl, hl, ho, ho', hd, hd'⟩ := I
  by_cases h1 : 1 ≤ v1
  · by_cases h2 : v1 ≤ 64
    · obtain ⟨j, a, b, rfl⟩ := bc_rng (n := 64) (by decide) h1 h2
      exact br_t h1 (br_t h2 (br_t h1 (br_t h2 ⟨rfl, x, l, j, d, rfl, rfl, hl, a, b, hd, hd'⟩)))
    · exact br_t h1 (br_f h2 (br_t h1 (br_f h2 ⟨rfl, x, l, 64, d, rfl, rfl, hl, by omega, by omega, hd, hd'⟩)))
  · exact br_f h1 (br_f h1 ⟨rfl, x, l, 1, d, rfl, rfl, hl, by omega, by omega, hd, hd'⟩)
theorem i_vc_state {k : Nat} {u : SX} {v : SY} (I : i_Rel k u v) (hk : k + 2 ≤ 1024) : wpX_state (fun r => wpY_state (fun r' => r' = r ∧ i_Rel (k + 2) u v) v) u := by
  have I' : i_Rel (k + 2) u v := I
  obtain ⟨x, l, o, d, rfl, rfl, hl, ho, ho', hd, hd'⟩ := I
  obtain ⟨q, hq, e1, e2, e3⟩ := bc_hi (lw_i16_r x).1 (lw_i16_r x).2
  have p := bc_pack hq (show l < 256 by omega) (show o < 256 by omega) (show d < 256 by omega)
  intro a ea b eb c ec e ee
  rw [e1] at ea
  rw [bc_byte (by omega)] at eb ec ee
  by_cases h : 0 ≤ lw_i16 x
  · refine br_t h (And.intro ?_ I')
    rw [e2 h, nI_l (by omega), nI_l (by omega), nI_l (by omega), ea, eb, ec, ee]
    exact p.symm
  · refine br_f h (And.intro ?_ I')
    rw [e3 h, nI_l (by omega), nI_l (by omega), nI_l (by omega), ea, eb, ec, ee]
    exact p.symm
end

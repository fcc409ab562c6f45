section
/-! rows taken from the rows to paste: stores, nI and lN arithmetic, masks, shifts -/
theorem pk_us {f : Nat → Int32} {k : Nat} {x : Int32} : upd f k x k = x := if_pos rfl
theorem pk_un {f : Nat → Int32} {k j : Nat} {x : Int32} (h : j ≠ k) : upd f k x j = f j := if_neg h
theorem pk_sub {a b : Nat} (h : b ≤ a) : nI a - nI b = nI (a - b) := by
  obtain ⟨c, rfl⟩ : ∃ c, a = c + b := ⟨a - b, by omega⟩
  rw [← nI_add, Int32.add_sub_cancel, Nat.add_sub_cancel]
theorem pk_mul (a b : Nat) : nI a * nI b = nI (a * b) := (Int32.ofNat_mul a b).symm
theorem pk_div {a d : Nat} (ha : a < 2 ^ 31) (h0 : 0 < d) (hd : d < 2 ^ 31) : nI a / nI d = nI (a / d) := by
  apply Int32.toInt_inj.mp
  rw [lg_idiv_nonneg (by rw [nI_toInt ha]; omega) (by rw [nI_toInt hd]; omega), nI_toInt ha, nI_toInt hd, nI_toInt (Nat.lt_of_le_of_lt (Nat.div_le_self a d) ha)]
  first | rfl | exact (Int.natCast_ediv _ _).symm
theorem pk_rem {a d : Nat} (ha : a < 2 ^ 31) (h0 : 0 < d) (hd : d < 2 ^ 31) : nI a - nI a / nI d * nI d = nI (a % d) := by
  rw [pk_div ha h0 hd, pk_mul, pk_sub (Nat.div_mul_le_self a d)]
  exact congrArg nI (by have := Nat.div_add_mod' a d; omega)
theorem pk_tn {n : Nat} (h : n < 2 ^ 32) : (nI n).toBitVec.toNat = n := Nat.mod_eq_of_lt h
theorem pk_and (x : Int32) {m : Int32} (k : Nat) (hm : m.toBitVec.toNat = 2 ^ k - 1) : x &&& m = nI (x.toBitVec.toNat % 2 ^ k) := by
  apply Int32.toBitVec_inj.mp
  apply BitVec.eq_of_toNat_eq
  rw [Int32.toBitVec_and, BitVec.toNat_and, hm, Nat.and_two_pow_sub_one_eq_mod]
  show _ = (BitVec.ofNat 32 _).toNat
  rw [BitVec.toNat_ofNat]
  exact (Nat.mod_eq_of_lt (Nat.lt_of_le_of_lt (Nat.mod_le _ _) x.toBitVec.isLt)).symm
theorem pk_charN {q : Nat} (hq : q < 65536) : narrow .char (.int (nI q)) = .int (nI q) ∧ fits .char (.int (nI q)) = true := by
  constructor
  · have e : (nI q).toUInt32.toUInt16.toUInt32.toInt32 = nI q := by
      apply Int32.toBitVec_inj.mp
      apply BitVec.eq_of_toNat_eq
      show (nI q).toUInt32.toUInt16.toUInt32.toNat = q % 2 ^ 32
      rw [UInt16.toNat_toUInt32, UInt32.toNat_toUInt16, show (nI q).toUInt32.toNat = q % 2 ^ 32 from rfl]
      omega
    exact congrArg Value.int e
  · have a : (0 : Int32) ≤ nI q := nI_pos' (by omega)
    have b : nI q ≤ 65535 := nI_le (b := 65535) (by omega) (by decide)
    show (decide ((0 : Int32) ≤ nI q) && decide (nI q ≤ 65535)) = true
    rw [decide_eq_true a, decide_eq_true b]
    rfl
theorem pk_char (x : Int32) : (x.toUInt32 % 65536).toInt32 = nI (x.toBitVec.toNat % 65536) := by
  apply Int32.toBitVec_inj.mp
  apply BitVec.eq_of_toNat_eq
  rw [pk_tn (by omega)]
  show (x.toUInt32 % 65536).toNat = _
  rw [UInt32.toNat_mod]
  rfl
theorem pk_nc (x : Int32) : narrow .char (.int (x.toUInt32 % 65536).toInt32) = .int (x.toUInt32 % 65536).toInt32 := by
  rw [pk_char]
  exact (pk_charN (Nat.mod_lt _ (by decide))).1
theorem pk_vc (z : Int32) : vp_nar .char (z.toUInt32 % 65536).toInt32 = (z.toUInt32 % 65536).toInt32 := Value.int.inj (pk_nc z)
theorem pk_lT {n : Nat} (h : n < 2 ^ 63) : (lN n).toInt = (n : Int) := lg_ofNat_toInt h
theorem pk_lLT {a b : Nat} (ha : a < 2 ^ 63) (hb : b < 2 ^ 63) : lN a < lN b ↔ a < b := by
  rw [Int64.lt_iff_toInt_lt, pk_lT ha, pk_lT hb]; omega
theorem pk_lLE {a b : Nat} (ha : a < 2 ^ 63) (hb : b < 2 ^ 63) : lN a ≤ lN b ↔ a ≤ b := by
  rw [Int64.le_iff_toInt_le, pk_lT ha, pk_lT hb]; omega
theorem pk_lEQ {a b : Nat} (ha : a < 2 ^ 63) (hb : b < 2 ^ 63) : lN a = lN b ↔ a = b := by
  rw [← Int64.toInt_inj, pk_lT ha, pk_lT hb]; omega
theorem wb_tb (n : Nat) : (lN n).toBitVec = BitVec.ofNat 64 n := rfl
theorem wb_inj {a b : Int64} (h : a.toBitVec = b.toBitVec) : a = b := Int64.toBitVec_inj.mp h
theorem wb_tn {n : Nat} (h : n < 2 ^ 64) : (lN n).toBitVec.toNat = n := by rw [wb_tb, BitVec.toNat_ofNat, Nat.mod_eq_of_lt h]
theorem wb_c : ∀ k, k < 64 → ((nI k).toInt64 &&& 63) = lN k := by decide +kernel
theorem wb_cu : ∀ k, k < 64 → ((nI k).toInt64.toUInt64 &&& Int64.toUInt64 63) = UInt64.ofNat k := by decide +kernel
theorem wb_sm : ∀ k, k < 64 → (BitVec.ofNat 64 k).smod 64 = BitVec.ofNat 64 k := by decide +kernel
theorem wb_lt2 {a b : Nat} (h : a < b) : 2 ^ a < 2 ^ b := Nat.pow_lt_pow_right (by decide) h
theorem wb_shr {n k : Nat} (hn : n < 2 ^ 64) (hk : k < 64) : ((lN n).toUInt64 >>> ((nI k).toInt64.toUInt64 &&& Int64.toUInt64 63)).toInt64 = lN (n / 2 ^ k) := by
  rw [wb_cu k hk]
  apply wb_inj
  apply BitVec.eq_of_toNat_eq
  show ((lN n).toUInt64 >>> UInt64.ofNat k).toNat = (BitVec.ofNat 64 _).toNat
  have h1 : (UInt64.ofNat k).toNat = k := by
    show (BitVec.ofNat 64 k).toNat = k
    rw [BitVec.toNat_ofNat, Nat.mod_eq_of_lt (by omega)]
  have h2 : (lN n).toUInt64.toNat = n := wb_tn hn
  rw [UInt64.toNat_shiftRight, h1, h2, Nat.mod_eq_of_lt hk, Nat.shiftRight_eq_div_pow, BitVec.toNat_ofNat, Nat.mod_eq_of_lt (Nat.lt_of_le_of_lt (Nat.div_le_self _ _) hn)]
theorem wb_shl (n : Nat) {k : Nat} (hk : k < 64) : lN n <<< ((nI k).toInt64 &&& 63) = lN (n * 2 ^ k) := by
  rw [wb_c k hk]
  apply wb_inj
  rw [Int64.toBitVec_shiftLeft, wb_tb, wb_tb, wb_tb, wb_sm k hk]
  apply BitVec.eq_of_toNat_eq
  rw [BitVec.shiftLeft_eq', BitVec.toNat_shiftLeft, BitVec.toNat_ofNat, BitVec.toNat_ofNat, BitVec.toNat_ofNat, Nat.mod_eq_of_lt (show k < 2 ^ 64 by omega), Nat.shiftLeft_eq, Nat.mul_mod, Nat.mod_mod, ← Nat.mul_mod]
theorem wb_and {a b : Nat} (ha : a < 2 ^ 64) (hb : b < 2 ^ 64) : lN a &&& lN b = lN (a &&& b) := by
  apply wb_inj
  rw [Int64.toBitVec_and, wb_tb, wb_tb, wb_tb]
  apply BitVec.eq_of_toNat_eq
  rw [BitVec.toNat_and, BitVec.toNat_ofNat, BitVec.toNat_ofNat, BitVec.toNat_ofNat, Nat.mod_eq_of_lt ha, Nat.mod_eq_of_lt hb, Nat.mod_eq_of_lt (Nat.and_lt_two_pow _ hb)]
theorem wb_or {a b : Nat} (ha : a < 2 ^ 64) (hb : b < 2 ^ 64) : lN a ||| lN b = lN (a ||| b) := by
  apply wb_inj
  rw [Int64.toBitVec_or, wb_tb, wb_tb, wb_tb]
  apply BitVec.eq_of_toNat_eq
  rw [BitVec.toNat_or, BitVec.toNat_ofNat, BitVec.toNat_ofNat, BitVec.toNat_ofNat, Nat.mod_eq_of_lt ha, Nat.mod_eq_of_lt hb, Nat.mod_eq_of_lt (Nat.or_lt_two_pow ha hb)]
theorem wb_mask {n k : Nat} (hn : n < 2 ^ 64) (hk : k < 64) : lN n &&& lN (2 ^ k - 1) = lN (n % 2 ^ k) := by
  rw [wb_and hn (by have := wb_lt2 hk; omega), Nat.and_two_pow_sub_one_eq_mod]
theorem u_tn {n : Nat} (h : n < 2 ^ 64) : (UInt64.ofNat n).toNat = n := Nat.mod_eq_of_lt h
theorem g_or {k p a b : Nat} (hp : 2 ^ k = p) (ha : a < p) (h : b * p + a < 2 ^ 64) : lN (b * p) ||| lN a = lN (b * p + a) := by
  subst hp
  have h1 : b * 2 ^ k ||| a = b * 2 ^ k + a := by rw [← Nat.shiftLeft_eq, Nat.shiftLeft_add_eq_or_of_lt ha]
  have h3 : UInt64.ofNat (b * 2 ^ k) ||| UInt64.ofNat a = UInt64.ofNat (b * 2 ^ k + a) := UInt64.toNat_inj.mp (by rw [UInt64.toNat_or, u_tn (by omega), u_tn (by omega), u_tn h, h1])
  have h2 := congrArg UInt64.toInt64 h3
  exact h2
theorem g_or' {k p a b : Nat} (hp : 2 ^ k = p) (ha : a < p) (h : a + b * p < 2 ^ 64) : lN a ||| lN (b * p) = lN (a + b * p) := by
  rw [Int64.or_comm, g_or hp ha (by omega), Nat.add_comm]
end
section
/-! the magnitude M below 2^48 as three limbs; reading it, writing it, the operand -/
def sa_At (M : Nat) (f : Nat → Int32) : Prop := M < 281474976710656 ∧ f 0 = nI (M % 65536) ∧ f 1 = nI (M / 65536 % 65536) ∧ f 2 = nI (M / 4294967296 % 65536)
def sa_W (M : Nat) (f : Nat → Int32) : Nat → Int32 := upd (upd (upd f 0 (nI (M % 65536))) 1 (nI (M / 65536 % 65536))) 2 (nI (M / 4294967296 % 65536))
theorem sa_WAt {M : Nat} {f : Nat → Int32} (h : M < 281474976710656) : sa_At M (sa_W M f) := by
  refine ⟨h, ?_, ?_, ?_⟩
  · exact (pk_un (by decide)).trans ((pk_un (by decide)).trans pk_us)
  · exact (pk_un (by decide)).trans pk_us
  · exact pk_us
theorem sa_Wid {M : Nat} {f : Nat → Int32} (h : sa_At M f) : sa_W M f = f := by
  obtain ⟨_, h0, h1, h2⟩ := h
  funext j
  unfold sa_W
  by_cases e2 : j = 2
  · subst e2; rw [pk_us, h2]
  · rw [pk_un e2]
    by_cases e1 : j = 1
    · subst e1; rw [pk_us, h1]
    · rw [pk_un e1]
      by_cases e0 : j = 0
      · subst e0; rw [pk_us, h0]
      · rw [pk_un e0]
theorem sa_read {M : Nat} {f : Nat → Int32} (h : sa_At M f) : (((f 0).toInt64) ||| (((f 1).toInt64) <<< ((16 : Int32).toInt64 &&& 63))) ||| (((f 2).toInt64) <<< ((32 : Int32).toInt64 &&& 63)) = lN M := by
  obtain ⟨hM, h0, h1, h2⟩ := h
  rw [h0, h1, h2, nI_l (by omega), nI_l (by omega), nI_l (by omega), show ((16 : Int32).toInt64 &&& 63) = ((nI 16).toInt64 &&& 63) from rfl, show ((32 : Int32).toInt64 &&& 63) = ((nI 32).toInt64 &&& 63) from rfl, wb_shl _ (k := 16) (by decide), wb_shl _ (k := 32) (by decide), g_or' (k := 16) rfl (by omega) (by omega), g_or' (k := 32) rfl (by omega) (by omega)]
  exact congrArg lN (by omega)
theorem sa_pw {d q : Nat} (hd : d < 65536) (hq : q < 3) : d * 2 ^ (16 * q) < 281474976710656 ∧ (d = 0 ↔ d * 2 ^ (16 * q) = 0) := by
  rcases (by omega : q = 0 ∨ q = 1 ∨ q = 2) with rfl | rfl | rfl <;> omega
theorem sa_op (v p : Int32) : ∃ d P q : Nat, d < 65536 ∧ P < 281474976710656 ∧ (d = 0 ↔ P = 0) ∧ v &&& 65535 = nI d ∧ (p &&& 2147483647) - (p &&& 2147483647) / 3 * 3 = nI q ∧ (nI d).toInt64 <<< ((16 * nI q).toInt64 &&& 63) = lN P := by
  have hd : v.toBitVec.toNat % 2 ^ 16 < 65536 := by omega
  have hq : p.toBitVec.toNat % 2 ^ 31 % 3 < 3 := Nat.mod_lt _ (by decide)
  have hm : p.toBitVec.toNat % 2 ^ 31 < 2 ^ 31 := Nat.mod_lt _ (by decide)
  obtain ⟨h1, h2⟩ := sa_pw hd hq
  refine ⟨_, _, p.toBitVec.toNat % 2 ^ 31 % 3, hd, h1, h2, pk_and v 16 (by decide), ?_, ?_⟩
  · rw [pk_and p 31 (by decide)]
    exact pk_rem (d := 3) hm (by decide) (by decide)
  · rw [nI_l (by omega), show (16 : Int32) * nI (p.toBitVec.toNat % 2 ^ 31 % 3) = nI (16 * (p.toBitVec.toNat % 2 ^ 31 % 3)) from pk_mul 16 _, wb_shl _ (by omega)]
theorem sa_x0 {R : Nat} (h : R < 281474976710656) : (lN R &&& 65535).toInt32 = nI (R % 65536) := by
  rw [show lN R &&& 65535 = lN (R % 2 ^ 16) from wb_mask (k := 16) (by omega) (by decide), lN_i]
theorem sa_s1 {R : Nat} (h : R < 281474976710656) : ((lN R).toUInt64 >>> ((16 : Int32).toInt64.toUInt64 &&& Int64.toUInt64 63)).toInt64 = lN (R / 65536) := wb_shr (k := 16) (by omega) (by decide)
theorem sa_s2 {R : Nat} (h : R < 281474976710656) : ((lN R).toUInt64 >>> ((32 : Int32).toInt64.toUInt64 &&& Int64.toUInt64 63)).toInt64 = lN (R / 4294967296) := wb_shr (k := 32) (by omega) (by decide)
theorem sa_ch (R : Nat) : vp_nar .char (((lN R).toInt32.toUInt32 % 65536).toInt32) = nI (R % 65536) := by
  rw [pk_vc, lN_i, pk_char, show (nI R).toBitVec.toNat = R % 2 ^ 32 from rfl]
  exact congrArg nI (by omega)
/-! signed numbers: a sign z and a magnitude N -/
def sa_sg (z : Int32) (N : Nat) (x : Int64) : Prop := (z = 1 ∧ x = lN N) ∨ (z = -1 ∧ x = -(lN N))
theorem sa_pm {a b : Nat} (h : b ≤ a) : -(lN b) + lN a = lN (a - b) := by
  rw [← lN_sub h, Int64.add_comm, Int64.sub_eq_add_neg]
theorem sa_pn {a b : Nat} (h : b ≤ a) : -(lN a) + lN b = -(lN (a - b)) := by
  rw [← lN_sub h, Int64.neg_sub, Int64.add_comm, Int64.sub_eq_add_neg]
theorem sa_mn {a b : Nat} (h : b ≤ a) : lN b - lN a = -(lN (a - b)) := by
  rw [← lN_sub h, Int64.neg_sub]
theorem sa_mm (a b : Nat) : -(lN a) - lN b = -(lN (a + b)) := by
  rw [← lN_add, Int64.neg_add]
theorem sa_m0 (b : Nat) : lN 0 - lN b = -(lN (0 + b)) := by
  rw [Nat.zero_add]; exact Int64.zero_sub _
theorem sa_z0 : (0 : Int32).toInt64 * lN 0 = lN 0 := by decide
theorem sa_z1 (M : Nat) : (1 : Int32).toInt64 * lN M = lN M := by
  rw [show (1 : Int32).toInt64 = 1 from by decide, Int64.one_mul]
theorem sa_zm (M : Nat) : (-1 : Int32).toInt64 * lN M = -(lN M) := by
  rw [show (-1 : Int32).toInt64 = -1 from by decide, Int64.neg_mul, Int64.one_mul]
end
section
/-! one outcome for both sides: the magnitude N (below 2^49) before the cut, the sign z -/
def sa_s (R : Nat) (z : Int32) : Int32 := if R = 0 then 0 else z
def sa_o (N : Nat) (o : Int32) : Int32 := if N < 281474976710656 then o else 1
def sa_G (post : Int32 → SX → Prop) (N : Nat) (z o : Int32) (f : Nat → Int32) : Prop := post (sa_s (N % 281474976710656) z) (sa_s (N % 281474976710656) z, sa_o N o, sa_W (N % 281474976710656) f)
theorem sa_lz {R : Nat} (h : R < 281474976710656) : lN R = 0 ↔ R = 0 := pk_lEQ (b := 0) (by omega) (by decide)
/-! the component -/
theorem sa_X181 {post : Int32 → SX → Prop} {R : Nat} {z s o : Int32} {f : Nat → Int32} (hR : R < 281474976710656) (h : post z (z, o, sa_W R f)) : wX_add_181 post (lN R) z s o f := by
  unfold wX_add_181
  intro a ea b eb c ec
  have e : c = sa_W R f := by
    rw [ec, eb, ea, sa_s1 hR, sa_s2 hR, sa_x0 hR, sa_x0 (R := R / 65536) (by omega), sa_x0 (R := R / 4294967296) (by omega)]
    rfl
  rw [e]
  exact h
theorem sa_X171 {post : Int32 → SX → Prop} {R : Nat} {z s o : Int32} {f : Nat → Int32} (hR : R < 281474976710656) (h : post (sa_s R z) (sa_s R z, o, sa_W R f)) : wX_add_171 post (lN R) z s o f := by
  unfold wX_add_171
  by_cases e : R = 0
  · rw [show sa_s R z = 0 from if_pos e] at h
    exact br_t ((sa_lz hR).mpr e) (sa_X181 hR h)
  · rw [show sa_s R z = z from if_neg e] at h
    exact br_f (fun q => e ((sa_lz hR).mp q)) (sa_X181 hR h)
theorem sa_X171G {post : Int32 → SX → Prop} {R : Nat} {z s o : Int32} {f : Nat → Int32} (hR : R < 281474976710656) (h : sa_G post R z o f) : wX_add_171 post (lN R) z s o f := by
  unfold sa_G at h
  rw [Nat.mod_eq_of_lt hR, show sa_o R o = o from if_pos hR] at h
  exact sa_X171 hR h
theorem sa_X102 {post : Int32 → SX → Prop} {M P : Nat} {z s o : Int32} {f : Nat → Int32} (hM : M < 281474976710656) (hP : P < 281474976710656) (h : sa_G post (M + P) z o f) : wX_add_102 post z 281474976710655 (lN M) (lN P) s o f := by
  have em : ∀ y : Int64, y = lN (M + P) &&& 281474976710655 → y = lN ((M + P) % 281474976710656) := fun y ey => ey.trans (wb_mask (k := 48) (by omega) (by decide))
  have hR : (M + P) % 281474976710656 < 281474976710656 := Nat.mod_lt _ (by decide)
  have hl : lN (M + P) ≤ 281474976710655 ↔ M + P ≤ 281474976710655 := pk_lLE (b := 281474976710655) (by omega) (by decide)
  unfold sa_G at h
  unfold wX_add_102
  intro x ex
  rw [lN_add] at ex
  subst ex
  refine br_c (fun c => ?_) (fun c => ?_)
  · rw [hl] at c
    rw [show sa_o (M + P) o = o from if_pos (by omega)] at h
    unfold wX_add_122
    intro y ey
    rw [em y ey]
    exact sa_X171 hR h
  · rw [hl] at c
    rw [show sa_o (M + P) o = 1 from if_neg (by omega)] at h
    unfold wX_add_122
    intro y ey
    rw [em y ey]
    exact sa_X171 hR h
theorem sa_X37s {post : Int32 → SX → Prop} {d q M P : Nat} {z s o : Int32} {f : Nat → Int32} (hA : sa_At M f) (hP : P < 281474976710656) (eP : (nI d).toInt64 <<< ((16 * nI q).toInt64 &&& 63) = lN P) (c : s = 0 ∨ s = z) (h : sa_G post (M + P) z o f) : wX_add_37 post (nI d) (nI q) z s o f := by
  unfold wX_add_37
  rw [sa_read hA, eP]
  intro x ex y ey
  subst ex ey
  by_cases e : s = 0
  · exact br_t e (sa_X102 hA.1 hP h)
  · exact br_f e (br_t (c.resolve_left e) (sa_X102 hA.1 hP h))
theorem sa_X37lt {post : Int32 → SX → Prop} {d q M P : Nat} {z s o : Int32} {f : Nat → Int32} (hA : sa_At M f) (hP : P < 281474976710656) (eP : (nI d).toInt64 <<< ((16 * nI q).toInt64 &&& 63) = lN P) (c0 : ¬ s = 0) (c1 : ¬ s = z) (hl : M < P) (h : sa_G post (P - M) z o f) : wX_add_37 post (nI d) (nI q) z s o f := by
  have hM := hA.1
  unfold wX_add_37
  rw [sa_read hA, eP]
  intro x ex y ey
  subst ex ey
  refine br_f c0 (br_f c1 (br_t ((pk_lLT (by omega) (by omega)).mpr hl) ?_))
  intro w ew
  rw [ew, lN_sub (by omega)]
  exact sa_X171G (by omega) h
theorem sa_X37ge {post : Int32 → SX → Prop} {d q M P : Nat} {z s o : Int32} {f : Nat → Int32} (hA : sa_At M f) (hP : P < 281474976710656) (eP : (nI d).toInt64 <<< ((16 * nI q).toInt64 &&& 63) = lN P) (c0 : ¬ s = 0) (c1 : ¬ s = z) (hl : P ≤ M) (h : sa_G post (M - P) s o f) : wX_add_37 post (nI d) (nI q) z s o f := by
  have hM := hA.1
  unfold wX_add_37
  rw [sa_read hA, eP]
  intro x ex y ey
  subst ex ey
  refine br_f c0 (br_f c1 (br_f (fun k => ?_) ?_))
  · have := (pk_lLT (by omega) (by omega)).mp k
    omega
  · intro w ew
    rw [ew, lN_sub hl]
    exact sa_X171G (by omega) h
/-! the reference -/
theorem sa_Y126 {post : Int32 → SY → Prop} {R : Nat} {z s o : Int32} {f : Nat → Int32} (hR : R < 281474976710656) (hz : z = 0 ∨ z = 1 ∨ z = -1) (h : post z (z, o, sa_W R f)) : wY_add_126 post (lN R) z s o f := by
  unfold wY_add_126
  intro a ea b eb c ec
  have e : c = sa_W R f := by
    rw [ec, eb, ea, sa_s1 hR, sa_s2 hR, sa_ch, sa_ch, sa_ch]
    rfl
  rw [e]
  rcases hz with rfl | rfl | rfl
  · exact ⟨by decide, by decide, h⟩
  · exact ⟨by decide, by decide, h⟩
  · exact ⟨by decide, by decide, h⟩
theorem sa_Y116 {post : Int32 → SY → Prop} {R : Nat} {z s o : Int32} {f : Nat → Int32} (hR : R < 281474976710656) (hz : z = 1 ∨ z = -1) (h : post (sa_s R z) (sa_s R z, o, sa_W R f)) : wY_add_116 post (lN R) z s o f := by
  unfold wY_add_116
  by_cases e : R = 0
  · rw [show sa_s R z = 0 from if_pos e] at h
    exact br_t ((sa_lz hR).mpr e) (sa_Y126 hR (Or.inl rfl) h)
  · rw [show sa_s R z = z from if_neg e] at h
    exact br_f (fun q => e ((sa_lz hR).mp q)) (sa_Y126 hR (Or.inr hz) h)
theorem sa_Y94 {post : Int32 → SY → Prop} {N : Nat} {z s o : Int32} {f : Nat → Int32} (hN : N < 562949953421312) (hz : z = 1 ∨ z = -1) (h : sa_G post N z o f) : wY_add_94 post (lN N) z s o f := by
  have hl : lN N < 281474976710656 ↔ N < 281474976710656 := pk_lLT (b := 281474976710656) (by omega) (by decide)
  unfold sa_G at h
  unfold wY_add_94
  refine br_c (fun c => ?_) (fun c => ?_)
  · rw [hl] at c
    rw [show sa_o N o = o from if_pos c, Nat.mod_eq_of_lt c] at h
    exact sa_Y116 c hz h
  · rw [hl] at c
    rw [show sa_o N o = 1 from if_neg c, show N % 281474976710656 = N - 281474976710656 by omega] at h
    intro y ey
    have e : y = lN (N - 281474976710656) := ey.trans (lN_sub (b := 281474976710656) (by omega))
    rw [e]
    exact sa_Y116 (by omega) hz h
theorem sa_neg {N : Nat} (h0 : 0 < N) (hN : N < 562949953421312) : ¬ (0 : Int64) ≤ -(lN N) := by
  rw [Int64.le_iff_toInt_le, Int64.toInt_neg, pk_lT (by omega), show (0 : Int64).toInt = 0 from by decide, Int.bmod_eq_of_le (by omega) (by omega)]
  omega
theorem sa_Y76 {post : Int32 → SY → Prop} {N : Nat} {x : Int64} {z s o : Int32} {f : Nat → Int32} (hN : N < 562949953421312) (hx : sa_sg z N x) (h : sa_G post N z o f) : wY_add_76 post x s o f := by
  have hp : (0 : Int64) ≤ lN N := (pk_lLE (a := 0) (by decide) (by omega)).mpr (Nat.zero_le _)
  unfold wY_add_76
  rcases hx with ⟨rfl, rfl⟩ | ⟨rfl, rfl⟩
  · exact br_t hp (sa_Y94 hN (Or.inl rfl) h)
  · by_cases e : N = 0
    · subst e
      rw [show -(lN 0) = lN 0 from by decide]
      exact br_t hp (sa_Y94 hN (Or.inl rfl) h)
    · refine br_f (sa_neg (by omega) hN) ?_
      intro y ey
      rw [ey, Int64.neg_neg]
      exact sa_Y94 hN (Or.inr rfl) h
end
section
/-! add, whole: each side at the operand P and the sign of the first argument -/
theorem sa_keep {post : Int32 → SX → Prop} {M : Nat} {z s o : Int32} {f : Nat → Int32} (hA : sa_At M f) (hz : sa_s M z = s) (h : sa_G post M z o f) : post s (s, o, f) := by
  unfold sa_G at h
  rw [Nat.mod_eq_of_lt hA.1, hz, show sa_o M o = o from if_pos hA.1, sa_Wid hA] at h
  exact h
theorem sa_Xk {post : Int32 → SX → Prop} {d : Nat} {s o v1 v2 v3 : Int32} {f : Nat → Int32} (hd : d < 65536) (ed : v2 &&& 65535 = nI d) (c : v1 = 0 ∨ d = 0) (h : post s (s, o, f)) : wpX_add post (s, o, f) v1 v2 v3 := by
  unfold wpX_add
  dsimp only
  rw [ed]
  intro x ex
  by_cases e : v1 = 0
  · exact br_t e h
  · refine br_f e (br_t ?_ h)
    rw [ex, c.resolve_left e]
    rfl
theorem sa_Xp {post : Int32 → SX → Prop} {d q : Nat} {s o v1 v2 v3 : Int32} {f : Nat → Int32} (hd : d < 65536) (h0 : ¬ d = 0) (ed : v2 &&& 65535 = nI d) (eq : (v3 &&& 2147483647) - (v3 &&& 2147483647) / 3 * 3 = nI q) (c0 : ¬ v1 = 0) (c : ¬ v1 ≤ 0) (h : wX_add_37 post (nI d) (nI q) 1 s o f) : wpX_add post (s, o, f) v1 v2 v3 := by
  unfold wpX_add
  dsimp only
  rw [ed, eq]
  intro x ex
  subst ex
  refine br_f c0 (br_f (nI_ne0 (by omega) (by omega)) ⟨by decide, ?_⟩)
  intro y ey
  subst ey
  exact br_f c h
theorem sa_Xn {post : Int32 → SX → Prop} {d q : Nat} {s o v1 v2 v3 : Int32} {f : Nat → Int32} (hd : d < 65536) (h0 : ¬ d = 0) (ed : v2 &&& 65535 = nI d) (eq : (v3 &&& 2147483647) - (v3 &&& 2147483647) / 3 * 3 = nI q) (c0 : ¬ v1 = 0) (c : v1 ≤ 0) (h : wX_add_37 post (nI d) (nI q) (-1) s o f) : wpX_add post (s, o, f) v1 v2 v3 := by
  unfold wpX_add
  dsimp only
  rw [ed, eq]
  intro x ex
  subst ex
  refine br_f c0 (br_f (nI_ne0 (by omega) (by omega)) ⟨by decide, ?_⟩)
  intro y ey
  subst ey
  exact br_t c h
theorem sa_Yp {post : Int32 → SY → Prop} {d q M P N : Nat} {z s o v1 v2 v3 : Int32} {f : Nat → Int32} (hA : sa_At M f) (ed : v2 &&& 65535 = nI d) (eq : (v3 &&& 2147483647) - (v3 &&& 2147483647) / 3 * 3 = nI q) (eP : (nI d).toInt64 <<< ((16 * nI q).toInt64 &&& 63) = lN P) (c : ¬ v1 ≤ 0) (hN : N < 562949953421312) (hx : sa_sg z N (s.toInt64 * lN M + lN P)) (h : sa_G post N z o f) : wpY_add post (s, o, f) v1 v2 v3 := by
  unfold wpY_add
  dsimp only
  rw [ed, eq, eP, sa_read hA]
  refine ⟨by decide, ?_⟩
  intro x ex y ey
  subst ex ey
  refine br_f c ?_
  intro w ew
  subst ew
  unfold wY_add_65
  exact br_t (Int32.le_of_lt (Int32.not_le.mp c)) (sa_Y76 hN hx h)
theorem sa_Y0 {post : Int32 → SY → Prop} {d q M P N : Nat} {z s o v1 v2 v3 : Int32} {f : Nat → Int32} (hA : sa_At M f) (ed : v2 &&& 65535 = nI d) (eq : (v3 &&& 2147483647) - (v3 &&& 2147483647) / 3 * 3 = nI q) (eP : (nI d).toInt64 <<< ((16 * nI q).toInt64 &&& 63) = lN P) (c : v1 = 0) (hN : N < 562949953421312) (hx : sa_sg z N (s.toInt64 * lN M)) (h : sa_G post N z o f) : wpY_add post (s, o, f) v1 v2 v3 := by
  subst c
  unfold wpY_add
  dsimp only
  rw [ed, eq, eP, sa_read hA]
  refine ⟨by decide, ?_⟩
  intro x ex y ey
  subst ex ey
  refine br_t (by decide) ?_
  unfold wY_add_65
  exact br_t (by decide) (sa_Y76 hN hx h)
theorem sa_Yn {post : Int32 → SY → Prop} {d q M P N : Nat} {z s o v1 v2 v3 : Int32} {f : Nat → Int32} (hA : sa_At M f) (ed : v2 &&& 65535 = nI d) (eq : (v3 &&& 2147483647) - (v3 &&& 2147483647) / 3 * 3 = nI q) (eP : (nI d).toInt64 <<< ((16 * nI q).toInt64 &&& 63) = lN P) (c0 : ¬ v1 = 0) (c : v1 ≤ 0) (hN : N < 562949953421312) (hx : sa_sg z N (s.toInt64 * lN M - lN P)) (h : sa_G post N z o f) : wpY_add post (s, o, f) v1 v2 v3 := by
  have cn : ¬ 0 ≤ v1 := fun k => c0 (Int32.le_antisymm c k)
  unfold wpY_add
  dsimp only
  rw [ed, eq, eP, sa_read hA]
  refine ⟨by decide, ?_⟩
  intro x ex y ey
  subst ex ey
  refine br_t c ?_
  unfold wY_add_65
  refine br_f cn ?_
  intro w ew
  subst ew
  exact sa_Y76 hN hx h
/-! the sign s and the magnitude M of a state -/
def sa_S (s : Int32) (M : Nat) : Prop := (s = 0 ∧ M = 0) ∨ (s = 1 ∧ 0 < M) ∨ (s = -1 ∧ 0 < M)
theorem sa_same {s : Int32} {M : Nat} (hs : sa_S s M) : ∃ z : Int32, (z = 1 ∨ z = -1) ∧ sa_s M z = s ∧ sa_sg z M (s.toInt64 * lN M) := by
  rcases hs with ⟨rfl, rfl⟩ | ⟨rfl, h⟩ | ⟨rfl, h⟩
  · exact ⟨1, Or.inl rfl, if_pos rfl, Or.inl ⟨rfl, sa_z0⟩⟩
  · exact ⟨1, Or.inl rfl, if_neg (by omega), Or.inl ⟨rfl, sa_z1 M⟩⟩
  · exact ⟨-1, Or.inr rfl, if_neg (by omega), Or.inr ⟨rfl, sa_zm M⟩⟩
def sa_Ex (s o v1 v2 v3 : Int32) (f : Nat → Int32) : Prop := ∃ (N : Nat) (z : Int32), N < 562949953421312 ∧ (z = 1 ∨ z = -1) ∧ (∀ post : Int32 → SX → Prop, sa_G post N z o f → wpX_add post (s, o, f) v1 v2 v3) ∧ (∀ post : Int32 → SY → Prop, sa_G post N z o f → wpY_add post (s, o, f) v1 v2 v3)
theorem sa_out {M : Nat} {s : Int32} (o v1 v2 v3 : Int32) {f : Nat → Int32} (hA : sa_At M f) (hs : sa_S s M) : sa_Ex s o v1 v2 v3 f := by
  obtain ⟨d, P, q, hd, hP, hdP, ed, eq, eP⟩ := sa_op v2 v3
  have hM := hA.1
  by_cases c0 : v1 = 0
  · obtain ⟨z, hz, e1, e2⟩ := sa_same hs
    exact ⟨M, z, by omega, hz, fun post h => sa_Xk hd ed (Or.inl c0) (sa_keep hA e1 h), fun post h => sa_Y0 hA ed eq eP c0 (by omega) e2 h⟩
  by_cases h0 : d = 0
  · obtain ⟨z, hz, e1, e2⟩ := sa_same hs
    have hP0 : P = 0 := hdP.mp h0
    by_cases c : v1 ≤ 0
    · refine ⟨M, z, by omega, hz, fun post h => sa_Xk hd ed (Or.inr h0) (sa_keep hA e1 h), fun post h => sa_Yn hA ed eq eP c0 c (by omega) ?_ h⟩
      rw [hP0, show lN 0 = 0 from rfl, Int64.sub_zero]
      exact e2
    · refine ⟨M, z, by omega, hz, fun post h => sa_Xk hd ed (Or.inr h0) (sa_keep hA e1 h), fun post h => sa_Yp hA ed eq eP c (by omega) ?_ h⟩
      rw [hP0, show lN 0 = 0 from rfl, Int64.add_zero]
      exact e2
  by_cases c : v1 ≤ 0
  · rcases hs with ⟨rfl, rfl⟩ | ⟨rfl, hm⟩ | ⟨rfl, hm⟩
    · refine ⟨0 + P, -1, by omega, Or.inr rfl, fun post h => sa_Xn hd h0 ed eq c0 c (sa_X37s hA hP eP (Or.inl rfl) h), fun post h => sa_Yn hA ed eq eP c0 c (by omega) (Or.inr ⟨rfl, ?_⟩) h⟩
      rw [sa_z0, sa_m0]
    · by_cases l : M < P
      · refine ⟨P - M, -1, by omega, Or.inr rfl, fun post h => sa_Xn hd h0 ed eq c0 c (sa_X37lt hA hP eP (by decide) (by decide) l h), fun post h => sa_Yn hA ed eq eP c0 c (by omega) (Or.inr ⟨rfl, ?_⟩) h⟩
        rw [sa_z1, sa_mn (by omega)]
      · refine ⟨M - P, 1, by omega, Or.inl rfl, fun post h => sa_Xn hd h0 ed eq c0 c (sa_X37ge hA hP eP (by decide) (by decide) (by omega) h), fun post h => sa_Yn hA ed eq eP c0 c (by omega) (Or.inl ⟨rfl, ?_⟩) h⟩
        rw [sa_z1, lN_sub (by omega)]
    · refine ⟨M + P, -1, by omega, Or.inr rfl, fun post h => sa_Xn hd h0 ed eq c0 c (sa_X37s hA hP eP (Or.inr rfl) h), fun post h => sa_Yn hA ed eq eP c0 c (by omega) (Or.inr ⟨rfl, ?_⟩) h⟩
      rw [sa_zm, sa_mm]
  · rcases hs with ⟨rfl, rfl⟩ | ⟨rfl, hm⟩ | ⟨rfl, hm⟩
    · refine ⟨0 + P, 1, by omega, Or.inl rfl, fun post h => sa_Xp hd h0 ed eq c0 c (sa_X37s hA hP eP (Or.inl rfl) h), fun post h => sa_Yp hA ed eq eP c (by omega) (Or.inl ⟨rfl, ?_⟩) h⟩
      rw [sa_z0, lN_add]
    · refine ⟨M + P, 1, by omega, Or.inl rfl, fun post h => sa_Xp hd h0 ed eq c0 c (sa_X37s hA hP eP (Or.inr rfl) h), fun post h => sa_Yp hA ed eq eP c (by omega) (Or.inl ⟨rfl, ?_⟩) h⟩
      rw [sa_z1, lN_add]
    · by_cases l : M < P
      · refine ⟨P - M, 1, by omega, Or.inl rfl, fun post h => sa_Xp hd h0 ed eq c0 c (sa_X37lt hA hP eP (by decide) (by decide) l h), fun post h => sa_Yp hA ed eq eP c (by omega) (Or.inl ⟨rfl, ?_⟩) h⟩
        rw [sa_zm, sa_pm (by omega)]
      · refine ⟨M - P, -1, by omega, Or.inr rfl, fun post h => sa_Xp hd h0 ed eq c0 c (sa_X37ge hA hP eP (by decide) (by decide) (by omega) h), fun post h => sa_Yp hA ed eq eP c (by omega) (Or.inr ⟨rfl, ?_⟩) h⟩
        rw [sa_zm, sa_pn (by omega)]
theorem sa_Snew {N : Nat} {z : Int32} (hz : z = 1 ∨ z = -1) : sa_S (sa_s N z) N := by
  by_cases e : N = 0
  · exact Or.inl ⟨if_pos e, e⟩
  · have e1 : sa_s N z = z := if_neg e
    rw [e1]
    rcases hz with h | h
    · exact Or.inr (Or.inl ⟨h, by omega⟩)
    · exact Or.inr (Or.inr ⟨h, by omega⟩)
theorem sa_onew {N : Nat} {o : Int32} (ho : o = 0 ∨ o = 1) : sa_o N o = 0 ∨ sa_o N o = 1 := by
  unfold sa_o
  by_cases e : N < 281474976710656
  · rw [if_pos e]; exact ho
  · rw [if_neg e]; exact Or.inr rfl
end
section
/-- both sides hold the same state: the sign, the mark, three limbs of a magnitude M below 2^48; the sign is 0 just where M is -/
def i_Rel (_ : Nat) (u : SX) (v : SY) : Prop := ∃ (s o : Int32) (f : Nat → Int32) (M : Nat), u = (s, o, f) ∧ v = (s, o, f) ∧ sa_At M f ∧ (o = 0 ∨ o = 1) ∧ sa_S s M
theorem i_up {k : Nat} {u : SX} {v : SY} (h : i_Rel k u v) : i_Rel (k + 4) u v := h
theorem i_vc0 : wpX_init (fun u => wpY_init (fun v => i_Rel 0 u v)) := by
  unfold wpX_init wpY_init
  exact ⟨0, 0, (fun _ => 0), 0, rfl, rfl, ⟨by decide, by decide, by decide, by decide⟩, Or.inl rfl, Or.inl ⟨rfl, rfl⟩⟩
theorem i_vc_add {k : Nat} {u : SX} {v : SY} (I : i_Rel k u v) (hk : k + 4 ≤ 2048) (v1 : Int32) (v2 : Int32) (v3 : Int32) : wpX_add (fun r u' => wpY_add (fun r' v' => r' = r ∧ i_Rel (k + 4) u' v') v v1 v2 v3) u v1 v2 v3 := by
  obtain ⟨s, o, f, M, rfl, rfl, hA, ho, hs⟩ := I
  obtain ⟨N, z, hN, hz, hX, hY⟩ := sa_out o v1 v2 v3 hA hs
  refine hX _ ?_
  unfold sa_G
  refine hY _ ?_
  unfold sa_G
  exact ⟨rfl, _, _, _, N % 281474976710656, rfl, rfl, sa_WAt (Nat.mod_lt _ (by decide)), sa_onew ho, sa_Snew hz⟩
theorem i_vc_signum {k : Nat} {u : SX} {v : SY} (I : i_Rel k u v) (hk : k + 4 ≤ 2048) : wpX_signum (fun r => wpY_signum (fun r' => r' = r ∧ i_Rel (k + 4) u v) v) u := by
  have J := I
  obtain ⟨s, o, f, M, rfl, rfl, hA, ho, hs⟩ := I
  exact ⟨rfl, J⟩
theorem i_vc_overflowed {k : Nat} {u : SX} {v : SY} (I : i_Rel k u v) (hk : k + 4 ≤ 2048) : wpX_overflowed (fun r => wpY_overflowed (fun r' => r' = r ∧ i_Rel (k + 4) u v) v) u := by
  have J := I
  obtain ⟨s, o, f, M, rfl, rfl, hA, ho, hs⟩ := I
  unfold wpX_overflowed wpY_overflowed
  dsimp only
  have n : narrow .boolean (.int o) = .int o := by
    rcases ho with rfl | rfl <;> rfl
  exact ⟨n, n, rfl, J⟩
theorem i_vc_digit {k : Nat} {u : SX} {v : SY} (I : i_Rel k u v) (hk : k + 4 ≤ 2048) (v1 : Int32) : wpX_digit (fun r => wpY_digit (fun r' => r' = r ∧ i_Rel (k + 4) u v) v v1) u v1 := by
  have J := I
  obtain ⟨s, o, f, M, rfl, rfl, hA, ho, hs⟩ := I
  unfold wpX_digit wpY_digit
  dsimp only
  by_cases h0 : v1 < 0
  · exact br_t h0 (br_t h0 ⟨rfl, J⟩)
  · by_cases h2 : v1 ≤ 2
    · have hi : vp_in v1 3 := by
        obtain ⟨j, hj, rfl⟩ := nI_of2 (n := 2) (by decide) h0 h2
        exact vp_in_nI (by omega) (by decide)
      exact br_f h0 (br_t h2 ⟨hi, br_f h0 (br_t h2 ⟨hi, rfl, J⟩)⟩)
    · exact br_f h0 (br_f h2 (br_f h0 (br_f h2 ⟨rfl, J⟩)))
end

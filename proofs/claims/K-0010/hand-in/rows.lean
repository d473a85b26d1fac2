section
theorem pk_us {f : Nat → Int32} {k : Nat} {x : Int32} : upd f k x k = x := if_pos rfl
theorem pk_un {f : Nat → Int32} {k j : Nat} {x : Int32} (h : j ≠ k) : upd f k x j = f j := if_neg h
theorem pk_sub {a b : Nat} (h : b ≤ a) : nI a - nI b = nI (a - b) := by
  obtain ⟨c, rfl⟩ : ∃ c, a = c + b := ⟨a - b, by omega⟩
  rw [← nI_add, Int32.add_sub_cancel, Nat.add_sub_cancel]
theorem pk_mul (a b : Nat) : nI a * nI b = nI (a * b) := (Int32.ofNat_mul a b).symm
theorem pk_div {a d : Nat} (ha : a < 2 ^ 31) (h0 : 0 < d) (hd : d < 2 ^ 31) : nI a / nI d = nI (a / d) := by
  apply Int32.toInt_inj.mp
  rw [lg_idiv_nonneg (by rw [nI_toInt ha]; omega) (by rw [nI_toInt hd]; omega), nI_toInt ha, nI_toInt hd, nI_toInt (Nat.lt_of_le_of_lt (Nat.div_le_self a d) ha)]
  first | rfl | exact (Int.natCast_ediv _ _).symm
theorem pk_rem {a d : Nat} (ha : a < 2 ^ 31) (h0 : 0 < d) (hd : d < 2 ^ 31) : nI a - nI a / nI d * nI d = nI (a % d) := by
  rw [pk_div ha h0 hd, pk_mul, pk_sub (Nat.div_mul_le_self a d)]
  exact congrArg nI (by have := Nat.div_add_mod' a d; omega)
theorem pk_tn {n : Nat} (h : n < 2 ^ 32) : (nI n).toBitVec.toNat = n := Nat.mod_eq_of_lt h
theorem pk_and (x : Int32) {m : Int32} (k : Nat) (hm : m.toBitVec.toNat = 2 ^ k - 1) : x &&& m = nI (x.toBitVec.toNat % 2 ^ k) := by
  apply Int32.toBitVec_inj.mp
  apply BitVec.eq_of_toNat_eq
  rw [Int32.toBitVec_and, BitVec.toNat_and, hm, Nat.and_two_pow_sub_one_eq_mod]
  show _ = (BitVec.ofNat 32 _).toNat
  rw [BitVec.toNat_ofNat]
  exact (Nat.mod_eq_of_lt (Nat.lt_of_le_of_lt (Nat.mod_le _ _) x.toBitVec.isLt)).symm
theorem pk_andE (x : Int32) {m : Int32} (k : Nat) (hm : m.toBitVec.toNat = 2 ^ k - 1) : ∃ j : Nat, j < 2 ^ k ∧ x &&& m = nI j := ⟨_, Nat.mod_lt _ (Nat.two_pow_pos k), pk_and x k hm⟩
theorem pk_shr (a s : Int32) (k : Nat) (hs : (s.toBitVec.smod 32).toNat = k) : (a >>> s).toInt = a.toInt >>> k := by
  show (a.toBitVec.sshiftRight (s.toBitVec.smod 32).toNat).toInt = _
  rw [hs, BitVec.toInt_sshiftRight]
  rfl
theorem pk_charN {q : Nat} (hq : q < 65536) : narrow .char (.int (nI q)) = .int (nI q) ∧ fits .char (.int (nI q)) = true := by
  constructor
  · have e : (nI q).toUInt32.toUInt16.toUInt32.toInt32 = nI q := by
      apply Int32.toBitVec_inj.mp
      apply BitVec.eq_of_toNat_eq
      show (nI q).toUInt32.toUInt16.toUInt32.toNat = q % 2 ^ 32
      rw [UInt16.toNat_toUInt32, UInt32.toNat_toUInt16, show (nI q).toUInt32.toNat = q % 2 ^ 32 from rfl]
      omega
    exact congrArg Value.int e
  · have a : (0 : Int32) ≤ nI q := nI_pos' (by omega)
    have b : nI q ≤ 65535 := nI_le (b := 65535) (by omega) (by decide)
    show (decide ((0 : Int32) ≤ nI q) && decide (nI q ≤ 65535)) = true
    rw [decide_eq_true a, decide_eq_true b]
    rfl
theorem pk_char (x : Int32) : (x.toUInt32 % 65536).toInt32 = nI (x.toBitVec.toNat % 65536) := by
  apply Int32.toBitVec_inj.mp
  apply BitVec.eq_of_toNat_eq
  rw [pk_tn (by omega)]
  show (x.toUInt32 % 65536).toNat = _
  rw [UInt32.toNat_mod]
  rfl
theorem pk_nc (x : Int32) : narrow .char (.int (x.toUInt32 % 65536).toInt32) = .int (x.toUInt32 % 65536).toInt32 := by
  rw [pk_char]
  exact (pk_charN (Nat.mod_lt _ (by decide))).1
theorem pk_vb (z : Int32) : vp_nar .byte z.toInt8.toInt32 = z.toInt8.toInt32 := by rw [vp_nar_byte]; simp
theorem pk_vc (z : Int32) : vp_nar .char (z.toUInt32 % 65536).toInt32 = (z.toUInt32 % 65536).toInt32 := Value.int.inj (pk_nc z)
def sb_b (c : Nat) : Int32 := (nI c).toInt8.toInt32
theorem sb_byte : ∀ c, c < 256 → sb_b c &&& 255 = nI c ∧ ((nI c).toUInt32 % 65536).toInt32 = nI c ∧ nI c ≤ 255 := by decide +kernel
theorem nx_and (a b : Nat) : nI a &&& nI b = nI (a &&& b) := by
  apply Int32.toBitVec_inj.1
  show BitVec.ofNat 32 a &&& BitVec.ofNat 32 b = BitVec.ofNat 32 (a &&& b)
  apply BitVec.eq_of_getLsbD_eq
  intro i hi
  simp [hi]
end
section
/-- one place of the two buffers: the digit c, a signed byte on the one side and a char on the other -/
def pm_R (x y : Int32) : Prop := ∃ c : Nat, c < 256 ∧ x = sb_b c ∧ y = nI c
theorem pm_00 : pm_R 0 0 := ⟨0, by decide, by decide +kernel, by decide +kernel⟩
theorem pm_vc {q : Nat} (h : q < 256) : vp_nar .char (nI q) = nI q := by
  have p := pk_vc (nI q)
  rw [(sb_byte q h).2.1] at p
  exact p
theorem pm_nar {x y : Int32} (h : pm_R x y) : pm_R (vp_nar .byte x) (vp_nar .char y) := by
  obtain ⟨c, hc, ex, ey⟩ := h
  refine ⟨c, hc, ?_, ?_⟩
  · rw [ex]; exact pk_vb (nI c)
  · rw [ey]; exact pm_vc hc
theorem pm_upd {u v : Nat → Int32} (h : ∀ j, pm_R (u j) (v j)) {x y : Int32} (hxy : pm_R x y) (k : Nat) : ∀ j, pm_R (upd u k x j) (upd v k y j) := by
  intro j
  by_cases e : j = k
  · rw [e, pk_us, pk_us]; exact hxy
  · rw [pk_un e, pk_un e]; exact h j
/-- the place of a sample: both sides reckon the same index -/
theorem pm_ix (x : Int32) : ∃ b : Nat, b + 2 < 48 ∧ 3 * (x &&& 15) = nI b ∧ (x &&& 15) * 3 = nI b := by
  obtain ⟨f, hf, e⟩ := pk_andE x (m := 15) 4 (by decide)
  refine ⟨3 * f, by omega, ?_, ?_⟩
  · rw [e]; exact pk_mul 3 f
  · rw [e]; exact (pk_mul f 3).trans (congrArg nI (Nat.mul_comm f 3))
theorem pm_i2 (b : Nat) : nI b + 2 = nI (b + 2) := nI_add b 2
/-- bit 23 of a number below 2^24 -/
theorem pm_and0 {n : Nat} (h : n < 2 ^ 23) : n &&& 2 ^ 23 = 0 := by
  apply Nat.eq_of_testBit_eq
  intro i
  rw [Nat.testBit_and, Nat.zero_testBit, Nat.testBit_two_pow]
  by_cases e : 23 = i
  · rw [← e, Nat.testBit_lt_two_pow h, Bool.false_and]
  · rw [decide_eq_false e, Bool.and_false]
theorem pm_and1 {n : Nat} (h : 2 ^ 23 ≤ n) (h2 : n < 2 ^ 24) : ¬ n &&& 2 ^ 23 = 0 := by
  intro z
  have t := congrArg (fun m => Nat.testBit m 23) z
  simp only [Nat.testBit_and, Nat.zero_testBit, Nat.testBit_two_pow_self, Nat.testBit_of_two_pow_le_and_two_pow_add_one_gt h h2] at t
  exact absurd t (by decide)
theorem pm_bit {n : Nat} (h : n < 16777216) : (nI n &&& 8388608) = 0 ↔ n < 8388608 := by
  have e : nI n &&& 8388608 = nI (n &&& 2 ^ 23) := nx_and n 8388608
  have le : n &&& 2 ^ 23 ≤ n := Nat.and_le_left
  constructor
  · intro z
    rcases Nat.lt_or_ge n 8388608 with q | q
    · exact q
    · have w : ¬ n &&& 2 ^ 23 = 0 := pm_and1 (by omega) (by omega)
      rw [e] at z
      exact absurd z (nI_ne0 (Nat.pos_of_ne_zero w) (by omega))
  · intro z
    rw [e, pm_and0 (by omega)]
    rfl
/-- the answer of get by the number of its three digits -/
def pm_ans (n : Nat) : Int32 := if n < 8388608 then nI n else nI n - 16777216
/-- the bytes that X stores -/
theorem pm_low (x : Int32) : x &&& 255 = nI (x.toInt % 256).toNat := by
  rw [pk_and x 8 (by decide)]
  have e : x.toInt = x.toBitVec.toInt := rfl
  have c := BitVec.toInt_eq_toNat_cond x.toBitVec
  have m : x.toBitVec.toNat % 2 ^ 8 = (x.toInt % 256).toNat := by
    rw [e, c]
    split <;> omega
  rw [m]
theorem pm_b0 (s : Int32) : vp_nar .byte ((s &&& 255).toInt8.toInt32) = sb_b (s.toInt % 256).toNat := by
  rw [pk_vb, pm_low]
  rfl
theorem pm_b1 (s : Int32) : vp_nar .byte (((s >>> ((8 : Int32) &&& 31)) &&& 255).toInt8.toInt32) = sb_b (s.toInt / 256 % 256).toNat := by
  rw [pk_vb, pm_low, pk_shr s _ 8 (by decide), Int.shiftRight_eq_div_pow]
  rfl
theorem pm_b2 (s : Int32) : vp_nar .byte (((s >>> ((16 : Int32) &&& 31)) &&& 255).toInt8.toInt32) = sb_b (s.toInt / 65536 % 256).toNat := by
  rw [pk_vb, pm_low, pk_shr s _ 16 (by decide), Int.shiftRight_eq_div_pow]
  rfl
/-- the digits that Y stores -/
theorem pm_yc {q : Nat} (h : q < 256) : vp_nar .char (((nI q).toUInt32 % 65536).toInt32) = nI q := by
  rw [pk_vc, (sb_byte q h).2.1]
theorem pm_y0 {w : Nat} (h : w < 16777216) : vp_nar .char (((nI w - nI w / 256 * 256).toUInt32 % 65536).toInt32) = nI (w % 256) := by
  have e : nI w - nI w / 256 * 256 = nI (w % 256) := pk_rem (d := 256) (by omega) (by decide) (by decide)
  rw [e]
  exact pm_yc (by omega)
theorem pm_yd {w : Nat} (h : w < 16777216) : nI w / 256 = nI (w / 256) := pk_div (d := 256) (by omega) (by decide) (by decide)
theorem pm_y1 {w : Nat} (h : w < 16777216) : vp_nar .char ((((nI w / 256) - (nI w / 256) / 256 * 256).toUInt32 % 65536).toInt32) = nI (w / 256 % 256) := by
  have e : nI (w / 256) - nI (w / 256) / 256 * 256 = nI (w / 256 % 256) := pk_rem (d := 256) (by omega) (by decide) (by decide)
  rw [pm_yd h, e]
  exact pm_yc (by omega)
theorem pm_y2 {w : Nat} (h : w < 16777216) : vp_nar .char (((nI w / 65536).toUInt32 % 65536).toInt32) = nI (w / 65536) := by
  have e : nI w / 65536 = nI (w / 65536) := pk_div (d := 65536) (by omega) (by decide) (by decide)
  rw [e]
  exact pm_yc (by omega)
/-- the number below 2^24 that stands for a clamped sample -/
theorem pm_wp {s : Int32} (h0 : 0 ≤ s) (h2 : s.toInt < 8388608) : s = nI (s.toInt % 16777216).toNat := by
  have g : 0 ≤ s.toInt := Int32.le_iff_toInt_le.mp h0
  apply Int32.toInt_inj.mp
  rw [nI_toInt (by omega)]
  omega
theorem pm_wn {s : Int32} (h0 : ¬ 0 ≤ s) (h1 : -8388608 ≤ s.toInt) : s + 16777216 = nI (s.toInt % 16777216).toNat := by
  have g : ¬ 0 ≤ s.toInt := fun z => h0 (Int32.le_iff_toInt_le.mpr z)
  have k : (16777216 : Int32).toInt = 16777216 := by decide
  apply Int32.toInt_inj.mp
  rw [nI_toInt (by omega), Jvm.Kit.i32_add (by rw [k]; omega) (by rw [k]; omega), k]
  omega
end
section
theorem pm_get {u v : Nat → Int32} (I : ∀ j, pm_R (u j) (v j)) (x : Int32) : ∃ r : Int32, (∀ post : Int32 → Prop, post r → wpX_get post u x) ∧ (∀ post : Int32 → Prop, post r → wpY_get post v x) := by
  obtain ⟨b, hb, eX, eY⟩ := pm_ix x
  obtain ⟨c0, h0, x0, y0⟩ := I b
  obtain ⟨c1, h1, x1, y1⟩ := I (b + 1)
  obtain ⟨c2, h2, x2, y2⟩ := I (b + 2)
  have H0 : vp_in (nI b) 48 := vp_in_nI (by omega) (by omega)
  have H1 : vp_in (nI b + 1) 48 := by rw [nI_1]; exact vp_in_nI (by omega) (by omega)
  have H2 : vp_in (nI b + 2) 48 := by rw [pm_i2]; exact vp_in_nI (by omega) (by omega)
  have k0 : (nI b).toNatClampNeg = b := nI_clamp (by omega)
  have k1 : (nI b + 1).toNatClampNeg = b + 1 := by rw [nI_1]; exact nI_clamp (by omega)
  have k2 : (nI b + 2).toNatClampNeg = b + 2 := by rw [pm_i2]; exact nI_clamp (by omega)
  have m1 : (256 : Int32) * nI c1 = nI (c1 * 256) := (pk_mul 256 c1).trans (congrArg nI (Nat.mul_comm 256 c1))
  have m2 : (65536 : Int32) * nI c2 = nI (c2 * 65536) := (pk_mul 65536 c2).trans (congrArg nI (Nat.mul_comm 65536 c2))
  have n1 : nI c1 * 256 = nI (c1 * 256) := pk_mul c1 256
  have n2 : nI c2 * 65536 = nI (c2 * 65536) := pk_mul c2 65536
  have hn : c0 + c1 * 256 + c2 * 65536 < 16777216 := by omega
  refine ⟨pm_ans (c0 + c1 * 256 + c2 * 65536), fun post hp => ?_, fun post hp => ?_⟩
  · intro f ef z ez
    have ez' : z = nI b := by rw [ez, ef]; exact eX
    subst ez'
    refine ⟨H0, fun p ep => ⟨H1, fun q eq => ⟨H2, fun t et w ew => ?_⟩⟩⟩
    rw [k0, x0, (sb_byte c0 h0).1] at ep
    rw [k1, x1, (sb_byte c1 h1).1] at eq
    rw [k2, x2, (sb_byte c2 h2).1] at et
    have ew' : w = nI (c0 + c1 * 256 + c2 * 65536) := by rw [ew, ep, eq, et, m1, m2, nI_add, nI_add]
    subst ew'
    by_cases s : c0 + c1 * 256 + c2 * 65536 < 8388608
    · rw [pm_ans, if_pos s] at hp
      exact br_t ((pm_bit hn).mpr s) hp
    · rw [pm_ans, if_neg s] at hp
      exact br_f (fun y => s ((pm_bit hn).mp y)) (nm_e hp)
  · intro z ez
    have ez' : z = nI b := by rw [ez]; exact eY
    subst ez'
    refine ⟨H0, H1, H2, fun w ew => ?_⟩
    have ew' : w = nI (c0 + c1 * 256 + c2 * 65536) := by rw [ew, k0, k1, k2, y0, y1, y2, n1, n2, nI_add, nI_add]
    subst ew'
    have L : nI (c0 + c1 * 256 + c2 * 65536) < 8388608 ↔ c0 + c1 * 256 + c2 * 65536 < 8388608 := nI_ltI (b := 8388608) (by omega) (by decide)
    by_cases s : c0 + c1 * 256 + c2 * 65536 < 8388608
    · rw [pm_ans, if_pos s] at hp
      exact br_t (L.mpr s) hp
    · rw [pm_ans, if_neg s] at hp
      exact br_f (fun y => s (L.mp y)) hp
theorem pm_putX {post : Int32 → SX → Prop} {u : SX} {f s r : Int32} {b : Nat} (hr : narrow .boolean (.int r) = .int r) (hb : b + 2 < 48) (ef : 3 * f = nI b)
    (hp : post r (upd (upd (upd u b (sb_b (s.toInt % 256).toNat)) (b + 1) (sb_b (s.toInt / 256 % 256).toNat)) (b + 2) (sb_b (s.toInt / 65536 % 256).toNat))) : wX_put_42 post f s r u := by
  have H0 : vp_in (nI b) 48 := vp_in_nI (by omega) (by omega)
  have H1 : vp_in (nI b + 1) 48 := by rw [nI_1]; exact vp_in_nI (by omega) (by omega)
  have H2 : vp_in (nI b + 2) 48 := by rw [pm_i2]; exact vp_in_nI (by omega) (by omega)
  have k0 : (nI b).toNatClampNeg = b := nI_clamp (by omega)
  have k1 : (nI b + 1).toNatClampNeg = b + 1 := by rw [nI_1]; exact nI_clamp (by omega)
  have k2 : (nI b + 2).toNatClampNeg = b + 2 := by rw [pm_i2]; exact nI_clamp (by omega)
  intro z ez
  have ez' : z = nI b := by rw [ez]; exact ef
  subst ez'
  refine ⟨H0, fun d e => ⟨H1, fun d1 e1 => ⟨H2, fun d2 e2 => ⟨hr, ?_⟩⟩⟩⟩
  rw [k0, pm_b0] at e
  rw [k1, pm_b1, e] at e1
  rw [k2, pm_b2, e1] at e2
  rw [e2]
  exact hp
theorem pm_putY {post : Int32 → SY → Prop} {v : SY} {r : Int32} {b w : Nat} (hr : narrow .boolean (.int r) = .int r) (hb : b + 2 < 48) (hw : w < 16777216)
    (hp : post r (upd (upd (upd v b (nI (w % 256))) (b + 1) (nI (w / 256 % 256))) (b + 2) (nI (w / 65536)))) : wY_put_56 post (nI b) r (nI w) v := by
  have H0 : vp_in (nI b) 48 := vp_in_nI (by omega) (by omega)
  have H1 : vp_in (nI b + 1) 48 := by rw [nI_1]; exact vp_in_nI (by omega) (by omega)
  have H2 : vp_in (nI b + 2) 48 := by rw [pm_i2]; exact vp_in_nI (by omega) (by omega)
  have k0 : (nI b).toNatClampNeg = b := nI_clamp (by omega)
  have k1 : (nI b + 1).toNatClampNeg = b + 1 := by rw [nI_1]; exact nI_clamp (by omega)
  have k2 : (nI b + 2).toNatClampNeg = b + 2 := by rw [pm_i2]; exact nI_clamp (by omega)
  have z1 : ¬ (256 : Int32) = 0 := by decide
  have z2 : ¬ (65536 : Int32) = 0 := by decide
  unfold wY_put_56
  refine ⟨z1, H0, fun d e => ⟨z1, z1, H1, fun d1 e1 => ⟨z2, H2, fun d2 e2 => ⟨hr, ?_⟩⟩⟩⟩
  rw [k0, pm_y0 hw] at e
  rw [k1, pm_y1 hw, e] at e1
  rw [k2, pm_y2 hw, e1] at e2
  rw [e2]
  exact hp
/-- the two buffers hold the same digits -/
def i_Rel (_ : Nat) (u : SX) (v : SY) : Prop := ∀ j, pm_R (u j) (v j)
theorem pm_put {k : Nat} {u : SX} {v : SY} (I : i_Rel k u v) {s r f : Int32} {b : Nat} (hl : -8388608 ≤ s.toInt) (hh : s.toInt < 8388608) (hr : narrow .boolean (.int r) = .int r) (hb : b + 2 < 48) (ef : 3 * f = nI b) {post : Int32 → SX → Prop}
    (Q : ∀ u' : SX, wY_put_41 (fun r' v' => r' = r ∧ i_Rel (k + 3) u' v') (nI b) s r v → post r u') : wX_put_42 post f s r u := by
  refine pm_putX hr hb ef (Q _ ?_)
  have hw : (s.toInt % 16777216).toNat < 16777216 := by omega
  have q0 : (s.toInt % 16777216).toNat % 256 = (s.toInt % 256).toNat := by omega
  have q1 : (s.toInt % 16777216).toNat / 256 % 256 = (s.toInt / 256 % 256).toNat := by omega
  have q2 : (s.toInt % 16777216).toNat / 65536 = (s.toInt / 65536 % 256).toNat := by omega
  have key : ∀ z : Int32, z = nI (s.toInt % 16777216).toNat → wY_put_56 (fun r' v' => r' = r ∧ i_Rel (k + 3) (upd (upd (upd u b (sb_b (s.toInt % 256).toNat)) (b + 1) (sb_b (s.toInt / 256 % 256).toNat)) (b + 2) (sb_b (s.toInt / 65536 % 256).toNat)) v') (nI b) r z v := by
    intro z ez
    rw [ez]
    refine pm_putY hr hb hw ⟨rfl, ?_⟩
    rw [q0, q1, q2]
    exact pm_upd (pm_upd (pm_upd I ⟨_, by omega, rfl, rfl⟩ b) ⟨_, by omega, rfl, rfl⟩ (b + 1)) ⟨_, by omega, rfl, rfl⟩ (b + 2)
  unfold wY_put_41
  exact br_c (fun h => key _ (pm_wp h hh)) (fun h => key _ (pm_wn h hl))
theorem i_up {k : Nat} {u : SX} {v : SY} (h : i_Rel k u v) : i_Rel (k + 3) u v := h
theorem i_vc0 : wpX_init (fun u => wpY_init (fun v => i_Rel 0 u v)) := fun _ => pm_00
theorem i_vc_put {k : Nat} {u : SX} {v : SY} (I : i_Rel k u v) (hk : k + 3 ≤ 1536) (v1 : Int32) (v2 : Int32) : wpX_put (fun r u' => wpY_put (fun r' v' => r' = r ∧ i_Rel (k + 3) u' v') v v1 v2) u v1 v2 := by
  obtain ⟨b, hb, eX, eY⟩ := pm_ix v1
  have kl : (-8388608 : Int32).toInt = -8388608 := by decide
  have kh : (8388607 : Int32).toInt = 8388607 := by decide
  intro f ef
  have ef' : 3 * f = nI b := by rw [ef]; exact eX
  by_cases h1 : v2 ≤ 8388607
  · refine br_t h1 ?_
    have g1 := Int32.le_iff_toInt_le.mp h1
    rw [kh] at g1
    by_cases h2 : -8388608 ≤ v2
    · have g2 := Int32.le_iff_toInt_le.mp h2
      rw [kl] at g2
      refine br_t h2 (pm_put I g2 (by omega) rfl hb ef' ?_)
      intro u' H y ey
      have ey' : y = nI b := ey.trans eY
      subst ey'
      exact br_t h1 (br_t h2 H)
    · refine br_f h2 (pm_put I (by rw [kl]; decide) (by rw [kl]; decide) rfl hb ef' ?_)
      intro u' H y ey
      have ey' : y = nI b := ey.trans eY
      subst ey'
      exact br_t h1 (br_f h2 H)
  · refine br_f h1 (pm_put I (by rw [kh]; decide) (by rw [kh]; decide) rfl hb ef' ?_)
    intro u' H y ey
    have ey' : y = nI b := ey.trans eY
    subst ey'
    exact br_f h1 (br_t (by decide) H)
theorem i_vc_get {k : Nat} {u : SX} {v : SY} (I : i_Rel k u v) (hk : k + 3 ≤ 1536) (v1 : Int32) : wpX_get (fun r => wpY_get (fun r' => r' = r ∧ i_Rel (k + 3) u v) v v1) u v1 := by
  obtain ⟨r, hX, hY⟩ := pm_get I v1
  exact hX _ (hY _ ⟨rfl, I⟩)
theorem i_vc_swapEndian {k : Nat} {u : SX} {v : SY} (I : i_Rel k u v) (hk : k + 3 ≤ 1536) (v1 : Int32) : wpX_swapEndian (fun r u' => wpY_swapEndian (fun r' v' => r' = r ∧ i_Rel (k + 3) u' v') v v1) u v1 := by
  obtain ⟨b, hb, eX, eY⟩ := pm_ix v1
  have H0 : vp_in (nI b) 48 := vp_in_nI (by omega) (by omega)
  have H2 : vp_in (nI b + 2) 48 := by rw [pm_i2]; exact vp_in_nI (by omega) (by omega)
  have k0 : (nI b).toNatClampNeg = b := nI_clamp (by omega)
  have k2 : (nI b + 2).toNatClampNeg = b + 2 := by rw [pm_i2]; exact nI_clamp (by omega)
  have J : ∀ j, pm_R (upd (upd u b (vp_nar .byte (u (b + 2)))) (b + 2) (vp_nar .byte (u b)) j) (upd (upd v b (vp_nar .char (v (b + 2)))) (b + 2) (vp_nar .char (v b)) j) :=
    pm_upd (pm_upd I (pm_nar (I (b + 2))) b) (pm_nar (I b)) (b + 2)
  obtain ⟨r, hX, hY⟩ := pm_get J v1
  intro f ef z ez
  have ez' : z = nI b := by rw [ez, ef]; exact eX
  subst ez'
  refine ⟨H0, fun p ep => ⟨H2, H0, fun d1 e1 => ⟨H2, fun d2 e2 => ?_⟩⟩⟩
  rw [k0] at ep
  rw [k0, k2] at e1
  rw [k2, e1, ep] at e2
  subst e2
  refine hX _ ?_
  intro y ey
  have ey' : y = nI b := ey.trans eY
  subst ey'
  refine ⟨H0, fun p' ep' => ⟨H2, H0, fun w1 f1 => ⟨H2, fun w2 f2 => ?_⟩⟩⟩
  rw [k0] at ep'
  rw [k0, k2] at f1
  rw [k2, f1, ep'] at f2
  subst f2
  exact hY _ ⟨rfl, J⟩
end

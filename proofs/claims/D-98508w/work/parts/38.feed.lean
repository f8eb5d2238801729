set_option maxRecDepth 100000
/-! ===== the tape: four bytes of an int ===== -/
theorem shr_t {v : Int} {k : Int} (hv : -2147483648 ≤ v ∧ v ≤ 2147483647) (hk : k = 24 ∨ k = 16 ∨ k = 8 ∨ k = 0) : iI v >>> (iI k &&& 31) = iI (v / 2 ^ k.toNat) := by
  have key : ∀ j : Nat, j < 32 → (iI k &&& 31).toBitVec.smod 32 = BitVec.ofNat 32 j → iI v >>> (iI k &&& 31) = iI (v / 2 ^ j) := by
    intro j hj e
    rw [← Int32.toInt_inj]
    have h1 : (iI v >>> (iI k &&& 31)).toInt = (iI v).toInt >>> ((iI k &&& 31).toBitVec.smod 32).toNat := by
      show ((iI v).toBitVec.sshiftRight' ((iI k &&& 31).toBitVec.smod 32)).toInt = _
      rw [BitVec.toInt_sshiftRight']
      rfl
    have h2 : -2147483648 ≤ v / 2 ^ j ∧ v / 2 ^ j ≤ 2147483647 := by
      have hp : (0 : Int) < 2 ^ j := Int.pow_pos (by decide)
      refine ⟨?_, ?_⟩
      · rw [Int.le_ediv_iff_mul_le hp]
        have : (1 : Int) ≤ 2 ^ j := by omega
        have := Int.mul_le_mul_of_nonneg_left this (show (0 : Int) ≤ 2147483648 by decide)
        omega
      · rw [Int.ediv_le_iff_le_mul hp]
        have : (1 : Int) ≤ 2 ^ j := by omega
        have := Int.mul_le_mul_of_nonneg_left this (show (0 : Int) ≤ 2147483647 by decide)
        omega
    rw [h1, e, iI_toInt hv.1 hv.2, iI_toInt h2.1 h2.2, BitVec.toNat_ofNat, Nat.mod_eq_of_lt (by omega), Int.shiftRight_eq_div_pow]
    rfl
  rcases hk with rfl | rfl | rfl | rfl
  · exact key 24 (by decide) (by decide)
  · exact key 16 (by decide) (by decide)
  · exact key 8 (by decide) (by decide)
  · exact key 0 (by decide) (by decide)
theorem byte_t {z : Int} (hz : -2147483648 ≤ z ∧ z ≤ 2147483647) : (iI z).toInt8.toInt32 = iI (z.bmod 256) := by
  have h1 : (iI z).toInt8.toInt32.toInt = (iI z).toInt8.toInt := Int8.toInt_toInt32 _
  have h2 : (iI z).toInt8.toInt = (iI z).toInt.bmod (2 ^ 8) := Int32.toInt_toInt8 _
  have h3 : -(128 : Int) ≤ z.bmod 256 := Int.le_bmod (by decide)
  have h4 : z.bmod 256 < 128 := Int.bmod_lt (by decide)
  rw [← Int32.toInt_inj, h1, h2, iI_toInt hz.1 hz.2, iI_toInt (by omega) (by omega)]
def b8 (v : Int) (k : Nat) : Int := (v / 2 ^ k).bmod 256
theorem b8_r {v : Int} {k : Nat} : -128 ≤ b8 v k ∧ b8 v k ≤ 127 := by
  unfold b8
  have h3 : -(128 : Int) ≤ (v / 2 ^ k).bmod 256 := Int.le_bmod (by decide)
  have h4 : (v / 2 ^ k).bmod 256 < 128 := Int.bmod_lt (by decide)
  omega
theorem byte_b8 {v k : Int} (hv : i32 v) (hk : k = 24 ∨ k = 16 ∨ k = 8 ∨ k = 0) : vp_nar .byte ((iI v >>> (iI k &&& 31)).toInt8.toInt32) = iI (b8 v k.toNat) := by
  have hr := b8_r (v := v) (k := k.toNat)
  have hv2 : -2147483648 ≤ v / 2 ^ k.toNat ∧ v / 2 ^ k.toNat ≤ 2147483647 := by
    unfold i32 at hv
    rcases hk with rfl | rfl | rfl | rfl
    · show _ ≤ v / 16777216 ∧ v / 16777216 ≤ _; omega
    · show _ ≤ v / 65536 ∧ v / 65536 ≤ _; omega
    · show _ ≤ v / 256 ∧ v / 256 ≤ _; omega
    · show _ ≤ v / 1 ∧ v / 1 ≤ _; omega
  rw [shr_t hv hk, byte_t hv2]
  show (iI (b8 v k.toNat)).toInt8.toInt32 = _
  rw [byte_t (by omega)]
  unfold b8
  rw [Int.bmod_bmod]
def four1 (w : WR) (v : Int) (k : Nat) : WR := wup (wup w 19 (w 0 11) (b8 v k)) 0 11 (w 0 11 + 1)
theorem four1_11 {w : WR} {v : Int} {k : Nat} : four1 w v k 0 11 = w 0 11 + 1 := wup_s
def fourW (w : WR) (v : Int) : WR := four1 (four1 (four1 (four1 w v 24) v 16) v 8) v 0
theorem fourW_11 {w : WR} {v : Int} : fourW w v 0 11 = w 0 11 + 4 := by
  unfold fourW
  rw [four1_11, four1_11, four1_11, four1_11]
  omega
/-- a call without an answer -/
def Ou (D : Nat → Prop) (s : St) (ls : List (List DC)) (x : Option (Unit × St)) (w' : WR) : Prop := ∃ s', x = some ((), s') ∧ C0 D s' w' ls ∧ Sm s s'
theorem e_X0_four_1 {D : Nat → Prop} {s : St} {w : WR} {ls : List (List DC)} (hC : C0 D s w ls) (ht : 0 ≤ w 0 11 ∧ w 0 11 < 400) {v k : Int} (hv : i32 v) (hk : k = 24 ∨ k = 16 ∨ k = 8 ∨ k = 0) {fu : Nat} : ∃ s1, C0 D s1 (four1 w v k.toNat) ls ∧ Sm s s1 ∧ F_X0_four_3 (fu + 1) s (iI v) (iI k) = F_X0_four_3 fu s1 (iI v) (iI (k - 8)) := by
  have hC1 := hC.set 19 (k := w 0 11) (v := b8 v k.toNat) (by omega) (by decide)
  have hC2 := hC1.set 0 (k := 11) (v := w 0 11 + 1) (by omega) (by decide)
  have e1 := hC1.2.1.taped
  rw [wup_n (by decide)] at e1
  refine ⟨_, hC2, (Sm.set (by decide)).tr (Sm.set (by decide)), ?_⟩
  simp only [F_X0_four_3]
  rw [if_neg (by rw [k_0, iI_lt (by omega) (by omega)]; omega), hC.2.1.taped, inb_g (by omega), nam_v, iI_nat (by omega), byte_b8 hv hk, e1, k_1, iI_add, nam_v, k_m8, iI_add]
  rfl
theorem e_X0_four {D : Nat → Prop} {s : St} {w : WR} {ls : List (List DC)} (hC : C0 D s w ls) (ht : 0 ≤ w 0 11 ∧ w 0 11 ≤ 396) {v : Int} (hv : i32 v) : Ou D s ls (F_X0_four s (iI v)) (fourW w v) := by
  unfold F_X0_four
  have hF : ∃ f, FU = f + 5 := ⟨1048571, rfl⟩
  obtain ⟨f, hF⟩ := hF
  obtain ⟨s1, c1, m1, e1⟩ := e_X0_four_1 hC (by omega) hv (k := 24) (by omega) (fu := f + 4)
  obtain ⟨s2, c2, m2, e2⟩ := e_X0_four_1 c1 (by rw [four1_11]; omega) hv (k := 16) (by omega) (fu := f + 3)
  obtain ⟨s3, c3, m3, e3⟩ := e_X0_four_1 c2 (by rw [four1_11, four1_11]; omega) hv (k := 8) (by omega) (fu := f + 2)
  obtain ⟨s4, c4, m4, e4⟩ := e_X0_four_1 c3 (by rw [four1_11, four1_11, four1_11]; omega) hv (k := 0) (by omega) (fu := f + 1)
  refine ⟨s4, ?_, c4, ((m1.tr m2).tr m3).tr m4⟩
  rw [hF, k_24, e1, show (24 - 8 : Int) = 16 by omega, e2, show (16 - 8 : Int) = 8 by omega, e3, show (8 - 8 : Int) = 0 by omega, e4]
  simp only [F_X0_four_3]
  rw [if_pos (by rw [k_0, iI_lt (by omega) (by omega)]; omega)]
noncomputable def feedV (w : WR) : Int := if w 0 11 + 20 ≤ 400 then w 0 11 + 20 else -1
noncomputable def feedW (w : WR) (a b c d e : Int) : WR := if w 0 11 + 20 ≤ 400 then fourW (fourW (fourW (fourW (fourW w a) b) c) d) e else w
theorem x_feed {D : Nat → Prop} {s : St} {w : WR} {ls : List (List DC)} (hC : C0 D s w ls) (hX : Wx w) {a b c d e : Int} (h1 : i32 a) (h2 : i32 b) (h3 : i32 c) (h4 : i32 d) (h5 : i32 e) : Op D s ls (F_X0_feed s (iI a) (iI b) (iI c) (iI d) (iI e)) (feedV w) (feedW w a b c d e) := by
  have ht := hX.1
  unfold F_X0_feed feedV feedW
  rw [hC.2.1.taped, k_20, k_400, iI_add, k_m1]
  by_cases h : w 0 11 + 20 ≤ 400
  · obtain ⟨s1, e1, c1, m1⟩ := e_X0_four hC (by omega) h1
    obtain ⟨s2, e2, c2, m2⟩ := e_X0_four c1 (by rw [fourW_11]; omega) h2
    obtain ⟨s3, e3, c3, m3⟩ := e_X0_four c2 (by rw [fourW_11, fourW_11]; omega) h3
    obtain ⟨s4, e4, c4, m4⟩ := e_X0_four c3 (by rw [fourW_11, fourW_11, fourW_11]; omega) h4
    obtain ⟨s5, e5, c5, m5⟩ := e_X0_four c4 (by rw [fourW_11, fourW_11, fourW_11, fourW_11]; omega) h5
    have q := c5.2.1.taped
    rw [fourW_11, fourW_11, fourW_11, fourW_11, fourW_11, show w 0 11 + 4 + 4 + 4 + 4 + 4 = w 0 11 + 20 by omega] at q
    rw [if_pos (by rw [iI_le (by omega) (by omega)]; exact h), if_pos h, if_pos h, e1, bnd_s, e2, bnd_s, e3, bnd_s, e4, bnd_s, e5, bnd_s, q]
    exact (Op.ret c5).after ((((m1.tr m2).tr m3).tr m4).tr m5)
  · rw [if_neg (by rw [iI_le (by omega) (by omega)]; exact h), if_neg h, if_neg h]
    exact Op.ret hC

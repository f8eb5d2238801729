set_option maxRecDepth 100000
/-! ===== ints of the machine as whole numbers ===== -/
def iI (z : Int) : Int32 := Int32.ofInt z
def lI (z : Int) : Int64 := Int64.ofInt z
theorem iI_toInt {z : Int} (h1 : -2147483648 ≤ z) (h2 : z ≤ 2147483647) : (iI z).toInt = z := by
  unfold iI
  rw [Int32.toInt_ofInt]
  exact Int.bmod_eq_of_le (by rw [show Int32.size = 4294967296 from rfl]; omega) (by rw [show Int32.size = 4294967296 from rfl]; omega)
theorem lI_toInt {z : Int} (h1 : -9223372036854775808 ≤ z) (h2 : z ≤ 9223372036854775807) : (lI z).toInt = z := by
  unfold lI
  rw [Int64.toInt_ofInt]
  exact Int.bmod_eq_of_le (by rw [show Int64.size = 18446744073709551616 from rfl]; omega) (by rw [show Int64.size = 18446744073709551616 from rfl]; omega)
theorem iI_of (x : Int32) : iI x.toInt = x := Int32.ofInt_toInt x
theorem lI_of (x : Int64) : lI x.toInt = x := Int64.ofInt_toInt x
theorem i_rng (x : Int32) : -2147483648 ≤ x.toInt ∧ x.toInt ≤ 2147483647 := ⟨Int32.le_toInt x, by have := Int32.toInt_lt x; omega⟩
theorem i_ex (x : Int32) : ∃ z : Int, x = iI z ∧ -2147483648 ≤ z ∧ z ≤ 2147483647 := ⟨x.toInt, (iI_of x).symm, (i_rng x).1, (i_rng x).2⟩
theorem iI_add {a b : Int} : iI a + iI b = iI (a + b) := (Int32.ofInt_add a b).symm
theorem iI_sub {a b : Int} : iI a - iI b = iI (a - b) := (Int32.ofInt_sub a b).symm
theorem iI_mul {a b : Int} : iI a * iI b = iI (a * b) := (Int32.ofInt_mul a b).symm
theorem iI_neg {a : Int} : -iI a = iI (-a) := (Int32.ofInt_neg a).symm
theorem lI_add {a b : Int} : lI a + lI b = lI (a + b) := (Int64.ofInt_add a b).symm
theorem lI_sub {a b : Int} : lI a - lI b = lI (a - b) := (Int64.ofInt_sub a b).symm
theorem lI_mul {a b : Int} : lI a * lI b = lI (a * b) := (Int64.ofInt_mul a b).symm
theorem lI_neg {a : Int} : -lI a = lI (-a) := (Int64.ofInt_neg a).symm
theorem iI_lt {a b : Int} (ha : -2147483648 ≤ a ∧ a ≤ 2147483647) (hb : -2147483648 ≤ b ∧ b ≤ 2147483647) : (iI a < iI b) = (a < b) := by
  rw [Int32.lt_iff_toInt_lt, iI_toInt ha.1 ha.2, iI_toInt hb.1 hb.2]
theorem iI_le {a b : Int} (ha : -2147483648 ≤ a ∧ a ≤ 2147483647) (hb : -2147483648 ≤ b ∧ b ≤ 2147483647) : (iI a ≤ iI b) = (a ≤ b) := by
  rw [Int32.le_iff_toInt_le, iI_toInt ha.1 ha.2, iI_toInt hb.1 hb.2]
theorem iI_eq {a b : Int} (ha : -2147483648 ≤ a ∧ a ≤ 2147483647) (hb : -2147483648 ≤ b ∧ b ≤ 2147483647) : (iI a = iI b) = (a = b) := by
  rw [← Int32.toInt_inj, iI_toInt ha.1 ha.2, iI_toInt hb.1 hb.2]
theorem lI_lt {a b : Int} (ha : -9223372036854775808 ≤ a ∧ a ≤ 9223372036854775807) (hb : -9223372036854775808 ≤ b ∧ b ≤ 9223372036854775807) : (lI a < lI b) = (a < b) := by
  rw [Int64.lt_iff_toInt_lt, lI_toInt ha.1 ha.2, lI_toInt hb.1 hb.2]
theorem lI_le {a b : Int} (ha : -9223372036854775808 ≤ a ∧ a ≤ 9223372036854775807) (hb : -9223372036854775808 ≤ b ∧ b ≤ 9223372036854775807) : (lI a ≤ lI b) = (a ≤ b) := by
  rw [Int64.le_iff_toInt_le, lI_toInt ha.1 ha.2, lI_toInt hb.1 hb.2]
theorem lI_eq {a b : Int} (ha : -9223372036854775808 ≤ a ∧ a ≤ 9223372036854775807) (hb : -9223372036854775808 ≤ b ∧ b ≤ 9223372036854775807) : (lI a = lI b) = (a = b) := by
  rw [← Int64.toInt_inj, lI_toInt ha.1 ha.2, lI_toInt hb.1 hb.2]
theorem tdiv_rng {a b M : Int} (hM : 0 ≤ M) (h1 : -M ≤ a) (h2 : a ≤ M) : -M ≤ a.tdiv b ∧ a.tdiv b ≤ M := by
  have h : (a.tdiv b).natAbs = a.natAbs / b.natAbs := Int.natAbs_tdiv a b
  have h3 := Nat.div_le_self a.natAbs b.natAbs
  omega
theorem iI_div {a b : Int} (ha : -2147483647 ≤ a ∧ a ≤ 2147483647) (hb : -2147483648 ≤ b ∧ b ≤ 2147483647) : iI a / iI b = iI (a.tdiv b) := by
  have h := tdiv_rng (b := b) (by omega) ha.1 ha.2
  rw [← Int32.toInt_inj, Int32.toInt_div, iI_toInt (by omega) ha.2, iI_toInt hb.1 hb.2, iI_toInt (by omega) (by omega)]
  exact Int.bmod_eq_of_le (by omega) (by omega)
theorem lI_div {a b : Int} (ha : -9223372036854775807 ≤ a ∧ a ≤ 9223372036854775807) (hb : -9223372036854775808 ≤ b ∧ b ≤ 9223372036854775807) : lI a / lI b = lI (a.tdiv b) := by
  have h := tdiv_rng (b := b) (by omega) ha.1 ha.2
  rw [← Int64.toInt_inj, Int64.toInt_div, lI_toInt (by omega) ha.2, lI_toInt hb.1 hb.2, lI_toInt (by omega) (by omega)]
  exact Int.bmod_eq_of_le (by omega) (by omega)
/-- of what is not below nothing -/
theorem iI_divn {a b : Int} (ha : 0 ≤ a ∧ a ≤ 2147483647) (hb : 0 ≤ b ∧ b ≤ 2147483647) : iI a / iI b = iI (a / b) := by
  rw [iI_div (by omega) (by omega), Int.tdiv_eq_ediv_of_nonneg ha.1]
theorem lI_divn {a b : Int} (ha : 0 ≤ a ∧ a ≤ 9223372036854775807) (hb : 0 ≤ b ∧ b ≤ 9223372036854775807) : lI a / lI b = lI (a / b) := by
  rw [lI_div (by omega) (by omega), Int.tdiv_eq_ediv_of_nonneg ha.1]
/-- the rest, as the walks have it -/
theorem iI_remn {a b : Int} (ha : 0 ≤ a ∧ a ≤ 2147483647) (hb : 0 ≤ b ∧ b ≤ 2147483647) : iI a - iI a / iI b * iI b = iI (a % b) := by
  rw [iI_divn ha hb, iI_mul, iI_sub, Int.emod_def, Int.mul_comm]
theorem lI_remn {a b : Int} (ha : 0 ≤ a ∧ a ≤ 9223372036854775807) (hb : 0 ≤ b ∧ b ≤ 9223372036854775807) : lI a - lI a / lI b * lI b = lI (a % b) := by
  rw [lI_divn ha hb, lI_mul, lI_sub, Int.emod_def, Int.mul_comm]
theorem iI_rem {a b : Int} (ha : -2147483647 ≤ a ∧ a ≤ 2147483647) (hb : -2147483648 ≤ b ∧ b ≤ 2147483647) : iI a - iI a / iI b * iI b = iI (a.tmod b) := by
  rw [iI_div ha hb, iI_mul, iI_sub, Int.tmod_def, Int.mul_comm]
theorem lI_rem {a b : Int} (ha : -9223372036854775807 ≤ a ∧ a ≤ 9223372036854775807) (hb : -9223372036854775808 ≤ b ∧ b ≤ 9223372036854775807) : lI a - lI a / lI b * lI b = lI (a.tmod b) := by
  rw [lI_div ha hb, lI_mul, lI_sub, Int.tmod_def, Int.mul_comm]
theorem iI_l {a : Int} (ha : -2147483648 ≤ a ∧ a ≤ 2147483647) : (iI a).toInt64 = lI a := by
  have h : (iI a).toInt64.toInt = (iI a).toInt := Int32.toInt_toInt64 _
  rw [← Int64.toInt_inj, h, iI_toInt ha.1 ha.2, lI_toInt (by omega) (by omega)]
theorem lI_i {a : Int} (ha : -2147483648 ≤ a ∧ a ≤ 2147483647) : (lI a).toInt32 = iI a := by
  have h : (lI a).toInt32.toInt = (lI a).toInt.bmod (2 ^ 32) := Int64.toInt_toInt32 _
  rw [← Int32.toInt_inj, h, iI_toInt ha.1 ha.2, lI_toInt (by omega) (by omega)]
  exact Int.bmod_eq_of_le (by omega) (by omega)
theorem iI_nat {a : Int} (ha : 0 ≤ a ∧ a ≤ 2147483647) : (iI a).toNatClampNeg = a.toNat := by
  show (iI a).toInt.toNat = _
  rw [iI_toInt (by omega) ha.2]
theorem nI_iI (n : Nat) : nI n = iI n := by
  unfold nI iI
  exact (Int32.ofInt_eq_ofNat (n := n)).symm
theorem inb_t {a : Int} {n : Nat} (h : 0 ≤ a ∧ a < n) (h2 : a ≤ 2147483647) : inb (iI a) n = true := by
  unfold inb
  have h3 : ¬ iI a < 0 := by
    rw [show (0 : Int32) = iI 0 from rfl, iI_lt (by omega) (by omega)]
    omega
  rw [iI_nat ⟨h.1, h2⟩]
  have h4 : Nat.ble n a.toNat = false := by
    cases hb : Nat.ble n a.toNat
    · rfl
    · exact absurd (Nat.le_of_ble_eq_true hb) (by omega)
  rw [h4, decide_eq_false h3]
  rfl
theorem nzi_t {a : Int} (h : a ≠ 0) (h1 : -2147483648 ≤ a ∧ a ≤ 2147483647) : nzi (iI a) = true := by
  unfold nzi
  have h3 : ¬ iI a = 0 := by
    rw [show (0 : Int32) = iI 0 from rfl, iI_eq h1 (by omega)]
    exact h
  rw [decide_eq_false h3]
  rfl
theorem nzl_t {a : Int} (h : a ≠ 0) (h1 : -9223372036854775808 ≤ a ∧ a ≤ 9223372036854775807) : nzl (lI a) = true := by
  unfold nzl
  have h3 : ¬ lI a = 0 := by
    rw [show (0 : Int64) = lI 0 from rfl, lI_eq h1 (by omega)]
    exact h
  rw [decide_eq_false h3]
  rfl
theorem fits_z {a : Int} (h : a = 0 ∨ a = 1) : fits .boolean (.int (iI a)) = true := by
  rcases h with rfl | rfl <;> decide
/-- a truth as an int -/
noncomputable def bZ (p : Prop) : Int := @ite _ p (Classical.propDecidable p) 1 0
theorem bZ_t {p : Prop} (h : p) : bZ p = 1 := if_pos h
theorem bZ_f {p : Prop} (h : ¬ p) : bZ p = 0 := if_neg h
theorem bZ_01 (p : Prop) : bZ p = 0 ∨ bZ p = 1 := by
  by_cases h : p
  · exact Or.inr (bZ_t h)
  · exact Or.inl (bZ_f h)
theorem bZ_r (p : Prop) : -2147483648 ≤ bZ p ∧ bZ p ≤ 2147483647 := by rcases bZ_01 p with h | h <;> rw [h] <;> omega
theorem bZ_0 (p : Prop) : (bZ p = 0) = ¬ p := by
  by_cases h : p
  · rw [bZ_t h]; simp [h]
  · rw [bZ_f h]; simp [h]
theorem bZ_1 (p : Prop) : (bZ p = 1) = p := by
  by_cases h : p
  · rw [bZ_t h]; simp [h]
  · rw [bZ_f h]; simp [h]
theorem bZ_i0 (p : Prop) : (iI (bZ p) = iI 0) = ¬ p := by rw [iI_eq (bZ_r p) (by omega), bZ_0]
theorem bZ_i1 (p : Prop) : (iI (bZ p) = iI 1) = p := by rw [iI_eq (bZ_r p) (by omega), bZ_1]
/-! what a run comes to -/
def Ev {α : Type} (x : Option (α × St)) (P : α → St → Prop) : Prop := ∃ r s', x = some (r, s') ∧ P r s'
theorem Ev_ret {α : Type} {P : α → St → Prop} {r : α} {s : St} (h : P r s) : Ev (some (r, s)) P := ⟨r, s, rfl, h⟩
theorem Ev_gd {α : Type} {P : α → St → Prop} {b : Bool} {x : Option (α × St)} (h : b = true) (k : Ev x P) : Ev (gd b x) P := by
  rw [h]
  exact k
theorem Ev_gp {α : Type} {P : α → St → Prop} {p : Prop} {x : Option (α × St)} (h : p) (k : Ev x P) : Ev (gp p x) P := by
  rw [gp_t h]
  exact k
theorem Ev_nam {α β : Type} {P : α → St → Prop} {a : β} {f : β → Option (α × St)} (k : ∀ y, y = a → Ev (f y) P) : Ev (nam a f) P := k a rfl
theorem Ev_drf {α : Type} {P : α → St → Prop} {o : Option Nat} {a : Nat} {f : Nat → Option (α × St)} (h : o = some a) (k : Ev (f a) P) : Ev (drf o f) P := by
  rw [h]
  exact k
theorem Ev_ite {α : Type} {P : α → St → Prop} {c : Prop} {d : Decidable c} {x y : Option (α × St)} (h1 : c → Ev x P) (h2 : ¬ c → Ev y P) : Ev (@ite _ c d x y) P := by
  by_cases h : c
  · rw [if_pos h]; exact h1 h
  · rw [if_neg h]; exact h2 h
theorem Ev_bnd {α β : Type} {P : α → St → Prop} {Q : β → St → Prop} {x : Option (β × St)} {f : β → St → Option (α × St)} (h : Ev x Q) (k : ∀ r s, Q r s → Ev (f r s) P) : Ev (bnd x f) P := by
  obtain ⟨r, s, rfl, hq⟩ := h
  exact k r s hq
theorem Ev_mono {α : Type} {P Q : α → St → Prop} {x : Option (α × St)} (h : Ev x Q) (k : ∀ r s, Q r s → P r s) : Ev x P := by
  obtain ⟨r, s, e, hq⟩ := h
  exact ⟨r, s, e, k r s hq⟩
theorem Ev_bnx {α β : Type} {P : α → St → Prop} {Q : β ⊕ Nat → St → Prop} {x : Option ((β ⊕ Nat) × St)} {g : Nat → St → Option (α × St)} {f : β → St → Option (α × St)} (h : Ev x Q) (k1 : ∀ a s, Q (.inr a) s → Ev (g a s) P) (k : ∀ r s, Q (.inl r) s → Ev (f r s) P) : Ev (bnx x g f) P := by
  obtain ⟨r, s, rfl, hq⟩ := h
  cases r with
  | inl r => exact k r s hq
  | inr a => exact k1 a s hq

theorem k_0 : (0 : Int32) = iI (0) := rfl
theorem k_1 : (1 : Int32) = iI (1) := rfl
theorem k_m1 : (-1 : Int32) = iI (-1) := rfl
theorem k_2 : (2 : Int32) = iI (2) := rfl
theorem k_m2 : (-2 : Int32) = iI (-2) := rfl
theorem k_3 : (3 : Int32) = iI (3) := rfl
theorem k_m3 : (-3 : Int32) = iI (-3) := rfl
theorem k_4 : (4 : Int32) = iI (4) := rfl
theorem k_m4 : (-4 : Int32) = iI (-4) := rfl
theorem k_5 : (5 : Int32) = iI (5) := rfl
theorem k_m5 : (-5 : Int32) = iI (-5) := rfl
theorem k_6 : (6 : Int32) = iI (6) := rfl
theorem k_m6 : (-6 : Int32) = iI (-6) := rfl
theorem k_7 : (7 : Int32) = iI (7) := rfl
theorem k_m7 : (-7 : Int32) = iI (-7) := rfl
theorem k_8 : (8 : Int32) = iI (8) := rfl
theorem k_m8 : (-8 : Int32) = iI (-8) := rfl
theorem k_9 : (9 : Int32) = iI (9) := rfl
theorem k_m9 : (-9 : Int32) = iI (-9) := rfl
theorem k_10 : (10 : Int32) = iI (10) := rfl
theorem k_11 : (11 : Int32) = iI (11) := rfl
theorem k_12 : (12 : Int32) = iI (12) := rfl
theorem k_13 : (13 : Int32) = iI (13) := rfl
theorem k_14 : (14 : Int32) = iI (14) := rfl
theorem k_15 : (15 : Int32) = iI (15) := rfl
theorem k_16 : (16 : Int32) = iI (16) := rfl
theorem k_17 : (17 : Int32) = iI (17) := rfl
theorem k_18 : (18 : Int32) = iI (18) := rfl
theorem k_19 : (19 : Int32) = iI (19) := rfl
theorem k_20 : (20 : Int32) = iI (20) := rfl
theorem k_21 : (21 : Int32) = iI (21) := rfl
theorem k_22 : (22 : Int32) = iI (22) := rfl
theorem k_23 : (23 : Int32) = iI (23) := rfl
theorem k_24 : (24 : Int32) = iI (24) := rfl
theorem k_25 : (25 : Int32) = iI (25) := rfl
theorem k_26 : (26 : Int32) = iI (26) := rfl
theorem k_27 : (27 : Int32) = iI (27) := rfl
theorem k_28 : (28 : Int32) = iI (28) := rfl
theorem k_29 : (29 : Int32) = iI (29) := rfl
theorem k_30 : (30 : Int32) = iI (30) := rfl
theorem k_31 : (31 : Int32) = iI (31) := rfl
theorem k_32 : (32 : Int32) = iI (32) := rfl
theorem k_33 : (33 : Int32) = iI (33) := rfl
theorem k_34 : (34 : Int32) = iI (34) := rfl
theorem k_35 : (35 : Int32) = iI (35) := rfl
theorem k_36 : (36 : Int32) = iI (36) := rfl
theorem k_37 : (37 : Int32) = iI (37) := rfl
theorem k_38 : (38 : Int32) = iI (38) := rfl
theorem k_39 : (39 : Int32) = iI (39) := rfl
theorem k_40 : (40 : Int32) = iI (40) := rfl
theorem k_41 : (41 : Int32) = iI (41) := rfl
theorem k_42 : (42 : Int32) = iI (42) := rfl
theorem k_43 : (43 : Int32) = iI (43) := rfl
theorem k_44 : (44 : Int32) = iI (44) := rfl
theorem k_45 : (45 : Int32) = iI (45) := rfl
theorem k_46 : (46 : Int32) = iI (46) := rfl
theorem k_47 : (47 : Int32) = iI (47) := rfl
theorem k_48 : (48 : Int32) = iI (48) := rfl
theorem k_49 : (49 : Int32) = iI (49) := rfl
theorem k_50 : (50 : Int32) = iI (50) := rfl
theorem k_51 : (51 : Int32) = iI (51) := rfl
theorem k_52 : (52 : Int32) = iI (52) := rfl
theorem k_53 : (53 : Int32) = iI (53) := rfl
theorem k_54 : (54 : Int32) = iI (54) := rfl
theorem k_55 : (55 : Int32) = iI (55) := rfl
theorem k_56 : (56 : Int32) = iI (56) := rfl
theorem k_57 : (57 : Int32) = iI (57) := rfl
theorem k_58 : (58 : Int32) = iI (58) := rfl
theorem k_59 : (59 : Int32) = iI (59) := rfl
theorem k_60 : (60 : Int32) = iI (60) := rfl
theorem k_61 : (61 : Int32) = iI (61) := rfl
theorem k_62 : (62 : Int32) = iI (62) := rfl
theorem k_63 : (63 : Int32) = iI (63) := rfl
theorem k_64 : (64 : Int32) = iI (64) := rfl
theorem k_90 : (90 : Int32) = iI (90) := rfl
theorem k_91 : (91 : Int32) = iI (91) := rfl
theorem k_93 : (93 : Int32) = iI (93) := rfl
theorem k_96 : (96 : Int32) = iI (96) := rfl
theorem k_97 : (97 : Int32) = iI (97) := rfl
theorem k_98 : (98 : Int32) = iI (98) := rfl
theorem k_99 : (99 : Int32) = iI (99) := rfl
theorem k_100 : (100 : Int32) = iI (100) := rfl
theorem k_102 : (102 : Int32) = iI (102) := rfl
theorem k_108 : (108 : Int32) = iI (108) := rfl
theorem k_122 : (122 : Int32) = iI (122) := rfl
theorem k_255 : (255 : Int32) = iI (255) := rfl
theorem k_400 : (400 : Int32) = iI (400) := rfl
theorem k_900 : (900 : Int32) = iI (900) := rfl
theorem k_m1000 : (-1000 : Int32) = iI (-1000) := rfl
theorem k_1000 : (1000 : Int32) = iI (1000) := rfl
theorem k_5460 : (5460 : Int32) = iI (5460) := rfl
theorem k_1000000 : (1000000 : Int32) = iI (1000000) := rfl
theorem k_2147483639 : (2147483639 : Int32) = iI (2147483639) := rfl
theorem K_0 : (0 : Int64) = lI (0) := rfl
theorem K_1 : (1 : Int64) = lI (1) := rfl
theorem K_m1 : (-1 : Int64) = lI (-1) := rfl
theorem K_2 : (2 : Int64) = lI (2) := rfl
theorem K_m2 : (-2 : Int64) = lI (-2) := rfl
theorem K_3 : (3 : Int64) = lI (3) := rfl
theorem K_m3 : (-3 : Int64) = lI (-3) := rfl
theorem K_4 : (4 : Int64) = lI (4) := rfl
theorem K_m4 : (-4 : Int64) = lI (-4) := rfl
theorem K_5 : (5 : Int64) = lI (5) := rfl
theorem K_m5 : (-5 : Int64) = lI (-5) := rfl
theorem K_6 : (6 : Int64) = lI (6) := rfl
theorem K_m6 : (-6 : Int64) = lI (-6) := rfl
theorem K_7 : (7 : Int64) = lI (7) := rfl
theorem K_m7 : (-7 : Int64) = lI (-7) := rfl
theorem K_8 : (8 : Int64) = lI (8) := rfl
theorem K_m8 : (-8 : Int64) = lI (-8) := rfl
theorem K_9 : (9 : Int64) = lI (9) := rfl
theorem K_m9 : (-9 : Int64) = lI (-9) := rfl
theorem K_10 : (10 : Int64) = lI (10) := rfl
theorem K_11 : (11 : Int64) = lI (11) := rfl
theorem K_12 : (12 : Int64) = lI (12) := rfl
theorem K_13 : (13 : Int64) = lI (13) := rfl
theorem K_14 : (14 : Int64) = lI (14) := rfl
theorem K_15 : (15 : Int64) = lI (15) := rfl
theorem K_16 : (16 : Int64) = lI (16) := rfl
theorem K_17 : (17 : Int64) = lI (17) := rfl
theorem K_18 : (18 : Int64) = lI (18) := rfl
theorem K_19 : (19 : Int64) = lI (19) := rfl
theorem K_20 : (20 : Int64) = lI (20) := rfl
theorem K_21 : (21 : Int64) = lI (21) := rfl
theorem K_22 : (22 : Int64) = lI (22) := rfl
theorem K_23 : (23 : Int64) = lI (23) := rfl
theorem K_24 : (24 : Int64) = lI (24) := rfl
theorem K_25 : (25 : Int64) = lI (25) := rfl
theorem K_26 : (26 : Int64) = lI (26) := rfl
theorem K_27 : (27 : Int64) = lI (27) := rfl
theorem K_28 : (28 : Int64) = lI (28) := rfl
theorem K_29 : (29 : Int64) = lI (29) := rfl
theorem K_30 : (30 : Int64) = lI (30) := rfl
theorem K_31 : (31 : Int64) = lI (31) := rfl
theorem K_32 : (32 : Int64) = lI (32) := rfl
theorem K_33 : (33 : Int64) = lI (33) := rfl
theorem K_34 : (34 : Int64) = lI (34) := rfl
theorem K_35 : (35 : Int64) = lI (35) := rfl
theorem K_36 : (36 : Int64) = lI (36) := rfl
theorem K_37 : (37 : Int64) = lI (37) := rfl
theorem K_38 : (38 : Int64) = lI (38) := rfl
theorem K_39 : (39 : Int64) = lI (39) := rfl
theorem K_40 : (40 : Int64) = lI (40) := rfl
theorem K_41 : (41 : Int64) = lI (41) := rfl
theorem K_42 : (42 : Int64) = lI (42) := rfl
theorem K_43 : (43 : Int64) = lI (43) := rfl
theorem K_44 : (44 : Int64) = lI (44) := rfl
theorem K_45 : (45 : Int64) = lI (45) := rfl
theorem K_46 : (46 : Int64) = lI (46) := rfl
theorem K_47 : (47 : Int64) = lI (47) := rfl
theorem K_48 : (48 : Int64) = lI (48) := rfl
theorem K_49 : (49 : Int64) = lI (49) := rfl
theorem K_50 : (50 : Int64) = lI (50) := rfl
theorem K_51 : (51 : Int64) = lI (51) := rfl
theorem K_52 : (52 : Int64) = lI (52) := rfl
theorem K_53 : (53 : Int64) = lI (53) := rfl
theorem K_54 : (54 : Int64) = lI (54) := rfl
theorem K_55 : (55 : Int64) = lI (55) := rfl
theorem K_56 : (56 : Int64) = lI (56) := rfl
theorem K_57 : (57 : Int64) = lI (57) := rfl
theorem K_58 : (58 : Int64) = lI (58) := rfl
theorem K_59 : (59 : Int64) = lI (59) := rfl
theorem K_60 : (60 : Int64) = lI (60) := rfl
theorem K_61 : (61 : Int64) = lI (61) := rfl
theorem K_62 : (62 : Int64) = lI (62) := rfl
theorem K_63 : (63 : Int64) = lI (63) := rfl
theorem K_64 : (64 : Int64) = lI (64) := rfl
theorem K_96 : (96 : Int64) = lI (96) := rfl
theorem K_100 : (100 : Int64) = lI (100) := rfl
theorem K_152 : (152 : Int64) = lI (152) := rfl
theorem K_153 : (153 : Int64) = lI (153) := rfl
theorem K_239 : (239 : Int64) = lI (239) := rfl
theorem K_294 : (294 : Int64) = lI (294) := rfl
theorem K_498 : (498 : Int64) = lI (498) := rfl
theorem K_1000 : (1000 : Int64) = lI (1000) := rfl
theorem K_1103 : (1103 : Int64) = lI (1103) := rfl
theorem K_1476 : (1476 : Int64) = lI (1476) := rfl
theorem K_6000 : (6000 : Int64) = lI (6000) := rfl
theorem K_6194 : (6194 : Int64) = lI (6194) := rfl
theorem K_12345 : (12345 : Int64) = lI (12345) := rfl
theorem K_14836 : (14836 : Int64) = lI (14836) := rfl
theorem K_67155 : (67155 : Int64) = lI (67155) := rfl
theorem K_103820 : (103820 : Int64) = lI (103820) := rfl
theorem K_146885 : (146885 : Int64) = lI (146885) := rfl
theorem K_271592 : (271592 : Int64) = lI (271592) := rfl
theorem K_441828 : (441828 : Int64) = lI (441828) := rfl
theorem K_611944 : (611944 : Int64) = lI (611944) := rfl
theorem K_631941 : (631941 : Int64) = lI (631941) := rfl
theorem K_656780 : (656780 : Int64) = lI (656780) := rfl
theorem K_755156 : (755156 : Int64) = lI (755156) := rfl
theorem K_758931 : (758931 : Int64) = lI (758931) := rfl
theorem K_769604 : (769604 : Int64) = lI (769604) := rfl
theorem K_1000000 : (1000000 : Int64) = lI (1000000) := rfl
theorem K_1000003 : (1000003 : Int64) = lI (1000003) := rfl
theorem K_6801509 : (6801509 : Int64) = lI (6801509) := rfl
theorem K_7939603 : (7939603 : Int64) = lI (7939603) := rfl
theorem K_20325907 : (20325907 : Int64) = lI (20325907) := rfl
theorem K_21279923 : (21279923 : Int64) = lI (21279923) := rfl
theorem K_72754342 : (72754342 : Int64) = lI (72754342) := rfl
theorem K_102407444 : (102407444 : Int64) = lI (102407444) := rfl
theorem K_626630820 : (626630820 : Int64) = lI (626630820) := rfl
theorem K_m1000000000 : (-1000000000 : Int64) = lI (-1000000000) := rfl
theorem K_1000000000 : (1000000000 : Int64) = lI (1000000000) := rfl
theorem K_2328139461 : (2328139461 : Int64) = lI (2328139461) := rfl
theorem K_3275858098 : (3275858098 : Int64) = lI (3275858098) := rfl
theorem K_m4000000000 : (-4000000000 : Int64) = lI (-4000000000) := rfl
theorem K_104827459155 : (104827459155 : Int64) = lI (104827459155) := rfl

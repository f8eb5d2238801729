set_option maxRecDepth 100000
/-! ===== the component's small ones ===== -/
theorem e_X0_in (s : St) {v lo hi : Int} (h : -2147483648 ≤ v ∧ v ≤ 2147483647) (h1 : -2147483648 ≤ lo ∧ lo ≤ 2147483647) (h2 : -2147483648 ≤ hi ∧ hi ≤ 2147483647) : F_X0_in s (iI v) (iI lo) (iI hi) = some (iI (bZ (lo ≤ v ∧ v ≤ hi)), s) := by
  unfold F_X0_in
  simp (disch := omega) only [k_0, k_1, k_m1, k_2, k_m2, k_3, k_m3, k_4, k_m4, k_5, k_m5, k_6, k_m6, k_7, k_m7, k_8, k_m8, k_9, k_m9, k_10, k_11, k_12, k_13, k_14, k_15, k_16, k_17, k_18, k_19, k_20, k_21, k_22, k_23, k_24, k_25, k_26, k_27, k_28, k_29, k_30, k_31, k_32, k_33, k_34, k_35, k_36, k_37, k_38, k_39, k_40, k_41, k_42, k_43, k_44, k_45, k_46, k_47, k_48, k_49, k_50, k_51, k_52, k_53, k_54, k_55, k_56, k_57, k_58, k_59, k_60, k_61, k_62, k_63, k_64, k_90, k_91, k_93, k_96, k_97, k_98, k_99, k_100, k_102, k_108, k_122, k_255, k_400, k_900, k_m1000, k_1000, k_5460, k_1000000, k_2147483639, iI_add, iI_sub, iI_mul, iI_neg, iI_lt, iI_le, iI_eq, iI_nat, bZ_i0, bZ_i1]
  split
  · rw [bZ_f (by omega)]
  · split
    · rw [bZ_f (by omega)]
    · rw [bZ_t (by omega)]
theorem e_X0_isCell (s : St) {v : Int} (h : -2147483648 ≤ v ∧ v ≤ 2147483647) : F_X0_isCell s (iI v) = some (iI (bZ (0 ≤ v ∧ v ≤ 35)), s) := by
  unfold F_X0_isCell
  simp (disch := omega) only [k_0, k_1, k_m1, k_2, k_m2, k_3, k_m3, k_4, k_m4, k_5, k_m5, k_6, k_m6, k_7, k_m7, k_8, k_m8, k_9, k_m9, k_10, k_11, k_12, k_13, k_14, k_15, k_16, k_17, k_18, k_19, k_20, k_21, k_22, k_23, k_24, k_25, k_26, k_27, k_28, k_29, k_30, k_31, k_32, k_33, k_34, k_35, k_36, k_37, k_38, k_39, k_40, k_41, k_42, k_43, k_44, k_45, k_46, k_47, k_48, k_49, k_50, k_51, k_52, k_53, k_54, k_55, k_56, k_57, k_58, k_59, k_60, k_61, k_62, k_63, k_64, k_90, k_91, k_93, k_96, k_97, k_98, k_99, k_100, k_102, k_108, k_122, k_255, k_400, k_900, k_m1000, k_1000, k_5460, k_1000000, k_2147483639, iI_add, iI_sub, iI_mul, iI_neg, iI_lt, iI_le, iI_eq, iI_nat, bZ_i0, bZ_i1, e_X0_in, bnd_s, fits_b]
def cellA (x y : Int) : Int := if 0 ≤ x ∧ x ≤ 5 ∧ 0 ≤ y ∧ y ≤ 5 then 6 * y + x else -1
theorem cellA_r {x y : Int} : -1 ≤ cellA x y ∧ cellA x y ≤ 35 := by
  unfold cellA
  omega
theorem e_X0_cellAt (s : St) {x y : Int} (h : -2147483648 ≤ x ∧ x ≤ 2147483647) (h1 : -2147483648 ≤ y ∧ y ≤ 2147483647) : F_X0_cellAt s (iI x) (iI y) = some (iI (cellA x y), s) := by
  unfold F_X0_cellAt cellA
  simp (disch := omega) only [k_0, k_1, k_m1, k_2, k_m2, k_3, k_m3, k_4, k_m4, k_5, k_m5, k_6, k_m6, k_7, k_m7, k_8, k_m8, k_9, k_m9, k_10, k_11, k_12, k_13, k_14, k_15, k_16, k_17, k_18, k_19, k_20, k_21, k_22, k_23, k_24, k_25, k_26, k_27, k_28, k_29, k_30, k_31, k_32, k_33, k_34, k_35, k_36, k_37, k_38, k_39, k_40, k_41, k_42, k_43, k_44, k_45, k_46, k_47, k_48, k_49, k_50, k_51, k_52, k_53, k_54, k_55, k_56, k_57, k_58, k_59, k_60, k_61, k_62, k_63, k_64, k_90, k_91, k_93, k_96, k_97, k_98, k_99, k_100, k_102, k_108, k_122, k_255, k_400, k_900, k_m1000, k_1000, k_5460, k_1000000, k_2147483639, iI_add, iI_sub, iI_mul, iI_neg, iI_lt, iI_le, iI_eq, iI_nat, bZ_i0, bZ_i1, e_X0_in, bnd_s]
  grind
theorem e_X0_isCatcher {s : St} {w : WR} (hR : RCi s w) (hm : 0 ≤ w 2 8 ∧ w 2 8 ≤ 6) {c : Int} (h : -2147483648 ≤ c ∧ c ≤ 2147483647) : F_X0_isCatcher s (iI c) = some (iI (bZ (0 ≤ c ∧ c < w 2 8)), s) := by
  unfold F_X0_isCatcher
  rw [hR.many]
  simp (disch := omega) only [k_0, k_1, k_m1, k_2, k_m2, k_3, k_m3, k_4, k_m4, k_5, k_m5, k_6, k_m6, k_7, k_m7, k_8, k_m8, k_9, k_m9, k_10, k_11, k_12, k_13, k_14, k_15, k_16, k_17, k_18, k_19, k_20, k_21, k_22, k_23, k_24, k_25, k_26, k_27, k_28, k_29, k_30, k_31, k_32, k_33, k_34, k_35, k_36, k_37, k_38, k_39, k_40, k_41, k_42, k_43, k_44, k_45, k_46, k_47, k_48, k_49, k_50, k_51, k_52, k_53, k_54, k_55, k_56, k_57, k_58, k_59, k_60, k_61, k_62, k_63, k_64, k_90, k_91, k_93, k_96, k_97, k_98, k_99, k_100, k_102, k_108, k_122, k_255, k_400, k_900, k_m1000, k_1000, k_5460, k_1000000, k_2147483639, iI_add, iI_sub, iI_mul, iI_neg, iI_lt, iI_le, iI_eq, iI_nat, bZ_i0, bZ_i1, e_X0_in, bnd_s, fits_b]
  congr 4
  exact propext (by omega)
def absZ (a : Int) : Int := if 0 ≤ a then a else 0 - a
def farZ (a b : Int) : Int := absZ (a % 6 - b % 6) + absZ (a / 6 - b / 6)
theorem farZ_r {a b : Int} (h1 : 0 ≤ a ∧ a ≤ 35) (h2 : 0 ≤ b ∧ b ≤ 35) : 0 ≤ farZ a b ∧ farZ a b ≤ 10 := by
  unfold farZ absZ
  omega
theorem absI {z : Int} (h : -1000000000 ≤ z ∧ z ≤ 1000000000) : (if (0 : Int32) ≤ iI z then iI z else 0 - iI z) = iI (absZ z) := by
  unfold absZ
  rw [k_0, iI_sub]
  by_cases h0 : 0 ≤ z
  · rw [if_pos (by rw [iI_le (by omega) (by omega)]; exact h0), if_pos h0]
  · rw [if_neg (by rw [iI_le (by omega) (by omega)]; exact h0), if_neg h0]
theorem e_X0_far (s : St) {a b : Int} (h1 : 0 ≤ a ∧ a ≤ 35) (h2 : 0 ≤ b ∧ b ≤ 35) : F_X0_far s (iI a) (iI b) = some (iI (farZ a b), s) := by
  unfold F_X0_far farZ
  rw [k_6, iI_remn (by omega) (by omega), iI_remn (by omega) (by omega), iI_divn (by omega) (by omega), iI_divn (by omega) (by omega), iI_sub, iI_sub, absI (by omega), absI (by omega), iI_add]
noncomputable def isPutP (what v : Int) : Prop := (what = 0 ∧ 0 ≤ v ∧ v ≤ 3) ∨ (what = 1 ∧ -9 ≤ v ∧ v ≤ 9) ∨ (what = 2 ∧ 1 ≤ v ∧ v ≤ 9)
theorem e_X0_isPut (s : St) {a v : Int} (h : -2147483648 ≤ a ∧ a ≤ 2147483647) (h1 : -2147483648 ≤ v ∧ v ≤ 2147483647) : F_X0_isPut s (iI a) (iI v) = some (iI (bZ (isPutP a v)), s) := by
  unfold F_X0_isPut isPutP
  simp (disch := omega) only [k_0, k_1, k_m1, k_2, k_m2, k_3, k_m3, k_4, k_m4, k_5, k_m5, k_6, k_m6, k_7, k_m7, k_8, k_m8, k_9, k_m9, k_10, k_11, k_12, k_13, k_14, k_15, k_16, k_17, k_18, k_19, k_20, k_21, k_22, k_23, k_24, k_25, k_26, k_27, k_28, k_29, k_30, k_31, k_32, k_33, k_34, k_35, k_36, k_37, k_38, k_39, k_40, k_41, k_42, k_43, k_44, k_45, k_46, k_47, k_48, k_49, k_50, k_51, k_52, k_53, k_54, k_55, k_56, k_57, k_58, k_59, k_60, k_61, k_62, k_63, k_64, k_90, k_91, k_93, k_96, k_97, k_98, k_99, k_100, k_102, k_108, k_122, k_255, k_400, k_900, k_m1000, k_1000, k_5460, k_1000000, k_2147483639, iI_add, iI_sub, iI_mul, iI_neg, iI_lt, iI_le, iI_eq, iI_nat, bZ_i0, bZ_i1, e_X0_in, bnd_s, fits_b]
  by_cases a0 : a = 0
  · rw [if_pos a0]
    congr 4
    exact propext (by omega)
  · rw [if_neg a0]
    by_cases a1 : a = 1
    · rw [if_pos a1]
      congr 4
      exact propext (by omega)
    · rw [if_neg a1]
      by_cases a2 : a = 2
      · rw [if_pos a2]
        split
        · rw [bZ_f (by omega)]
        · rw [bZ_t (by omega)]
      · rw [if_neg a2, bZ_f (by omega)]
def isTermP (what v : Int) : Prop := (what = 0 ∧ 1 ≤ v ∧ v ≤ 5) ∨ (what = 1 ∧ -2 ≤ v ∧ v ≤ 2) ∨ (what = 2 ∧ 1 ≤ v ∧ v ≤ 9) ∨ (what = 3 ∧ 2 ≤ v ∧ v ≤ 3) ∨ (what = 4 ∧ 0 ≤ v ∧ v ≤ 5) ∨ (what = 5 ∧ 0 ≤ v ∧ v ≤ 2) ∨ (what = 6 ∧ -1 ≤ v ∧ v ≤ 35) ∨ (what = 7 ∧ 1 ≤ v ∧ v ≤ 9) ∨ (what = 8 ∧ 0 ≤ v ∧ v ≤ 9)
theorem e_X0_isTerm (s : St) {a v : Int} (h : -2147483648 ≤ a ∧ a ≤ 2147483647) (h1 : -2147483648 ≤ v ∧ v ≤ 2147483647) : F_X0_isTerm s (iI a) (iI v) = some (iI (bZ (isTermP a v)), s) := by
  unfold F_X0_isTerm F_X0_isTerm_67 isTermP
  simp (disch := omega) only [k_0, k_1, k_m1, k_2, k_m2, k_3, k_m3, k_4, k_m4, k_5, k_m5, k_6, k_m6, k_7, k_m7, k_8, k_m8, k_9, k_m9, k_10, k_11, k_12, k_13, k_14, k_15, k_16, k_17, k_18, k_19, k_20, k_21, k_22, k_23, k_24, k_25, k_26, k_27, k_28, k_29, k_30, k_31, k_32, k_33, k_34, k_35, k_36, k_37, k_38, k_39, k_40, k_41, k_42, k_43, k_44, k_45, k_46, k_47, k_48, k_49, k_50, k_51, k_52, k_53, k_54, k_55, k_56, k_57, k_58, k_59, k_60, k_61, k_62, k_63, k_64, k_90, k_91, k_93, k_96, k_97, k_98, k_99, k_100, k_102, k_108, k_122, k_255, k_400, k_900, k_m1000, k_1000, k_5460, k_1000000, k_2147483639, iI_add, iI_sub, iI_mul, iI_neg, iI_lt, iI_le, iI_eq, iI_nat, bZ_i0, bZ_i1, e_X0_in, bnd_s, fits_b]
  repeat (split; · (congr 4; exact propext (by omega)))
  rw [bZ_f (by omega)]
theorem e_X0_forceOf (s : St) {k : Int} (h : 0 ≤ k ∧ k ≤ 1000) : F_X0_forceOf s (iI k) = some (iI (1 + k / 5), s) := by
  unfold F_X0_forceOf
  rw [k_1, k_5, iI_divn (by omega) (by omega), iI_add]
def besideZ (c d : Int) : Int := cellA (c % 6 + (if d = 1 then 1 else if d = 3 then -1 else 0)) (c / 6 + (if d = 0 then -1 else if d = 2 then 1 else 0))
theorem e_X0_beside (s : St) {c d : Int} (h : 0 ≤ c ∧ c ≤ 35) (h1 : 0 ≤ d ∧ d ≤ 3) : F_X0_beside s (iI c) (iI d) = some (iI (besideZ c d), s) := by
  have hd : d = 0 ∨ d = 1 ∨ d = 2 ∨ d = 3 := by omega
  unfold F_X0_beside F_X0_beside_23 F_X0_beside_46 besideZ
  rw [k_6, iI_remn (by omega) (by omega), iI_divn (by omega) (by omega)]
  rcases hd with rfl | rfl | rfl | rfl <;> simp (disch := omega) only [k_0, k_1, k_m1, k_2, k_m2, k_3, k_m3, k_4, k_m4, k_5, k_m5, k_6, k_m6, k_7, k_m7, k_8, k_m8, k_9, k_m9, k_10, k_11, k_12, k_13, k_14, k_15, k_16, k_17, k_18, k_19, k_20, k_21, k_22, k_23, k_24, k_25, k_26, k_27, k_28, k_29, k_30, k_31, k_32, k_33, k_34, k_35, k_36, k_37, k_38, k_39, k_40, k_41, k_42, k_43, k_44, k_45, k_46, k_47, k_48, k_49, k_50, k_51, k_52, k_53, k_54, k_55, k_56, k_57, k_58, k_59, k_60, k_61, k_62, k_63, k_64, k_90, k_91, k_93, k_96, k_97, k_98, k_99, k_100, k_102, k_108, k_122, k_255, k_400, k_900, k_m1000, k_1000, k_5460, k_1000000, k_2147483639, iI_add, iI_sub, iI_mul, iI_neg, iI_lt, iI_le, iI_eq, iI_nat, bZ_i0, bZ_i1, e_X0_cellAt, bnd_s] <;> simp
/-! the greatest common measure -/
theorem e_X0_common_6 (s : St) : ∀ (k : Nat) (x y : Nat), x ≤ 4000000000000000000 → y ≤ 4000000000000000000 → y < 2 ^ k → ∀ fu, 2 * k + 1 < fu → F_X0_common_6 fu s (lI x) (lI y) = some (lI ((Nat.gcd x y : Nat) : Int), s) := by
  intro k
  induction k with
  | zero =>
    intro x y hx hy hk fu hfu
    obtain ⟨f, rfl⟩ : ∃ f, fu = f + 1 := ⟨fu - 1, by omega⟩
    have : y = 0 := by omega
    subst this
    simp only [F_X0_common_6]
    rw [if_pos (show lI ((0 : Nat) : Int) = (0 : Int64) from rfl), Nat.gcd_zero_right]
  | succ k ih =>
    intro x y hx hy hk fu hfu
    obtain ⟨f, rfl⟩ : ∃ f, fu = f + 2 := ⟨fu - 2, by omega⟩
    by_cases h0 : y = 0
    · subst h0
      simp only [F_X0_common_6]
      rw [if_pos (show lI ((0 : Nat) : Int) = (0 : Int64) from rfl), Nat.gcd_zero_right]
    · have h1 : (x : Int) % (y : Int) = ((x % y : Nat) : Int) := rfl
      have h2 := Nat.mod_lt x (show 0 < y by omega)
      have h4 : (if lI (y : Int) = (0 : Int64) then (some (lI (x : Int), s) : Option (Int64 × St)) else gd (nzl (lI y)) (F_X0_common_6 (f + 1) s (lI y) (lI x - lI x / lI y * lI y))) = F_X0_common_6 (f + 1) s (lI y) (lI ((x % y : Nat) : Int)) := by
        rw [if_neg (by rw [K_0, lI_eq (by omega) (by omega)]; omega), gd_ok (nzl_t (by omega) (by omega)), lI_remn (by omega) (by omega), h1]
      rw [F_X0_common_6]
      show (if lI (y : Int) = (0 : Int64) then _ else _) = _
      rw [h4, Nat.gcd_comm, Nat.gcd_rec y x, Nat.gcd_comm]
      by_cases h5 : x % y = 0
      · rw [h5, Nat.gcd_zero_right, F_X0_common_6]
        show (if lI ((0 : Nat) : Int) = (0 : Int64) then _ else _) = _
        rw [if_pos (show lI ((0 : Nat) : Int) = (0 : Int64) from rfl)]
      · have h6 : (y : Int) % ((x % y : Nat) : Int) = ((y % (x % y) : Nat) : Int) := rfl
        have h7 := Nat.mod_lt y (show 0 < x % y by omega)
        have h8 : y % (x % y) + (x % y) ≤ y := by
          have h9 := Nat.div_add_mod y (x % y)
          have h10 : 0 < y / (x % y) := Nat.div_pos (by omega) (by omega)
          have h11 : (x % y) * 1 ≤ (x % y) * (y / (x % y)) := Nat.mul_le_mul_left _ h10
          omega
        have h12 : 2 ^ (k + 1) = 2 * 2 ^ k := by rw [Nat.pow_succ]; omega
        rw [F_X0_common_6]
        show (if lI ((x % y : Nat) : Int) = (0 : Int64) then _ else _) = _
        rw [if_neg (by rw [K_0, lI_eq (by omega) (by omega)]; omega), gd_ok (nzl_t (by omega) (by omega)), lI_remn (by omega) (by omega), h6, ih (x % y) (y % (x % y)) (by omega) (by omega) (by omega) f (by omega)]
        rw [Nat.gcd_comm (x % y), ← Nat.gcd_rec, Nat.gcd_comm]
def tellZ (u l : Int) (up : Bool) : Int := (if up then u else l) / ((Nat.gcd u.toNat l.toNat : Nat) : Int)
theorem e_X0_tells (s : St) {u l : Int} (hu : 0 ≤ u ∧ u ≤ 4000000000000000000) (hl : 0 < l ∧ l ≤ 4000000000000000000) (up : Bool) : F_X0_tells s (lI u) (lI l) (iI (if up then 1 else 0)) = some (lI (tellZ u l up), s) := by
  have h := e_X0_common_6 s 63 u.toNat l.toNat (by omega) (by omega) (by omega) FU (FU_ge (by omega))
  rw [show ((u.toNat : Nat) : Int) = u by omega, show ((l.toNat : Nat) : Int) = l by omega] at h
  have hp : 0 < Nat.gcd u.toNat l.toNat := Nat.gcd_pos_of_pos_right _ (by omega)
  have hq : Nat.gcd u.toNat l.toNat ≤ l.toNat := Nat.gcd_le_right _ (by omega)
  unfold F_X0_tells F_X0_tells_10 F_X0_common tellZ
  rw [h, bnd_s, bnd_s, gd_ok (nzl_t (by omega) (by omega)), lI_divn (by omega) (by omega), lI_divn (by omega) (by omega)]
  cases up
  · rfl
  · rw [if_neg (show ¬ iI (if true = true then 1 else 0) = 0 by decide), gd_ok (nzl_t (by omega) (by omega))]
    rfl
theorem tellZ_r {u l : Int} {up : Bool} (hu : 0 ≤ u ∧ u ≤ 4000000000000000000) (hl : 0 < l ∧ l ≤ 4000000000000000000) : 0 ≤ tellZ u l up ∧ tellZ u l up ≤ (if up then u else l) := by
  have hp : 0 < Nat.gcd u.toNat l.toNat := Nat.gcd_pos_of_pos_right _ (by omega)
  unfold tellZ
  have h0 : 0 ≤ (if up then u else l) := by cases up <;> simp <;> omega
  exact ⟨Int.ediv_nonneg h0 (by omega), Int.ediv_le_self _ h0⟩
/-! registers change -/
def wup (w : WR) (r : Nat) (k v : Int) : WR := fun r' k' => if r' = r ∧ k' = k then v else w r' k'
theorem wup_s {w : WR} {r : Nat} {k v : Int} : wup w r k v r k = v := if_pos ⟨rfl, rfl⟩
theorem wup_n {w : WR} {r r' : Nat} {k k' v : Int} (h : r' ≠ r) : wup w r k v r' k' = w r' k' := if_neg fun z => h z.1
theorem wup_k {w : WR} {r : Nat} {k k' v : Int} (h : k' ≠ k) : wup w r k v r k' = w r k' := if_neg fun z => h z.2
theorem si_set {s : St} {a k b j : Nat} {v : Int32} : si (setI s a k v) b j = if b = a then (if j = k then v else si s b j) else si s b j := rfl
theorem RCi.set {s : St} {w : WR} (h : RCi s w) (r : Nat) {k v : Int} (hk : 0 ≤ k) : RCi (setI s r k.toNat (iI v)) (wup w r k v) := by
  intro r' k' h0 h1
  rw [si_set]
  unfold wup
  by_cases e : r' = r
  · subst e
    by_cases e2 : k' = k
    · subst e2
      simp
    · rw [if_pos rfl, if_neg (by omega), if_neg (fun z => e2 z.2)]
      exact h r' k' h0 h1
  · rw [if_neg e, if_neg (fun z => e z.1)]
    exact h r' k' h0 h1
theorem Kp_setI {D : Nat → Prop} {s : St} {a k : Nat} {v : Int32} (h : ¬ D a) : Kp D s (setI s a k v) := fun b hb => ⟨rfl, by
  funext j
  have e : b ≠ a := fun z => h (by rw [← z]; exact hb)
  rw [si_set, if_neg e], rfl, rfl⟩
theorem C0.set {D : Nat → Prop} {s : St} {w : WR} {ls : List (List DC)} (h : C0 D s w ls) (r : Nat) {k v : Int} (hk : 0 ≤ k) (hr : r < 31 ∧ r ≠ 10) : C0 D (setI s r k.toNat (iI v)) (wup w r k v) ls := by
  obtain ⟨h1, h2, ⟨b, c, f, hL, hE⟩, hD⟩ := h
  refine ⟨h1.same rfl rfl, h2.set r hk, ⟨b, c, f, ⟨hL.1, hL.2.1, hL.2.2.1, hL.2.2.2.1, hL.2.2.2.2.1, ?_, hL.2.2.2.2.2.2⟩, fun i x hx => (hE i x hx).go (Kp_setI (fun z => by have := hD _ z; omega))⟩, hD⟩
  rw [si_set, if_neg (fun z => hr.2 z.symm)]
  exact hL.2.2.2.2.2.1
theorem e_X0_done {s : St} {v : Int} : F_X0_done s (iI v) = some (iI v, setI s 0 0 (iI 0)) := rfl
theorem e_X0_refuse {s : St} {w : WR} (hR : RCi s w) {v : Int} (hv : -6 ≤ v ∧ v < 0) : F_X0_refuse s (iI v) = some (iI v, setI (setI s 0 0 (iI v)) 1 (-v).toNat (iI (w 1 (-v) + 1))) := by
  unfold F_X0_refuse
  rw [iI_neg, nam_v, inb_g (by omega), inb_g (by omega), nam_v, iI_nat (by omega), si_set, if_neg (by decide), hR 1 (-v) (by omega) (by show _ < _; omega), k_1, iI_add]
def whoF (f : Int → Int) (z : Int) : Nat → Int → Int
  | 0, _ => -1
  | n + 1, c => if f c = z then c else whoF f z n (c + 1)
theorem e_X0_whoIn_2 {s : St} {a : Nat} {m : Int} {f : Int → Int} {z : Int} (hm : 0 ≤ m ∧ m ≤ 6) (hs : si s 2 8 = iI m) (hk : sk s a = (100, 6)) (hf : ∀ c, 0 ≤ c → c < 6 → si s a c.toNat = iI (f c) ∧ -1 ≤ f c ∧ f c ≤ 35) (hz : -2147483648 ≤ z ∧ z ≤ 2147483647) : ∀ (n : Nat) (c : Int), 0 ≤ c → m = n + c → ∀ fu, n < fu → F_X0_whoIn_2 fu s (some a) (iI z) (iI c) = some (iI (whoF f z n c), s) := by
  intro n
  induction n with
  | zero =>
    intro c h0 hc fu hfu
    obtain ⟨g, rfl⟩ : ∃ g, fu = g + 1 := ⟨fu - 1, by omega⟩
    simp only [F_X0_whoIn_2]
    rw [hs, if_pos (by rw [iI_le (by omega) (by omega)]; omega)]
    rfl
  | succ n ih =>
    intro c h0 hc fu hfu
    obtain ⟨g, rfl⟩ : ∃ g, fu = g + 1 := ⟨fu - 1, by omega⟩
    have hfc := hf c (by omega) (by omega)
    simp only [F_X0_whoIn_2]
    rw [hs, if_neg (by rw [iI_le (by omega) (by omega)]; omega), drf_s, isK_g (by rw [hk]), hk, inb_g (by omega), iI_nat (by omega), hfc.1, k_1, iI_add, ih (c + 1) (by omega) (by omega) g (by omega), whoF]
    by_cases e : f c = z
    · rw [if_pos (by rw [e]), if_pos e]
    · rw [if_neg (by rw [iI_eq (by omega) (by omega)]; exact e), if_neg e]
def whoZ (f : Int → Int) (m z : Int) : Int := whoF f z m.toNat 0
theorem e_X0_whoIn {s : St} {a : Nat} {m : Int} {f : Int → Int} {z : Int} (hm : 0 ≤ m ∧ m ≤ 6) (hs : si s 2 8 = iI m) (hk : sk s a = (100, 6)) (hf : ∀ c, 0 ≤ c → c < 6 → si s a c.toNat = iI (f c) ∧ -1 ≤ f c ∧ f c ≤ 35) (hz : -2147483648 ≤ z ∧ z ≤ 2147483647) : F_X0_whoIn s (some a) (iI z) = some (iI (whoZ f m z), s) :=
  e_X0_whoIn_2 hm hs hk hf hz m.toNat 0 (by omega) (by omega) FU (FU_ge (by omega))
theorem whoF_r {f : Int → Int} {z : Int} : ∀ (n : Nat) (c : Int), 0 ≤ c → -1 ≤ whoF f z n c ∧ whoF f z n c < c + n
  | 0, c, h => by unfold whoF; omega
  | n + 1, c, h => by
    have := whoF_r (f := f) (z := z) n (c + 1) (by omega)
    unfold whoF
    split <;> omega
theorem whoF_n {f : Int → Int} {z : Int} : ∀ (n : Nat) (c : Int), 0 ≤ c → (whoF f z n c = -1 ↔ ∀ i, c ≤ i → i < c + n → f i ≠ z)
  | 0, c, h => by
    unfold whoF
    exact ⟨fun _ i h1 h2 => by omega, fun _ => rfl⟩
  | n + 1, c, h => by
    have := whoF_n (f := f) (z := z) n (c + 1) (by omega)
    unfold whoF
    by_cases e : f c = z
    · rw [if_pos e]
      exact ⟨fun h2 => by omega, fun h2 => absurd e (h2 c (by omega) (by omega))⟩
    · rw [if_neg e, this]
      refine ⟨fun h2 i h3 h4 => ?_, fun h2 i h3 h4 => h2 i (by omega) (by omega)⟩
      by_cases e2 : i = c
      · subst e2; exact e
      · exact h2 i (by omega) (by omega)

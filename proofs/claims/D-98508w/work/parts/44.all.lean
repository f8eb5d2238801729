set_option maxRecDepth 100000
/-! ===== the component: all flights are laid ===== -/
theorem nO_k {s : St} {kd : Kd} {n b : Nat} : sk (newO s kd n) b = if b = sn s then kd else sk s b := rfl
theorem nO_i {s : St} {kd : Kd} {n b : Nat} : si (newO s kd n) b = if b = sn s then (fun _ => 0) else si s b := rfl
theorem nO_l {s : St} {kd : Kd} {n b : Nat} : sl (newO s kd n) b = if b = sn s then (fun _ => 0) else sl s b := rfl
theorem nO_r {s : St} {kd : Kd} {n b : Nat} : sr (newO s kd n) b = if b = sn s then (fun _ => none) else sr s b := rfl
theorem nO_n {s : St} {kd : Kd} {n : Nat} : sn (newO s kd n) = sn s + 1 := rfl
theorem nO_s {s : St} {kd : Kd} {n : Nat} : ss (newO s kd n) = ss s + n := rfl
theorem sR_r {s : St} {a k b j : Nat} {v : Option Nat} : sr (setR s a k v) b j = if b = a then (if j = k then v else sr s b j) else sr s b j := rfl
/-- beyond the last cell there is nothing -/
def Vd (s : St) : Prop := ∀ b, sn s ≤ b → sk s b = (99, 0)
theorem Vd.new {s : St} {kd : Kd} {n : Nat} (h : Vd s) : Vd (newO s kd n) := fun b hb => by
  have hb : sn s + 1 ≤ b := hb
  rw [nO_k, if_neg (by omega)]
  exact h b (by omega)
theorem Vd.lt {s : St} (h : Vd s) {b : Nat} (hb : (sk s b).1 ≠ 99) : b < sn s := by
  by_cases h1 : b < sn s
  · exact h1
  · exact absurd (by rw [h b (by omega)]) hb
theorem Vd.fr {S : Nat → Prop} {s s' : St} (h : Vd s) (f : Fr S s s') : Vd s' := by
  unfold Vd
  rw [f.1, f.2.2.1.1]
  exact h
theorem Kp_new {D : Nat → Prop} {s : St} {kd : Kd} {n : Nat} (hD : ∀ b, D b → b < sn s) : Kp D s (newO s kd n) := fun b hb => by
  have e : b ≠ sn s := by have := hD b hb; omega
  exact ⟨by rw [nO_k, if_neg e], by rw [nO_i, if_neg e], by rw [nO_l, if_neg e], by rw [nO_r, if_neg e]⟩
theorem SkC.new {s : St} {kd : Kd} {n : Nat} (h : SkC s) (h31 : 31 ≤ sn s) : SkC (newO s kd n) := ⟨fun a ha => by rw [nO_k, if_neg (by omega)]; exact h.1 a ha, fun q hq => by
  have hlt : ∀ q ∈ rC, q.1 < 31 := by decide
  have := hlt q hq
  rw [nO_r, if_neg (by omega)]
  exact h.2 q hq⟩
theorem C0.new {D : Nat → Prop} {s : St} {w : WR} {ls : List (List DC)} (h : C0 D s w ls) (hv : Vd s) (h31 : 31 ≤ sn s) (hDn : ∀ b, D b → b < sn s) {kd : Kd} {n : Nat} : C0 D (newO s kd n) w ls := by
  obtain ⟨h1, h2, ⟨b, c, f, hL, hE⟩, hD⟩ := h
  have hb : b ≠ sn s := by
    have := hv.lt (b := b) (by rw [hL.2.2.1]; show (104 : Nat) ≠ 99; decide)
    omega
  refine ⟨h1.new h31, fun r k k0 hr => ?_, ⟨b, c, f, ⟨?_, ?_, ?_, hL.2.2.2.1, hL.2.2.2.2.1, ?_, ?_⟩, fun i x hx => (hE i x hx).go (Kp_new hDn)⟩, hD⟩
  · have := relC_30 hr
    rw [nO_i, if_neg (by omega)]
    exact h2 r k k0 hr
  · rw [nO_k, if_neg (by omega)]; exact hL.1
  · rw [nO_r, if_neg (by omega)]; exact hL.2.1
  · rw [nO_k, if_neg hb]; exact hL.2.2.1
  · rw [nO_i, if_neg (by omega)]; exact hL.2.2.2.2.2.1
  · rw [nO_r, if_neg hb]; exact hL.2.2.2.2.2.2
theorem SkC.rset {s : St} (h : SkC s) {a k : Nat} {v : Option Nat} (ha : a = 26 ∨ a = 12 ∨ 31 ≤ a) : SkC (setR s a k v) := ⟨h.1, fun q hq => by
  have hlt : ∀ q ∈ rC, q.1 < 31 ∧ q.1 ≠ 26 ∧ q.1 ≠ 12 := by decide
  have := hlt q hq
  rw [sR_r, if_neg (by omega)]
  exact h.2 q hq⟩
theorem C0.rset {D : Nat → Prop} {s : St} {w : WR} {ls : List (List DC)} (h : C0 D s w ls) {a k : Nat} {v : Option Nat} (ha : a = 26 ∨ a = 12 ∨ 31 ≤ a) (hDa : ¬ D a) (hk : (sk s a).1 ≠ 104) : C0 D (setR s a k v) w ls := by
  obtain ⟨h1, h2, ⟨b, c, f, hL, hE⟩, hD⟩ := h
  have hb : b ≠ a := fun z => hk (by rw [← z, hL.2.2.1])
  have hK : Kp D s (setR s a k v) := fun x hx => ⟨rfl, rfl, rfl, by
    have e : x ≠ a := fun z => hDa (by rw [← z]; exact hx)
    funext j
    rw [sR_r, if_neg e]⟩
  refine ⟨h1.rset ha, h2, ⟨b, c, f, ⟨hL.1, ?_, hL.2.2.1, hL.2.2.2.1, hL.2.2.2.2.1, hL.2.2.2.2.2.1, fun i hi => ?_⟩, fun i x hx => (hE i x hx).go hK⟩, hD⟩
  · rw [sR_r, if_neg (by omega)]; exact hL.2.1
  · rw [sR_r, if_neg hb]; exact hL.2.2.2.2.2.2 i hi
/-- old cells stay -/
def Old (s s' : St) : Prop := ∀ b, b < sn s → sk s' b = sk s b ∧ si s' b = si s b ∧ sl s' b = sl s b ∧ sr s' b = sr s b
theorem Old.new {s : St} {kd : Kd} {n : Nat} : Old s (newO s kd n) := fun b hb => by
  rw [nO_k, nO_i, nO_l, nO_r, if_neg (by omega), if_neg (by omega), if_neg (by omega), if_neg (by omega)]
  exact ⟨rfl, rfl, rfl, rfl⟩
theorem okN_t {s : St} {n : Nat} (h1 : sn s < smx s) (h2 : ss s + n ≤ sms s) : okN s n = true := by
  unfold okN
  rw [Nat.blt_eq.mpr h1, Nat.ble_eq_true_of_le h2]
  rfl
/-- one flight more -/
theorem e_X4_new {D : Nat → Prop} {s : St} {w : WR} {ls : List (List DC)} (hC : C0 D s w ls) (hv : Vd s) (h31 : 31 ≤ sn s) (hDn : ∀ b, D b → b < sn s) (hm1 : sn s + 3 ≤ smx s) (hm2 : ss s + 23 ≤ sms s) {k : Nat} {f : St → Option (Unit × St)} : ∃ s1, (gd (okN s 5) <| nam (newO s (4, 0) 5) fun s5 => gp (SkC s5) <| bnd (F_X4_init s5 (sn s) (some 0)) fun _ s9 => gp (SkC s9) <| gd (isK s9 (sn s) 4) <| nam (setR s9 26 k (some (sn s))) fun s13 => gp (SkC s13) <| f s13) = f s1 ∧ C0 D s1 w ls ∧ Vd s1 ∧ FlS s1 (sn s) (sn s + 1) (sn s + 2) ∧ (sn s1 = sn s + 3 ∧ ss s1 = ss s + 23 ∧ smx s1 = smx s ∧ sms s1 = sms s) ∧ (∀ b, b < sn s → sk s1 b = sk s b ∧ si s1 b = si s b ∧ sl s1 b = sl s b ∧ (b ≠ 26 → sr s1 b = sr s b)) ∧ (∀ j, sr s1 26 j = if j = k then some (sn s) else sr s 26 j) := by
  have nD : ∀ x, sn s ≤ x → ¬ D x := fun x hx z => by have := hDn x z; omega
  have c1 := hC.new hv h31 hDn (kd := (4, 0)) (n := 5)
  have v1 : Vd (newO s (4, 0) 5) := hv.new
  have k1 : sk (newO s (4, 0) 5) (sn s) = (4, 0) := by rw [nO_k, if_pos rfl]
  have c2 := c1.rset (a := sn s) (k := 4) (v := some 0) (Or.inr (Or.inr h31)) (nD _ (Nat.le_refl _)) (by rw [k1]; show (4 : Nat) ≠ 104; decide)
  have hDn2 : ∀ b, D b → b < sn s + 1 := fun b hb => by have := hDn b hb; omega
  have hDn3 : ∀ b, D b → b < sn s + 1 + 1 := fun b hb => by have := hDn b hb; omega
  have v2 : Vd (setR (newO s (4, 0) 5) (sn s) 4 (some 0)) := v1
  have c3 := c2.new v2 (show 31 ≤ sn s + 1 by omega) hDn2 (kd := (100, 9)) (n := 9)
  have v3 : Vd (newO (setR (newO s (4, 0) 5) (sn s) 4 (some 0)) (100, 9) 9) := v2.new
  have n2 : sn (setR (newO s (4, 0) 5) (sn s) 4 (some 0)) = sn s + 1 := rfl
  have k3 : sk (newO (setR (newO s (4, 0) 5) (sn s) 4 (some 0)) (100, 9) 9) (sn s) = (4, 0) := by
    rw [nO_k, n2, if_neg (by omega)]
    exact k1
  have c4 := c3.rset (a := sn s) (k := 0) (v := some (sn s + 1)) (Or.inr (Or.inr h31)) (nD _ (Nat.le_refl _)) (by rw [k3]; show (4 : Nat) ≠ 104; decide)
  have v4 : Vd (setR (newO (setR (newO s (4, 0) 5) (sn s) 4 (some 0)) (100, 9) 9) (sn s) 0 (some (sn s + 1))) := v3
  have c5 := c4.new v4 (show 31 ≤ sn s + 1 + 1 by omega) hDn3 (kd := (100, 9)) (n := 9)
  have v5 : Vd (newO (setR (newO (setR (newO s (4, 0) 5) (sn s) 4 (some 0)) (100, 9) 9) (sn s) 0 (some (sn s + 1))) (100, 9) 9) := v4.new
  have n4 : sn (setR (newO (setR (newO s (4, 0) 5) (sn s) 4 (some 0)) (100, 9) 9) (sn s) 0 (some (sn s + 1))) = sn s + 2 := rfl
  have k5 : sk (newO (setR (newO (setR (newO s (4, 0) 5) (sn s) 4 (some 0)) (100, 9) 9) (sn s) 0 (some (sn s + 1))) (100, 9) 9) (sn s) = (4, 0) := by
    rw [nO_k, n4, if_neg (by omega)]
    exact k3
  have c6 := c5.rset (a := sn s) (k := 1) (v := some (sn s + 2)) (Or.inr (Or.inr h31)) (nD _ (Nat.le_refl _)) (by rw [k5]; show (4 : Nat) ≠ 104; decide)
  have c7 := c6.rset (a := 26) (k := k) (v := some (sn s)) (Or.inl rfl) (c6.ok31 (by decide)) (by rw [c6.1.1 26 (by decide)]; decide)
  refine ⟨_, ?_, c7, v5, ?_, ⟨rfl, rfl, rfl, rfl⟩, fun b hb => ?_, fun j => ?_⟩
  · rw [gd_ok (okN_t (by omega) (by omega)), nam_v, gp_SkC c1.1]
    unfold F_X4_init
    rw [isK_g (by rw [k1]), nam_v, gd_ok (okN_t (s := setR (newO s (4, 0) 5) (sn s) 4 (some 0)) (show sn s + 1 < smx s by omega) (show ss s + 5 + 9 ≤ sms s by omega)), nam_v, isK_g (by rw [k3]), nam_v, n2]
    rw [gd_ok (okN_t (s := setR (newO (setR (newO s (4, 0) 5) (sn s) 4 (some 0)) (100, 9) 9) (sn s) 0 (some (sn s + 1))) (show sn s + 1 + 1 < smx s by omega) (show ss s + 5 + 9 + 9 ≤ sms s by omega)), nam_v, isK_g (show (sk (newO (setR (newO (setR (newO s (4, 0) 5) (sn s) 4 (some 0)) (100, 9) 9) (sn s) 0 (some (sn s + 1))) (100, 9) 9) (sn s)).1 = 4 by rw [k5]), nam_v, bnd_s]
    rw [n4, gp_SkC (show SkC (setR (newO (setR (newO (setR (newO s (4, 0) 5) (sn s) 4 (some 0)) (100, 9) 9) (sn s) 0 (some (sn s + 1))) (100, 9) 9) (sn s) 1 (some (sn s + 2))) from c6.1), isK_g (show (sk (setR (newO (setR (newO (setR (newO s (4, 0) 5) (sn s) 4 (some 0)) (100, 9) 9) (sn s) 0 (some (sn s + 1))) (100, 9) 9) (sn s) 1 (some (sn s + 2))) (sn s)).1 = 4 by show (sk (newO (setR (newO (setR (newO s (4, 0) 5) (sn s) 4 (some 0)) (100, 9) 9) (sn s) 0 (some (sn s + 1))) (100, 9) 9) (sn s)).1 = 4; rw [k5]), nam_v]
    exact gp_SkC c7.1
  · refine ⟨by show (sk (newO (setR (newO (setR (newO s (4, 0) 5) (sn s) 4 (some 0)) (100, 9) 9) (sn s) 0 (some (sn s + 1))) (100, 9) 9) (sn s)).1 = 4; rw [k5], ?_, ?_, ?_, ?_, ?_, by omega, by omega, by omega⟩
    · rw [sR_r, if_neg (by omega), sR_r, if_pos rfl, if_neg (by decide), nO_r, n4, if_neg (by omega), sR_r, if_pos rfl, if_pos rfl]
    · rw [sR_r, if_neg (by omega), sR_r, if_pos rfl, if_pos rfl]
    · show sk (newO (setR (newO (setR (newO s (4, 0) 5) (sn s) 4 (some 0)) (100, 9) 9) (sn s) 0 (some (sn s + 1))) (100, 9) 9) (sn s + 1) = _
      rw [nO_k, n4, if_neg (by omega)]
      show sk (newO (setR (newO s (4, 0) 5) (sn s) 4 (some 0)) (100, 9) 9) (sn s + 1) = _
      rw [nO_k, n2, if_pos rfl]
    · show sk (newO (setR (newO (setR (newO s (4, 0) 5) (sn s) 4 (some 0)) (100, 9) 9) (sn s) 0 (some (sn s + 1))) (100, 9) 9) (sn s + 2) = _
      rw [nO_k, n4, if_pos rfl]
    · rw [sR_r, if_neg (by omega), sR_r, if_pos rfl, if_neg (by decide), nO_r, n4, if_neg (by omega), sR_r, if_pos rfl, if_neg (by decide), nO_r, n2, if_neg (by omega), sR_r, if_pos rfl, if_pos rfl]
  · have o1 : Old s (newO s (4, 0) 5) := Old.new
    have o2 : Old (setR (newO s (4, 0) 5) (sn s) 4 (some 0)) (newO (setR (newO s (4, 0) 5) (sn s) 4 (some 0)) (100, 9) 9) := Old.new
    have o3 : Old (setR (newO (setR (newO s (4, 0) 5) (sn s) 4 (some 0)) (100, 9) 9) (sn s) 0 (some (sn s + 1))) (newO (setR (newO (setR (newO s (4, 0) 5) (sn s) 4 (some 0)) (100, 9) 9) (sn s) 0 (some (sn s + 1))) (100, 9) 9) := Old.new
    have p1 := o1 b hb
    have p2 := o2 b (show b < sn s + 1 by omega)
    have p3 := o3 b (show b < sn s + 1 + 1 by omega)
    refine ⟨p3.1.trans (p2.1.trans p1.1), p3.2.1.trans (p2.2.1.trans p1.2.1), p3.2.2.1.trans (p2.2.2.1.trans p1.2.2.1), fun h26 => ?_⟩
    funext j
    rw [sR_r, if_neg h26, sR_r, if_neg (by omega), p3.2.2.2, sR_r, if_neg (by omega), p2.2.2.2, sR_r, if_neg (by omega), p1.2.2.2]
  · rw [sR_r, if_pos rfl]
    by_cases hj : j = k
    · rw [if_pos hj, if_pos hj]
    rw [if_neg hj, if_neg hj, sR_r, if_neg (by omega), nO_r, n4, if_neg (by omega), sR_r, if_neg (by omega), nO_r, n2, if_neg (by omega), sR_r, if_neg (by omega), nO_r, if_neg (by omega)]
/-- the flight of the throw j -/
noncomputable def thL (w : WR) (ls : List (List DC)) (j : Int) : FL := laysL w ls (1 + j / 5) (j % 5 - 2)
def FlT (s : St) (w : WR) (ls : List (List DC)) (A j : Nat) : Prop := sr s 26 j = some (A + 3 * j) ∧ FlS s (A + 3 * j) (A + 3 * j + 1) (A + 3 * j + 2) ∧ FlE s (A + 3 * j) (A + 3 * j + 1) (A + 3 * j + 2) (thL w ls j)
theorem FlT.fr {S : Nat → Prop} {s s' : St} {w : WR} {ls : List (List DC)} {A j : Nat} (h : FlT s w ls A j) (f : Fr S s s') (hS : ∀ b, A + 3 * j ≤ b → b < A + 3 * j + 3 → ¬ S b) : FlT s' w ls A j :=
  ⟨by rw [f.2.1]; exact h.1, h.2.1.fr f, h.2.2.fr f (hS _ (by omega) (by omega)) (hS _ (by omega) (by omega)) (hS _ (by omega) (by omega))⟩
theorem FlE.old {s s' : St} {a b c : Nat} {fl : FL} (h : FlE s a b c fl) (f : ∀ x, x = a ∨ x = b ∨ x = c → sk s' x = sk s x ∧ si s' x = si s x ∧ sr s' x = sr s x) : FlE s' a b c fl := by
  unfold FlE
  rw [(f a (Or.inl rfl)).1, (f a (Or.inl rfl)).2.1, (f a (Or.inl rfl)).2.2, (f b (Or.inr (Or.inl rfl))).1, (f b (Or.inr (Or.inl rfl))).2.1, (f c (Or.inr (Or.inr rfl))).1, (f c (Or.inr (Or.inr rfl))).2.1]
  exact h
theorem FlS.old {s s' : St} {a b c : Nat} (h : FlS s a b c) (f : ∀ x, x = a ∨ x = b ∨ x = c → sk s' x = sk s x ∧ si s' x = si s x ∧ sr s' x = sr s x) : FlS s' a b c := by
  unfold FlS
  rw [(f a (Or.inl rfl)).1, (f a (Or.inl rfl)).2.2, (f b (Or.inr (Or.inl rfl))).1, (f c (Or.inr (Or.inr rfl))).1]
  exact h
/-- the flight k, once it is there -/
theorem e_X0_all_35 {D : Nat → Prop} {s : St} {w : WR} {ls : List (List DC)} (hC : C0 D s w ls) (hW : Wf w ls) {A k : Nat} (hA : 31 ≤ A) (hD : ∀ x, A ≤ x → x < A + 75 → ¬ D x) (hk : k < 25) (hr : sr s 26 k = some (A + 3 * k)) (hS : FlS s (A + 3 * k) (A + 3 * k + 1) (A + 3 * k + 2)) {f : St → Int32 → Option (Unit × St)} : ∃ s1, F_X0_looksAtAll_35 f s (iI k) = f s1 (iI ((k + 1 : Nat) : Int)) ∧ C0 D s1 w ls ∧ FlT s1 w ls A k ∧ Fr (tri (A + 3 * k) (A + 3 * k + 1) (A + 3 * k + 2)) s s1 := by
  have ok : ∀ x, A + 3 * k ≤ x → x < A + 3 * k + 3 → okS D x := fun x h1 h2 => okS.big (by omega) (hD x (by omega) (by omega))
  obtain ⟨s1, e1, c1, F1, S1, r1⟩ := e_X4_lays hC hW hS (ok _ (by omega) (by omega)) (ok _ (by omega) (by omega)) (ok _ (by omega) (by omega)) (f := 1 + (k : Int) / 5) (sd := (k : Int) % 5 - 2) (by omega) (by omega)
  refine ⟨s1, ?_, c1, ⟨by rw [r1.2.1]; exact hr, S1, F1⟩, r1⟩
  unfold F_X0_looksAtAll_35
  rw [inb_g (by omega), iI_nat (by omega), Int.toNat_natCast, hr, drf_s, isK_g hS.1, k_1, k_5, k_2, iI_divn (by omega) (by omega), iI_mul, iI_sub, iI_sub, iI_add, iI_add, show (k : Int) - (k : Int) / 5 * 5 = (k : Int) % 5 by omega, e1, bnd_s]
  rfl
/-- what was before stays, but flights' cells and the flights' row -/
def Bg (s s' : St) (o : Option Nat) : Prop := (smx s' = smx s ∧ sms s' = sms s) ∧ (∀ b, b < sn s → sk s' b = sk s b ∧ (b ≠ 26 → sr s' b = sr s b)) ∧ (∀ b, 31 ≤ b → b < sn s → (∀ A, o = some A → ¬ (A ≤ b ∧ b < A + 75)) → si s' b = si s b ∧ sl s' b = sl s b)
theorem Bg.rf {s : St} {o : Option Nat} : Bg s s o := ⟨⟨rfl, rfl⟩, fun _ _ => ⟨rfl, fun _ => rfl⟩, fun _ _ _ _ => ⟨rfl, rfl⟩⟩
theorem Bg.tr {s s1 s2 : St} {o : Option Nat} (h : Bg s s1 o) (hn : sn s ≤ sn s1) (g : Bg s1 s2 o) : Bg s s2 o :=
  ⟨⟨g.1.1.trans h.1.1, g.1.2.trans h.1.2⟩, fun b hb => ⟨(g.2.1 b (by omega)).1.trans (h.2.1 b hb).1, fun h26 => ((g.2.1 b (by omega)).2 h26).trans ((h.2.1 b hb).2 h26)⟩, fun b h31 hb hA => ⟨(g.2.2 b h31 (by omega) hA).1.trans (h.2.2 b h31 hb hA).1, (g.2.2 b h31 (by omega) hA).2.trans (h.2.2 b h31 hb hA).2⟩⟩
theorem Bg.fr {S : Nat → Prop} {s s' : St} {o : Option Nat} (f : Fr S s s') (hS : ∀ b, S b → 31 ≤ b → ∃ A, o = some A ∧ A ≤ b ∧ b < A + 75) : Bg s s' o :=
  ⟨⟨f.2.2.1.2.2.1, f.2.2.1.2.2.2⟩, fun b _ => ⟨by rw [f.1], fun _ => by rw [f.2.1]⟩, fun b h31 _ hA => ⟨f.2.2.2.1 b (fun z => by
    obtain ⟨A, e, q⟩ := hS b z h31
    exact hA A e q), f.2.2.2.2 b (by omega) (Or.inl (by omega))⟩⟩
theorem Bg.sm {s s' : St} {o : Option Nat} (f : Sm s s') : Bg s s' o :=
  ⟨⟨f.2.2.1.2.2.1, f.2.2.1.2.2.2⟩, fun b _ => ⟨by rw [f.1], fun _ => by rw [f.2.1]⟩, fun b h31 _ _ => ⟨f.2.2.2.1 b h31, f.2.2.2.2 b (by omega) (by omega)⟩⟩
/-- new flights: the k-th and those behind it -/
theorem e_X0_all_n {D : Nat → Prop} {w : WR} {ls : List (List DC)} (hW : Wf w ls) {s0 : St} {A : Nat} (hA : 31 ≤ A) (hA0 : sn s0 = A) (hD : ∀ b, D b → b < A) : ∀ (n k : Nat) (s : St), C0 D s w ls → Vd s → si s 0 20 = iI (w 2 8) → GrE s w ls (w 2 8) → FlE s 23 24 25 (nowL w ls) → sn s = A + 3 * k → ss s = ss s0 + 23 * k → 25 = n + k → A + 75 ≤ smx s → ss s0 + 575 ≤ sms s → (∀ j, j < k → FlT s w ls A j) → (∀ j, k ≤ j → j < 25 → sr s 26 j = none) → Bg s0 s none → ∀ fu, n < fu → ∃ s1, F_X0_looksAtAll_6 fu s (iI k) = some ((), s1) ∧ Lk D s1 w ls ∧ Vd s1 ∧ (∀ j, j < 25 → FlT s1 w ls A j) ∧ (sn s1 = A + 75 ∧ ss s1 = ss s0 + 575) ∧ Bg s0 s1 none := by
  intro n
  induction n with
  | zero =>
    intro k s hC hv h20 hG hF hn hs hk hm1 hm2 hT hN hB fu hfu
    obtain ⟨fu, rfl⟩ : ∃ g, fu = g + 1 := ⟨fu - 1, by omega⟩
    refine ⟨s, ?_, ⟨hC, h20, hG, hF⟩, hv, fun j hj => hT j (by omega), by omega, hB⟩
    rw [F_X0_looksAtAll_6]
    show (if (25 : Int32) ≤ iI k then _ else _) = _
    rw [k_25, if_pos (by rw [iI_le (by omega) (by omega)]; omega)]
  | succ n ih =>
    intro k s hC hv h20 hG hF hn hs hk hm1 hm2 hT hN hB fu hfu
    obtain ⟨fu, rfl⟩ : ∃ g, fu = g + 1 := ⟨fu - 1, by omega⟩
    obtain ⟨s1, e1, c1, v1, S1, ⟨n1, n2, n3, n4⟩, o1, r1⟩ := e_X4_new hC hv (by omega) (fun b hb => by have := hD b hb; omega) (by omega) (by omega) (k := k) (f := fun s13 => F_X0_looksAtAll_35 (F_X0_looksAtAll_6 fu) s13 (iI k))
    rw [hn] at S1 o1 r1
    have hr1 : sr s1 26 k = some (A + 3 * k) := by rw [r1, if_pos rfl]
    obtain ⟨s2, e2, c2, T2, f2⟩ := e_X0_all_35 c1 hW hA (fun x h1 h2 z => by have := hD x z; omega) (by omega) hr1 S1 (f := F_X0_looksAtAll_6 fu)
    have hB1 : Bg s s1 none := ⟨⟨n3, n4⟩, fun b hb => ⟨(o1 b (by omega)).1, (o1 b (by omega)).2.2.2⟩, fun b _ hb _ => ⟨(o1 b (by omega)).2.1, (o1 b (by omega)).2.2.1⟩⟩
    have tr : ∀ b, b < A + 3 * k → ¬ tri (A + 3 * k) (A + 3 * k + 1) (A + 3 * k + 2) b := fun b hb z => by unfold tri at z; omega
    have hB2 : Bg s0 s2 none := by
      refine ⟨⟨f2.2.2.1.2.2.1.trans (n3.trans hB.1.1), f2.2.2.1.2.2.2.trans (n4.trans hB.1.2)⟩, fun b hb => ?_, fun b h31 hb hx => ?_⟩
      · rw [f2.1, f2.2.1]
        exact ⟨(hB1.2.1 b (by omega)).1.trans (hB.2.1 b hb).1, fun h => ((hB1.2.1 b (by omega)).2 h).trans ((hB.2.1 b hb).2 h)⟩
      · rw [f2.2.2.2.1 b (tr b (by omega)), f2.2.2.2.2 b (by omega) (Or.inl (by omega))]
        have q1 := hB1.2.2 b h31 (by omega) (fun A e => by cases e)
        have q2 := hB.2.2 b h31 hb (fun A e => by cases e)
        exact ⟨q1.1.trans q2.1, q1.2.trans q2.2⟩
    obtain ⟨s3, e3, L3, v3, T3, z3, B3⟩ := ih (k + 1) s2 c2 (v1.fr f2) (by rw [f2.2.2.2.1 0 (tr 0 (by omega)), (o1 0 (by omega)).2.1]; exact h20) (by
        unfold GrE
        rw [f2.2.2.2.1 27 (tr 27 (by omega)), (o1 27 (by omega)).2.1]
        exact hG) (by
        refine FlE.fr ?_ f2 (tr _ (by omega)) (tr _ (by omega)) (tr _ (by omega))
        exact hF.old fun x hx => ⟨(o1 x (by omega)).1, (o1 x (by omega)).2.1, (o1 x (by omega)).2.2.2 (by omega)⟩) (by rw [f2.2.2.1.1, n1]; omega) (by rw [f2.2.2.1.2.1, n2]; omega) (by omega) (by rw [f2.2.2.1.2.2.1, n3]; exact hm1) (by rw [f2.2.2.1.2.2.2, n4]; exact hm2) (fun j hj => by
        by_cases hjk : j = k
        · rw [hjk]; exact T2
        · have hT := hT j (by omega)
          refine FlT.fr ⟨by rw [r1, if_neg hjk]; exact hT.1, hT.2.1.old fun x hx => ?_, hT.2.2.old fun x hx => ?_⟩ f2 (fun b h1 h2 => tr b (by omega))
          · exact ⟨(o1 x (by omega)).1, (o1 x (by omega)).2.1, (o1 x (by omega)).2.2.2 (by omega)⟩
          · exact ⟨(o1 x (by omega)).1, (o1 x (by omega)).2.1, (o1 x (by omega)).2.2.2 (by omega)⟩) (fun j h1 h2 => by
        rw [f2.2.1, r1, if_neg (by omega)]
        exact hN j (by omega) h2) hB2 fu (by omega)
    refine ⟨s3, ?_, L3, v3, T3, z3, B3⟩
    rw [F_X0_looksAtAll_6]
    show (if (25 : Int32) ≤ iI k then _ else _) = _
    rw [k_25, if_neg (by rw [iI_le (by omega) (by omega)]; omega), inb_g (by omega), iI_nat (by omega), Int.toNat_natCast, if_pos (hN k (by omega) (by omega)), ← e3, ← e2]
    simp only [inb_g (show 0 ≤ (k : Int) ∧ (k : Int) < (25 : Nat) ∧ (k : Int) ≤ 2147483647 by omega)]
    exact e1
/-- flights that are there -/
theorem e_X0_all_s {D : Nat → Prop} {w : WR} {ls : List (List DC)} (hW : Wf w ls) {s0 : St} {A : Nat} (hA : 31 ≤ A) (hD : ∀ x, A ≤ x → x < A + 75 → ¬ D x) : ∀ (n k : Nat) (s : St), C0 D s w ls → Vd s → si s 0 20 = iI (w 2 8) → GrE s w ls (w 2 8) → FlE s 23 24 25 (nowL w ls) → (sn s = sn s0 ∧ ss s = ss s0) → 25 = n + k → (∀ j, j < k → FlT s w ls A j) → (∀ j, k ≤ j → j < 25 → sr s 26 j = some (A + 3 * j) ∧ FlS s (A + 3 * j) (A + 3 * j + 1) (A + 3 * j + 2)) → Bg s0 s (some A) → ∀ fu, n < fu → ∃ s1, F_X0_looksAtAll_6 fu s (iI k) = some ((), s1) ∧ Lk D s1 w ls ∧ Vd s1 ∧ (∀ j, j < 25 → FlT s1 w ls A j) ∧ (sn s1 = sn s0 ∧ ss s1 = ss s0) ∧ Bg s0 s1 (some A) := by
  intro n
  induction n with
  | zero =>
    intro k s hC hv h20 hG hF hn hk hT hN hB fu hfu
    obtain ⟨fu, rfl⟩ : ∃ g, fu = g + 1 := ⟨fu - 1, by omega⟩
    refine ⟨s, ?_, ⟨hC, h20, hG, hF⟩, hv, fun j hj => hT j (by omega), hn, hB⟩
    rw [F_X0_looksAtAll_6]
    show (if (25 : Int32) ≤ iI k then _ else _) = _
    rw [k_25, if_pos (by rw [iI_le (by omega) (by omega)]; omega)]
  | succ n ih =>
    intro k s hC hv h20 hG hF hn hk hT hN hB fu hfu
    obtain ⟨fu, rfl⟩ : ∃ g, fu = g + 1 := ⟨fu - 1, by omega⟩
    have hNk := hN k (by omega) (by omega)
    obtain ⟨s2, e2, c2, T2, f2⟩ := e_X0_all_35 hC hW hA hD (by omega) hNk.1 hNk.2 (f := F_X0_looksAtAll_6 fu)
    have tr : ∀ b, b < A + 3 * k ∨ A + 3 * k + 3 ≤ b → ¬ tri (A + 3 * k) (A + 3 * k + 1) (A + 3 * k + 2) b := fun b hb z => by unfold tri at z; omega
    have hB2 : Bg s s2 (some A) := Bg.fr f2 fun b hb _ => ⟨A, rfl, by unfold tri at hb; omega⟩
    obtain ⟨s3, e3, L3, v3, T3, z3, B3⟩ := ih (k + 1) s2 c2 (hv.fr f2) (by rw [f2.2.2.2.1 0 (tr 0 (by omega))]; exact h20) (hG.fr f2 (tr 27 (by omega))) (hF.fr f2 (tr _ (by omega)) (tr _ (by omega)) (tr _ (by omega))) (by rw [f2.2.2.1.1, f2.2.2.1.2.1]; exact hn) (by omega) (fun j hj => by
        by_cases hjk : j = k
        · rw [hjk]; exact T2
        · exact (hT j (by omega)).fr f2 (fun b h1 h2 => tr b (by omega))) (fun j h1 h2 => ⟨by rw [f2.2.1]; exact (hN j (by omega) h2).1, (hN j (by omega) h2).2.fr f2⟩) (hB.tr (by omega) hB2) fu (by omega)
    refine ⟨s3, ?_, L3, v3, T3, z3, B3⟩
    rw [F_X0_looksAtAll_6]
    show (if (25 : Int32) ≤ iI k then _ else _) = _
    rw [k_25, if_neg (by rw [iI_le (by omega) (by omega)]; omega), inb_g (by omega), iI_nat (by omega), Int.toNat_natCast, if_neg (by rw [hNk.1]; simp), e2, e3]
/-- the flights' row: none is there, or all are, one behind the other -/
def FA (s : St) : Option Nat → Prop
  | none => ∀ k, k < 25 → sr s 26 k = none
  | some A => (31 ≤ A ∧ A + 75 ≤ sn s) ∧ ∀ k, k < 25 → sr s 26 k = some (A + 3 * k) ∧ FlS s (A + 3 * k) (A + 3 * k + 1) (A + 3 * k + 2)
/-- the component's memory -/
def Mem (D : Nat → Prop) (s : St) (o : Option Nat) : Prop := Vd s ∧ 31 ≤ sn s ∧ (∀ b, D b → b < sn s) ∧ FA s o ∧ ∀ A, o = some A → ∀ x, A ≤ x → x < A + 75 → ¬ D x
/-- what all flights ask and leave -/
def LkA (D : Nat → Prop) (s : St) (w : WR) (ls : List (List DC)) (A : Nat) : Prop := Cw D s w ls ∧ 31 ≤ A ∧ ∀ j, j < 25 → FlT s w ls A j
theorem FA.fr {S : Nat → Prop} {s s' : St} {o : Option Nat} (h : FA s o) (f : Fr S s s') : FA s' o := by
  cases o with
  | none =>
    intro k hk
    rw [f.2.1]
    exact h k hk
  | some A =>
    refine ⟨by rw [f.2.2.1.1]; exact h.1, fun k hk => ⟨by rw [f.2.1]; exact (h.2 k hk).1, (h.2 k hk).2.fr f⟩⟩
theorem Mem.fr {D : Nat → Prop} {S : Nat → Prop} {s s' : St} {o : Option Nat} (h : Mem D s o) (f : Fr S s s') : Mem D s' o :=
  ⟨h.1.fr f, by rw [f.2.2.1.1]; exact h.2.1, fun b hb => by rw [f.2.2.1.1]; exact h.2.2.1 b hb, h.2.2.2.1.fr f, h.2.2.2.2⟩
theorem Sm.fr {s s' : St} (h : Sm s s') : Fr (fun b => b < 31) s s' := ⟨h.1, h.2.1, h.2.2.1, fun b hb => h.2.2.2.1 b (by omega), fun b h1 h2 => h.2.2.2.2 b h1 (h2.resolve_right fun z => z (by decide))⟩
/-- the call needs as much room, if flights are not there yet -/
def Room (s : St) (o : Option Nat) : Prop := o = none → sn s + 75 ≤ smx s ∧ ss s + 575 ≤ sms s
/-- what became of the memory -/
def Gone (s s' : St) (o o' : Option Nat) : Prop := Bg s s' o ∧ (sn s ≤ sn s' ∧ sn s' ≤ sn s + 75 ∧ ss s ≤ ss s' ∧ ss s' ≤ ss s + 575) ∧ (o' = o ∨ (o = none ∧ o' = some (sn s)))
theorem e_X0_looksAtAll {D : Nat → Prop} {s : St} {w : WR} {ls : List (List DC)} (hC : C0 D s w ls) (hW : Wf w ls) {o : Option Nat} (hM : Mem D s o) (hR : Room s o) : ∃ s1 A, F_X0_looksAtAll s = some ((), s1) ∧ LkA D s1 w ls A ∧ FlE s1 23 24 25 (nowL w ls) ∧ Mem D s1 (some A) ∧ Gone s s1 o (some A) := by
  obtain ⟨s1, e1, L1, f1⟩ := e_X0_looks hC hW
  have M1 := hM.fr f1
  obtain ⟨v1, m1, d1, a1, n1⟩ := M1
  have hB : Bg s s1 o := Bg.sm f1.smq
  have z1 : sn s1 = sn s ∧ ss s1 = ss s ∧ smx s1 = smx s ∧ sms s1 = sms s := f1.2.2.1
  unfold F_X0_looksAtAll
  rw [e1, bnd_s, k_0]
  cases o with
  | none =>
    have hR := hR rfl
    obtain ⟨s2, e2, L2, v2, T2, z2, B2⟩ := e_X0_all_n hW (s0 := s1) (A := sn s1) m1 rfl d1 25 0 s1 L1.1 v1 L1.2.1 L1.2.2.1 L1.2.2.2 (by omega) (by omega) (by omega) (by omega) (by omega) (fun j hj => by omega) (fun j _ hj => a1 j hj) Bg.rf FU (FU_ge (by omega))
    refine ⟨s2, sn s1, e2, ⟨L2.cw, m1, T2⟩, L2.2.2.2, ⟨v2, by omega, fun b hb => by have := d1 b hb; omega, ⟨⟨m1, by omega⟩, fun k hk => ⟨(T2 k hk).1, (T2 k hk).2.1⟩⟩, fun A hA x h1 h2 hx => ?_⟩, hB.tr (by omega) B2, by omega, Or.inr ⟨rfl, by rw [z1.1]⟩⟩
    cases hA
    have := d1 x hx
    omega
  | some A =>
    obtain ⟨s2, e2, L2, v2, T2, z2, B2⟩ := e_X0_all_s hW (s0 := s1) (A := A) a1.1.1 (n1 A rfl) 25 0 s1 L1.1 v1 L1.2.1 L1.2.2.1 L1.2.2.2 ⟨rfl, rfl⟩ (by omega) (fun j hj => by omega) (fun j _ hj => a1.2 j hj) Bg.rf FU (FU_ge (by omega))
    exact ⟨s2, A, e2, ⟨L2.cw, a1.1.1, T2⟩, L2.2.2.2, ⟨v2, by omega, fun b hb => by have := d1 b hb; omega, ⟨⟨a1.1.1, by have := a1.1.2; omega⟩, fun k hk => ⟨(T2 k hk).1, (T2 k hk).2.1⟩⟩, n1⟩, hB.tr (by omega) B2, by omega, Or.inl rfl⟩

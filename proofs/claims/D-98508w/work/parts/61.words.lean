set_option maxRecDepth 100000
/-! ===== texts: the words of a token ===== -/
theorem str_ok : ∀ i, i < 45 → slen.getD i 0 = (sbyt.getD i []).length ∧ (sbyt.getD i []).length ≤ 8 ∧ ∀ k, k < 8 → k < (sbyt.getD i []).length → ((((sbyt.getD i []).getD k 0) &&& (255 : Int32)).toUInt32 % 65536).toInt32 = (sbyt.getD i []).getD k 0 ∧ fits .char (.int ((sbyt.getD i []).getD k 0)) = true := by decide
def strB (i : Nat) : List Int := (sbyt.getD i []).map Int32.toInt
theorem strB_l {i : Nat} : (strB i).length = (sbyt.getD i []).length := List.length_map ..
theorem strB_k {i k : Nat} (h : k < (strB i).length) : iI ((strB i).getD k 0) = (sbyt.getD i []).getD k 0 := by
  have h2 : k < (sbyt.getD i []).length := by rw [← strB_l]; exact h
  unfold strB
  generalize sbyt.getD i [] = L at h2 ⊢
  rw [List.getD_eq_getElem?_getD, List.getElem?_map, List.getD_eq_getElem?_getD, List.getElem?_eq_getElem h2]
  exact iI_of _
theorem strB_8 {i : Nat} (h : i < 45) : (strB i).length ≤ 8 := by rw [strB_l]; exact (str_ok i h).2.1
theorem isS_t {i : Nat} (h : i < 45) : isS (1000000000 + i) = true := by
  unfold isS
  rw [Nat.ble_eq_true_of_le (by omega), Nat.blt_eq.mpr (by omega)]
  rfl
theorem isSA_t {i : Nat} (h : i < 45) : isSA (1000000000 + i + 100) = true := by
  unfold isSA
  rw [Nat.ble_eq_true_of_le (by omega), Nat.blt_eq.mpr (by omega)]
  rfl
theorem e_J7_length (s : St) {i : Nat} (h : i < 45) : F_J7_length s (1000000000 + i) = some (iI (strB i).length, s) := by
  have h8 := strB_8 h
  unfold F_J7_length F_J7_coder
  rw [gd_ok (isS_t h), gd_ok (isSA_t h), gd_ok (isS_t h), if_neg (by decide), gd_ok (isS_t h), bnd_s, show 1000000000 + i + 100 - 1000000100 = i by omega, (str_ok i h).1, ← strB_l, nIi, k_0, shr_t (by omega) (by omega)]
  show some (iI (((strB i).length : Int) / 1), s) = _
  rw [Int.ediv_one]
theorem e_J7_charAt (s : St) {i k : Nat} (h : i < 45) (hk : k < (strB i).length) : F_J7_charAt s (1000000000 + i) (iI k) = some (iI ((strB i).getD k 0), s) := by
  have h8 := strB_8 h
  have ok := (str_ok i h).2.2 k (by omega) (by rw [← strB_l]; exact hk)
  have ei : 1000000000 + i + 100 - 1000000100 = i := by omega
  have e1 : F_J7_checkIndex s (iI k) (nI (slen.getD i 0)) = some ((), s) := by
    unfold F_J7_checkIndex F_J6_checkIndex
    rw [(str_ok i h).1, ← strB_l, nIi, if_neg (by rw [k_0, iI_lt (by omega) (by omega)]; omega), if_pos (by rw [iI_lt (by omega) (by omega)]; omega), bnd_s]
  have e2 : inb (iI k) (slen.getD i 0) = true := by
    rw [(str_ok i h).1, ← strB_l]
    exact inb_t (by omega) (by omega)
  unfold F_J7_charAt F_J7_isLatin1 F_J8_charAt
  rw [gd_ok (isS_t h), if_neg (by decide), gd_ok (isS_t h), if_pos (by decide), bnd_s, if_neg (by decide), gd_ok (isS_t h), drf_s, gd_ok (isSA_t h), ei, e1, bnd_s, drf_s, gd_ok (isSA_t h), ei, gd_ok e2, iI_nat (by omega), Int.toNat_natCast, ok.1, gd_ok ok.2, bnd_s, gd_ok ok.2, strB_k hk]
theorem RdE.T {s : St} {R : Nat} {T : Nat → Int} {n p l d m : Nat} (h : RdE s R T n p l d m) {k : Nat} (hk : k < 400) : si s 19 k = iI (T k) ∧ -128 ≤ T k ∧ T k ≤ 127 := ⟨h.2.2.2.1 k hk, h.2.2.2.2.2.2 k hk⟩
theorem strB_r {i k : Nat} (h : i < 45) (hk : k < (strB i).length) : -2147483648 ≤ (strB i).getD k 0 ∧ (strB i).getD k 0 ≤ 2147483647 := by
  have h2 : k < (sbyt.getD i []).length := by rw [← strB_l]; exact hk
  unfold strB
  generalize sbyt.getD i [] = L at h2 ⊢
  rw [List.getD_eq_getElem?_getD, List.getElem?_map, List.getElem?_eq_getElem h2]
  exact i_rng _
theorem e_X6_is_20 {s : St} {R : Nat} {T : Nat → Int} {n p l d m i : Nat} (h : RdE s R T n p l d m) (hi : i < 45) (hl : p + (strB i).length ≤ n) : ∀ (j k : Nat), (strB i).length = j + k → ∀ fu, j < fu → F_X6_is_20 fu s (some R) (some (1000000000 + i)) (iI k) = some (iI (bZ (∀ q, k ≤ q → q < (strB i).length → T (p + q) = (strB i).getD q 0)), s) := by
  have h8 := strB_8 hi
  have hn := h.2.2.2.2.2.1
  intro j
  induction j with
  | zero =>
    intro k hk fu hfu
    obtain ⟨fu, rfl⟩ : ∃ g, fu = g + 1 := ⟨fu - 1, by omega⟩
    rw [F_X6_is_20]
    show drf (some (1000000000 + i)) _ = _
    rw [drf_s, gd_ok (isS_t hi), e_J7_length s hi, bnd_s, if_pos (by rw [iI_le (by omega) (by omega)]; omega), bZ_t (fun q h1 h2 => by omega), k_1]
  | succ j ih =>
    intro k hk fu hfu
    obtain ⟨fu, rfl⟩ : ∃ g, fu = g + 1 := ⟨fu - 1, by omega⟩
    have t := h.T (k := p + k) (by omega)
    have hr := strB_r hi (k := k) (by omega)
    have ih := ih (k + 1) (by omega) fu (by omega)
    rw [F_X6_is_20]
    show drf (some (1000000000 + i)) _ = _
    rw [drf_s, gd_ok (isS_t hi), e_J7_length s hi, bnd_s, if_neg (by rw [iI_le (by omega) (by omega)]; omega), drf_s, isRd_g h.1, drf_s, isRd_g h.1, h.2.1, drf_s, isK_g (by rw [h.2.2.1]), h.2.2.1, h.2.2.2.2.1.2.2.1, iI_add, inb_g (by show 0 ≤ (p : Int) + k ∧ (p : Int) + k < (400 : Nat) ∧ _; omega), drf_s, gd_ok (isS_t hi), e_J7_charAt s hi (by omega), bnd_s, iI_nat (by omega), show ((p : Int) + k).toNat = p + k by omega, t.1, k_0, k_1, iI_add]
    by_cases a : T (p + k) = (strB i).getD k 0
    · rw [if_pos (by rw [a])]
      have e : (iI ((k : Int) + 1)) = iI ((k + 1 : Nat) : Int) := by congr 1
      rw [e, ih]
      have hq : (∀ q, k + 1 ≤ q → q < (strB i).length → T (p + q) = (strB i).getD q 0) ↔ (∀ q, k ≤ q → q < (strB i).length → T (p + q) = (strB i).getD q 0) := ⟨fun z q h1 h2 => by
        by_cases e : q = k
        · rw [e]; exact a
        · exact z q (by omega) h2, fun z q h1 h2 => z q (by omega) h2⟩
      rw [propext hq]
    · rw [if_neg (by rw [iI_eq (by omega) (by omega)]; exact a), bZ_f (fun z => a (z k (Nat.le_refl _) (by omega)))]
theorem e_X6_is {s : St} {R : Nat} {T : Nat → Int} {n p l d m i : Nat} (h : RdE s R T n p l d m) (hi : i < 45) : F_X6_is s R (some (1000000000 + i)) = some (iI (bZ (tokIs T n p (strB i))), s) := by
  have h8 := strB_8 hi
  have hn := h.2.2.2.2.2.1
  have ht := tkE_r (T := T) hn.2.1
  unfold F_X6_is tokIs
  rw [isRd_g h.1, isRd_g h.1, drf_s, gd_ok (isS_t hi), e_J7_length s hi, bnd_s, h.2.2.2.2.1.2.2.1, h.2.2.2.2.1.2.2.2.1, iI_sub]
  by_cases a : tkE T n p = p + (strB i).length
  · rw [if_pos (by rw [a]; congr 1; omega), k_0]
    have := e_X6_is_20 h hi (by omega) (strB i).length 0 (by omega) FU (FU_ge (by omega))
    rw [show (iI ((0 : Nat) : Int)) = iI 0 from rfl] at this
    rw [this]
    have hq : (∀ q, 0 ≤ q → q < (strB i).length → T (p + q) = (strB i).getD q 0) ↔ (tkE T n p = p + (strB i).length ∧ ∀ k, k < (strB i).length → T (p + k) = (strB i).getD k 0) := ⟨fun z => ⟨a, fun k hk => z k (Nat.zero_le _) hk⟩, fun z q _ hq => z.2 q hq⟩
    rw [propext hq]
  · rw [if_neg (by rw [iI_eq (by omega) (by omega)]; omega), k_0, bZ_f (fun z => a z.1)]
theorem RdE.nx {s s' : St} {R : Nat} {T : Nat → Int} {n p l d m : Nat} (h : RdE s R T n p l d m) (hx : Nx R s s') : isRd s' R = true := by
  have := h.1
  unfold isRd isK at this ⊢
  rw [hx.1]
  exact this
noncomputable def tkP (T : Nat → Int) (n p i : Nat) : Nat := @ite _ (tokIs T n p (strB i)) (Classical.propDecidable _) (nxt T n p) p
theorem e_X6_takes {s : St} {R : Nat} {T : Nat → Int} {n p l d m i : Nat} (h : RdE s R T n p l d m) (hi : i < 45) : ∃ s', F_X6_takes s R (some (1000000000 + i)) = some (iI (bZ (tokIs T n p (strB i))), s') ∧ RdE s' R T n (tkP T n p i) l d m ∧ Nx R s s' := by
  unfold F_X6_takes tkP
  rw [isRd_g h.1, e_X6_is h hi, bnd_s, k_0]
  by_cases a : tokIs T n p (strB i)
  · obtain ⟨s', e, h', hx⟩ := e_X6_next h
    rw [if_neg (by rw [bZ_i0]; exact fun z => z a), if_pos a, isRd_g h.1, e, bnd_s, fits_b]
    exact ⟨s', rfl, h', hx⟩
  · rw [if_pos (by rw [bZ_i0]; exact a), if_neg a, fits_b]
    exact ⟨s, rfl, h, Nx.rf⟩
/-! faults -/
/-- where the reader stopped -/
def Flt (s : St) (b : Nat) (q : Nat) : Prop := (sk s b).1 = 7 ∧ si s b 6 = iI q
/-- what reading keeps: all that was there, but for the reader itself -/
def PF (R : Nat) (s s' : St) (k m : Nat) : Prop := OldX (fun x => x = R) s s' ∧ Tk s s' k m ∧ (Vd s → Vd s') ∧ sk s' R = sk s R ∧ sr s' R = sr s R
theorem PF.rf {R : Nat} {s : St} {k m : Nat} : PF R s s k m := ⟨OldX.rf, Tk.rf, fun h => h, rfl, rfl⟩
theorem PF.tr {R : Nat} {s s1 s2 : St} {k m k2 m2 : Nat} (h : PF R s s1 k m) (g : PF R s1 s2 k2 m2) : PF R s s2 (k + k2) (m + m2) := ⟨h.1.tr h.2.1.1 g.1, h.2.1.tr g.2.1, fun v => g.2.2.1 (h.2.2.1 v), g.2.2.2.1.trans h.2.2.2.1, g.2.2.2.2.trans h.2.2.2.2⟩
theorem PF.le {R : Nat} {s s1 : St} {k m k2 m2 : Nat} (h : PF R s s1 k m) (h1 : k ≤ k2) (h2 : m ≤ m2) : PF R s s1 k2 m2 := ⟨h.1, h.2.1.le h1 h2, h.2.2⟩
theorem Nx.pf {R : Nat} {s s' : St} (h : Nx R s s') {k m : Nat} : PF R s s' k m := by
  refine ⟨fun x hx hS => ⟨by rw [h.1], h.2.2.2.2 x hS, by rw [h.2.2.1], by rw [h.2.1]⟩, ⟨by rw [h.2.2.2.1.1]; exact Nat.le_refl _, by rw [h.2.2.2.1.1]; omega, by rw [h.2.2.2.1.2.1]; exact Nat.le_refl _, by rw [h.2.2.2.1.2.1]; omega, h.2.2.2.1.2.2.1, h.2.2.2.1.2.2.2⟩, fun v => ?_, by rw [h.1], by rw [h.2.1]⟩
  unfold Vd
  rw [h.1, h.2.2.2.1.1]
  exact v
theorem isTh_7 {s : St} {a : Nat} (h : (sk s a).1 = 7) : isTh s a = true := by
  unfold isTh isK
  rw [h]
  rfl
theorem sR_n {s : St} {a k : Nat} {v : Option Nat} : sn (setR s a k v) = sn s := rfl
theorem sR_s {s : St} {a k : Nat} {v : Option Nat} : ss (setR s a k v) = ss s := rfl
theorem sR_x {s : St} {a k : Nat} {v : Option Nat} : smx (setR s a k v) = smx s ∧ sms (setR s a k v) = sms s := ⟨rfl, rfl⟩
theorem sR_l {s : St} {a k : Nat} {v : Option Nat} : sl (setR s a k v) = sl s := rfl
/-- cells of a new object are filled: what was there stays -/
def Fil (a : Nat) (s s' : St) : Prop := sk s' = sk s ∧ sl s' = sl s ∧ (sn s' = sn s ∧ ss s' = ss s ∧ smx s' = smx s ∧ sms s' = sms s) ∧ ∀ x, x ≠ a → si s' x = si s x ∧ sr s' x = sr s x
theorem Fil.rf {a : Nat} {s : St} : Fil a s s := ⟨rfl, rfl, ⟨rfl, rfl, rfl, rfl⟩, fun _ _ => ⟨rfl, rfl⟩⟩
theorem Fil.tr {a : Nat} {s s1 s2 : St} (h : Fil a s s1) (g : Fil a s1 s2) : Fil a s s2 := ⟨g.1.trans h.1, g.2.1.trans h.2.1, ⟨g.2.2.1.1.trans h.2.2.1.1, g.2.2.1.2.1.trans h.2.2.1.2.1, g.2.2.1.2.2.1.trans h.2.2.1.2.2.1, g.2.2.1.2.2.2.trans h.2.2.1.2.2.2⟩, fun x hx => ⟨(g.2.2.2 x hx).1.trans (h.2.2.2 x hx).1, (g.2.2.2 x hx).2.trans (h.2.2.2 x hx).2⟩⟩
theorem Fil.R {a k : Nat} {s : St} {v : Option Nat} : Fil a s (setR s a k v) := ⟨rfl, rfl, ⟨rfl, rfl, rfl, rfl⟩, fun x hx => ⟨rfl, by
  funext j
  rw [sR_r, if_neg hx]⟩⟩
theorem Fil.I {a k : Nat} {s : St} {v : Int32} : Fil a s (setI s a k v) := ⟨rfl, rfl, ⟨rfl, rfl, rfl, rfl⟩, fun x hx => ⟨by
  funext j
  rw [si_set, if_neg hx], rfl⟩⟩
/-- a new object, filled -/
theorem Fil.pf {R : Nat} {s s' : St} {kd : Kd} {n : Nat} (h : Fil (sn s) (newO s kd n) s') (hR : R < sn s) : PF R s s' 1 n := by
  obtain ⟨h1, h2, ⟨h3, h4, h5, h6⟩, h7⟩ := h
  have o : Old s (newO s kd n) := Old.new
  refine ⟨fun x hx hS => ⟨by rw [h1]; exact (o x hx).1, by rw [(h7 x (by omega)).1]; exact (o x hx).2.1, by rw [h2]; exact (o x hx).2.2.1, by rw [(h7 x (by omega)).2]; exact (o x hx).2.2.2⟩, ⟨by rw [h3, nO_n]; omega, by rw [h3, nO_n]; omega, by rw [h4, nO_s]; omega, by rw [h4, nO_s]; omega, h5, h6⟩, fun v => ?_, by rw [h1]; exact (o R hR).1, by rw [(h7 R (by omega)).2]; exact (o R hR).2.2.2⟩
  unfold Vd
  rw [h1, h3]
  exact v.new
theorem RdE.lt {s : St} {R : Nat} {T : Nat → Int} {n p l d m : Nat} (h : RdE s R T n p l d m) (hv : Vd s) : R < sn s := hv.lt (fun z => by
  have := h.1
  unfold isRd isK at this
  rw [z] at this
  exact absurd this (by decide))
/-- a fault is made -/
theorem e_X8_init {s : St} {R : Nat} {T : Nat → Int} {n p l d m : Nat} (h : RdE s R T n p l d m) (hv : Vd s) : ∃ s', F_X8_init (newO s (7, 0) 7) (sn s) (iI p) = some ((), s') ∧ Flt s' (sn s) p ∧ PF R s s' 1 7 := by
  have k0 : (sk (newO s (7, 0) 7) (sn s)).1 = 7 := by rw [nO_k, if_pos rfl]
  have t : ∀ {x k : Nat} {v : Option Nat} {s' : St} {a : Nat}, isTh (setR s' x k v) a = isTh s' a := rfl
  have t0 : isTh (newO s (7, 0) 7) (sn s) = true := isTh_7 k0
  obtain ⟨s1, e1, f1⟩ : ∃ s1, F_J4_init (newO s (7, 0) 7) (sn s) none none 0 0 = some ((), s1) ∧ Fil (sn s) (newO s (7, 0) 7) s1 := by
    unfold F_J4_init F_J3_init_2 F_J3_init_2_41
    simp only [t, t0, gd_t, nam_v, drf_s, bnd_s, if_true]
    exact ⟨_, rfl, (Fil.R.tr (Fil.R.tr Fil.R)).tr ((Fil.R.tr Fil.R).tr (Fil.R.tr Fil.R))⟩
  have k1 : (sk s1 (sn s)).1 = 7 := by rw [f1.1]; exact k0
  unfold F_X8_init
  rw [e1, bnd_s, isK_g k1, nam_v]
  exact ⟨_, rfl, ⟨k1, by rw [si_set, if_pos rfl, if_pos rfl]⟩, (f1.tr Fil.I).pf (h.lt hv)⟩

set_option maxRecDepth 100000
/-! ===== the component: what laws tell ===== -/
theorem tellC_ok {c : DC} {v : Nat → Int} (h : cok c) (hv : vok v) {z : Int} (e : tellC c v = some z) : -1000000000 ≤ z ∧ z ≤ 1000000000 := by
  have hw : ∀ z, (match c.2.1 with
    | none => some 1
    | some f => f v) = some z → -1000000000 ≤ z ∧ z ≤ 1000000000 := by
    intro z e
    cases e2 : c.2.1 with
    | none => rw [e2] at e; cases e; omega
    | some f => rw [e2] at e; exact h f e2 v hv z e
  unfold tellC at e
  cases e3 : c.2.2 with
  | none => rw [e3] at e; exact hw z e
  | some t =>
    rw [e3] at e
    cases e4 : t v with
    | none => simp only [e4] at e; cases e
    | some x =>
      simp only [e4] at e
      cases x
      · cases e
      · exact hw z e
theorem noS_n {o : Option Int} (h : ∀ z, o = some z → -1000000000 ≤ z ∧ z ≤ 1000000000) : (lI (noS o) = lI (-4000000000)) = (o = none) := by
  cases o with
  | none => simp [noS]
  | some z =>
    have := h z rfl
    show (lI z = lI (-4000000000)) = _
    rw [lI_eq (by omega) (by omega)]
    simp
    omega
def LawE (s : St) (a : Nat) (law : List DC) : Prop := ∃ (l b c : Nat) (f : Nat → Nat), (sk s a).1 = 16 ∧ sr s a 0 = some l ∧ LstE s l b c law.length f ∧ ∀ i x, law[i]? = some x → ClauE s (f i) x
theorem e_X19_told_7 {s : St} {a l b c : Nat} {law : List DC} {f : Nat → Nat} {h : Int} {v : Nat → Int} (hk : (sk s a).1 = 16) (h0 : sr s a 0 = some l) (hL : LstE s l b c law.length f) (hC : ∀ i x, law[i]? = some x → ClauE s (f i) x) (hv : VOK s v) (hh : 0 ≤ h ∧ h ≤ 3) : ∀ (j i : Nat) (o : Option Int), law.length = j + i → ∀ fu, j < fu → F_X19_told_7 fu s (some a) (iI h) (some 20) (lI (noS o)) (iI i) = some (lI (noS (toldF h v (law.drop i) o)), s) := by
  have hn := hL.2.2.2.1
  have hc := hL.2.2.2.2.1
  intro j
  induction j with
  | zero =>
    intro i o hi fu hfu
    obtain ⟨g, rfl⟩ : ∃ g, fu = g + 1 := ⟨fu - 1, by omega⟩
    simp only [F_X19_told_7]
    rw [drf_s, isK_g hk, h0, drf_s, isK_g hL.1, e_J2_size hL, bnd_s, if_pos (by rw [iI_le (by omega) (by omega)]; omega), List.drop_eq_nil_of_le (by omega)]
    rfl
  | succ j ih =>
    intro i o hi fu hfu
    obtain ⟨g, rfl⟩ : ∃ g, fu = g + 1 := ⟨fu - 1, by omega⟩
    obtain ⟨x, hx⟩ : ∃ x, law[i]? = some x := ⟨law[i]'(by omega), List.getElem?_eq_getElem (by omega)⟩
    have hE := hC i x hx
    have hd : law.drop i = x :: law.drop (i + 1) := by
      rw [List.drop_eq_getElem_cons (by omega)]
      rw [List.getElem?_eq_getElem (by omega)] at hx
      rw [Option.some.inj hx]
    have h4 : iI (i : Int) + 1 = iI ((i + 1 : Nat) : Int) := by
      rw [k_1, iI_add]
      rfl
    simp only [F_X19_told_7]
    rw [drf_s, isK_g hk, h0, drf_s, isK_g hL.1, e_J2_size hL, bnd_s, if_neg (by rw [iI_le (by omega) (by omega)]; omega), drf_s, isK_g hk, h0, drf_s, isK_g hL.1, e_J2_get hL (by omega), bnd_s, drf_s, Int.toNat_natCast, isK_g hE.1, drf_s, isK_g hE.1, hE.2.1, hd, toldF]
    have hr := hE.2.2.1
    by_cases hq : x.1 = h
    · rw [if_pos (by rw [hq]), if_pos hq, drf_s, isK_g hk, h0, drf_s, isK_g hL.1, e_J2_get hL (by omega), bnd_s, drf_s, Int.toNat_natCast, isK_g hE.1, drf_s, isK_g hE.1, e_X9_tells hE hv, bnd_s, K_m4000000000, h4]
      have hz := noS_n (fun z e => tellC_ok hE.2.2.2.2.2 hv.1 e)
      cases e : tellC x v with
      | none => rw [if_pos (show lI (noS none) = lI (-4000000000) from rfl)]; exact ih (i + 1) o (by omega) g (by omega)
      | some z => rw [e] at hz; rw [if_neg (by rw [hz]; simp)]; exact ih (i + 1) (some z) (by omega) g (by omega)
    · rw [if_neg (by rw [iI_eq (by omega) (by omega)]; exact hq), if_neg hq, h4]
      exact ih (i + 1) o (by omega) g (by omega)
theorem e_X19_told {s : St} {a : Nat} {law : List DC} (hE : LawE s a law) {h : Int} {v : Nat → Int} (hv : VOK s v) (hh : 0 ≤ h ∧ h ≤ 3) : F_X19_told s a (iI h) (some 20) = some (lI (noS (toldF h v law none)), s) := by
  obtain ⟨l, b, c, f, hk, h0, hL, hC⟩ := hE
  have hn := hL.2.2.2.1
  have hc := hL.2.2.2.2.1
  exact e_X19_told_7 hk h0 hL hC hv hh law.length 0 none (by omega) FU (by unfold FU; omega)
/-! the registers: w r k stands for the int k of the cell r (object 0 RoseThrow, 2 State) -/
abbrev WR : Type := Nat → Int → Int
def relC (r : Nat) (k : Int) : Prop := match r with
  | 0 => k = 0 ∨ (11 ≤ k ∧ k ≤ 15) ∨ k = 26 ∨ k = 27
  | 1 => k < 7
  | 2 => 8 ≤ k ∧ k ≤ 10
  | 3 => k < 6
  | 4 => k < 6
  | 5 => k < 6
  | 6 => k < 6
  | 7 => k < 6
  | 8 => k < 9
  | 9 => k < 8
  | 13 => k < 96
  | 14 => k < 16
  | 15 => k < 96
  | 16 => k < 16
  | 17 => k < 6
  | 18 => k < 6
  | 19 => k < 400
  | 29 => k < 6
  | 30 => k < 6
  | _ => False
def RCi (s : St) (w : WR) : Prop := ∀ r k, 0 ≤ k → relC r k → si s r k.toNat = iI (w r k)
/-- a law at a, as long as the cells of D are as they are -/
def LawAt (D : Nat → Prop) (s : St) (a : Nat) (law : List DC) : Prop := ∀ s', Kp D s s' → SkC s' → LawE s' a law
theorem LawAt.go {D : Nat → Prop} {s s' : St} {a : Nat} {law : List DC} (h : LawAt D s a law) (hk : Kp D s s') : LawAt D s' a law := fun s2 h2 hS => h s2 (hk.tr h2) hS
/-- the laws' list -/
def LawsE (D : Nat → Prop) (s : St) (ls : List (List DC)) : Prop := ∃ (b c : Nat) (f : Nat → Nat), LstE s 10 b c ls.length f ∧ ∀ i x, ls[i]? = some x → LawAt D s (f i) x
/-- what the evaluation of laws asks -/
def C0 (D : Nat → Prop) (s : St) (w : WR) (ls : List (List DC)) : Prop := SkC s ∧ RCi s w ∧ LawsE D s ls ∧ ∀ b, D b → 31 ≤ b
def rng (v lo hi : Int) : Prop := lo ≤ v ∧ v ≤ hi
/-- what is told is in its bounds -/
def Wf (w : WR) (ls : List (List DC)) : Prop :=
  (0 ≤ w 2 8 ∧ w 2 8 ≤ 6) ∧ (0 ≤ w 2 9 ∧ w 2 9 ≤ 8) ∧ (-1 ≤ w 2 10 ∧ w 2 10 < ls.length) ∧ ls.length ≤ 6 ∧
  (∀ k, 0 ≤ k → k < 6 → (0 ≤ w 3 k ∧ w 3 k ≤ 35) ∧ (0 ≤ w 4 k ∧ w 4 k ≤ 3) ∧ (-9 ≤ w 5 k ∧ w 5 k ≤ 9) ∧ (0 ≤ w 6 k ∧ w 6 k ≤ 9) ∧ (-1 ≤ w 7 k ∧ w 7 k ≤ 35)) ∧
  ((1 ≤ w 8 0 ∧ w 8 0 ≤ 5) ∧ (-2 ≤ w 8 1 ∧ w 8 1 ≤ 2) ∧ (1 ≤ w 8 2 ∧ w 8 2 ≤ 9) ∧ (2 ≤ w 8 3 ∧ w 8 3 ≤ 3) ∧ (0 ≤ w 8 4 ∧ w 8 4 ≤ 5) ∧ (0 ≤ w 8 5 ∧ w 8 5 ≤ 2) ∧ (-1 ≤ w 8 6 ∧ w 8 6 ≤ 35) ∧ (1 ≤ w 8 7 ∧ w 8 7 ≤ 9) ∧ (0 ≤ w 8 8 ∧ w 8 8 ≤ 9)) ∧
  (∀ k, 0 ≤ k → k < 8 → (0 ≤ w 9 k ∧ w 9 k ≤ 35))
theorem LstE.wV {s : St} {a b c n : Nat} {f : Nat → Nat} {g : Nat → Int64} (h : LstE s a b c n f) : LstE (wV s g) a b c n f := h
theorem VOK.up {s : St} {g : Nat → Int64} {v : Nat → Int} {k : Nat} {z : Int} (h : VOK (wV s g) v) (hz : -1000000000 ≤ z ∧ z ≤ 1000000000) : VOK (wV s (up1 g k (lI z))) (up1 v k z) := by
  refine ⟨fun j => ?_, fun j hj => ?_⟩
  · unfold up1
    split
    · exact hz
    · exact h.1 j
  · show up1 g k (lI z) j = _
    unfold up1
    split
    · rfl
    · exact h.2 j hj
theorem FU_ge {n : Nat} (h : n < 1048576) : n < FU := h
theorem RCi.at {s : St} {w : WR} (h : RCi s w) (r : Nat) {k : Int} (h0 : 0 ≤ k) (hk : relC r k) : si s r k.toNat = iI (w r k) := h r k h0 hk
/-- a term -/
theorem e_X0_term {s : St} {w : WR} (h : RCi s w) {k : Int} (hk : 0 ≤ k ∧ k < 9) : F_X0_term s (iI k) = some (iI (w 8 k), s) := by
  unfold F_X0_term
  rw [inb_g (by omega), iI_nat (by omega), h.at 8 hk.1 hk.2]
def vNo (mood : Int) : Nat → Int := fun k => if k = 13 then mood else -1
theorem e_X0_nothing_2 {s : St} {w : WR} (h : RCi s w) (hm : 0 ≤ w 8 8 ∧ w 8 8 ≤ 9) : ∀ (j i : Nat) (g : Nat → Int64), 15 = j + i → (∀ k, k < i → g k = lI (-1)) → ∀ fu, j < fu → ∃ g', F_X0_nothing_2 fu (wV s g) (iI i) = some ((), wV s g') ∧ VOK (wV s g') (vNo (w 8 8)) := by
  intro j
  induction j with
  | zero =>
    intro i g hi hg fu hfu
    obtain ⟨f, rfl⟩ : ∃ f, fu = f + 1 := ⟨fu - 1, by omega⟩
    have hR : RCi (wV s g) w := h
    refine ⟨up1 g 13 (lI (w 8 8)), ?_, fun k => ?_, fun k hk => ?_⟩
    · simp only [F_X0_nothing_2]
      rw [k_15, if_pos (by rw [iI_le (by omega) (by omega)]; omega), k_8, e_X0_term hR (by omega), bnd_s, k_13, inb_g (by omega), nam_v, iI_nat (by omega), setL_22, wV_wV, wV_l, iI_l (by omega)]
      rfl
    · unfold vNo
      split <;> omega
    · show up1 g 13 _ k = _
      unfold up1 vNo
      split
      · rfl
      · exact hg k (by omega)
  | succ j ih =>
    intro i g hi hg fu hfu
    obtain ⟨f, rfl⟩ : ∃ f, fu = f + 1 := ⟨fu - 1, by omega⟩
    obtain ⟨g', e, hV⟩ := ih (i + 1) (up1 g i (lI (-1))) (by omega) (fun k hk => by
      unfold up1
      split
      · rfl
      · exact hg k (by omega)) f (by omega)
    refine ⟨g', ?_, hV⟩
    simp only [F_X0_nothing_2]
    rw [k_15, if_neg (by rw [iI_le (by omega) (by omega)]; omega), inb_g (by omega), nam_v, iI_nat (by omega), setL_22, wV_wV, wV_l, K_m1, k_1, iI_add, Int.toNat_natCast]
    exact e
theorem e_X0_nothing {s : St} {w : WR} (h : RCi s w) (hm : 0 ≤ w 8 8 ∧ w 8 8 ≤ 9) : ∃ g, F_X0_nothing s = some ((), wV s g) ∧ VOK (wV s g) (vNo (w 8 8)) := by
  have := e_X0_nothing_2 h hm 15 0 (sl s 22) (by omega) (fun k hk => by omega) FU (FU_ge (by omega))
  rw [wV_same] at this
  exact this
theorem VOK.setL {s : St} {v : Nat → Int} {k : Int} {z : Int} {g : Nat → Int64} (h : VOK (wV s g) v) (hk : 0 ≤ k ∧ k < 15) (hz : -1000000000 ≤ z ∧ z ≤ 1000000000) : ∃ g', setL (wV s g) 22 (iI k).toNatClampNeg (iI z).toInt64 = wV s g' ∧ VOK (wV s g') (up1 v k.toNat z) := by
  refine ⟨up1 g k.toNat (lI z), ?_, h.up hz⟩
  rw [iI_nat (by omega), iI_l (by omega), setL_22, wV_wV]
  rfl
theorem e_X0_looksAt {s : St} {w : WR} (h : RCi s w) (hm : 0 ≤ w 8 8 ∧ w 8 8 ≤ 9) {c want tall : Int} (hc : -1000000000 ≤ c ∧ c ≤ 1000000000) (hw : -1000000000 ≤ want ∧ want ≤ 1000000000) (ht : -1000000000 ≤ tall ∧ tall ≤ 1000000000) : ∃ g, F_X0_looksAt s (iI c) (iI want) (iI tall) = some ((), wV s g) ∧ VOK (wV s g) (up1 (up1 (up1 (vNo (w 8 8)) 6 c) 7 tall) 8 want) := by
  obtain ⟨g, e, hV⟩ := e_X0_nothing h hm
  unfold F_X0_looksAt
  rw [e, bnd_s, k_6, k_7, k_8, inb_g (by omega), nam_v]
  obtain ⟨g1, e1, hV1⟩ := hV.setL (k := 6) (by omega) hc
  rw [e1, inb_g (by omega), nam_v]
  obtain ⟨g2, e2, hV2⟩ := hV1.setL (k := 7) (by omega) ht
  rw [e2, inb_g (by omega), nam_v]
  obtain ⟨g3, e3, hV3⟩ := hV2.setL (k := 8) (by omega) hw
  rw [e3]
  exact ⟨g3, rfl, hV3⟩
/-- what the law in force tells -/
def saysZ (w : WR) (ls : List (List DC)) (h : Int) (v : Nat → Int) : Option Int := toldF h v (ls.getD (w 2 10).toNat []) none
theorem e_X0_says {D : Nat → Prop} {s : St} {w : WR} {ls : List (List DC)} (hC : C0 D s w ls) (hf : 0 ≤ w 2 10 ∧ w 2 10 < ls.length) {h : Int} (hh : 0 ≤ h ∧ h ≤ 3) {v : Nat → Int} (hv : VOK s v) : F_X0_says s (iI h) = some (lI (noS (saysZ w ls h v)), s) := by
  obtain ⟨hS, hR, ⟨b, c, f, hL, hE⟩, -⟩ := hC
  unfold F_X0_says saysZ
  have h10 : si s 2 10 = iI (w 2 10) := hR 2 10 (by omega) (by show _ ∧ _; omega)
  have hx : ls[(w 2 10).toNat]? = some (ls.getD (w 2 10).toNat []) := by
    rw [List.getD_eq_getElem?_getD, List.getElem?_eq_getElem (by omega)]
    rfl
  have hLa := hE _ _ hx s Kp.rf hS
  have h16 : (sk s (f (w 2 10).toNat)).1 = 16 := by
    obtain ⟨_, _, _, _, q, -⟩ := hLa
    exact q
  rw [h10, e_J2_get hL hf, bnd_s, gp_SkC hS, drf_s, isK_g h16, drf_s, isK_g h16, e_X19_told hLa hv hh, bnd_s, gp_SkC hS]
def nearZ (lo hi z : Int) : Int := if z < lo then lo else if hi < z then hi else z
theorem e_X0_near {s : St} {z lo hi : Int} (hz : -4000000000 ≤ z ∧ z ≤ 1000000000) (h1 : 0 ≤ lo ∧ lo ≤ 1000) (h2 : lo ≤ hi ∧ hi ≤ 1000) : F_X0_near s (lI z) (iI lo) (iI hi) = some (iI (nearZ lo hi z), s) := by
  unfold F_X0_near nearZ
  rw [iI_l (by omega), iI_l (by omega)]
  have e : (if lI z < lI hi then lI z else lI hi) = lI (if z < hi then z else hi) := by
    by_cases h : z < hi
    · rw [if_pos h, if_pos (by rw [lI_lt (by omega) (by omega)]; exact h)]
    · rw [if_neg h, if_neg (by rw [lI_lt (by omega) (by omega)]; exact h)]
  rw [e]
  have e2 : (if lI (if z < hi then z else hi) < lI lo then lI lo else lI (if z < hi then z else hi)) = lI (if z < lo then lo else if hi < z then hi else z) := by
    by_cases h : (if z < hi then z else hi) < lo
    · rw [if_pos (by rw [lI_lt (by omega) (by omega)]; exact h)]
      congr 1
      omega
    · rw [if_neg (by rw [lI_lt (by omega) (by omega)]; exact h)]
      congr 1
      omega
  rw [e2, lI_i (by omega)]
theorem toldF_ok {h : Int} {v : Nat → Int} (hv : vok v) : ∀ (law : List DC) (o : Option Int), (∀ c ∈ law, cok c) → (∀ z, o = some z → -1000000000 ≤ z ∧ z ≤ 1000000000) → ∀ z, toldF h v law o = some z → -1000000000 ≤ z ∧ z ≤ 1000000000
  | [], o, _, ho, z, e => ho z e
  | c :: r, o, hc, ho, z, e => by
    refine toldF_ok hv r _ (fun x hx => hc x (List.mem_cons_of_mem _ hx)) (fun y hy => ?_) z e
    split at hy
    · split at hy
      · exact ho y hy
      · rename_i e3
        exact tellC_ok (hc c List.mem_cons_self) hv (e3.trans hy)
    · exact ho y hy
theorem LawE.ok {s : St} {a : Nat} {law : List DC} (h : LawE s a law) : ∀ c ∈ law, cok c := by
  obtain ⟨l, b, c, f, -, -, -, hC⟩ := h
  intro x hx
  obtain ⟨i, hi⟩ := List.mem_iff_getElem?.mp hx
  exact (hC i x hi).2.2.2.2.2
theorem C0.ok {D : Nat → Prop} {s : St} {w : WR} {ls : List (List DC)} (h : C0 D s w ls) : ∀ l ∈ ls, ∀ c ∈ l, cok c := by
  obtain ⟨hS, -, ⟨b, c, f, -, hC⟩, -⟩ := h
  intro x hx
  obtain ⟨i, hi⟩ := List.mem_iff_getElem?.mp hx
  exact (hC i x hi s Kp.rf hS).ok
theorem saysZ_ok {w : WR} {ls : List (List DC)} (hl : ∀ l ∈ ls, ∀ c ∈ l, cok c) {h : Int} {v : Nat → Int} (hv : vok v) {z : Int} (e : saysZ w ls h v = some z) : -1000000000 ≤ z ∧ z ≤ 1000000000 := by
  refine toldF_ok hv _ none (fun c hc => ?_) (fun z e => by cases e) z e
  by_cases hx : (w 2 10).toNat < ls.length
  · rw [List.getD_eq_getElem?_getD, List.getElem?_eq_getElem hx] at hc
    exact hl _ (List.getElem_mem hx) c hc
  · rw [List.getD_eq_getElem?_getD, List.getElem?_eq_none (by omega)] at hc
    cases hc
theorem Kp_wV {D : Nat → Prop} {s : St} {g : Nat → Int64} (h : ∀ b, D b → 31 ≤ b) : Kp D s (wV s g) := fun b hb => ⟨rfl, rfl, by
  show (if b = 22 then g else sl s b) = _
  rw [if_neg (by have := h b hb; omega)], rfl⟩
theorem C0.wV {D : Nat → Prop} {s : St} {w : WR} {ls : List (List DC)} {g : Nat → Int64} (h : C0 D s w ls) : C0 D (wV s g) w ls := by
  obtain ⟨h1, h2, ⟨b, c, f, hL, hE⟩, hD⟩ := h
  exact ⟨h1.wV, h2, ⟨b, c, f, hL, fun i x hx => (hE i x hx).go (Kp_wV hD)⟩, hD⟩
def vCat (mood c tall want : Int) : Nat → Int := up1 (up1 (up1 (vNo mood) 6 c) 7 tall) 8 want
/-- whether a law bars one from a cell -/
def barP (w : WR) (ls : List (List DC)) (c want tall cell : Int) : Prop := w 2 10 ≠ -1 ∧ saysZ w ls 3 (up1 (up1 (vCat (w 8 8) c tall want) 11 (cell % 6)) 12 (cell / 6)) ≠ none
def vSlip (w : WR) (f sd dx dy : Int) : Nat → Int := up1 (up1 (up1 (up1 (up1 (up1 (vNo (w 8 8)) 0 f) 1 sd) 2 (w 8 2)) 3 (w 8 3)) 4 dx) 5 dy
def woZ (dx dy : Int) : Int := if dx = 0 ∧ dy = 0 then 4 else if dx = 0 ∨ dy = 0 then 2 else 1
def slipO (w : WR) (ls : List (List DC)) (wo f sd dx dy : Int) : Int :=
  if w 2 10 = -1 then wo else
    match saysZ w ls 0 (vSlip w f sd dx dy) with
    | none => wo
    | some z => nearZ 0 9 z
def slipZ (w : WR) (ls : List (List DC)) (f sd dx dy : Int) : Int := slipO w ls (woZ dx dy) f sd dx dy
def gripZ (w : WR) (ls : List (List DC)) (c far : Int) : Int :=
  if w 2 10 = -1 then w 6 c else
    match saysZ w ls 1 (up1 (vCat (w 8 8) c (w 6 c) (w 5 c)) 9 far) with
    | none => w 6 c
    | some z => nearZ 0 99 z
def wedZ (w : WR) (ls : List (List DC)) (c caught : Int) : Int :=
  if w 2 10 = -1 then 25 else
    match saysZ w ls 2 (up1 (vCat (w 8 8) c (w 6 c) (w 5 c)) 10 caught) with
    | none => 25
    | some z => nearZ 0 100 z
theorem nearZ_r {lo hi z : Int} (h : lo ≤ hi) : lo ≤ nearZ lo hi z ∧ nearZ lo hi z ≤ hi := by
  unfold nearZ
  omega
theorem lN_n {o : Option Int} (h : ∀ z, o = some z → -1000000000 ≤ z ∧ z ≤ 1000000000) : (lI (noS o) = (-4000000000 : Int64)) = (o = none) := noS_n h
theorem e_X0_isBarred {D : Nat → Prop} {s : St} {w : WR} {ls : List (List DC)} (hC : C0 D s w ls) (hW : Wf w ls) {c want tall cell : Int} (hc : -1000000000 ≤ c ∧ c ≤ 1000000000) (hw : -1000000000 ≤ want ∧ want ≤ 1000000000) (ht : -1000000000 ≤ tall ∧ tall ≤ 1000000000) (hl : 0 ≤ cell ∧ cell ≤ 1000000000) : ∃ g, F_X0_isBarred s (iI c) (iI want) (iI tall) (iI cell) = some (iI (bZ (barP w ls c want tall cell)), wV s g) := by
  have hR := hC.2.1
  have h10 : si s 2 10 = iI (w 2 10) := hR 2 10 (by omega) (by show _ ∧ _; omega)
  have hf := hW.2.2.1
  have hn := hW.2.2.2.1
  unfold F_X0_isBarred
  rw [h10]
  by_cases h1 : w 2 10 = -1
  · rw [if_pos (by rw [h1]; rfl), bZ_f (fun z => z.1 h1)]
    exact ⟨sl s 22, by rw [wV_same]; rfl⟩
  · rw [if_neg (by rw [k_m1, iI_eq (by omega) (by omega)]; exact h1)]
    obtain ⟨g, e, hV⟩ := e_X0_looksAt hR (by have := hW.2.2.2.2.2.1; omega) hc hw ht
    obtain ⟨g1, e1, hV1⟩ := hV.setL (k := 11) (z := cell % 6) (by omega) (by omega)
    obtain ⟨g2, e2, hV2⟩ := hV1.setL (k := 12) (z := cell / 6) (by omega) (by omega)
    have hz := lN_n (fun z e => saysZ_ok (w := w) (h := 3) hC.ok hV2.1 e)
    rw [e, bnd_s, k_6, iI_remn (by omega) (by omega), iI_divn (by omega) (by omega), k_11, inb_g (by omega), nam_v, e1, k_12, inb_g (by omega), nam_v, e2, k_3, e_X0_says (hC.wV) (by omega) (by omega) hV2, bnd_s]
    refine ⟨g2, ?_⟩
    by_cases h2 : saysZ w ls 3 (up1 (up1 (up1 (up1 (up1 (vNo (w 8 8)) 6 c) 7 tall) 8 want) 11 (cell % 6)) 12 (cell / 6)) = none
    · rw [if_pos (by rw [hz]; exact h2), bZ_f (fun z => z.2 h2)]
      rfl
    · rw [if_neg (by rw [hz]; exact h2), bZ_t ⟨h1, h2⟩]
      rfl
theorem Wf.cat {w : WR} {ls : List (List DC)} (h : Wf w ls) {c : Int} (h0 : 0 ≤ c) (h6 : c < 6) : (0 ≤ w 3 c ∧ w 3 c ≤ 35) ∧ (0 ≤ w 4 c ∧ w 4 c ≤ 3) ∧ (-9 ≤ w 5 c ∧ w 5 c ≤ 9) ∧ (0 ≤ w 6 c ∧ w 6 c ≤ 9) ∧ (-1 ≤ w 7 c ∧ w 7 c ≤ 35) := h.2.2.2.2.1 c h0 h6
theorem Wf.trm {w : WR} {ls : List (List DC)} (h : Wf w ls) : ((1 ≤ w 8 0 ∧ w 8 0 ≤ 5) ∧ (-2 ≤ w 8 1 ∧ w 8 1 ≤ 2) ∧ (1 ≤ w 8 2 ∧ w 8 2 ≤ 9) ∧ (2 ≤ w 8 3 ∧ w 8 3 ≤ 3) ∧ (0 ≤ w 8 4 ∧ w 8 4 ≤ 5) ∧ (0 ≤ w 8 5 ∧ w 8 5 ≤ 2) ∧ (-1 ≤ w 8 6 ∧ w 8 6 ≤ 35) ∧ (1 ≤ w 8 7 ∧ w 8 7 ≤ 9) ∧ (0 ≤ w 8 8 ∧ w 8 8 ≤ 9)) := h.2.2.2.2.2.1
theorem Wf.frc {w : WR} {ls : List (List DC)} (h : Wf w ls) : (-1 ≤ w 2 10 ∧ w 2 10 < ls.length) ∧ ls.length ≤ 6 := ⟨h.2.2.1, h.2.2.2.1⟩
theorem RCi.frc {s : St} {w : WR} (h : RCi s w) : si s 2 10 = iI (w 2 10) := h 2 10 (by omega) (by show _ ∧ _; omega)
theorem RCi.many {s : St} {w : WR} (h : RCi s w) : si s 2 8 = iI (w 2 8) := h 2 8 (by omega) (by show _ ∧ _; omega)
def barC (w : WR) (ls : List (List DC)) (c cell : Int) : Prop := barP w ls c (w 5 c) (w 6 c) cell
theorem e_X0_isBarred_2 {D : Nat → Prop} {s : St} {w : WR} {ls : List (List DC)} (hC : C0 D s w ls) (hW : Wf w ls) {c cell : Int} (hc : 0 ≤ c ∧ c < 6) (hl : 0 ≤ cell ∧ cell ≤ 1000000000) : ∃ g, F_X0_isBarred_2 s (iI c) (iI cell) = some (iI (bZ (barC w ls c cell)), wV s g) := by
  have hk := hW.cat hc.1 hc.2
  obtain ⟨g, e⟩ := e_X0_isBarred hC hW (c := c) (want := w 5 c) (tall := w 6 c) (cell := cell) (by omega) (by omega) (by omega) hl
  refine ⟨g, ?_⟩
  unfold F_X0_isBarred_2
  rw [inb_g (by omega), inb_g (by omega), iI_nat (by omega), hC.2.1 5 c hc.1 hc.2, hC.2.1 6 c hc.1 hc.2, e, bnd_s, fits_b]
  rfl
theorem e_X0_grip {D : Nat → Prop} {s : St} {w : WR} {ls : List (List DC)} (hC : C0 D s w ls) (hW : Wf w ls) {c far : Int} (hc : 0 ≤ c ∧ c < 6) (hl : 0 ≤ far ∧ far ≤ 1000) : ∃ g, F_X0_grip s (iI c) (iI far) = some (iI (gripZ w ls c far), wV s g) := by
  have hk := hW.cat hc.1 hc.2
  have hf := hW.frc
  have ht := hW.trm
  unfold F_X0_grip gripZ
  rw [hC.2.1.frc]
  by_cases h1 : w 2 10 = -1
  · rw [if_pos (by rw [h1]; rfl), if_pos h1, inb_g (by omega), iI_nat (by omega), hC.2.1 6 c hc.1 hc.2]
    exact ⟨sl s 22, by rw [wV_same]⟩
  · rw [if_neg (by rw [k_m1, iI_eq (by omega) (by omega)]; exact h1), if_neg h1, inb_g (by omega), inb_g (by omega), iI_nat (by omega), hC.2.1 5 c hc.1 hc.2, hC.2.1 6 c hc.1 hc.2]
    obtain ⟨g, e, hV⟩ := e_X0_looksAt hC.2.1 (c := c) (want := w 5 c) (tall := w 6 c) (by omega) (by omega) (by omega) (by omega)
    obtain ⟨g1, e1, hV1⟩ := hV.setL (k := 9) (z := far) (by omega) (by omega)
    have hz0 : ∀ z, saysZ w ls 1 (up1 (vCat (w 8 8) c (w 6 c) (w 5 c)) 9 far) = some z → -1000000000 ≤ z ∧ z ≤ 1000000000 := fun z e => saysZ_ok hC.ok hV1.1 e
    have hz := lN_n hz0
    rw [e, bnd_s, k_9, inb_g (by omega), nam_v, e1, k_1, e_X0_says (hC.wV) (by omega) (by omega) hV1, bnd_s]
    refine ⟨g1, ?_⟩
    show (if lI (noS (saysZ w ls 1 (up1 (vCat (w 8 8) c (w 6 c) (w 5 c)) 9 far))) = _ then _ else bnd (F_X0_near _ (lI (noS (saysZ w ls 1 (up1 (vCat (w 8 8) c (w 6 c) (w 5 c)) 9 far)))) _ _) _) = _
    generalize saysZ w ls 1 (up1 (vCat (w 8 8) c (w 6 c) (w 5 c)) 9 far) = o at hz hz0 ⊢
    cases o with
    | none => rw [if_pos (by rw [hz]), inb_g (by omega), wV_i, hC.2.1 6 c hc.1 hc.2]
    | some z =>
      have := hz0 z rfl
      rw [if_neg (by rw [hz]; simp), k_0, k_99, show noS (some z) = z from rfl, e_X0_near (by omega) (by omega) (by omega), bnd_s]
theorem e_X0_wed {D : Nat → Prop} {s : St} {w : WR} {ls : List (List DC)} (hC : C0 D s w ls) (hW : Wf w ls) {c far : Int} (hc : 0 ≤ c ∧ c < 6) (hl : 0 ≤ far ∧ far ≤ 1000) : ∃ g, F_X0_wed s (iI c) (iI far) = some (iI (wedZ w ls c far), wV s g) := by
  have hk := hW.cat hc.1 hc.2
  have hf := hW.frc
  have ht := hW.trm
  unfold F_X0_wed wedZ
  rw [hC.2.1.frc]
  by_cases h1 : w 2 10 = -1
  · rw [if_pos (by rw [h1]; rfl), if_pos h1]
    exact ⟨sl s 22, by rw [wV_same]; rfl⟩
  · rw [if_neg (by rw [k_m1, iI_eq (by omega) (by omega)]; exact h1), if_neg h1, inb_g (by omega), inb_g (by omega), iI_nat (by omega), hC.2.1 5 c hc.1 hc.2, hC.2.1 6 c hc.1 hc.2]
    obtain ⟨g, e, hV⟩ := e_X0_looksAt hC.2.1 (c := c) (want := w 5 c) (tall := w 6 c) (by omega) (by omega) (by omega) (by omega)
    obtain ⟨g1, e1, hV1⟩ := hV.setL (k := 10) (z := far) (by omega) (by omega)
    have hz0 : ∀ z, saysZ w ls 2 (up1 (vCat (w 8 8) c (w 6 c) (w 5 c)) 10 far) = some z → -1000000000 ≤ z ∧ z ≤ 1000000000 := fun z e => saysZ_ok hC.ok hV1.1 e
    have hz := lN_n hz0
    rw [e, bnd_s, k_10, inb_g (by omega), nam_v, e1, k_2, e_X0_says (hC.wV) (by omega) (by omega) hV1, bnd_s]
    refine ⟨g1, ?_⟩
    show (if lI (noS (saysZ w ls 2 (up1 (vCat (w 8 8) c (w 6 c) (w 5 c)) 10 far))) = _ then _ else bnd (F_X0_near _ (lI (noS (saysZ w ls 2 (up1 (vCat (w 8 8) c (w 6 c) (w 5 c)) 10 far)))) _ _) _) = _
    generalize saysZ w ls 2 (up1 (vCat (w 8 8) c (w 6 c) (w 5 c)) 10 far) = o at hz hz0 ⊢
    cases o with
    | none => rw [if_pos (by rw [hz])]; rfl
    | some z =>
      have := hz0 z rfl
      rw [if_neg (by rw [hz]; simp), k_0, k_100, show noS (some z) = z from rfl, e_X0_near (by omega) (by omega) (by omega), bnd_s]
theorem e_X0_slip_27 {D : Nat → Prop} {s : St} {w : WR} {ls : List (List DC)} (hC : C0 D s w ls) (hW : Wf w ls) {f sd dx dy wo : Int} (h1 : -1000 ≤ f ∧ f ≤ 1000) (h2 : -1000 ≤ sd ∧ sd ≤ 1000) (h3 : -1000 ≤ dx ∧ dx ≤ 1000) (h4 : -1000 ≤ dy ∧ dy ≤ 1000) : ∃ g, F_X0_slip_27 s (iI f) (iI sd) (iI dx) (iI dy) (iI wo) = some (iI (slipO w ls wo f sd dx dy), wV s g) := by
  have hf := hW.frc
  have ht := hW.trm
  unfold F_X0_slip_27 slipO
  rw [hC.2.1.frc]
  by_cases h1 : w 2 10 = -1
  · rw [if_pos (by rw [h1]; rfl), if_pos h1]
    exact ⟨sl s 22, by rw [wV_same]⟩
  · rw [if_neg (by rw [k_m1, iI_eq (by omega) (by omega)]; exact h1), if_neg h1]
    obtain ⟨g, e, hV⟩ := e_X0_nothing hC.2.1 (by omega)
    obtain ⟨g1, e1, hV1⟩ := hV.setL (k := 0) (z := f) (by omega) (by omega)
    obtain ⟨g2, e2, hV2⟩ := hV1.setL (k := 1) (z := sd) (by omega) (by omega)
    obtain ⟨g3, e3, hV3⟩ := hV2.setL (k := 2) (z := w 8 2) (by omega) (by omega)
    obtain ⟨g4, e4, hV4⟩ := hV3.setL (k := 3) (z := w 8 3) (by omega) (by omega)
    obtain ⟨g5, e5, hV5⟩ := hV4.setL (k := 4) (z := dx) (by omega) (by omega)
    obtain ⟨g6, e6, hV6⟩ := hV5.setL (k := 5) (z := dy) (by omega) (by omega)
    have hz0 : ∀ z, saysZ w ls 0 (vSlip w f sd dx dy) = some z → -1000000000 ≤ z ∧ z ≤ 1000000000 := fun z e => saysZ_ok hC.ok hV6.1 e
    have hz := lN_n hz0
    rw [e, bnd_s, k_0, inb_g (by omega), nam_v, e1, k_1, inb_g (by omega), nam_v, e2, k_2, e_X0_term (hC.wV).2.1 (by omega), bnd_s, inb_g (by omega), nam_v, e3, k_3, e_X0_term (hC.wV).2.1 (by omega), bnd_s, inb_g (by omega), nam_v, e4, k_4, inb_g (by omega), nam_v, e5, k_5, inb_g (by omega), nam_v, e6, e_X0_says (hC.wV) (by omega) (by omega) hV6, bnd_s]
    refine ⟨g6, ?_⟩
    show (if lI (noS (saysZ w ls 0 (vSlip w f sd dx dy))) = _ then _ else bnd (F_X0_near _ (lI (noS (saysZ w ls 0 (vSlip w f sd dx dy)))) _ _) _) = _
    generalize saysZ w ls 0 (vSlip w f sd dx dy) = o at hz hz0 ⊢
    cases o with
    | none => rw [if_pos (by rw [hz])]
    | some z =>
      have := hz0 z rfl
      rw [if_neg (by rw [hz]; simp), k_9, show noS (some z) = z from rfl, e_X0_near (by omega) (by omega) (by omega), bnd_s]
theorem e_X0_slip {D : Nat → Prop} {s : St} {w : WR} {ls : List (List DC)} (hC : C0 D s w ls) (hW : Wf w ls) {f sd dx dy : Int} (h1 : -1000 ≤ f ∧ f ≤ 1000) (h2 : -1000 ≤ sd ∧ sd ≤ 1000) (h3 : -1000 ≤ dx ∧ dx ≤ 1000) (h4 : -1000 ≤ dy ∧ dy ≤ 1000) : ∃ g, F_X0_slip s (iI f) (iI sd) (iI dx) (iI dy) = some (iI (slipZ w ls f sd dx dy), wV s g) := by
  unfold F_X0_slip F_X0_slip_13 F_X0_slip_22 slipZ
  simp only [k_4, k_2, k_1, k_0]
  simp (disch := omega) only [iI_eq]
  by_cases a : dx = 0
  · by_cases b : dy = 0
    · rw [if_pos a, if_pos b, show woZ dx dy = 4 by unfold woZ; omega]
      exact e_X0_slip_27 hC hW h1 h2 h3 h4
    · rw [if_pos a, if_neg b, if_pos a, show woZ dx dy = 2 by unfold woZ; omega]
      exact e_X0_slip_27 hC hW h1 h2 h3 h4
  · by_cases b : dy = 0
    · rw [if_neg a, if_neg a, if_pos b, show woZ dx dy = 2 by unfold woZ; omega]
      exact e_X0_slip_27 hC hW h1 h2 h3 h4
    · rw [if_neg a, if_neg a, if_neg b, show woZ dx dy = 1 by unfold woZ; omega]
      exact e_X0_slip_27 hC hW h1 h2 h3 h4

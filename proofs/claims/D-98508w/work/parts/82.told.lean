set_option maxRecDepth 100000
/-! ===== the model: what laws tell ===== -/
def ClM (t : St) (k : Nat) (C : CD) (n : Nat) (c : DC) : Prop := si t 2 k = iI c.1 ∧ (0 ≤ c.1 ∧ c.1 ≤ 3) ∧ (c.1 = 3 → c.2.1 = none) ∧ (c.2.1 = none → c.1 = 3) ∧ (∀ f, c.2.1 = some f → ∃ a b : Nat, si t 2 (k + 3) = iI a ∧ si t 2 (k + 4) = iI b ∧ b ≤ n ∧ CodeS C false a b f) ∧ ((c.2.2 = none → ∃ a : Nat, si t 2 (k + 5) = iI a ∧ si t 2 (k + 6) = iI a ∧ a ≤ 400) ∧ ∀ f, c.2.2 = some f → ∃ a b : Nat, si t 2 (k + 5) = iI a ∧ si t 2 (k + 6) = iI b ∧ b ≤ n ∧ CodeT C false a b f) ∧ cok c
def LawM (t : St) (L : Nat) (law : List DC) : Prop := ∃ (C : CD) (n : Nat), n ≤ 400 ∧ codE t L n C ∧ si t 2 (L + 1) = iI law.length ∧ law.length ≤ 12 ∧ ∀ i c, law[i]? = some c → ClM t (L + 2 + 8 * i) C n c
def Sso (a k : Nat) : Prop := a = 121 ∨ (a = 0 ∧ k = 39) ∨ (a = 100 ∧ (k = 40 ∨ k = 41))
theorem Srk_so {a k : Nat} (h : Srk a k) : Sso a k := by unfold Srk at h; unfold Sso; omega
theorem ClM.go {t t' : St} {k n : Nat} {C : CD} {c : DC} (h : ClM t k C n c) (g : ∀ j, k ≤ j → j < k + 8 → si t' 2 j = si t 2 j) : ClM t' k C n c := by
  obtain ⟨h1, h2, h3, h3', h4, ⟨h5, h6⟩, h7⟩ := h
  refine ⟨by rw [g _ (by omega) (by omega)]; exact h1, h2, h3, h3', fun f e => ?_, ⟨fun e => ?_, fun f e => ?_⟩, h7⟩
  · obtain ⟨a, b, i1, i2, i3⟩ := h4 f e
    exact ⟨a, b, by rw [g _ (by omega) (by omega)]; exact i1, by rw [g _ (by omega) (by omega)]; exact i2, i3⟩
  · obtain ⟨a, i1, i2, i3⟩ := h5 e
    exact ⟨a, by rw [g _ (by omega) (by omega)]; exact i1, by rw [g _ (by omega) (by omega)]; exact i2, i3⟩
  · obtain ⟨a, b, i1, i2, i3⟩ := h6 f e
    exact ⟨a, b, by rw [g _ (by omega) (by omega)]; exact i1, by rw [g _ (by omega) (by omega)]; exact i2, i3⟩
theorem LawM.go {t t' : St} {L : Nat} {law : List DC} (h : LawM t L law) (g : ∀ j, L ≤ j → j < L + 900 → si t' 2 j = si t 2 j) : LawM t' L law := by
  obtain ⟨C, n, h1, h2, h3, h4, h5⟩ := h
  refine ⟨C, n, h1, fun k hk => ?_, by rw [g _ (by omega) (by omega)]; exact h3, h4, fun i c e => (h5 i c e).go fun j j1 j2 => ?_⟩
  · rw [g _ (by omega) (by omega), g _ (by omega) (by omega)]
    exact h2 k hk
  · have : i < law.length := by
      rcases Nat.lt_or_ge i law.length with h | h
      · exact h
      · rw [List.getElem?_eq_none h] at e; cases e
    exact g j (by omega) (by omega)
theorem e_X5_reckonAll {t : St} {v : Nat → Int} {C : CD} {L a b n : Nat} {o : Option Int} (hr : Run C false v b a [] o) (hC : CdE false t L n C) (hV : VlE false t v) (hab : a < b ∧ b ≤ n) : ∃ t', F_X5_reckonAll t (iI a) (iI b) = some ((), t') ∧ RkO t t' o := by
  unfold F_X5_reckonAll
  rw [nam_v]
  have hF : Fm Srk t (setI t 0 39 (0 : Int32)) := Fm.set (by unfold Srk; omega)
  have hC' : CdE false t L b C := ⟨by have := hC.1; omega, hC.2.1, hC.2.2.1, hC.2.2.2.1, fun k hk => hC.2.2.2.2 k (by omega)⟩
  have hn := hC'.1
  obtain ⟨t', e, h⟩ := e_reck hr (setI t 0 39 (0 : Int32)) L FU (hC'.go hF) (hV.go hF) (by show si _ 0 39 = iI 0; rw [si_set, if_pos rfl, if_pos rfl]; rfl) trivial (by simp) (by omega) (FU_ge (by omega))
  exact ⟨t', e, h.after hF⟩
def wC (c : DC) (v : Nat → Int) : Option Int := match c.2.1 with
  | none => some 1
  | some f => f v
theorem tellC_n {c : DC} {v : Nat → Int} (h : c.2.2 = none) : tellC c v = wC c v := by unfold tellC; rw [h]; rfl
theorem tellC_t {c : DC} {v : Nat → Int} {f : DT} (h : c.2.2 = some f) : tellC c v = if f v = some true then wC c v else none := by
  unfold tellC
  rw [h]
  show (match f v with
    | some true => wC c v
    | _ => none) = _
  cases f v with
  | none => rfl
  | some b => cases b <;> rfl
def SoR (t t' : St) (c : DC) (r : Int) (o : Option Int) : Prop := Fm Sso t t' ∧ match o with
  | none => r = 0
  | some z => r = 1 ∧ (c.1 = 3 → z = 1) ∧ (c.1 ≠ 3 → sl t' 0 41 = lI z)
theorem e_X5_isSo_59 {t : St} {v : Nat → Int} {C : CD} {L n k : Nat} {c : DC} (hC : CdE false t L n C) (hV : VlE false t v) (hc : ClM t k C n c) (hk : k + 8 ≤ 5460) : ∃ r t', F_X5_isSo_59 t (iI k) = some (iI r, t') ∧ SoR t t' c r (wC c v) := by
  obtain ⟨h1, h2, h3, h3', h4, -, -⟩ := hc
  unfold F_X5_isSo_59 wC
  rw [inb_g (by omega), iI_nat (by omega), Int.toNat_natCast, h1]
  by_cases h : c.1 = 3
  · rw [if_pos (by rw [h]; rfl), h3 h]
    exact ⟨1, t, rfl, Fm.rf, rfl, fun _ => rfl, fun z => absurd h z⟩
  · rw [if_neg (by rw [k_3, iI_eq (by omega) (by omega)]; exact h), k_3, k_4, iI_add, iI_add, inb_g (by omega), inb_g (by omega), iI_nat (by omega), iI_nat (by omega)]
    cases e : c.2.1 with
    | none => exact absurd (h3' e) h
    | some f =>
      obtain ⟨a, b, i1, i2, i3, i4⟩ := h4 f e
      obtain ⟨t', e2, hF, hR⟩ := e_X5_reckonAll (i4.run hV.1) hC hV ⟨i4.1, i3⟩
      rw [show ((k : Int) + 3).toNat = k + 3 by omega, show ((k : Int) + 4).toNat = k + 4 by omega, i1, i2, e2, bnd_s, nam_v]
      have hF2 : Fm Sso t (setL t' 0 41 (sl t' 0 40)) := (hF.le fun a k => Srk_so).tr (Fm.setL (by unfold Sso; omega))
      have h39 : si (setL t' 0 41 (sl t' 0 40)) 0 39 = si t' 0 39 := rfl
      show ∃ r t'_1, _ ∧ SoR t t'_1 c r (f v)
      cases ef : f v with
      | none =>
        rw [ef] at hR
        rw [if_neg (by rw [h39, hR]; decide)]
        exact ⟨0, _, rfl, hF2, rfl⟩
      | some z =>
        rw [ef] at hR
        rw [if_pos (by rw [h39, hR.1]; rfl)]
        exact ⟨1, _, rfl, hF2, rfl, fun z => absurd z h, fun _ => by rw [sl_set, if_pos rfl, if_pos rfl]; exact hR.2⟩
theorem CdE.so {t t' : St} {L n : Nat} {C : CD} (h : CdE false t L n C) (hf : Fm Srk t t') : CdE false t' L n C := h.go hf
theorem e_X5_isSo {t : St} {v : Nat → Int} {C : CD} {L n k : Nat} {c : DC} (hC : CdE false t L n C) (hV : VlE false t v) (hc : ClM t k C n c) (hk : k + 8 ≤ 5460) : ∃ r t', F_X5_isSo t (iI k) = some (iI r, t') ∧ SoR t t' c r (tellC c v) := by
  have hc0 := hc
  obtain ⟨-, -, -, -, -, ⟨h5, h6⟩, -⟩ := hc
  have hn := hC.1
  unfold F_X5_isSo
  simp only [k_5, k_6, iI_add]
  rw [inb_g (by omega), inb_g (by omega), iI_nat (by omega), iI_nat (by omega), show ((k : Int) + 5).toNat = k + 5 by omega, show ((k : Int) + 6).toNat = k + 6 by omega]
  cases e : c.2.2 with
  | none =>
    obtain ⟨a, i1, i2, i3⟩ := h5 e
    rw [i1, i2, if_pos (by rw [iI_le (by omega) (by omega)]; omega), tellC_n e]
    exact e_X5_isSo_59 hC hV hc0 hk
  | some f =>
    obtain ⟨a, b, i1, i2, i3, i4⟩ := h6 f e
    have i5 := i4.1
    rw [i1, i2, if_neg (by rw [iI_le (by omega) (by omega)]; omega), inb_g (by omega), inb_g (by omega), tellC_t e]
    obtain ⟨t', e2, hF, hR⟩ := e_X5_reckonAll (i4.run hV.1) hC hV ⟨i4.1, i3⟩
    rw [e2, bnd_s]
    have hF2 := hF.le (S' := Sso) fun a k => Srk_so
    cases ef : f v with
    | none =>
      rw [ef] at hR
      have hR1 : si t' 0 39 = iI 1 := hR
      rw [if_neg (by rw [hR1]; decide), if_neg (by simp)]
      exact ⟨0, t', rfl, hF2, rfl⟩
    | some x =>
      rw [ef] at hR
      have hR1 : si t' 0 39 = iI 0 := hR.1
      have hR2 : sl t' 0 40 = lI (tZ x) := hR.2
      rw [if_pos (by rw [hR1]; rfl), hR2]
      cases x
      · rw [if_pos (by decide), if_neg (by simp)]
        exact ⟨0, t', rfl, hF2, rfl⟩
      · rw [if_neg (by decide), if_pos rfl]
        obtain ⟨r, t2, e3, hF3, hR3⟩ := e_X5_isSo_59 (hC.go hF) (hV.go hF) (hc0.go fun j _ _ => hF.i _ _ (by unfold Srk; omega)) hk
        exact ⟨r, t2, e3, hF2.tr hF3, hR3⟩
/-- what the model has of the registers and the laws -/
def M0 (t : St) (w : WR) (ls : List (List DC)) : Prop := RMi t w ∧ si t 2 2 = iI ls.length ∧ si t 0 21 = iI 0 ∧ ∀ i law, ls[i]? = some law → LawM t (60 + 900 * i) law
/-- the model's scratch -/
def Scr (a j : Nat) : Prop := (a = 0 ∧ (j = 0 ∨ j = 35 ∨ j = 39 ∨ (45 ≤ j ∧ j ≤ 57))) ∨ (a = 5 ∧ 96 ≤ j) ∨ (22 ≤ a ∧ a ≤ 26) ∨ a = 100 ∨ a = 119 ∨ a = 121
theorem Scr_m {a j : Nat} (h : inM a j) : ¬ Scr a j := by
  unfold inM at h
  unfold Scr
  omega
theorem M0.scr {t t' : St} {w : WR} {ls : List (List DC)} (h : M0 t w ls) (hf : Fm Scr t t') : M0 t' w ls := by
  obtain ⟨h1, h2, h3, h4⟩ := h
  exact ⟨h1.go hf fun a j => Scr_m, by rw [hf.i _ _ (by unfold Scr; omega)]; exact h2, by rw [hf.i _ _ (by unfold Scr; omega)]; exact h3, fun i law e => (h4 i law e).go fun j _ _ => hf.i _ _ (by unfold Scr; omega)⟩
theorem Sso_scr {a k : Nat} (h : Sso a k) : Scr a k := by unfold Sso at h; unfold Scr; omega
def orZ (o : Option Int) (d : Int) : Int := match o with
  | none => d
  | some z => z
theorem e_X5_tells_35 {v : Nat → Int} {L : Nat} {law : List DC} {h d : Int} (hh : 0 ≤ h ∧ h ≤ 3) (hL : L ≤ 4560) : ∀ (j i : Nat) (o : Option Int) (t : St), law.length = j + i → LawM t L law → si t 0 21 = iI 0 → si t 0 35 = iI L → VlE false t v → ∀ fu, j < fu → ∃ t', F_X5_tells_35 fu t (iI h) (lI (orZ o d)) (iI i) = some (lI (orZ (toldF h v (law.drop i) o) d), t') ∧ Fm Sso t t' := by
  intro j
  induction j with
  | zero =>
    intro i o t hi hM h21 h35 hV fu hfu
    obtain ⟨g, rfl⟩ : ∃ g, fu = g + 1 := ⟨fu - 1, by omega⟩
    obtain ⟨C, n, h1, h2, h3, h4, h5⟩ := hM
    simp only [F_X5_tells_35]
    rw [h35, k_1, iI_add, inb_g (by omega), iI_nat (by omega), show ((L : Int) + 1).toNat = L + 1 by omega, h3, if_pos (by rw [iI_le (by omega) (by omega)]; omega), List.drop_eq_nil_of_le (by omega)]
    exact ⟨t, rfl, Fm.rf⟩
  | succ j ih =>
    intro i o t hi hM h21 h35 hV fu hfu
    obtain ⟨g, rfl⟩ : ∃ g, fu = g + 1 := ⟨fu - 1, by omega⟩
    have hM0 := hM
    obtain ⟨C, n, h1, h2, h3, h4, h5⟩ := hM
    obtain ⟨x, hx⟩ : ∃ x, law[i]? = some x := ⟨law[i]'(by omega), List.getElem?_eq_getElem (by omega)⟩
    have hcl := h5 i x hx
    have hd : law.drop i = x :: law.drop (i + 1) := by
      rw [List.drop_eq_getElem_cons (by omega)]
      rw [List.getElem?_eq_getElem (by omega)] at hx
      rw [Option.some.inj hx]
    have hr := hcl.2.1
    simp only [F_X5_tells_35]
    rw [h35, k_1, iI_add, inb_g (by omega), iI_nat (by omega), show ((L : Int) + 1).toNat = L + 1 by omega, h3, if_neg (by rw [iI_le (by omega) (by omega)]; omega), nam_v, k_2, k_8, iI_mul, iI_add, iI_add, inb_g (by omega), iI_nat (by omega), show ((L : Int) + 2 + 8 * (i : Int)).toNat = L + 2 + 8 * i by omega, hcl.1, hd, toldF, show iI (i : Int) + iI 1 = iI ((i + 1 : Nat) : Int) from iI_su]
    by_cases hq : x.1 = h
    · rw [if_pos (by rw [hq]), if_pos hq, show (L : Int) + 2 + 8 * (i : Int) = ((L + 2 + 8 * i : Nat) : Int) by omega]
      obtain ⟨r, t1, e1, hF, hR⟩ := e_X5_isSo (k := L + 2 + 8 * i) (n := n) (C := C) (L := L) ⟨h1, h21, h35, hL, h2⟩ hV hcl (by omega)
      have a1 : LawM t1 L law := hM0.go fun j _ _ => hF.i _ _ (by unfold Sso; omega)
      have a2 : si t1 0 21 = iI 0 := by rw [hF.i _ _ (by unfold Sso; omega)]; exact h21
      have a4 : VlE false t1 v := ⟨hV.1, fun k hk => by rw [hF.l _ _ (by unfold Sso; omega)]; exact hV.2 k hk⟩
      have b3 : si t1 0 35 = iI L := by rw [hF.i _ _ (by unfold Sso; omega)]; exact h35
      rw [e1, bnd_s]
      cases e : tellC x v with
      | none =>
        rw [e] at hR
        have hR1 : r = 0 := hR
        obtain ⟨t2, e2, hF2⟩ := ih (i + 1) o t1 (by omega) a1 a2 b3 a4 g (by omega)
        rw [if_pos (by rw [hR1]; rfl)]
        exact ⟨t2, e2, hF.tr hF2⟩
      | some z =>
        rw [e] at hR
        obtain ⟨hR1, hR2, hR3⟩ := hR
        obtain ⟨t2, e2, hF2⟩ := ih (i + 1) (some z) t1 (by omega) a1 a2 b3 a4 g (by omega)
        rw [if_neg (by rw [hR1]; decide)]
        unfold F_X5_tells_98
        by_cases h3 : h = 3
        · rw [if_pos (by rw [h3]; rfl), K_1, iI_su]
          have : z = 1 := hR2 (by omega)
          rw [this] at e2 ⊢
          exact ⟨t2, e2, hF.tr hF2⟩
        · rw [if_neg (by rw [k_3, iI_eq (by omega) (by omega)]; exact h3), hR3 (by omega), iI_su]
          exact ⟨t2, e2, hF.tr hF2⟩
    · rw [if_neg (by rw [iI_eq (by omega) (by omega)]; exact hq), if_neg hq]
      exact ih (i + 1) o t (by omega) hM0 h21 h35 hV g (by omega)
def Stl (a k : Nat) : Prop := Sso a k ∨ (a = 0 ∧ k = 35)
def Sq (a k : Nat) : Prop := Stl a k ∨ a = 119
theorem Sq_scr {a k : Nat} (h : Sq a k) : Scr a k := by unfold Sq Stl Sso at h; unfold Scr; omega
theorem RMi.frc {t : St} {w : WR} (h : RMi t w) : si t 2 3 = iI (w 2 10) := h 2 10 (by omega) (by show _ ∧ _; omega)
theorem RMi.many {t : St} {w : WR} (h : RMi t w) : si t 2 0 = iI (w 2 8) := h 2 8 (by omega) (by show _ ∧ _; omega)
def toldZ (w : WR) (ls : List (List DC)) (h : Int) (v : Nat → Int) (d : Int) : Int := if w 2 10 = -1 then d else orZ (saysZ w ls h v) d
theorem e_X5_tells {t : St} {w : WR} {ls : List (List DC)} (hM : M0 t w ls) (hW : Wf w ls) {h d : Int} (hh : 0 ≤ h ∧ h ≤ 3) {v : Nat → Int} (hV : VlE false t v) : ∃ t', F_X5_tells t (iI h) (lI d) = some (lI (toldZ w ls h v d), t') ∧ Fm Stl t t' := by
  have hf := hW.frc
  unfold F_X5_tells toldZ
  rw [k_3, inb_g (by omega), show (iI 3).toNatClampNeg = 3 from rfl, hM.1.frc]
  by_cases h1 : w 2 10 = -1
  · rw [if_pos (by rw [h1]; rfl), if_pos h1]
    exact ⟨t, rfl, Fm.rf⟩
  · rw [if_neg (by rw [k_m1, iI_eq (by omega) (by omega)]; exact h1), if_neg h1, inb_g (by omega), nam_v, k_60, k_900, iI_mul, iI_add]
    have hx : ls[(w 2 10).toNat]? = some (ls.getD (w 2 10).toNat []) := by
      rw [List.getD_eq_getElem?_getD, List.getElem?_eq_getElem (by omega)]
      rfl
    have hL := hM.2.2.2 _ _ hx
    have hF : Fm Stl t (setI t 0 35 (iI (60 + 900 * w 2 10))) := Fm.set (by unfold Stl; omega)
    obtain ⟨t', e, hF2⟩ := e_X5_tells_35 (v := v) (L := 60 + 900 * (w 2 10).toNat) (h := h) (d := d) hh (by omega) (ls.getD (w 2 10).toNat []).length 0 none (setI t 0 35 (iI (60 + 900 * w 2 10))) (by omega) (hL.go fun j _ _ => hF.i _ _ (by unfold Stl Sso; omega)) (by rw [hF.i _ _ (by unfold Stl Sso; omega)]; exact hM.2.2.1) (by rw [si_set, if_pos rfl, if_pos rfl]; congr 1; omega) hV FU (by
      obtain ⟨_, _, _, _, _, q, -⟩ := hL
      exact FU_ge (by omega))
    exact ⟨t', e, hF.tr (hF2.le fun a k z => Or.inl z)⟩
theorem VlE.up {t : St} {v : Nat → Int} {k : Nat} {z : Int} (h : VlE false t v) (hz : bnB z) (hk : k < 14) : VlE false (setL t 19 (k + 1) (lI z)) (up1 v k z) := by
  refine ⟨fun j => ?_, fun j hj => ?_⟩
  · unfold up1
    split
    · exact hz
    · exact h.1 j
  · rw [sl_set, if_pos rfl]
    unfold up1
    by_cases e : j = k
    · rw [if_pos (by omega), if_pos e]
    · rw [if_neg (by omega), if_neg e]
      exact h.2 j hj
/-- a place of the set -/
theorem VlE.at {t : St} {v : Nat → Int} (h : VlE false t v) (k : Nat) {a : Int} (z : Int) (ha : a = (k : Int) + 1) (hz : -1000000000 ≤ z ∧ z ≤ 1000000000) (hk : k < 14) : ∃ t', setL t 19 (iI a).toNatClampNeg (iI z).toInt64 = t' ∧ VlE false t' (up1 v k z) ∧ Fm Sq t t' := by
  refine ⟨_, rfl, ?_, Fm.setL (by unfold Sq; omega)⟩
  rw [iI_nat (by omega), iI_l (by omega), ha, show ((k : Int) + 1).toNat = k + 1 by omega]
  exact h.up hz hk
theorem e_X5_term {t : St} {w : WR} (h : RMi t w) {k : Int} (hk : 0 ≤ k ∧ k < 9) : F_X5_term t (iI k) = some (iI (w 8 k), t) := by
  unfold F_X5_term
  rw [k_4, iI_add, inb_g (by omega), iI_nat (by omega)]
  rw [show si t 2 (4 + k).toNat = iI (w 8 k) from h 8 k hk.1 hk.2]
theorem e_X5_clearSet_2 {w : WR} (hm : 0 ≤ w 8 8 ∧ w 8 8 ≤ 9) : ∀ (j i : Nat) (t : St), RMi t w → 14 = j + i → 1 ≤ i → (∀ k, 1 ≤ k → k < i → sl t 19 k = lI (-1)) → ∀ fu, j < fu → ∃ t', F_X5_clearSet_2 fu t (iI i) = some ((), t') ∧ VlE false t' (vNo (w 8 8)) ∧ Fm Sq t t' := by
  intro j
  induction j with
  | zero =>
    intro i t h hi h1 hg fu hfu
    obtain ⟨f, rfl⟩ : ∃ f, fu = f + 1 := ⟨fu - 1, by omega⟩
    simp only [F_X5_clearSet_2]
    rw [if_pos (by rw [k_14, iI_le (by omega) (by omega)]; omega), k_8, e_X5_term h (by omega), bnd_s, k_14, inb_g (by omega), nam_v, iI_l (by omega)]
    refine ⟨_, rfl, ⟨fun k => by unfold vNo; split <;> omega, fun k hk => ?_⟩, Fm.setL (by unfold Sq; omega)⟩
    rw [sl_set, if_pos rfl]
    unfold vNo
    by_cases e : k = 13
    · rw [if_pos (by rw [e]; rfl), if_pos e]
    · rw [if_neg (by rw [show (iI 14).toNatClampNeg = 14 from rfl]; omega), if_neg e, hg (k + 1) (by omega) (by omega)]
  | succ j ih =>
    intro i t h hi h1 hg fu hfu
    obtain ⟨f, rfl⟩ : ∃ f, fu = f + 1 := ⟨fu - 1, by omega⟩
    have hF : Fm Sq t (setL t 19 i (lI (-1))) := Fm.setL (by unfold Sq; omega)
    obtain ⟨t', e, hV, hF2⟩ := ih (i + 1) (setL t 19 i (lI (-1))) (h.go hF fun a j hm => fun z => Scr_m hm (Sq_scr z)) (by omega) (by omega) (fun k h2 h3 => by
      rw [sl_set, if_pos rfl]
      split
      · rfl
      · exact hg k h2 (by omega)) f (by omega)
    refine ⟨t', ?_, hV, hF.tr hF2⟩
    simp only [F_X5_clearSet_2]
    rw [if_neg (by rw [k_14, iI_le (by omega) (by omega)]; omega), inb_g (by omega), nam_v, iI_nat (by omega), Int.toNat_natCast, K_m1, iI_su]
    exact e
theorem e_X5_clearSet {t : St} {w : WR} (h : RMi t w) (hm : 0 ≤ w 8 8 ∧ w 8 8 ≤ 9) : ∃ t', F_X5_clearSet t = some ((), t') ∧ VlE false t' (vNo (w 8 8)) ∧ Fm Sq t t' :=
  e_X5_clearSet_2 hm 13 1 t h (by omega) (by omega) (fun k h1 h2 => by omega) FU (FU_ge (by omega))
theorem e_X5_setCatcher {t : St} {w : WR} (h : RMi t w) (hm : 0 ≤ w 8 8 ∧ w 8 8 ≤ 9) {c want tall : Int} (hc : -1000000000 ≤ c ∧ c ≤ 1000000000) (hw : -1000000000 ≤ want ∧ want ≤ 1000000000) (ht : -1000000000 ≤ tall ∧ tall ≤ 1000000000) : ∃ t', F_X5_setCatcher t (iI c) (iI tall) (iI want) = some ((), t') ∧ VlE false t' (vCat (w 8 8) c tall want) ∧ Fm Sq t t' := by
  obtain ⟨t1, e, hV, hF⟩ := e_X5_clearSet h hm
  unfold F_X5_setCatcher
  rw [e, bnd_s, k_7, k_8, k_9, inb_g (by omega), nam_v]
  obtain ⟨t2, e2, hV2, hF2⟩ := hV.at 6 (a := 7) c (by omega) hc (by omega)
  rw [e2, inb_g (by omega), nam_v]
  obtain ⟨t3, e3, hV3, hF3⟩ := hV2.at 7 (a := 8) tall (by omega) ht (by omega)
  rw [e3, inb_g (by omega), nam_v]
  obtain ⟨t4, e4, hV4, hF4⟩ := hV3.at 8 (a := 9) want (by omega) hw (by omega)
  rw [e4]
  exact ⟨t4, rfl, hV4, ((hF.tr hF2).tr hF3).tr hF4⟩

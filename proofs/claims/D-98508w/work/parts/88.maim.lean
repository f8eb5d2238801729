set_option maxRecDepth 100000
/-! ===== the model: a throw ===== -/
theorem e_X5_farOf (t : St) {a b : Int} (h1 : 0 ≤ a ∧ a ≤ 35) (h2 : 0 ≤ b ∧ b ≤ 35) : F_X5_farOf t (iI a) (iI b) = some (iI (farZ a b), t) := by
  have aw : ∀ z : Int, -1000 ≤ z ∧ z ≤ 1000 → F_X5_away t (iI z) = some (iI (absZ z), t) := fun z hz => by
    unfold F_X5_away absZ
    simp (disch := omega) only [k_0, iI_le]
    by_cases h : 0 ≤ z
    · rw [if_pos h, if_pos h]
    · rw [if_neg h, if_neg h, iI_neg]
      congr 3
      omega
  unfold F_X5_farOf farZ
  rw [k_6, iI_remn (by omega) (by omega), iI_remn (by omega) (by omega), iI_divn (by omega) (by omega), iI_divn (by omega) (by omega), iI_sub, iI_sub, aw _ (by omega), bnd_s, aw _ (by omega), bnd_s, iI_add]
def cM (c : Int) : Int := if c = -1 then 36 else c
theorem cM_r {c : Int} (h : -1 ≤ c ∧ c ≤ 35) : 0 ≤ cM c ∧ cM c ≤ 36 := by unfold cM; omega
theorem cM_inj {a b : Int} (h : -1 ≤ a ∧ a ≤ 35) (h' : -1 ≤ b ∧ b ≤ 35) : cM a = cM b ↔ a = b := by unfold cM; omega
theorem cMA {x y : Int} : cM (cellA x y) = if 0 ≤ x ∧ x ≤ 5 ∧ 0 ≤ y ∧ y ≤ 5 then 6 * y + x else 36 := by
  unfold cM cellA
  omega
theorem e_X5_cellAt (t : St) {x y : Int} (hx : i32 x) (hy : i32 y) : F_X5_cellAt t (iI x) (iI y) = some (iI (cM (cellA x y)), t) := by
  unfold i32 at hx hy
  rw [cMA]
  unfold F_X5_cellAt
  rw [K_0, K_5, iI_l (by omega), iI_l (by omega), e_X5_in t (by omega) (by omega) (by omega), bnd_s, k_0, k_36, k_6, iI_mul, iI_add]
  by_cases a : 0 ≤ x ∧ x ≤ 5
  · rw [if_neg (by rw [bZ_i0]; exact fun z => z a), e_X5_in t (by omega) (by omega) (by omega), bnd_s]
    by_cases b : 0 ≤ y ∧ y ≤ 5
    · rw [if_neg (by rw [bZ_i0]; exact fun z => z b), if_pos ⟨a.1, a.2, b.1, b.2⟩]
    · rw [if_pos (by rw [bZ_i0]; exact b), if_neg (fun z => b ⟨z.2.2.1, z.2.2.2⟩)]
  · rw [if_pos (by rw [bZ_i0]; exact a), if_neg (fun z => a ⟨z.1, z.2.1⟩)]
theorem litF_or {w : WR} {f sd : Int} : ∀ (n : Nat) (k : Int), (∃ j : Int, k ≤ j ∧ j < k + n ∧ cellA (w 8 4 + (sd * j).tdiv f) j = w 8 6) ↔ litF w f sd n k
  | 0, k => ⟨fun ⟨j, h1, h2, _⟩ => by omega, fun z => z.elim⟩
  | n + 1, k => by
    have ih := litF_or (w := w) (f := f) (sd := sd) n (k + 1)
    unfold litF
    refine ⟨fun ⟨j, h1, h2, h3⟩ => ?_, fun h => ?_⟩
    · by_cases e : j = k
      · subst e; exact Or.inl h3
      · exact Or.inr (ih.mp ⟨j, by omega, by omega, h3⟩)
    · rcases h with h | h
      · exact ⟨k, by omega, by omega, h⟩
      · obtain ⟨j, h1, h2, h3⟩ := ih.mpr h
        exact ⟨j, by omega, by omega, h3⟩
theorem e_X5_isLit_31 {t : St} {w : WR} (h : RMi t w) (h4 : 0 ≤ w 8 4 ∧ w 8 4 ≤ 5) (h6 : 0 ≤ w 8 6 ∧ w 8 6 ≤ 35) {f sd : Int} (hf : 1 ≤ f ∧ f ≤ 5) (hs : -2 ≤ sd ∧ sd ≤ 2) : ∀ (n : Nat) (k : Int) (p : Prop), 0 ≤ k → f = n + k → ∀ fu, n < fu → F_X5_isLit_31 fu t (iI f) (iI sd) (iI (bZ p)) (iI k) = some (iI (bZ (p ∨ litF w f sd n k)), t) := by
  intro n
  induction n with
  | zero =>
    intro k p h0 hk fu hfu
    obtain ⟨g, rfl⟩ : ∃ g, fu = g + 1 := ⟨fu - 1, by omega⟩
    simp only [F_X5_isLit_31]
    rw [if_pos (by rw [iI_le (by omega) (by omega)]; omega), fits_b]
    congr 4
    exact propext ⟨Or.inl, fun z => z.elim id (fun y => y.elim)⟩
  | succ n ih =>
    intro k p h0 hk fu hfu
    obtain ⟨g, rfl⟩ : ∃ g, fu = g + 1 := ⟨fu - 1, by omega⟩
    simp only [F_X5_isLit_31]
    rw [if_neg (by rw [iI_le (by omega) (by omega)]; omega)]
    have one : F_X5_isLit_68 (F_X5_isLit_31 g) t (iI f) (iI sd) (iI k) = some (iI 1, t) := by
      unfold F_X5_isLit_68
      have := ih (k + 1) True (by omega) (by omega) g (by omega)
      rw [bZ_t trivial, bZ_t (Or.inl trivial)] at this
      rw [k_1, iI_add]
      exact this
    by_cases hp : p
    · rw [if_neg (by rw [k_0, bZ_i0]; exact fun z => z hp), one, bZ_t (Or.inl hp)]
    · have hm : -10 ≤ sd * k ∧ sd * k ≤ 10 := by
        have : k = 0 ∨ k = 1 ∨ k = 2 ∨ k = 3 ∨ k = 4 := by omega
        rcases this with rfl | rfl | rfl | rfl | rfl <;> omega
      have hd := tdiv_rng (a := sd * k) (b := f) (M := 10) (by omega) hm.1 hm.2
      have hc := cellA_r (x := w 8 4 + (sd * k).tdiv f) (y := k)
      have hcr := cM_r hc
      rw [if_pos (by rw [k_0, bZ_i0]; exact hp), k_4, k_6, e_X5_term h (by omega), bnd_s, gd_ok (nzi_t (by omega) (by omega)), iI_mul, iI_div (by omega) (by omega), iI_add, e_X5_cellAt t (by unfold i32; omega) (by unfold i32; omega), bnd_s, e_X5_term h (by omega), bnd_s]
      have hiff : (iI (cM (cellA (w 8 4 + (sd * k).tdiv f) k)) = iI (w 8 6)) ↔ cellA (w 8 4 + (sd * k).tdiv f) k = w 8 6 := by
        rw [iI_eq (by omega) (by omega)]
        unfold cM
        omega
      by_cases e : cellA (w 8 4 + (sd * k).tdiv f) k = w 8 6
      · rw [if_pos (hiff.mpr e), one, bZ_t (show p ∨ litF w f sd (n + 1) k from Or.inr (Or.inl e))]
      · rw [if_neg (fun z => e (hiff.mp z))]
        have := ih (k + 1) False (by omega) (by omega) g (by omega)
        rw [bZ_f (fun z => z)] at this
        rw [k_0, k_1, iI_add, this]
        congr 4
        exact propext ⟨fun z => z.elim (fun y => y.elim) (fun y => Or.inr (Or.inr y)), fun z => z.elim (fun y => absurd y hp) (fun y => y.elim (fun x => absurd x e) Or.inr)⟩
theorem e_X5_isLit {t : St} {w : WR} {ls : List (List DC)} (h : RMi t w) (hW : Wf w ls) {f sd : Int} (hf : 1 ≤ f ∧ f ≤ 5) (hs : -2 ≤ sd ∧ sd ≤ 2) : F_X5_isLit t (iI f) (iI sd) = some (iI (bZ (litP w f sd)), t) := by
  have ht := hW.trm
  unfold F_X5_isLit litP
  rw [k_6, k_m1, k_7, k_2, e_X5_term h (by omega), bnd_s]
  by_cases a : w 8 6 = -1
  · rw [if_pos (by rw [a]), bZ_f (fun z => z.1.1 a)]; rfl
  · rw [if_neg (by rw [iI_eq (by omega) (by omega)]; exact a), e_X5_term h (by omega), bnd_s, e_X5_term h (by omega), bnd_s]
    by_cases b : w 8 7 ≤ w 8 2
    · rw [if_pos (by rw [iI_le (by omega) (by omega)]; exact b)]
      have := e_X5_isLit_31 h (by omega) (by omega) hf hs f.toNat 0 False (by omega) (by omega) FU (FU_ge (by omega))
      rw [bZ_f (fun z => z)] at this
      rw [k_0, this]
      congr 4
      exact propext ⟨fun z => ⟨⟨a, b⟩, z.elim (fun y => y.elim) id⟩, fun z => Or.inr z.2⟩
    · rw [if_neg (by rw [iI_le (by omega) (by omega)]; exact b), bZ_f (fun z => b z.1.2)]; rfl
/-! the weights, slip by slip -/
def preL (g : Nat → Int × Int) (n : Nat) : FL := (List.range n).map g
theorem preL_su {g : Nat → Int × Int} {n : Nat} : preL g (n + 1) = preL g n ++ [g n] := by
  unfold preL
  rw [List.range_succ, List.map_append]
  rfl
theorem wOf_app {c : Int} {x : Int × Int} : ∀ {fl : FL}, wOf c (fl ++ [x]) = wOf c fl + (if x.1 = c then x.2 else 0)
  | [] => by simp [wOf]
  | y :: r => by
    show (if y.1 = c then y.2 else 0) + wOf c (r ++ [x]) = (if y.1 = c then y.2 else 0) + wOf c r + _
    rw [wOf_app (fl := r)]
    omega
def Sam (a j : Nat) : Prop := Sq a j ∨ (22 ≤ a ∧ a ≤ 24) ∨ (a = 0 ∧ j = 45)
theorem Sam_scr {a j : Nat} (h : Sam a j) : Scr a j := by
  rcases h with h | h
  · exact Sq_scr h
  · unfold Scr; omega
def AimI (t : St) (g : Nat → Int × Int) (k : Nat) : Prop := (∀ c, -1 ≤ c → c ≤ 35 → si t 22 (cM c).toNat = iI (wOf c (preL g k))) ∧ si t 0 45 = iI (sumW (preL g k)) ∧ ∀ i, i < k → si t 23 i = iI (cM (g i).1) ∧ si t 24 i = iI (g i).2
def gOk (g : Nat → Int × Int) : Prop := ∀ i, (-1 ≤ (g i).1 ∧ (g i).1 ≤ 35) ∧ (0 ≤ (g i).2 ∧ (g i).2 ≤ 9)
theorem gOk.mem {g : Nat → Int × Int} (h : gOk g) {n : Nat} : ∀ x ∈ preL g n, 0 ≤ x.2 ∧ x.2 ≤ 9 := by
  intro x hx
  unfold preL at hx
  obtain ⟨i, -, rfl⟩ := List.mem_map.mp hx
  exact (h i).2
theorem gOk.sum {g : Nat → Int × Int} (h : gOk g) {n : Nat} : 0 ≤ sumW (preL g n) ∧ sumW (preL g n) ≤ 9 * n := by
  have := sumW_r (fl := preL g n) h.mem
  rwa [show (preL g n).length = n by unfold preL; simp] at this
/-- what is done with one slip's weight -/
theorem e_X5_aim_112 {k45 : St → Int32 → Int32 → Int32 → Int32 → Int32 → Option (Unit × St)} {t : St} {g : Nat → Int × Int} {k : Nat} (hg : gOk g) (hk : k < 9) (hI : AimI t g k) (h23 : si t 23 k = iI (cM (g k).1)) {x1 x2 x3 x4 : Int32} : ∃ t', F_X5_aim_112 k45 t x1 x2 x3 x4 (iI k) (iI (g k).2) (iI k) = k45 t' x1 x2 x3 x4 (iI (k + 1 : Nat)) ∧ AimI t' g (k + 1) ∧ Fm Sam t t' := by
  obtain ⟨h1, h2, h3⟩ := hI
  have gk := hg k
  have hc := cM_r gk.1
  have hs := hg.sum (n := k)
  have hw := wOf_r (cell := (g k).1) (hg.mem (n := k))
  unfold F_X5_aim_112
  have f1 : Fm Sam t (setI t 24 k (iI (g k).2)) := Fm.set (by unfold Sam; omega)
  have a1 : si (setI t 24 k (iI (g k).2)) 23 k = iI (cM (g k).1) := by rw [si_set, if_neg (by omega)]; exact h23
  have a2 : si (setI t 24 k (iI (g k).2)) 22 (cM (g k).1).toNat = iI (wOf (g k).1 (preL g k)) := by rw [si_set, if_neg (by omega)]; exact h1 _ gk.1.1 gk.1.2
  have a3 : si (setI t 24 k (iI (g k).2)) 24 k = iI (g k).2 := by rw [si_set, if_pos rfl, if_pos rfl]
  rw [inb_g (by omega), nam_v, iI_nat (by omega), Int.toNat_natCast, inb_g (by omega), a1, inb_g (by omega), inb_g (by omega), inb_g (by omega), nam_v, iI_nat (by omega), a2, a3, iI_add, inb_g (by omega), nam_v]
  have f2 : Fm Sam (setI t 24 k (iI (g k).2)) (setI (setI t 24 k (iI (g k).2)) 22 (cM (g k).1).toNat (iI (wOf (g k).1 (preL g k) + (g k).2))) := Fm.set (by unfold Sam; omega)
  have b1 : si (setI (setI t 24 k (iI (g k).2)) 22 (cM (g k).1).toNat (iI (wOf (g k).1 (preL g k) + (g k).2))) 0 45 = iI (sumW (preL g k)) := by
    rw [si_set, if_neg (by omega), si_set, if_neg (by omega)]; exact h2
  have b2 : si (setI (setI t 24 k (iI (g k).2)) 22 (cM (g k).1).toNat (iI (wOf (g k).1 (preL g k) + (g k).2))) 24 k = iI (g k).2 := by
    rw [si_set, if_neg (by omega)]; exact a3
  rw [b1, b2, iI_add, iI_su]
  refine ⟨_, rfl, ⟨fun c c0 c1 => ?_, ?_, fun i hi => ?_⟩, (f1.tr f2).tr (Fm.set (by unfold Sam; omega))⟩
  · rw [si_set, if_neg (by omega), si_set, if_pos rfl, preL_su, wOf_app]
    have hci := cM_inj gk.1 ⟨c0, c1⟩
    have hcr := cM_r ⟨c0, c1⟩
    by_cases e : (g k).1 = c
    · rw [if_pos (by rw [e]), if_pos e, ← e]
    · rw [if_neg (fun z => e (hci.mp (by omega))), if_neg e, Int.add_zero, si_set, if_neg (by omega)]
      exact h1 c c0 c1
  · rw [si_set, if_pos rfl, if_pos rfl, preL_su, sumW_app]
  · rw [si_set, if_neg (by omega), si_set, if_neg (by omega), si_set, if_neg (by omega), si_set, if_neg (by omega), si_set, if_neg (by omega), si_set, if_pos rfl]
    by_cases e : i = k
    · subst e
      rw [if_pos rfl]
      exact ⟨h23, rfl⟩
    · rw [if_neg e]
      exact h3 i (by omega)
noncomputable def gA (w : WR) (ls : List (List DC)) (f sd : Int) (lit : Prop) (k : Nat) : Int × Int := (cellA (w 8 4 + sd + ((k : Int) % 3 - 1)) (f + ((k : Int) / 3 - 1)), @ite _ lit (Classical.propDecidable _) 0 (slipZ w ls f sd ((k : Int) % 3 - 1) ((k : Int) / 3 - 1)))
theorem gA_ok {w : WR} {ls : List (List DC)} {f sd : Int} {lit : Prop} : gOk (gA w ls f sd lit) := fun i => ⟨cellA_r, by
  unfold gA
  have := slipZ_r (w := w) (ls := ls) (f := f) (sd := sd) (dx := (i : Int) % 3 - 1) (dy := (i : Int) / 3 - 1)
  show 0 ≤ (@ite _ lit (Classical.propDecidable _) 0 _) ∧ (@ite _ lit (Classical.propDecidable _) 0 _) ≤ (9 : Int)
  split <;> omega⟩
theorem gA_nine {w : WR} {ls : List (List DC)} {f sd : Int} {lit : Prop} (h : ¬ lit) : preL (gA w ls f sd lit) 9 = nineL w ls f sd := by
  have e : ∀ k : Nat, gA w ls f sd lit k = slE w ls f sd ((k : Int) / 3 - 1) ((k : Int) % 3 - 1) := fun k => by
    unfold gA slE
    rw [if_neg h]
  show [gA w ls f sd lit 0, gA w ls f sd lit 1, gA w ls f sd lit 2, gA w ls f sd lit 3, gA w ls f sd lit 4, gA w ls f sd lit 5, gA w ls f sd lit 6, gA w ls f sd lit 7, gA w ls f sd lit 8] = _
  simp only [e]
  rfl
/-- a flight as the model has it -/
def FlM (t : St) (fl : FL) : Prop := (∀ c, -1 ≤ c → c ≤ 35 → si t 22 (cM c).toNat = iI (wOf c fl)) ∧ si t 0 45 = iI (sumW fl) ∧ ∃ g : Nat → Int × Int, gOk g ∧ (∀ i, i < 9 → si t 23 i = iI (cM (g i).1) ∧ si t 24 i = iI (g i).2) ∧ sumW (preL g 9) = sumW fl ∧ ∀ a, 0 ≤ a → a < sumW fl → slC (preL g 9) a = slC fl a
theorem pre9 {g : Nat → Int × Int} : preL g 9 = [g 0, g 1, g 2, g 3, g 4, g 5, g 6, g 7, g 8] := rfl
/-- the end: a throw without slips -/
theorem e_X5_aim_189 {t : St} {g : Nat → Int × Int} (hg : gOk g) (hI : AimI t g 9) (h0 : sumW (preL g 9) = 0) {c : Int} (hc : -1 ≤ c ∧ c ≤ 35) : ∃ t', F_X5_aim_189 t (iI (cM c)) (iI 4) = some ((), t') ∧ FlM t' [(c, 1)] ∧ Fm Sam t t' := by
  obtain ⟨h1, h2, h3⟩ := hI
  have hcr := cM_r hc
  have z : (g 0).2 = 0 ∧ (g 1).2 = 0 ∧ (g 2).2 = 0 ∧ (g 3).2 = 0 ∧ (g 4).2 = 0 ∧ (g 5).2 = 0 ∧ (g 6).2 = 0 ∧ (g 7).2 = 0 ∧ (g 8).2 = 0 := by
    have q0 := hg 0; have q1 := hg 1; have q2 := hg 2; have q3 := hg 3; have q4 := hg 4; have q5 := hg 5; have q6 := hg 6; have q7 := hg 7; have q8 := hg 8
    rw [pre9] at h0
    simp only [sumW] at h0
    omega
  unfold F_X5_aim_189
  have a1 : si (setI (setI t 23 4 (iI (cM c))) 24 4 (iI 1)) 23 4 = iI (cM c) := by rw [si_set, if_neg (by omega), si_set, if_pos rfl, if_pos rfl]
  rw [k_4, k_1, inb_g (by omega), nam_v, show (iI 4).toNatClampNeg = 4 from rfl, inb_g (by omega), nam_v, inb_g (by omega), a1, inb_g (by omega), nam_v, nam_v, iI_nat (by omega)]
  refine ⟨_, rfl, ⟨fun d d0 d1 => ?_, ?_, fun i => if i = 4 then (c, 1) else g i, fun i => ?_, fun i hi => ?_, ?_, fun a a0 a1 => ?_⟩, ((((Fm.set (by unfold Sam; omega)).tr (Fm.set (by unfold Sam; omega))).tr (Fm.set (by unfold Sam; omega))).tr (Fm.set (by unfold Sam; omega)))⟩
  · rw [si_set, if_neg (by omega), si_set, if_pos rfl]
    have hci := cM_inj hc ⟨d0, d1⟩
    have hdr := cM_r ⟨d0, d1⟩
    unfold wOf wOf
    by_cases e : c = d
    · rw [if_pos (by rw [e]), if_pos e]; rfl
    · rw [if_neg (fun z => e (hci.mp (by omega))), if_neg e, si_set, if_neg (by omega), si_set, if_neg (by omega), h1 d d0 d1]
      have hw := wOf_r (cell := d) (hg.mem (n := 9))
      congr 1
      omega
  · rw [si_set, if_pos rfl, if_pos rfl]; rfl
  · show (-1 ≤ (if i = 4 then (c, (1 : Int)) else g i).1 ∧ (if i = 4 then (c, (1 : Int)) else g i).1 ≤ 35) ∧ (0 ≤ (if i = 4 then (c, (1 : Int)) else g i).2 ∧ (if i = 4 then (c, (1 : Int)) else g i).2 ≤ 9)
    split
    · exact ⟨hc, by show (0 : Int) ≤ 1 ∧ (1 : Int) ≤ 9; omega⟩
    · exact hg i
  · have e23 : si (setI (setI (setI (setI t 23 4 (iI (cM c))) 24 4 (iI 1)) 22 (cM c).toNat (iI 1)) 0 45 (iI 1)) 23 i = if i = 4 then iI (cM c) else si t 23 i := by
      rw [si_set, if_neg (by omega), si_set, if_neg (by omega), si_set, if_neg (by omega), si_set, if_pos rfl]
    have e24 : si (setI (setI (setI (setI t 23 4 (iI (cM c))) 24 4 (iI 1)) 22 (cM c).toNat (iI 1)) 0 45 (iI 1)) 24 i = if i = 4 then iI 1 else si t 24 i := by
      rw [si_set, if_neg (by omega), si_set, if_neg (by omega), si_set, if_pos rfl, show si (setI t 23 4 (iI (cM c))) 24 i = si t 24 i by rw [si_set, if_neg (by omega)]]
    rw [e23, e24]
    by_cases e : i = 4
    · rw [if_pos e, if_pos e]
      simp only [if_pos e, and_self]
    · rw [if_neg e, if_neg e]
      simp only [if_neg e]
      exact h3 i hi
  · rw [pre9]
    simp [sumW, z]
  · have ha : a = 0 := by simp [sumW] at a1; omega
    subst ha
    rw [pre9]
    simp [slC, z]
theorem e_X5_aim_45 {w : WR} {ls : List (List DC)} (hW : Wf w ls) {f sd : Int} (hf : 1 ≤ f ∧ f ≤ 5) (hs : -2 ≤ sd ∧ sd ≤ 2) : ∀ (n k : Nat) (t : St), M0 t w ls → 9 = n + k → AimI t (gA w ls f sd (litP w f sd)) k → ∀ fu, n < fu → ∃ t', F_X5_aim_45 fu t (iI f) (iI sd) (iI (w 8 4 + sd)) (iI (bZ (litP w f sd))) (iI k) = some ((), t') ∧ FlM t' (laysL w ls f sd) ∧ Fm Sam t t' := by
  have ht := hW.trm
  intro n
  induction n with
  | zero =>
    intro k t hM hk hI fu hfu
    obtain ⟨g, rfl⟩ : ∃ g, fu = g + 1 := ⟨fu - 1, by omega⟩
    have : k = 9 := by omega
    subst this
    have hsum := gA_ok.sum (g := gA w ls f sd (litP w f sd)) (n := 9)
    simp only [F_X5_aim_45]
    rw [if_pos (by rw [k_9, iI_le (by omega) (by omega)]; omega), hI.2.1, k_0, k_6]
    unfold laysL
    by_cases hl : litP w f sd
    · have h0 : sumW (preL (gA w ls f sd (litP w f sd)) 9) = 0 := by
        have e : ∀ k, (gA w ls f sd (litP w f sd) k).2 = 0 := fun k => by
          unfold gA
          rw [if_pos hl]
        rw [pre9]
        simp [sumW, e]
      rw [if_pos (by rw [h0]), if_neg (by rw [bZ_i0]; exact fun z => z hl), if_pos hl, e_X5_term hM.1 (by omega), bnd_s]
      have hlc : 0 ≤ w 8 6 ∧ w 8 6 ≤ 35 := by have := hl.1.1; omega
      have := e_X5_aim_189 gA_ok hI h0 (c := w 8 6) (by omega)
      rw [show cM (w 8 6) = w 8 6 by unfold cM; omega] at this
      exact this
    · rw [if_neg hl, ← gA_nine hl]
      by_cases h0 : sumW (preL (gA w ls f sd (litP w f sd)) 9) = 0
      · rw [if_pos (by rw [h0]), if_pos (by rw [bZ_i0]; exact hl), e_X5_cellAt t (by unfold i32; omega) (by unfold i32; omega), bnd_s, if_pos (by omega)]
        exact e_X5_aim_189 gA_ok hI h0 cellA_r
      · rw [if_neg (by rw [iI_eq (by omega) (by omega)]; exact h0), if_neg (by omega)]
        exact ⟨t, rfl, ⟨hI.1, hI.2.1, _, gA_ok, fun i hi => hI.2.2 i hi, rfl, fun a _ _ => rfl⟩, Fm.rf⟩
  | succ n ih =>
    intro k t hM hk hI fu hfu
    obtain ⟨g, rfl⟩ : ∃ g, fu = g + 1 := ⟨fu - 1, by omega⟩
    have hcr := cM_r (cellA_r (x := w 8 4 + sd + ((k : Int) % 3 - 1)) (y := f + ((k : Int) / 3 - 1)))
    simp only [F_X5_aim_45]
    rw [if_neg (by rw [k_9, iI_le (by omega) (by omega)]; omega), k_3, k_1, iI_remn (by omega) (by omega), iI_divn (by omega) (by omega), iI_sub, iI_sub, nam_v, nam_v, iI_add, iI_add, e_X5_cellAt t (by unfold i32; omega) (by unfold i32; omega), bnd_s, inb_g (by omega), nam_v, iI_nat (by omega), Int.toNat_natCast]
    have f1 : Fm Sam t (setI t 23 k (iI (cM (gA w ls f sd (litP w f sd) k).1))) := Fm.set (by unfold Sam; omega)
    have I1 : AimI (setI t 23 k (iI (cM (gA w ls f sd (litP w f sd) k).1))) (gA w ls f sd (litP w f sd)) k := ⟨fun c c0 c1 => by rw [si_set, if_neg (by omega)]; exact hI.1 c c0 c1, by rw [si_set, if_neg (by omega)]; exact hI.2.1, fun i hi => ⟨by rw [si_set, if_pos rfl, if_neg (by omega)]; exact (hI.2.2 i hi).1, by rw [si_set, if_neg (by omega)]; exact (hI.2.2 i hi).2⟩⟩
    have M1 := hM.scr (f1.le fun _ _ => Sam_scr)
    have e23 : si (setI t 23 k (iI (cM (gA w ls f sd (litP w f sd) k).1))) 23 k = iI (cM (gA w ls f sd (litP w f sd) k).1) := by rw [si_set, if_pos rfl, if_pos rfl]
    show ∃ t', (if iI (bZ (litP w f sd)) = 0 then bnd (F_X5_slipWeighs (setI t 23 k (iI (cM (gA w ls f sd (litP w f sd) k).1))) _ _ _ _) _ else _) = _ ∧ _
    by_cases hl : litP w f sd
    · rw [if_neg (by rw [k_0, bZ_i0]; exact fun z => z hl)]
      obtain ⟨t2, e2, I2, f2⟩ := e_X5_aim_112 (k45 := F_X5_aim_45 g) (x1 := iI f) (x2 := iI sd) (x3 := iI (w 8 4 + sd)) (x4 := iI (bZ (litP w f sd))) gA_ok (by omega) I1 e23
      rw [show (gA w ls f sd (litP w f sd) k).2 = 0 by unfold gA; rw [if_pos hl]] at e2
      obtain ⟨t3, e3, h3, f3⟩ := ih (k + 1) t2 (M1.scr (f2.le fun _ _ => Sam_scr)) (by omega) I2 g (by omega)
      exact ⟨t3, e2.trans e3, h3, (f1.tr f2).tr f3⟩
    · rw [if_pos (by rw [k_0, bZ_i0]; exact hl)]
      obtain ⟨t1, e1, g1⟩ := e_X5_slipWeighs M1 hW (f := f) (sd := sd) (dx := (k : Int) % 3 - 1) (dy := (k : Int) / 3 - 1) (by omega) (by omega) (by omega) (by omega)
      have I1' : AimI t1 (gA w ls f sd (litP w f sd)) k := ⟨fun c c0 c1 => by rw [g1.i _ _ (by unfold Sq Stl Sso; omega)]; exact I1.1 c c0 c1, by rw [g1.i _ _ (by unfold Sq Stl Sso; omega)]; exact I1.2.1, fun i hi => ⟨by rw [g1.i _ _ (by unfold Sq Stl Sso; omega)]; exact (I1.2.2 i hi).1, by rw [g1.i _ _ (by unfold Sq Stl Sso; omega)]; exact (I1.2.2 i hi).2⟩⟩
      have e23' : si t1 23 k = iI (cM (gA w ls f sd (litP w f sd) k).1) := by rw [g1.i _ _ (by unfold Sq Stl Sso; omega)]; exact e23
      obtain ⟨t2, e2, I2, f2⟩ := e_X5_aim_112 (k45 := F_X5_aim_45 g) (x1 := iI f) (x2 := iI sd) (x3 := iI (w 8 4 + sd)) (x4 := iI (bZ (litP w f sd))) gA_ok (by omega) I1' e23'
      rw [show (gA w ls f sd (litP w f sd) k).2 = slipZ w ls f sd ((k : Int) % 3 - 1) ((k : Int) / 3 - 1) by unfold gA; rw [if_neg hl]] at e2
      have f1' : Fm Sam t t1 := f1.tr (g1.le fun _ _ z => Or.inl z)
      obtain ⟨t3, e3, h3, f3⟩ := ih (k + 1) t2 ((hM.scr (f1'.le fun _ _ => Sam_scr)).scr (f2.le fun _ _ => Sam_scr)) (by omega) I2 g (by omega)
      refine ⟨t3, ?_, h3, (f1'.tr f2).tr f3⟩
      rw [e1, bnd_s]
      exact e2.trans e3
theorem e_X5_aim_2 {w : WR} {ls : List (List DC)} (hW : Wf w ls) {f sd : Int} (hf : 1 ≤ f ∧ f ≤ 5) (hs : -2 ≤ sd ∧ sd ≤ 2) : ∀ (n k : Nat) (t : St), M0 t w ls → 37 = n + k → (∀ j, j < k → si t 22 j = iI 0) → ∀ fu, n < fu → ∃ t', F_X5_aim_2 fu t (iI f) (iI sd) (iI k) = some ((), t') ∧ FlM t' (laysL w ls f sd) ∧ Fm Sam t t' := by
  have ht := hW.trm
  intro n
  induction n with
  | zero =>
    intro k t hM hk hz fu hfu
    obtain ⟨g, rfl⟩ : ∃ g, fu = g + 1 := ⟨fu - 1, by omega⟩
    have : k = 37 := by omega
    subst this
    have f1 : Fm Sam t (setI t 0 45 (iI 0)) := Fm.set (by unfold Sam; omega)
    have M1 := hM.scr (f1.le fun _ _ => Sam_scr)
    simp only [F_X5_aim_2]
    rw [if_pos (by rw [k_37, iI_le (by omega) (by omega)]; omega), k_0, k_4, nam_v, e_X5_term M1.1 (by omega), bnd_s, e_X5_isLit M1.1 hW hf hs, bnd_s, iI_add]
    obtain ⟨t2, e2, h2, f2⟩ := e_X5_aim_45 hW hf hs 9 0 (setI t 0 45 (iI 0)) M1 (by omega) ⟨fun c c0 c1 => by
      have hcr := cM_r ⟨c0, c1⟩
      rw [si_set, if_neg (by omega)]
      exact hz _ (by omega), by rw [si_set, if_pos rfl, if_pos rfl]; rfl, fun i hi => by omega⟩ FU (FU_ge (by omega))
    exact ⟨t2, e2, h2, f1.tr f2⟩
  | succ n ih =>
    intro k t hM hk hz fu hfu
    obtain ⟨g, rfl⟩ : ∃ g, fu = g + 1 := ⟨fu - 1, by omega⟩
    have f1 : Fm Sam t (setI t 22 k (iI 0)) := Fm.set (by unfold Sam; omega)
    simp only [F_X5_aim_2]
    rw [if_neg (by rw [k_37, iI_le (by omega) (by omega)]; omega), inb_g (by omega), nam_v, iI_nat (by omega), Int.toNat_natCast, iI_su, k_0]
    obtain ⟨t2, e2, h2, f2⟩ := ih (k + 1) (setI t 22 k (iI 0)) (hM.scr (f1.le fun _ _ => Sam_scr)) (by omega) (fun j hj => by
      rw [si_set, if_pos rfl]
      split
      · rfl
      · exact hz j (by omega)) g (by omega)
    exact ⟨t2, e2, h2, f1.tr f2⟩
theorem e_X5_aim {t : St} {w : WR} {ls : List (List DC)} (hM : M0 t w ls) (hW : Wf w ls) {f sd : Int} (hf : 1 ≤ f ∧ f ≤ 5) (hs : -2 ≤ sd ∧ sd ≤ 2) : ∃ t', F_X5_aim t (iI f) (iI sd) = some ((), t') ∧ FlM t' (laysL w ls f sd) ∧ Fm Sam t t' :=
  e_X5_aim_2 hW hf hs 37 0 t hM (by omega) (fun j hj => by omega) FU (FU_ge (by omega))
theorem e_X5_aimNow {t : St} {w : WR} {ls : List (List DC)} (hM : M0 t w ls) (hW : Wf w ls) : ∃ t', F_X5_aimNow t = some ((), t') ∧ FlM t' (nowL w ls) ∧ Fm Sam t t' := by
  have ht := hW.trm
  obtain ⟨t1, e1, h1, f1⟩ := e_X5_aim hM hW (f := w 8 0) (sd := w 8 1) (by omega) (by omega)
  unfold F_X5_aimNow
  rw [k_0, k_1, e_X5_term hM.1 (by omega), bnd_s, e_X5_term hM.1 (by omega), bnd_s, e1, bnd_s]
  exact ⟨t1, rfl, h1, f1⟩

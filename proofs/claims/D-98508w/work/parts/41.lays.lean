set_option maxRecDepth 100000
/-! ===== the component: a flight is laid ===== -/
/-- what stays but the ints of the cells of S, the values; S 22: what queries note, too -/
def Fr (S : Nat → Prop) (s s' : St) : Prop := sk s' = sk s ∧ sr s' = sr s ∧ (sn s' = sn s ∧ ss s' = ss s ∧ smx s' = smx s ∧ sms s' = sms s) ∧ (∀ b, ¬ S b → si s' b = si s b) ∧ (∀ b, b ≠ 22 → (b ≠ 0 ∨ ¬ S 22) → sl s' b = sl s b)
theorem Fr.rf {S : Nat → Prop} {s : St} : Fr S s s := ⟨rfl, rfl, ⟨rfl, rfl, rfl, rfl⟩, fun _ _ => rfl, fun _ _ _ => rfl⟩
theorem Fr.tr {S : Nat → Prop} {s s1 s2 : St} (h : Fr S s s1) (g : Fr S s1 s2) : Fr S s s2 :=
  ⟨g.1.trans h.1, g.2.1.trans h.2.1, ⟨g.2.2.1.1.trans h.2.2.1.1, g.2.2.1.2.1.trans h.2.2.1.2.1, g.2.2.1.2.2.1.trans h.2.2.1.2.2.1, g.2.2.1.2.2.2.trans h.2.2.1.2.2.2⟩, fun b hb => (g.2.2.2.1 b hb).trans (h.2.2.2.1 b hb), fun b h1 h2 => (g.2.2.2.2 b h1 h2).trans (h.2.2.2.2 b h1 h2)⟩
theorem Fr.le {S T : Nat → Prop} {s s' : St} (h : Fr S s s') (hS : ∀ b, S b → T b) : Fr T s s' := ⟨h.1, h.2.1, h.2.2.1, fun b hb => h.2.2.2.1 b (fun z => hb (hS b z)), fun b h1 h2 => h.2.2.2.2 b h1 (h2.imp id fun z y => z (hS 22 y))⟩
theorem Fr.wV {S : Nat → Prop} {s : St} {g : Nat → Int64} : Fr S s (wV s g) := ⟨rfl, rfl, ⟨rfl, rfl, rfl, rfl⟩, fun _ _ => rfl, fun b h1 _ => if_neg h1⟩
theorem Fr.set {S : Nat → Prop} {s : St} {a k : Nat} {v : Int32} (h : S a) : Fr S s (setI s a k v) := ⟨rfl, rfl, ⟨rfl, rfl, rfl, rfl⟩, fun b hb => by
  funext j
  rw [si_set, if_neg (fun z => hb (by rw [z]; exact h))], fun _ _ _ => rfl⟩
theorem Fr.sm {S : Nat → Prop} {s s' : St} (h : Fr S s s') (hS : ∀ b, S b → b < 31) : Sm s s' := ⟨h.1, h.2.1, h.2.2.1, fun b hb => h.2.2.2.1 b (fun z => by have := hS b z; omega), fun b h1 h2 => h.2.2.2.2 b h1 (Or.inl h2)⟩
theorem relC_30 {r : Nat} {k : Int} (h : relC r k) : r ≤ 30 := by
  unfold relC at h
  split at h <;> first | omega | exact absurd h (fun z => z)
/-- a scratch place -/
def okS (D : Nat → Prop) (x : Nat) : Prop := ¬ D x ∧ x ≠ 10 ∧ ∀ k, ¬ relC x k
theorem okS.big {D : Nat → Prop} {x : Nat} (h : 31 ≤ x) (hD : ¬ D x) : okS D x := ⟨hD, by omega, fun k hk => by have := relC_30 hk; omega⟩
theorem RCi.scr {s : St} {w : WR} (h : RCi s w) {x k : Nat} {v : Int32} (hx : ¬ relC x (k : Int)) : RCi (setI s x k v) w := by
  intro r' k' h0 h1
  rw [si_set]
  by_cases e : r' = x
  · rw [if_pos e]
    by_cases e2 : k'.toNat = k
    · exfalso
      apply hx
      rw [← e, ← e2, Int.toNat_of_nonneg h0]
      exact h1
    · rw [if_neg e2]
      exact h r' k' h0 h1
  · rw [if_neg e]
    exact h r' k' h0 h1
theorem C0.scrK {D : Nat → Prop} {s : St} {w : WR} {ls : List (List DC)} (h : C0 D s w ls) {x k : Nat} {v : Int32} (hD : ¬ D x) (h10 : x ≠ 10) (hx : ¬ relC x (k : Int)) : C0 D (setI s x k v) w ls := by
  obtain ⟨h1, h2, ⟨b, c, f, hL, hE⟩, hD2⟩ := h
  refine ⟨h1.same rfl rfl, h2.scr hx, ⟨b, c, f, ⟨hL.1, hL.2.1, hL.2.2.1, hL.2.2.2.1, hL.2.2.2.2.1, ?_, hL.2.2.2.2.2.2⟩, fun i x hx => (hE i x hx).go (Kp_setI hD)⟩, hD2⟩
  rw [si_set, if_neg (fun z => h10 z.symm)]
  exact hL.2.2.2.2.2.1
theorem C0.scr {D : Nat → Prop} {s : St} {w : WR} {ls : List (List DC)} (h : C0 D s w ls) {x k : Nat} {v : Int32} (hx : okS D x) : C0 D (setI s x k v) w ls := h.scrK hx.1 hx.2.1 (hx.2.2 _)
/-- the frame of a flight: the object, its two rows -/
def FlS (s : St) (a b c : Nat) : Prop := (sk s a).1 = 4 ∧ sr s a 0 = some b ∧ sr s a 1 = some c ∧ sk s b = (100, 9) ∧ sk s c = (100, 9) ∧ sr s a 4 = some 0 ∧ a ≠ b ∧ a ≠ c ∧ b ≠ c
theorem FlS.fr {S : Nat → Prop} {s s' : St} {a b c : Nat} (h : FlS s a b c) (f : Fr S s s') : FlS s' a b c := by
  unfold FlS
  rw [f.1, f.2.1]
  exact h
theorem FlE.fr {S : Nat → Prop} {s s' : St} {a b c : Nat} {fl : FL} (h : FlE s a b c fl) (f : Fr S s s') (ha : ¬ S a) (hb : ¬ S b) (hc : ¬ S c) : FlE s' a b c fl := by
  unfold FlE
  rw [f.1, f.2.1, f.2.2.2.1 a ha, f.2.2.2.1 b hb, f.2.2.2.1 c hc]
  exact h
theorem isK_2 {s : St} {a t : Nat} {g : Nat → Int64} : isK (wV s g) a t = isK s a t := rfl
theorem isK_1 {s : St} {x k a t : Nat} {v : Int32} : isK (setI s x k v) a t = isK s a t := rfl
theorem ite_c {α : Type} {c d : Prop} {i : Decidable c} {j : Decidable d} {x y : α} (h : c ↔ d) : @ite α c i x y = @ite α d j x y := by
  by_cases hc : c
  · rw [if_pos hc, if_pos (h.mp hc)]
  · rw [if_neg hc, if_neg (fun z => hc (h.mpr z))]
theorem sumW_app {fl : FL} {x : Int × Int} : sumW (fl ++ [x]) = sumW fl + x.2 := by
  induction fl with
  | nil => simp [sumW]
  | cons y r ih => rw [List.cons_append, sumW, sumW, ih]; omega
def tri (a b c x : Nat) : Prop := x = a ∨ x = b ∨ x = c
theorem e_X4_comes {D : Nat → Prop} {s : St} {w : WR} {ls : List (List DC)} (hC : C0 D s w ls) {a b c : Nat} {fl : FL} (hF : FlE s a b c fl) (hS : FlS s a b c) (hl : fl.length < 9) (oa : okS D a) (ob : okS D b) (oc : okS D c) {cell z : Int} (h1 : -1 ≤ cell ∧ cell ≤ 35) (h2 : 0 ≤ z ∧ z ≤ 9) : ∃ s', F_X4_comes s a (iI cell) (iI z) = some ((), s') ∧ C0 D s' w ls ∧ FlE s' a b c (fl ++ [(cell, z)]) ∧ Fr (tri a b c) s s' := by
  have hs := hF.sum
  obtain ⟨f1, f2, f3, f4, f5, f6, f7, f8, f9⟩ := hF
  obtain ⟨-, -, -, -, -, -, n1, n2, n3⟩ := hS
  have hC4 : C0 D (setI (setI (setI (setI s b fl.length (iI cell)) c fl.length (iI z)) a 2 (iI (fl.length + 1))) a 3 (iI (sumW fl + z))) w ls := (((hC.scr ob).scr oc).scr oa).scr oa
  refine ⟨_, ?_, hC4, ?_, ((Fr.set (Or.inr (Or.inl rfl))).tr (Fr.set (Or.inr (Or.inr rfl)))).tr ((Fr.set (Or.inl rfl)).tr (Fr.set (Or.inl rfl)))⟩
  · unfold F_X4_comes
    rw [isK_g f1, isK_g f1, f2, drf_s, isK_g (by rw [f4]), f4, f6, inb_g (by omega), nam_v, iI_nat (by omega), Int.toNat_natCast]
    rw [isK_1, isK_g f1, isK_g f1]
    show drf (sr s a 1) _ = _
    rw [f3, drf_s, isK_1, isK_g (show (sk s c).1 = 100 by rw [f5])]
    show gd (inb (si (setI s b fl.length (iI cell)) a 2) (sk s c).2) (nam (setI (setI s b fl.length (iI cell)) c (si (setI s b fl.length (iI cell)) a 2).toNatClampNeg (iI z)) _) = _
    rw [si_set, if_neg n1, f6, f5, inb_g (by omega), nam_v, iI_nat (by omega), Int.toNat_natCast]
    rw [isK_1, isK_1, isK_g f1, isK_g f1, si_set, if_neg n2, si_set, if_neg n1, f6, k_1, iI_add, nam_v]
    rw [isK_1, isK_1, isK_1, isK_g f1, isK_g f1, si_set, if_pos rfl, if_neg (by decide), si_set, if_neg n2, si_set, if_neg n1, f7, iI_add, nam_v]
  · refine ⟨f1, f2, f3, f4, f5, ?_, ?_, ?_, ?_⟩
    · rw [si_set, if_pos rfl, if_neg (by decide), si_set, if_pos rfl, if_pos rfl, List.length_append]
      rfl
    · rw [si_set, if_pos rfl, if_pos rfl, sumW_app]
    · rw [List.length_append]
      show fl.length + 1 ≤ 9
      omega
    · intro i x hx
      rw [si_set, if_neg n1.symm, si_set, if_neg n1.symm, si_set, if_neg n3, si_set, if_pos rfl, si_set, if_neg n2.symm, si_set, if_neg n2.symm, si_set, if_pos rfl, si_set, if_neg n3.symm]
      by_cases hi : i < fl.length
      · rw [List.getElem?_append_left hi] at hx
        rw [if_neg (by omega), if_neg (by omega)]
        exact f9 i x hx
      · rw [List.getElem?_append_right (by omega)] at hx
        have h0 : i - fl.length = 0 := by
          by_cases h0 : i - fl.length = 0
          · exact h0
          · rw [List.getElem?_eq_none (by simp; omega)] at hx
            cases hx
        rw [h0] at hx
        cases hx
        rw [if_pos (by omega), if_pos (by omega)]
        exact ⟨rfl, rfl, h1, h2⟩
theorem slipZ_r {w : WR} {ls : List (List DC)} {f sd dx dy : Int} : 0 ≤ slipZ w ls f sd dx dy ∧ slipZ w ls f sd dx dy ≤ 9 := by
  have hw : 0 ≤ woZ dx dy ∧ woZ dx dy ≤ 9 := by unfold woZ; omega
  unfold slipZ slipO
  split
  · exact hw
  · split
    · exact hw
    · exact nearZ_r (by decide)
def slE (w : WR) (ls : List (List DC)) (f sd dy dx : Int) : Int × Int := (cellA (w 8 4 + sd + dx) (f + dy), slipZ w ls f sd dx dy)
def nineL (w : WR) (ls : List (List DC)) (f sd : Int) : FL := [slE w ls f sd (-1) (-1), slE w ls f sd (-1) 0, slE w ls f sd (-1) 1, slE w ls f sd 0 (-1), slE w ls f sd 0 0, slE w ls f sd 0 1, slE w ls f sd 1 (-1), slE w ls f sd 1 0, slE w ls f sd 1 1]
def litF (w : WR) (f sd : Int) : Nat → Int → Prop
  | 0, _ => False
  | n + 1, k => cellA (w 8 4 + (sd * k).tdiv f) k = w 8 6 ∨ litF w f sd n (k + 1)
def litP (w : WR) (f sd : Int) : Prop := (w 8 6 ≠ -1 ∧ w 8 7 ≤ w 8 2) ∧ litF w f sd f.toNat 0
noncomputable def laysL (w : WR) (ls : List (List DC)) (f sd : Int) : FL := @ite _ (litP w f sd) (Classical.propDecidable _) [(w 8 6, 1)] (if sumW (nineL w ls f sd) ≤ 0 then [(cellA (w 8 4 + sd) f, 1)] else nineL w ls f sd)
theorem e_X4_lampOn_2 {s : St} {w : WR} {ls : List (List DC)} (hR : RCi s w) (hW : Wf w ls) {a : Nat} (ha : (sk s a).1 = 4) (h4 : sr s a 4 = some 0) {f sd : Int} (hf : 1 ≤ f ∧ f ≤ 5) (hs : -2 ≤ sd ∧ sd ≤ 2) : ∀ (n : Nat) (k : Int), 0 ≤ k → f = n + k → ∀ fu, n < fu → F_X4_lampOn_2 fu s (some a) (iI f) (iI sd) (iI k) = some (iI (@ite _ ((w 8 6 ≠ -1 ∧ w 8 7 ≤ w 8 2) ∧ litF w f sd n k) (Classical.propDecidable _) (w 8 6) (-1)), s) := by
  have ht := hW.trm
  intro n
  induction n with
  | zero =>
    intro k h0 hk fu hfu
    obtain ⟨g, rfl⟩ : ∃ g, fu = g + 1 := ⟨fu - 1, by omega⟩
    simp only [F_X4_lampOn_2]
    rw [if_pos (by rw [iI_le (by omega) (by omega)]; omega), if_neg (fun z => z.2)]
    rfl
  | succ n ih =>
    intro k h0 hk fu hfu
    obtain ⟨g, rfl⟩ : ∃ g, fu = g + 1 := ⟨fu - 1, by omega⟩
    have iR : ∀ {α : Type} {x : Option α}, gd (isR (sr s a 4) 0) x = x := fun {α x} => gd_ok (by rw [h4]; rfl)
    have hm : -10 ≤ sd * k ∧ sd * k ≤ 10 := by
      have : sd = -2 ∨ sd = -1 ∨ sd = 0 ∨ sd = 1 ∨ sd = 2 := by omega
      rcases this with rfl | rfl | rfl | rfl | rfl <;> omega
    have hd := tdiv_rng (b := f) (show (0 : Int) ≤ 10 by decide) (show -10 ≤ sd * k by omega) hm.2
    have hcr := cellA_r (x := w 8 4 + (sd * k).tdiv f) (y := k)
    simp only [F_X4_lampOn_2]
    rw [if_neg (by rw [iI_le (by omega) (by omega)]; omega), drf_s, isK_g ha, iR, k_6, e_X0_term hR (by omega), bnd_s, k_m1, k_1, iI_add, litF]
    have hi := ih (k + 1) (by omega) (by omega) g (by omega)
    by_cases l6 : w 8 6 = -1
    · rw [if_pos (by rw [l6]), hi, if_neg (fun z => z.1.1 l6), if_neg (fun z => z.1.1 l6)]
    · rw [if_neg (by rw [iI_eq (by omega) (by omega)]; exact l6), drf_s, isK_g ha, iR, k_4, e_X0_term hR (by omega), bnd_s, gd_ok (nzi_t (by omega) (by omega)), iI_mul, iI_div (by omega) (by omega), iI_add, e_X0_cellAt s (by omega) (by omega), bnd_s, drf_s, isK_g ha, iR, e_X0_term hR (by omega), bnd_s]
      by_cases c1 : cellA (w 8 4 + (sd * k).tdiv f) k = w 8 6
      · rw [if_pos (by rw [c1]), drf_s, isK_g ha, iR, k_7, e_X0_term hR (by omega), bnd_s, drf_s, isK_g ha, iR, k_2, e_X0_term hR (by omega), bnd_s]
        by_cases c2 : w 8 2 < w 8 7
        · rw [if_pos (by rw [iI_lt (by omega) (by omega)]; exact c2), hi, if_neg (fun z => by omega), if_neg (fun z => by omega)]
        · rw [if_neg (by rw [iI_lt (by omega) (by omega)]; exact c2), drf_s, isK_g ha, iR, e_X0_term hR (by omega), bnd_s, if_pos ⟨⟨l6, by omega⟩, Or.inl c1⟩]
      · rw [if_neg (by rw [iI_eq (by omega) (by omega)]; exact c1)]
        have hq : ((w 8 6 ≠ -1 ∧ w 8 7 ≤ w 8 2) ∧ litF w f sd n (k + 1)) ↔ ((w 8 6 ≠ -1 ∧ w 8 7 ≤ w 8 2) ∧ (cellA (w 8 4 + (sd * k).tdiv f) k = w 8 6 ∨ litF w f sd n (k + 1))) := ⟨fun z => ⟨z.1, Or.inr z.2⟩, fun z => ⟨z.1, z.2.resolve_left c1⟩⟩
        rw [hi, ite_c hq]
theorem e_X4_lays_dx {D : Nat → Prop} {s : St} {w : WR} {ls : List (List DC)} (hC : C0 D s w ls) (hW : Wf w ls) {a b c : Nat} {fl : FL} (hF : FlE s a b c fl) (hS : FlS s a b c) (hl : fl.length < 9) (oa : okS D a) (ob : okS D b) (oc : okS D c) {f sd dy dx : Int} (hf : 1 ≤ f ∧ f ≤ 5) (hs : -2 ≤ sd ∧ sd ≤ 2) (hy : -1 ≤ dy ∧ dy ≤ 1) (hx : -1 ≤ dx ∧ dx ≤ 1) {k : St → Option Nat → Int32 → Int32 → Int32 → Option (Unit × St)} {fu : Nat} : ∃ s1, C0 D s1 w ls ∧ FlE s1 a b c (fl ++ [slE w ls f sd dy dx]) ∧ FlS s1 a b c ∧ Fr (tri a b c) s s1 ∧ F_X4_lays_41 k (fu + 1) s (some a) (iI f) (iI sd) (iI dy) (iI dx) = F_X4_lays_41 k fu s1 (some a) (iI f) (iI sd) (iI dy) (iI (dx + 1)) := by
  have ht := hW.trm
  obtain ⟨g, e⟩ := e_X0_slip hC hW (f := f) (sd := sd) (dx := dx) (dy := dy) (by omega) (by omega) (by omega) (by omega)
  have f0 : Fr (tri a b c) s (wV s g) := Fr.wV
  obtain ⟨s1, e1, hC1, hF1, hf1⟩ := e_X4_comes (hC.wV (g := g)) (a := a) (b := b) (c := c) hF (hS.fr f0) hl oa ob oc (cell := cellA (w 8 4 + sd + dx) (f + dy)) (z := slipZ w ls f sd dx dy) cellA_r slipZ_r
  have iR : ∀ {α : Type} {x : Option α}, gd (isR (sr s a 4) 0) x = x := fun {α x} => gd_ok (by rw [hS.2.2.2.2.2.1]; rfl)
  refine ⟨s1, hC1, hF1, (hS.fr f0).fr hf1, f0.tr hf1, ?_⟩
  show F_X4_lays_41 k (fu + 1) s (some a) (iI f) (iI sd) (iI dy) (iI dx) = _
  rw [F_X4_lays_41]
  show (if (2 : Int32) ≤ iI dx then _ else _) = _
  rw [k_2, if_neg (by rw [iI_le (by omega) (by omega)]; omega), drf_s, isK_g hS.1, iR, k_4, e_X0_term hC.2.1 (by omega), bnd_s, iI_add, iI_add, iI_add, e_X0_cellAt s (by omega) (by omega), bnd_s, drf_s, isK_g hS.1, iR, e, bnd_s, drf_s, isK_2, isK_g hS.1, e1, bnd_s, k_1, iI_add]
theorem e_X4_lays_row {D : Nat → Prop} {s : St} {w : WR} {ls : List (List DC)} (hC : C0 D s w ls) (hW : Wf w ls) {a b c : Nat} {fl : FL} (hF : FlE s a b c fl) (hS : FlS s a b c) (hl : fl.length < 7) (oa : okS D a) (ob : okS D b) (oc : okS D c) {f sd dy : Int} (hf : 1 ≤ f ∧ f ≤ 5) (hs : -2 ≤ sd ∧ sd ≤ 2) (hy : -1 ≤ dy ∧ dy ≤ 1) {k : St → Option Nat → Int32 → Int32 → Int32 → Option (Unit × St)} : ∃ s1, C0 D s1 w ls ∧ FlE s1 a b c (fl ++ [slE w ls f sd dy (-1)] ++ [slE w ls f sd dy 0] ++ [slE w ls f sd dy 1]) ∧ FlS s1 a b c ∧ Fr (tri a b c) s s1 ∧ F_X4_lays_41 k FU s (some a) (iI f) (iI sd) (iI dy) (iI (-1)) = k s1 (some a) (iI f) (iI sd) (iI (dy + 1)) := by
  obtain ⟨fu, hFU⟩ : ∃ fu, FU = fu + 4 := ⟨1048572, rfl⟩
  obtain ⟨s1, c1, F1, S1, r1, e1⟩ := e_X4_lays_dx hC hW hF hS (by omega) oa ob oc hf hs hy (dx := -1) (by omega) (k := k) (fu := fu + 3)
  obtain ⟨s2, c2, F2, S2, r2, e2⟩ := e_X4_lays_dx c1 hW F1 S1 (by simp; omega) oa ob oc hf hs hy (dx := 0) (by omega) (k := k) (fu := fu + 2)
  obtain ⟨s3, c3, F3, S3, r3, e3⟩ := e_X4_lays_dx c2 hW F2 S2 (by simp; omega) oa ob oc hf hs hy (dx := 1) (by omega) (k := k) (fu := fu + 1)
  refine ⟨s3, c3, F3, S3, (r1.tr r2).tr r3, ?_⟩
  rw [hFU, e1, show (-1 + 1 : Int) = 0 by omega, e2, show (0 + 1 : Int) = 1 by omega, e3, show (1 + 1 : Int) = 2 by omega]
  rw [F_X4_lays_41]
  show (if (2 : Int32) ≤ iI 2 then _ else _) = _
  rw [if_pos (by decide), k_1, iI_add]
theorem FlE.zero {s : St} {a b c : Nat} (hS : FlS s a b c) : FlE (setI (setI s a 2 (iI 0)) a 3 (iI 0)) a b c [] := by
  obtain ⟨g1, g2, g3, g4, g5, g6, n1, n2, n3⟩ := hS
  refine ⟨g1, g2, g3, g4, g5, ?_, ?_, by decide, fun i x hx => by cases hx⟩
  · rw [si_set, if_pos rfl, if_neg (by decide), si_set, if_pos rfl, if_pos rfl]
    rfl
  · rw [si_set, if_pos rfl, if_pos rfl]
    rfl
theorem FlE.again {s : St} {a b c : Nat} {fl : FL} (h : FlE s a b c fl) (h0 : sumW fl ≤ 0) : FlE (setI s a 2 (iI 0)) a b c [] := by
  have hs := h.sum
  obtain ⟨g1, g2, g3, g4, g5, g6, g7, -, -⟩ := h
  refine ⟨g1, g2, g3, g4, g5, ?_, ?_, by decide, fun i x hx => by cases hx⟩
  · rw [si_set, if_pos rfl, if_pos rfl]
    rfl
  · rw [si_set, if_pos rfl, if_neg (by decide), g7]
    congr 1
    show sumW fl = 0
    omega
theorem e_X4_lays {D : Nat → Prop} {s : St} {w : WR} {ls : List (List DC)} (hC : C0 D s w ls) (hW : Wf w ls) {a b c : Nat} (hS : FlS s a b c) (oa : okS D a) (ob : okS D b) (oc : okS D c) {f sd : Int} (hf : 1 ≤ f ∧ f ≤ 5) (hs : -2 ≤ sd ∧ sd ≤ 2) : ∃ s1, F_X4_lays s a (iI f) (iI sd) = some ((), s1) ∧ C0 D s1 w ls ∧ FlE s1 a b c (laysL w ls f sd) ∧ FlS s1 a b c ∧ Fr (tri a b c) s s1 := by
  have ht := hW.trm
  have r0 : Fr (tri a b c) s (setI (setI s a 2 (iI 0)) a 3 (iI 0)) := (Fr.set (Or.inl rfl)).tr (Fr.set (Or.inl rfl))
  have c0 : C0 D (setI (setI s a 2 (iI 0)) a 3 (iI 0)) w ls := (hC.scr oa).scr oa
  have F0 := FlE.zero hS
  have S0 := hS.fr r0
  unfold F_X4_lays F_X4_lampOn
  rw [isK_g hS.1, k_0, e_X4_lampOn_2 hC.2.1 hW hS.1 hS.2.2.2.2.2.1 hf hs f.toNat 0 (by omega) (by omega) FU (FU_ge (by omega)), bnd_s, isK_g hS.1, nam_v, isK_1, isK_g hS.1, nam_v, k_m1, k_1]
  show ∃ s1, (if iI (@ite _ (litP w f sd) (Classical.propDecidable _) (w 8 6) (-1)) = iI (-1) then _ else _) = _ ∧ _
  unfold laysL
  by_cases hl : litP w f sd
  · obtain ⟨s1, e1, c1, F1, r1⟩ := e_X4_comes c0 F0 S0 (by decide) oa ob oc (cell := w 8 6) (z := 1) (by omega) (by omega)
    rw [if_pos hl, if_pos hl, if_neg (by rw [iI_eq (by omega) (by omega)]; exact hl.1.1), if_pos (show (w 8 6 ≠ -1 ∧ w 8 7 ≤ w 8 2) ∧ litF w f sd f.toNat 0 from hl), isK_1, isK_1, isK_g hS.1, e1, bnd_s]
    exact ⟨s1, rfl, c1, F1, S0.fr r1, r0.tr r1⟩
  · rw [if_neg hl, if_neg hl, if_pos rfl]
    obtain ⟨fu, hFU⟩ : ∃ fu, FU = fu + 4 := ⟨1048572, rfl⟩
    have st : ∀ (fu : Nat) (s : St) (dy : Int), -1 ≤ dy ∧ dy ≤ 1 → F_X4_lays_32 (fu + 1) s (some a) (iI f) (iI sd) (iI dy) = F_X4_lays_41 (F_X4_lays_32 fu) FU s (some a) (iI f) (iI sd) (iI dy) (iI (-1)) := fun fu s dy h => by
      rw [F_X4_lays_32]
      show (if (2 : Int32) ≤ iI dy then _ else _) = _
      rw [k_2, if_neg (by rw [iI_le (by omega) (by omega)]; omega), k_m1]
    obtain ⟨s1, c1, F1, S1, r1, e1⟩ := e_X4_lays_row c0 hW F0 S0 (by decide) oa ob oc hf hs (dy := -1) (by omega) (k := F_X4_lays_32 (fu + 3))
    obtain ⟨s2, c2, F2, S2, r2, e2⟩ := e_X4_lays_row c1 hW F1 S1 (by simp) oa ob oc hf hs (dy := 0) (by omega) (k := F_X4_lays_32 (fu + 2))
    obtain ⟨s3, c3, F3, S3, r3, e3⟩ := e_X4_lays_row c2 hW F2 S2 (by simp) oa ob oc hf hs (dy := 1) (by omega) (k := F_X4_lays_32 (fu + 1))
    have F3' : FlE s3 a b c (nineL w ls f sd) := F3
    have hsum := F3'.sum
    rw [hFU, st _ _ _ (by omega), e1, show (-1 + 1 : Int) = 0 by omega, st _ _ _ (by omega), e2, show (0 + 1 : Int) = 1 by omega, st _ _ _ (by omega), e3, show (1 + 1 : Int) = 2 by omega]
    rw [F_X4_lays_32]
    show ∃ s1, (if (2 : Int32) ≤ iI 2 then _ else _) = _ ∧ _
    rw [if_pos (by decide), drf_s, isK_g S3.1, F3'.2.2.2.2.2.2.1, k_0]
    by_cases h0 : sumW (nineL w ls f sd) ≤ 0
    · have c4 := c3.scr (k := 2) (v := iI 0) oa
      have r4 : Fr (tri a b c) s3 (setI s3 a 2 (iI 0)) := Fr.set (Or.inl rfl)
      obtain ⟨s5, e5, c5, F5, r5⟩ := e_X4_comes c4 (F3'.again h0) (S3.fr r4) (by decide) oa ob oc (cell := cellA (w 8 4 + sd) f) (z := 1) cellA_r (by omega)
      have iR : ∀ {α : Type} {x : Option α}, gd (isR (sr (setI s3 a 2 (iI 0)) a 4) 0) x = x := fun {α x} => gd_ok (by rw [(S3.fr r4).2.2.2.2.2.1]; rfl)
      rw [if_pos (by rw [iI_le (by omega) (by omega)]; exact h0), if_pos h0, drf_s, isK_g S3.1, nam_v, drf_s, isK_g (S3.fr r4).1, iR, k_4, e_X0_term c4.2.1 (by omega), bnd_s, iI_add, e_X0_cellAt _ (by omega) (by omega), bnd_s, drf_s, isK_g (S3.fr r4).1, k_1, e5, bnd_s]
      exact ⟨s5, rfl, c5, F5, (S3.fr r4).fr r5, ((((r0.tr r1).tr r2).tr r3).tr r4).tr r5⟩
    · rw [if_neg (by rw [iI_le (by omega) (by omega)]; exact h0), if_neg h0]
      exact ⟨s3, rfl, c3, F3', S3, ((r0.tr r1).tr r2).tr r3⟩
theorem FlS.one {s : St} (h : SkC s) : FlS s 23 24 25 := ⟨by rw [h.1 23 (by decide)]; rfl, h.ref 27 rfl, h.ref 28 rfl, h.1 24 (by decide), h.1 25 (by decide), h.ref 29 rfl, by decide, by decide, by decide⟩
theorem C0.ok31 {D : Nat → Prop} {s : St} {w : WR} {ls : List (List DC)} (h : C0 D s w ls) {x : Nat} (hx : x < 31) : ¬ D x := fun z => by
  have := h.2.2.2 x z
  omega
theorem C0.scr31 {D : Nat → Prop} {s : St} {w : WR} {ls : List (List DC)} (h : C0 D s w ls) {x : Nat} (hx : x = 23 ∨ x = 24 ∨ x = 25 ∨ x = 27 ∨ x = 28) : okS D x := by
  rcases hx with rfl | rfl | rfl | rfl | rfl <;> exact ⟨h.ok31 (by decide), by decide, fun k z => z⟩
theorem FlS.ne23 {s : St} {a b c : Nat} (h : FlS s a b c) : FlS s a b c := h
/-- what looks asks and leaves -/
def Lk (D : Nat → Prop) (s : St) (w : WR) (ls : List (List DC)) : Prop := C0 D s w ls ∧ si s 0 20 = iI (w 2 8) ∧ GrE s w ls (w 2 8) ∧ FlE s 23 24 25 (laysL w ls (w 8 0) (w 8 1))
abbrev q31 (x : Nat) : Prop := x = 0 ∨ x = 23 ∨ x = 24 ∨ x = 25 ∨ x = 27 ∨ x = 28
theorem e_X0_looks_43 {D : Nat → Prop} {w : WR} {ls : List (List DC)} (hW : Wf w ls) {c : Int} (hc : 0 ≤ c ∧ c < 6) {k : St → Int32 → Option (Unit × St)} : ∀ (n : Nat) (f : Int) (s : St), C0 D s w ls → 0 ≤ f → 11 = n + f → (∀ i, 0 ≤ i → i < f → si s 27 (11 * c + i).toNat = iI (gripZ w ls c i)) → ∀ fu, n < fu → ∃ s1, F_X0_looks_43 k fu s (iI c) (iI f) = k s1 (iI (c + 1)) ∧ C0 D s1 w ls ∧ Fr (fun x => x = 27) s s1 ∧ (∀ j, ¬ (11 * c ≤ j ∧ j < 11 * c + 11) → si s1 27 j.toNat = si s 27 j.toNat ∨ j < 0) ∧ (∀ i, 0 ≤ i → i ≤ 10 → si s1 27 (11 * c + i).toNat = iI (gripZ w ls c i)) := by
  intro n
  induction n with
  | zero =>
    intro f s hC h0 hn hg fu hfu
    obtain ⟨g, rfl⟩ : ∃ g, fu = g + 1 := ⟨fu - 1, by omega⟩
    refine ⟨s, ?_, hC, Fr.rf, fun j _ => Or.inl rfl, fun i h1 h2 => hg i h1 (by omega)⟩
    rw [F_X0_looks_43]
    show (if (10 : Int32) < iI f then _ else _) = _
    rw [k_10, if_pos (by rw [iI_lt (by omega) (by omega)]; omega), k_1, iI_add]
  | succ n ih =>
    intro f s hC h0 hn hg fu hfu
    obtain ⟨fu, rfl⟩ : ∃ g, fu = g + 1 := ⟨fu - 1, by omega⟩
    obtain ⟨g, e⟩ := e_X0_grip hC hW (c := c) (far := f) hc (by omega)
    have hC1 := (hC.wV (g := g)).scr (x := 27) (k := (11 * c + f).toNat) (v := iI (gripZ w ls c f)) (hC.scr31 (by omega))
    obtain ⟨s1, e1, c1, r1, o1, g1⟩ := ih (f + 1) _ hC1 (by omega) (by omega) (fun i h1 h2 => by
      rw [si_set, if_pos rfl]
      by_cases h3 : i = f
      · rw [h3, if_pos rfl]
      · rw [if_neg (by omega)]
        exact hg i h1 (by omega)) fu (by omega)
    have r0 : Fr (fun x => x = 27) s (setI (wV s g) 27 (11 * c + f).toNat (iI (gripZ w ls c f))) := Fr.wV.tr (Fr.set rfl)
    refine ⟨s1, ?_, c1, r0.tr r1, fun j hj => ?_, g1⟩
    · rw [F_X0_looks_43]
      show (if (10 : Int32) < iI f then _ else _) = _
      rw [k_10, if_neg (by rw [iI_lt (by omega) (by omega)]; omega), e, bnd_s, k_11, iI_mul, iI_add, inb_g (by omega), iI_nat (by omega), nam_v, k_1, iI_add]
      exact e1
    · rcases o1 j hj with h | h
      · rw [si_set, if_pos rfl] at h
        by_cases h5 : j < 0
        · exact Or.inr h5
        · rw [if_neg (by omega)] at h
          exact Or.inl h
      · exact Or.inr h
theorem e_X0_looks_30 {D : Nat → Prop} {w : WR} {ls : List (List DC)} (hW : Wf w ls) : ∀ (n : Nat) (c : Int) (s : St), C0 D s w ls → 0 ≤ c → w 2 8 = n + c → GrE s w ls c → ∀ fu, n < fu → ∃ s1, F_X0_looks_30 fu s (iI c) = some ((), s1) ∧ C0 D s1 w ls ∧ Fr (fun x => x = 27) s s1 ∧ GrE s1 w ls (w 2 8) := by
  have hm := hW.1
  intro n
  induction n with
  | zero =>
    intro c s hC h0 hn hg fu hfu
    obtain ⟨g, rfl⟩ : ∃ g, fu = g + 1 := ⟨fu - 1, by omega⟩
    refine ⟨s, ?_, hC, Fr.rf, by rw [show w 2 8 = c by omega]; exact hg⟩
    rw [F_X0_looks_30]
    show (if si s 2 8 ≤ iI c then _ else _) = _
    rw [hC.2.1.many, if_pos (by rw [iI_le (by omega) (by omega)]; omega)]
  | succ n ih =>
    intro c s hC h0 hn hg fu hfu
    obtain ⟨fu, rfl⟩ : ∃ g, fu = g + 1 := ⟨fu - 1, by omega⟩
    obtain ⟨s1, e1, c1, r1, o1, g1⟩ := e_X0_looks_43 hW (c := c) (by omega) (k := F_X0_looks_30 fu) 11 0 s hC (by omega) (by omega) (fun i h1 h2 => by omega) FU (FU_ge (by omega))
    obtain ⟨s2, e2, c2, r2, g2⟩ := ih (c + 1) s1 c1 (by omega) (by omega) (fun c' f' h1 h2 h3 h4 => by
      by_cases h5 : c' = c
      · rw [h5]
        exact g1 f' h3 h4
      · rcases o1 (11 * c' + f') (by omega) with h | h
        · rw [h]
          exact hg c' f' h1 (by omega) h3 h4
        · omega) fu (by omega)
    refine ⟨s2, ?_, c2, r1.tr r2, g2⟩
    rw [F_X0_looks_30]
    show (if si s 2 8 ≤ iI c then _ else _) = _
    rw [hC.2.1.many, if_neg (by rw [iI_le (by omega) (by omega)]; omega), k_0, e1, e2]
theorem e_X0_looks {D : Nat → Prop} {s : St} {w : WR} {ls : List (List DC)} (hC : C0 D s w ls) (hW : Wf w ls) : ∃ s1, F_X0_looks s = some ((), s1) ∧ Lk D s1 w ls ∧ Fr q31 s s1 := by
  have ht := hW.trm
  obtain ⟨s1, e1, c1, F1, S1, r1⟩ := e_X4_lays hC hW (FlS.one hC.1) (hC.scr31 (by omega)) (hC.scr31 (by omega)) (hC.scr31 (by omega)) (f := w 8 0) (sd := w 8 1) (by omega) (by omega)
  have c2 : C0 D (setI s1 0 20 (iI (w 2 8))) w ls := c1.scrK (c1.ok31 (by decide)) (by decide) (fun z => by
    have z : (20 : Int) = 0 ∨ (11 ≤ (20 : Int) ∧ (20 : Int) ≤ 15) ∨ (20 : Int) = 26 ∨ (20 : Int) = 27 := z
    omega)
  obtain ⟨s3, e3, c3, r3, g3⟩ := e_X0_looks_30 hW (w 2 8).toNat 0 _ c2 (by omega) (by have := hW.1; omega) (fun c f h1 h2 => by omega) FU (FU_ge (by have := hW.1; omega))
  refine ⟨s3, ?_, ⟨c3, ?_, g3, ?_⟩, ((r1.le ?_).tr (Fr.set (Or.inl rfl))).tr (r3.le ?_)⟩
  · unfold F_X0_looks
    rw [k_0, e_X0_term hC.2.1 (by omega), bnd_s, k_1, e_X0_term hC.2.1 (by omega), bnd_s, e1, bnd_s, nam_v, c1.2.1.many]
    exact e3
  · rw [r3.2.2.2.1 0 (by decide), si_set, if_pos rfl, if_pos rfl]
  · refine FlE.fr (S := fun x => x = 27) ?_ r3 (by decide) (by decide) (by decide)
    exact FlE.fr (S := fun x => x = 0) F1 (Fr.set rfl) (by decide) (by decide) (by decide)
  · intro b hb
    rcases hb with rfl | rfl | rfl
    · exact Or.inr (Or.inl rfl)
    · exact Or.inr (Or.inr (Or.inl rfl))
    · exact Or.inr (Or.inr (Or.inr (Or.inl rfl)))
  · intro b hb
    exact Or.inr (Or.inr (Or.inr (Or.inr (Or.inl hb))))

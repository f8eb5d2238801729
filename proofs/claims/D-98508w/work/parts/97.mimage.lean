set_option maxRecDepth 100000
/-! ===== the model: images ===== -/
/-- the row of r is that of (w, ls) -/
def RowE (r : St) (w : WR) (ls : List (List DC)) : Prop := (∀ x k, 2 ≤ x → x ≤ 9 → 0 ≤ k → relM x k → si r 2 (mK x k) = iI (w x k)) ∧ si r 2 2 = iI ls.length ∧ ls.length ≤ 6 ∧ ∀ i law, ls[i]? = some law → LawM r (60 + 900 * i) law
theorem M0.row {t : St} {w : WR} {ls : List (List DC)} (h : M0 t w ls) (hW : Wf w ls) : RowE t w ls := by
  obtain ⟨h1, h2, h3, h4⟩ := h
  refine ⟨fun x k g2 g9 h0 hr => ?_, h2, hW.2.2.2.1, h4⟩
  have := h1 x k h0 hr
  rw [show mA x = 2 by unfold mA; split <;> first | rfl | omega] at this
  exact this
def ImM (t : St) (iv : IV) : Prop := ∀ j, j < 2 → match iv j with
  | none => si t 4 j = iI 0
  | some q => si t 4 j = iI 1 ∧ ∃ r : St, (∀ k, k < 5460 → si t 3 (5460 * j + k) = si r 2 k) ∧ RowE r q.1 q.2
theorem ImM.go {S : Nat → Nat → Prop} {t t' : St} {iv : IV} (h : ImM t iv) (hf : Fm S t t') (hS : ∀ j, ¬ S 3 j ∧ ¬ S 4 j) : ImM t' iv := fun j hj => by
  have := h j hj
  cases e : iv j with
  | none =>
    rw [e] at this
    show si t' 4 j = iI 0
    rw [hf.i _ _ (hS j).2]
    exact this
  | some q =>
    rw [e] at this
    obtain ⟨a, r, b, c⟩ := this
    exact ⟨by rw [hf.i _ _ (hS j).2]; exact a, r, fun k hk => by rw [hf.i _ _ (hS _).1]; exact b k hk, c⟩
theorem Reg_im {j : Nat} : ¬ Reg 3 j ∧ ¬ Reg 4 j := by
  unfold Reg inM Scr
  omega
theorem e_X5_image_23 {w : WR} {ls : List (List DC)} (hW : Wf w ls) {j : Nat} (hj : j < 2) {iv : IV} : ∀ (n i : Nat) (t : St), 5460 = n + i → M0 t w ls → (∀ k, k ≠ j → k < 2 → match iv k with
  | none => si t 4 k = iI 0
  | some q => si t 4 k = iI 1 ∧ ∃ r : St, (∀ i, i < 5460 → si t 3 (5460 * k + i) = si r 2 i) ∧ RowE r q.1 q.2) → (∀ k, k < i → si t 3 (5460 * j + k) = si t 2 k) → ∀ fu, n < fu → ∃ t', F_X5_image_23 fu t (iI j) (iI i) = some (iI 0, t') ∧ M0 t' (wup w 0 0 0) ls ∧ ImM t' (ivUp iv j (w, ls)) ∧ Fm (fun a k => Reg a k ∨ a = 3 ∨ a = 4) t t' := by
  intro n
  induction n with
  | zero =>
    intro i t hn hM hI hk fu hfu
    obtain ⟨g, rfl⟩ : ∃ g, fu = g + 1 := ⟨fu - 1, by omega⟩
    have f : Fm (fun a k => a = 4 ∧ k = j) t (setI t 4 j (vp_nar .boolean (1 : Int32))) := Fm.set ⟨rfl, rfl⟩
    have hM1 : M0 (setI t 4 j (vp_nar .boolean (1 : Int32))) w ls := by
      obtain ⟨q1, q2, q3, q4⟩ := hM
      exact ⟨q1.go f fun a j h => by unfold inM at h; omega, by rw [f.i _ _ (by omega)]; exact q2, by rw [f.i _ _ (by omega)]; exact q3, fun i law e => (q4 i law e).go fun j _ _ => f.i _ _ (by omega)⟩
    simp only [F_X5_image_23]
    rw [if_pos (by rw [show (5460 : Int32) = iI 5460 from rfl, iI_le (by omega) (by omega)]; omega), inb_g (by omega), iI_nat (by omega), Int.toNat_natCast, nam_v, k_0]
    obtain ⟨t', e, h', f'⟩ := OpM.tell0 hM1 (v := 0) (by omega)
    refine ⟨t', e, h', fun k hk2 => ?_, (f.le fun a k z => Or.inr (Or.inr z.1)).tr (f'.le fun _ _ => Or.inl)⟩
    unfold ivUp
    by_cases e : k = j
    · rw [if_pos e]
      subst e
      refine ⟨?_, t, fun i hi => ?_, hM.row hW⟩
      · rw [f'.i _ _ Reg_im.2, si_set, if_pos rfl, if_pos rfl]
        rfl
      · rw [f'.i _ _ Reg_im.1, f.i _ _ (by omega)]
        exact hk i (by omega)
    · rw [if_neg e]
      have := hI k e hk2
      cases e2 : iv k with
      | none =>
        rw [e2] at this
        show si t' 4 k = iI 0
        rw [f'.i _ _ Reg_im.2, f.i _ _ (by omega)]
        exact this
      | some q =>
        rw [e2] at this
        obtain ⟨a, r, b, c⟩ := this
        exact ⟨by rw [f'.i _ _ Reg_im.2, f.i _ _ (by omega)]; exact a, r, fun i hi => by rw [f'.i _ _ Reg_im.1, f.i _ _ (by omega)]; exact b i hi, c⟩
  | succ n ih =>
    intro i t hn hM hI hk fu hfu
    obtain ⟨g, rfl⟩ : ∃ g, fu = g + 1 := ⟨fu - 1, by omega⟩
    have f : Fm (fun a k => a = 3 ∧ k = 5460 * j + i) t (setI t 3 (5460 * j + i) (si t 2 i)) := Fm.set ⟨rfl, rfl⟩
    have hM1 : M0 (setI t 3 (5460 * j + i) (si t 2 i)) w ls := by
      obtain ⟨q1, q2, q3, q4⟩ := hM
      exact ⟨q1.go f fun a j h => by unfold inM at h; omega, by rw [f.i _ _ (by omega)]; exact q2, by rw [f.i _ _ (by omega)]; exact q3, fun i law e => (q4 i law e).go fun j _ _ => f.i _ _ (by omega)⟩
    obtain ⟨t', e, h1, h2, h3⟩ := ih (i + 1) _ (by omega) hM1 (fun k kj k2 => by
      have := hI k kj k2
      cases e2 : iv k with
      | none =>
        rw [e2] at this
        exact this
      | some q =>
        rw [e2] at this
        obtain ⟨a, r, b, c⟩ := this
        exact ⟨a, r, fun x hx => by rw [f.i _ _ (by omega)]; exact b x hx, c⟩) (fun k hk2 => by
      by_cases e : k = i
      · rw [e, si_set, if_pos rfl, if_pos rfl, si_set, if_neg (by omega)]
      · rw [f.i _ _ (by omega), f.i _ _ (by omega)]
        exact hk k (by omega)) g (by omega)
    simp only [F_X5_image_23]
    rw [if_neg (by rw [show (5460 : Int32) = iI 5460 from rfl, iI_le (by omega) (by omega)]; omega), inb_g (by omega), show (5460 : Int32) = iI 5460 from rfl, iI_mul, iI_add, inb_g (by omega), iI_nat (by omega), iI_nat (by omega), nam_v, k_1, iI_add, Int.toNat_natCast, show (5460 * (j : Int) + i).toNat = 5460 * j + i by omega]
    exact ⟨t', e, h1, h2, (f.le fun a k z => Or.inr (Or.inl z.1)).tr h3⟩
theorem m_image {t : St} {w : WR} {ls : List (List DC)} (hM : M0 t w ls) (hW : Wf w ls) {iv : IV} (hI : ImM t iv) {k : Int} (hk : i32 k) : ∃ t', F_X5_image t (iI k) = some (iI (imageV k), t') ∧ M0 t' (imageW w k) ls ∧ ImM t' (imageI iv w ls k) ∧ Fm (fun a k => Reg a k ∨ a = 3 ∨ a = 4) t t' := by
  have hI1 := hI.go hM.thrown.2 fun _ => Reg_im
  have hF := hM.thrown.2
  unfold F_X5_image imageV imageW imageI
  rw [nam_v]
  have hM1 := hM.thrown.1
  generalize setI t 0 0 (0 : Int32) = t1 at hM1 hI1 hF ⊢
  unfold i32 at hk
  rw [K_0, K_1, iI_l (by omega), k_0, k_m1, e_X5_in t1 (by omega) (by omega) (by omega), bnd_s]
  by_cases a1 : 0 ≤ k ∧ k ≤ 1
  · rw [if_neg (by rw [bZ_i0]; exact fun z => z a1), if_pos a1, if_pos a1, if_pos a1]
    obtain ⟨t', e, h1, h2, h3⟩ := e_X5_image_23 hW (j := k.toNat) (by omega) (iv := iv) 5460 0 t1 (by omega) hM1 (fun k _ h2 => hI1 k h2) (fun k hk => by omega) FU (FU_ge (by omega))
    rw [show ((k.toNat : Nat) : Int) = k by omega] at e
    exact ⟨t', e, h1, h2, (hF.le fun _ _ => Or.inl).tr h3⟩
  · rw [if_pos (by rw [bZ_i0]; exact a1), if_neg a1, if_neg a1, if_neg a1]
    obtain ⟨t', e, h', f'⟩ := OpM.tellN hM1 (v := -1) (by omega)
    exact ⟨t', e, h', hI1.go f' fun _ => Reg_im, (hF.tr f').le fun _ _ => Or.inl⟩
/-! back -/
noncomputable def bckV (iv : IV) (k : Int) : Int := if 0 ≤ k ∧ k ≤ 1 then (match iv k.toNat with | none => -2 | some _ => 0) else -1
noncomputable def bckW (w : WR) (iv : IV) (k : Int) : WR := if 0 ≤ k ∧ k ≤ 1 then (match iv k.toNat with | none => refW w (-2) | some q => wup (wup (bkW w q.1) 0 15 0) 0 0 0) else refW w (-1)
noncomputable def bckL (ls : List (List DC)) (iv : IV) (k : Int) : List (List DC) := if 0 ≤ k ∧ k ≤ 1 then (match iv k.toNat with | none => ls | some q => q.2) else ls
theorem bck_e {im : IM} {w : WR} {ls : List (List DC)} {k : Int} : backV im k = bckV (imV im) k ∧ backW w im k = bckW w (imV im) k ∧ backL ls im k = bckL ls (imV im) k := by
  unfold backV backW backL bckV bckW bckL imV
  cases im k.toNat <;> exact ⟨rfl, rfl, rfl⟩
theorem e_X5_back_39 {w wi : WR} {li : List (List DC)} {r : St} {j : Nat} (hj : j < 2) (hr : RowE r wi li) : ∀ (n i : Nat) (t : St), 5460 = n + i → (∀ x k, 0 ≤ k → relM x k → mA x ≠ 2 → si t (mA x) (mK x k) = iI (w x k)) → si t 0 21 = iI 0 → (∀ k, k < 5460 → si t 3 (5460 * j + k) = si r 2 k) → (∀ k, k < i → si t 2 k = si r 2 k) → ∀ fu, n < fu → ∃ t', F_X5_back_39 fu t (iI j) (iI i) = some (iI 0, t') ∧ M0 t' (wup (wup (bkW w wi) 0 15 0) 0 0 0) li ∧ Fm (fun a k => Reg a k ∨ a = 2) t t' := by
  intro n
  induction n with
  | zero =>
    intro i t hn hR h21 hI hk fu hfu
    obtain ⟨g, rfl⟩ : ∃ g, fu = g + 1 := ⟨fu - 1, by omega⟩
    have hM : M0 t (bkW w wi) li := by
      obtain ⟨r1, r2, r3, r4⟩ := hr
      refine ⟨fun x k h0 hx => ?_, by rw [hk 2 (by omega)]; exact r2, h21, fun a law e => (r4 a law e).go fun j h1 h2 => ?_⟩
      · unfold bkW
        by_cases c : mA x = 2
        · have c2 : 2 ≤ x ∧ x ≤ 9 := by
            have := relM_m hx
            unfold rgs at this
            simp only [List.mem_cons, List.not_mem_nil, or_false] at this
            rcases this with rfl | rfl | rfl | rfl | rfl | rfl | rfl | rfl | rfl | rfl | rfl | rfl | rfl | rfl <;> first | omega | (exfalso; revert c; decide)
          have hin := relM_in hx h0
          rw [if_pos c2, c, hk _ (by unfold inM at hin; omega)]
          exact r1 x k c2.1 c2.2 h0 hx
        · rw [if_neg, hR x k h0 hx c]
          intro z
          apply c
          have := relM_m hx
          unfold rgs at this
          simp only [List.mem_cons, List.not_mem_nil, or_false] at this
          rcases this with rfl | rfl | rfl | rfl | rfl | rfl | rfl | rfl | rfl | rfl | rfl | rfl | rfl | rfl <;> first | rfl | (exfalso; revert z; decide)
      · have : a < li.length := (List.getElem?_eq_some_iff.mp e).1
        exact hk j (by omega)
    have h1 := hM.set (r := 0) (k := 15) (v := 0) (a := 0) (j := 8) (by show _ ∨ _; omega) (by omega) rfl rfl
    obtain ⟨t', e, h', f'⟩ := OpM.tell0 h1 (v := 0) (by omega)
    simp only [F_X5_back_39]
    rw [if_pos (by rw [show (5460 : Int32) = iI 5460 from rfl, iI_le (by omega) (by omega)]; omega), nam_v, k_0]
    exact ⟨t', e, h', (Fm.set (Or.inl (Or.inl (by unfold inM; omega)))).tr (f'.le fun _ _ => Or.inl)⟩
  | succ n ih =>
    intro i t hn hR h21 hI hk fu hfu
    obtain ⟨g, rfl⟩ : ∃ g, fu = g + 1 := ⟨fu - 1, by omega⟩
    have f : Fm (fun a k => a = 2 ∧ k = i) t (setI t 2 i (si t 3 (5460 * j + i))) := Fm.set ⟨rfl, rfl⟩
    obtain ⟨t', e, h1, h3⟩ := ih (i + 1) _ (by omega) (fun x k h0 hx hm => by rw [f.i _ _ (by omega)]; exact hR x k h0 hx hm) (by rw [f.i _ _ (by omega)]; exact h21) (fun k hk => by rw [f.i _ _ (by omega)]; exact hI k hk) (fun k hk2 => by
      by_cases e : k = i
      · rw [e, si_set, if_pos rfl, if_pos rfl]
        exact hI i (by omega)
      · rw [f.i _ _ (by omega)]
        exact hk k (by omega)) g (by omega)
    simp only [F_X5_back_39]
    rw [if_neg (by rw [show (5460 : Int32) = iI 5460 from rfl, iI_le (by omega) (by omega)]; omega), show (5460 : Int32) = iI 5460 from rfl, iI_mul, iI_add, inb_g (by omega), inb_g (by omega), iI_nat (by omega), iI_nat (by omega), nam_v, k_1, iI_add, Int.toNat_natCast, show (5460 * (j : Int) + i).toNat = 5460 * j + i by omega]
    exact ⟨t', e, h1, (f.le fun a k z => Or.inr z.1).tr h3⟩
theorem m_back {t : St} {w : WR} {ls : List (List DC)} (hM : M0 t w ls) {iv : IV} (hI : ImM t iv) {k : Int} (hk : i32 k) : ∃ t', F_X5_back t (iI k) = some (iI (bckV iv k), t') ∧ M0 t' (bckW w iv k) (bckL ls iv k) ∧ ImM t' iv ∧ Fm (fun a k => Reg a k ∨ a = 2) t t' := by
  have hI1 := hI.go hM.thrown.2 fun _ => Reg_im
  have hF := hM.thrown.2
  unfold F_X5_back bckV bckW bckL
  rw [nam_v]
  have hM1 := hM.thrown.1
  generalize setI t 0 0 (0 : Int32) = t1 at hM1 hI1 hF ⊢
  unfold i32 at hk
  rw [K_0, K_1, iI_l (by omega), k_0, k_m1, e_X5_in t1 (by omega) (by omega) (by omega), bnd_s]
  by_cases a1 : 0 ≤ k ∧ k ≤ 1
  · have h4 := hI1 k.toNat (by omega)
    rw [if_neg (by rw [bZ_i0]; exact fun z => z a1), if_pos a1, if_pos a1, if_pos a1, inb_g (by omega), iI_nat (by omega)]
    cases e : iv k.toNat with
    | none =>
      rw [e] at h4
      rw [if_pos h4, show (-2 : Int32) = iI (-2) from rfl]
      obtain ⟨t', e, h', f'⟩ := OpM.tellN hM1 (v := -2) (by omega)
      exact ⟨t', e, h', hI1.go f' fun _ => Reg_im, (hF.tr f').le fun _ _ => Or.inl⟩
    | some q =>
      rw [e] at h4
      obtain ⟨a, r, b, c⟩ := h4
      rw [if_neg (by rw [a]; decide)]
      obtain ⟨t', e, h1, h3⟩ := e_X5_back_39 (w := w) (j := k.toNat) (by omega) c 5460 0 t1 (by omega) (fun x k h0 hx _ => hM1.1 x k h0 hx) hM1.2.2.1 b (fun k hk => by omega) FU (FU_ge (by omega))
      rw [show ((k.toNat : Nat) : Int) = k by omega] at e
      exact ⟨t', e, h1, hI1.go h3 fun j => ⟨fun z => z.elim Reg_im.1 (by omega), fun z => z.elim Reg_im.2 (by omega)⟩, (hF.le fun _ _ => Or.inl).tr h3⟩
  · rw [if_pos (by rw [bZ_i0]; exact a1), if_neg a1, if_neg a1, if_neg a1]
    obtain ⟨t', e, h', f'⟩ := OpM.tellN hM1 (v := -1) (by omega)
    exact ⟨t', e, h', hI1.go f' fun _ => Reg_im, (hF.tr f').le fun _ _ => Or.inl⟩

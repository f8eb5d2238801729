set_option maxRecDepth 100000
/-! ===== the model's reader: laws ===== -/
theorem lw_75 {T : Nat → Int} {n p : Nat} {C : CD} {nc l m : Nat} {hd : Int} (hm : m < 12) (hhd : 0 ≤ hd ∧ hd ≤ 3) : ∀ (j k : Nat) (t : St), 8 = j + k → RdW false t T n p C nc l → si t 0 22 = iI m → ∀ fu, j < fu → ∃ t1, F_X5_readLaw_75 fu t (iI hd) (iI ((8 * m : Nat) : Int)) (iI k) = (if hd = 3 then F_X5_readLaw_135 t1 (iI ((8 * m : Nat) : Int)) else bnd (F_X5_readExpression t1 (iI 0)) fun _ s12 => F_X5_readLaw_135 s12 (iI ((8 * m : Nat) : Int))) ∧ RdW false t1 T n p C nc l ∧ si t1 0 22 = iI ((m + 1 : Nat) : Int) ∧ si t1 11 (8 * m) = iI hd ∧ si t1 11 (8 * m + 3) = iI nc ∧ Fm (fun a j => (a = 0 ∧ j = 22) ∨ (a = 11 ∧ 8 * m ≤ j ∧ j < 8 * m + 8)) t t1 := by
  intro j
  induction j with
  | zero =>
    intro k t hk h h22 fu hfu
    obtain ⟨g, rfl⟩ : ∃ g, fu = g + 1 := ⟨fu - 1, by omega⟩
    have n24 : si t 0 24 = iI nc := h.2.1.1
    have f : Fm (fun a j => (a = 0 ∧ j = 22) ∨ (a = 11 ∧ 8 * m ≤ j ∧ j < 8 * m + 8)) t (setI (setI (setI t 11 (8 * m) (iI hd)) 0 22 (iI ((m + 1 : Nat) : Int))) 11 (8 * m + 3) (iI nc)) := ((Fm.set (by omega)).tr (Fm.set (by omega))).tr (Fm.set (by omega))
    refine ⟨setI (setI (setI t 11 (8 * m) (iI hd)) 0 22 (iI ((m + 1 : Nat) : Int))) 11 (8 * m + 3) (iI nc), ?_, h.cl (f.le fun a j z => by unfold Scl; omega), rfl, ?_, ?_, f⟩
    · have e : F_X5_readLaw_75 (g + 1) t (iI hd) (iI ((8 * m : Nat) : Int)) (iI (k : Int)) = (gd (inb (iI ((8 * m : Nat) : Int)) 96) <| nam (setI t 11 (iI ((8 * m : Nat) : Int)).toNatClampNeg (iI hd)) fun s3 => nam (setI s3 0 22 ((si s3 0 22) + (1 : Int32))) fun s5 => gd (inb (iI ((8 * m : Nat) : Int) + (3 : Int32)) 96) <| nam (setI s5 11 (iI ((8 * m : Nat) : Int) + (3 : Int32)).toNatClampNeg (si s5 0 24)) fun s8 => if iI hd = (3 : Int32) then (F_X5_readLaw_135 s8 (iI ((8 * m : Nat) : Int))) else (bnd (F_X5_readExpression s8 (0 : Int32)) fun _ s12 => F_X5_readLaw_135 s12 (iI ((8 * m : Nat) : Int)))) := by
        rw [F_X5_readLaw_75]
        show (if (8 : Int32) ≤ iI (k : Int) then _ else _) = _
        rw [k_8, if_pos (by rw [iI_le (by omega) (by omega)]; omega)]
      rw [e, inb_g (by omega), iI_nat (by omega), Int.toNat_natCast, nam_v, show si (setI t 11 (8 * m) (iI hd)) 0 22 = iI m from h22, iI_su, nam_v, show si (setI (setI t 11 (8 * m) (iI hd)) 0 22 (iI ((m + 1 : Nat) : Int))) 0 24 = iI nc from n24, show (3 : Int32) = iI ((3 : Nat) : Int) from rfl, i11 (by omega), k_0]
      by_cases c : hd = 3
      · rw [if_pos c, if_pos (by rw [c]; rfl)]
      · rw [if_neg c, if_neg (by rw [iI_eq (by omega) (by omega)]; omega)]
    · rw [si_set, if_pos rfl, if_neg (by omega), si_set, if_neg (by omega), si_set, if_pos rfl, if_pos rfl]
    · rw [si_set, if_pos rfl, if_pos rfl]
  | succ j ih =>
    intro k t hk h h22 fu hfu
    obtain ⟨g, rfl⟩ : ∃ g, fu = g + 1 := ⟨fu - 1, by omega⟩
    have f : Fm (fun a j => (a = 0 ∧ j = 22) ∨ (a = 11 ∧ 8 * m ≤ j ∧ j < 8 * m + 8)) t (setI t 11 (8 * m + k) (iI 0)) := Fm.set (by omega)
    obtain ⟨t1, e1, h1, h2, h3, h4, f1⟩ := ih (k + 1) _ (by omega) (h.cl (f.le fun a j z => by unfold Scl; omega)) (by rw [si_set, if_neg (by omega)]; exact h22) g (by omega)
    refine ⟨t1, ?_, h1, h2, h3, h4, f.tr f1⟩
    have e : F_X5_readLaw_75 (g + 1) t (iI hd) (iI ((8 * m : Nat) : Int)) (iI (k : Int)) = (gd (inb (iI ((8 * m : Nat) : Int) + iI (k : Int)) 96) <| nam (setI t 11 (iI ((8 * m : Nat) : Int) + iI (k : Int)).toNatClampNeg (0 : Int32)) fun s15 => F_X5_readLaw_75 g s15 (iI hd) (iI ((8 * m : Nat) : Int)) (iI (k : Int) + 1)) := by
      rw [F_X5_readLaw_75]
      show (if (8 : Int32) ≤ iI (k : Int) then _ else _) = _
      rw [k_8, if_neg (by rw [iI_le (by omega) (by omega)]; omega)]
    rw [e, i11 (by omega), iI_su, k_0]
    exact e1
theorem BdW.lw135 {t : St} {T : Nat → Int} {n q c : Nat} (h : BdW t T n q) (hc : c + 8 ≤ 96) : ∃ t', F_X5_readLaw_135 t (iI c) = some ((), t') ∧ BdW t' T n q ∧ Fm Slw t t' := by
  have f : ∀ v1 v2 v3, Fm (fun a _ => a = 11) t (setI (setI (setI t 11 (c + 4) v1) 11 (c + 5) v2) 11 (c + 6) v3) := fun v1 v2 v3 => ((Fm.set (S := fun a _ => a = 11) rfl).tr (Fm.set (S := fun a _ => a = 11) rfl)).tr (Fm.set (S := fun a _ => a = 11) rfl)
  unfold F_X5_readLaw_135
  rw [show (4 : Int32) = iI ((4 : Nat) : Int) from rfl, i11 (by omega), show (5 : Int32) = iI ((5 : Nat) : Int) from rfl, i11 (by omega), if_neg (show ¬ si (setI (setI t 11 (c + 4) _) 11 (c + 5) _) 0 20 = (0 : Int32) by rw [si_set, if_neg (by omega), si_set, if_neg (by omega), h.1.2.1]; decide), lw_185 hc]
  exact ⟨_, rfl, h.cl ((f _ _ _).le fun a j z => by unfold Scl; omega), (f _ _ _).le fun a j z => Or.inr (by unfold Scl; omega)⟩
def LwO (t : St) (T : Nat → Int) (n p : Nat) (cs : List DC) (x : Option (Unit × St)) : PR DC → Prop
  | .inl q => ∃ t', x = some ((), t') ∧ BdW t' T n q ∧ Fm Slw t t'
  | .inr (c, p', l') => ∃ t' C' nc', x = some ((), t') ∧ LwM t' T n p' C' nc' l' (cs ++ [c]) ∧ Fm Slw t t' ∧ (p < p' ∧ p' ≤ n) ∧ l' ≤ 50
theorem e_X5_readLaw {t : St} {T : Nat → Int} {n p : Nat} {C : CD} {nc l : Nat} {cs : List DC} (h : LwM t T n p C nc l cs) (hl : l ≤ 50) : LwO t T n p cs (F_X5_readLaw t) (lawC T n (lawV T n) cs.length p l) := by
  obtain ⟨hR, h22, h12, hcl⟩ := h
  have hpn := hR.p
  have hnx := nxt_r (T := T) hpn.1
  have e0 : F_X5_readLaw t = F_X5_readLaw_4 1 t (iI (headL T n p)) (iI 4) := by
    unfold F_X5_readLaw
    rw [k_m1, k_0]
    exact e_X5_readLaw_4 hR.1.1 hR.2.2.1 4 0 (by omega) FU (FU_ge (by omega))
  have hdr := hdF_r (T := T) (n := n) (p := p) 4
  rw [hdF_4] at hdr
  have bad : ∃ t', F_X5_readLaw_53 t (iI (headL T n p)) = some ((), t') ∧ BdW t' T n p ∧ Fm Slw t t' := by
    obtain ⟨t', e, g1, f1⟩ := e_must_0 hR.1
    unfold F_X5_readLaw_53 F_X5_readLaw_54
    rw [k_0, e, bnd_s, g1.2.1, if_neg (by decide)]
    exact ⟨t', rfl, hR.bd g1 (f1.le fun _ _ => Or.inr), f1.le fun _ _ z => Or.inl (Or.inl (Or.inr z))⟩
  have e1 : F_X5_readLaw t = if headL T n p = -1 ∨ cs.length = 12 then F_X5_readLaw_53 t (iI (headL T n p)) else F_X5_readLaw_54 t (iI (headL T n p)) (iI 1) := by
    rw [e0]
    simp only [F_X5_readLaw_4]
    rw [k_4, if_pos (show iI 4 ≤ iI 4 by decide), h22, k_m1, k_12, k_1]
    by_cases a : headL T n p = -1
    · rw [if_pos (by rw [a]), if_pos (Or.inl a)]
    · rw [if_neg (by rw [iI_eq (by omega) (by omega)]; exact a)]
      by_cases b : cs.length = 12
      · rw [if_pos (by rw [iI_le (by omega) (by omega)]; omega), if_pos (Or.inr b)]
      · rw [if_neg (by rw [iI_le (by omega) (by omega)]; omega), if_neg (by omega)]
  rw [e1]
  unfold lawC
  by_cases a : headL T n p = -1 ∨ cs.length = 12
  · rw [if_pos a, if_pos a]
    exact bad
  · rw [if_neg a, if_neg a]
    have hm : cs.length < 12 := by omega
    obtain ⟨hp4, hnx4, -⟩ := headL_p hpn.1 (T := T) (by omega)
    obtain ⟨t1, e2, g1, f1⟩ := e_must_1 hR.1
    have r1 := hR.nx g1 (f1.le fun _ _ => Or.inl) hnx.1
    have k22 : si t1 0 22 = iI cs.length := by rw [f1.i _ _ (by unfold Stk; omega)]; exact h22
    obtain ⟨t2, e3, r2, i22, ihd, i3, f2⟩ := lw_75 hm (hd := headL T n p) (by omega) 8 0 t1 (by omega) r1 k22 FU (FU_ge (by omega))
    have pre : F_X5_readLaw_54 t (iI (headL T n p)) (iI 1) = (if headL T n p = 3 then F_X5_readLaw_135 t2 (iI ((8 * cs.length : Nat) : Int)) else bnd (F_X5_readExpression t2 (iI 0)) fun _ s12 => F_X5_readLaw_135 s12 (iI ((8 * cs.length : Nat) : Int))) := by
      unfold F_X5_readLaw_54
      rw [e2, bnd_s, if_pos (show si t1 0 20 = 0 from g1.2.1), k22, k_8, iI_mul, show (8 * ((cs.length : Nat) : Int)) = ((8 * cs.length : Nat) : Int) by omega, k_0]
      exact e3
    rw [pre]
    have F12 : Fm Slw t t2 := (f1.le fun _ _ z => Or.inl (Or.inl (Or.inl z))).tr (f2.le fun a j z => Or.inr (by unfold Scl; omega))
    -- what the end of the clause gives
    have fin : ∀ (t3 : St) (p3 : Nat) (C3 : CD) (nc3 l3 : Nat) (hd : Int) (of : Option DS), hd = headL T n p → RdW false t3 T n p3 C3 nc3 l3 → l3 ≤ 50 → Fm Sex t2 t3 → (nc ≤ nc3 ∧ ∀ k, k < nc → C3 k = C k) → (p < p3 ∧ p3 ≤ n) → (hd = 3 → of = none) → (of = none → hd = 3) → (∀ f, of = some f → dok f ∧ ClS false C3 nc nc3 f) → LwO t T n p cs (F_X5_readLaw_135 t3 (iI ((8 * cs.length : Nat) : Int))) (whenS T n (lawV T n) hd of p3 l3) := by
      intro t3 p3 C3 nc3 l3 hd of ehd r3 hl3 f3 hC3 hp3 o1 o2 o3
      have h4 := lw_135 r3 hl3 (c := 8 * cs.length) (by omega) hd of
      generalize whenS T n (lawV T n) hd of p3 l3 = R at h4 ⊢
      rcases R with q | ⟨y, p', l'⟩
      · obtain ⟨t', e, hb, f⟩ := h4
        exact ⟨t', e, hb, (F12.tr (f3.le fun _ _ => Or.inl)).tr f⟩
      · obtain ⟨t', C', nc', e, r', f, hn, hp, hl', hy, j4, j5, j6⟩ := h4
        have kk : ∀ j, ¬ (8 * cs.length + 4 ≤ j ∧ j < 8 * cs.length + 7) → si t' 11 j = si t2 11 j := fun j hj => by
          rw [f.i _ _ (by unfold Sex Smu Stk Spc; omega), f3.i _ _ (by unfold Sex Smu Stk Spc; omega)]
        have k22' : si t' 0 22 = iI ((cs.length + 1 : Nat) : Int) := by
          rw [f.i _ _ (by unfold Sex Smu Stk Spc; omega), f3.i _ _ (by unfold Sex Smu Stk Spc; omega)]
          exact i22
        refine ⟨t', C', nc', e, ⟨r', by rw [List.length_append]; exact k22', by rw [List.length_append]; show cs.length + 1 ≤ 12; omega, fun i c ec => ?_⟩, (F12.tr (f3.le fun _ _ => Or.inl)).tr (f.le fun a j z => z.elim Or.inl fun y => Or.inr (by unfold Scl; omega)), by omega, hl'⟩
        by_cases hi : i < cs.length
        · rw [List.getElem?_append_left hi] at ec
          refine (hcl i c ec).go (fun j hj => ?_) (by omega) fun j hj => by rw [hn.2 j (by omega), hC3.2 j hj]
          rw [kk _ (by omega), f2.i _ _ (by omega), f1.i _ _ (by unfold Stk; omega)]
        · rw [List.getElem?_append_right (by omega)] at ec
          have hi0 : i = cs.length := by
            have : i - cs.length < [y].length := (List.getElem?_eq_some_iff.mp ec).1
            have : i - cs.length < 1 := this
            omega
          subst hi0
          rw [Nat.sub_self] at ec
          have ec : some y = some c := ec
          cases ec
          refine ⟨by rw [kk _ (by omega), ihd, hy.1, ehd], by rw [hy.1]; omega, fun z => by rw [hy.2]; exact o1 (by rw [← hy.1]; exact z), fun z => by rw [hy.1]; exact o2 (by rw [← hy.2]; exact z), fun f z => ?_, ⟨fun z => ?_, fun f z => ?_⟩, fun f z => (o3 f (by rw [← hy.2]; exact z)).1⟩
          · refine ⟨nc, nc3, by rw [kk _ (by omega)]; exact i3, j4, by omega, (o3 f (by rw [← hy.2]; exact z)).2.ext fun k _ k2 => hn.2 k k2⟩
          · exact ⟨nc3, (j5 z).1, (j5 z).2, by have := r3.2.2.2.1; omega⟩
          · exact ⟨nc3, nc', (j6 f z).1, (j6 f z).2.1, Nat.le_refl _, (j6 f z).2.2⟩
    by_cases c : headL T n p = 3
    · rw [if_pos c, if_pos c]
      exact fin t2 (nxt T n p) C nc l 3 none c.symm r2 hl Fm.rf ⟨Nat.le_refl _, fun _ _ => rfl⟩ ⟨by omega, hnx.2.1⟩ (fun _ => rfl) (fun _ => rfl) fun f z => by cases z
    · rw [if_neg c, if_neg c]
      have h3 := e_exprS r2 hl
      have h3 : ExS false t2 T n (nxt T n p) C nc (F_X5_readExpression t2 (iI 0)) (sumP T n (lawV T n) 12 0 (nxt T n p) l) := h3
      have hdk := sum_dok (T := T) (n := n) (V := lawV T n) 12 0 (nxt T n p) l
      generalize sumP T n (lawV T n) 12 0 (nxt T n p) l = R at h3 hdk ⊢
      rcases R with q | ⟨f, p', l'⟩
      · obtain ⟨t3, e4, b3, f3⟩ := h3
        obtain ⟨t4, e5, b4, f4⟩ := b3.lw135 (c := 8 * cs.length) (by omega)
        rw [e4, bnd_s]
        exact ⟨t4, e5, b4, (F12.tr (f3.le fun _ _ => Or.inl)).tr f4⟩
      · obtain ⟨t3, C3, nc3, e4, r3, f3, hC, hc3, hp3, hl3⟩ := h3
        rw [e4, bnd_s]
        exact fin t3 p' C3 nc3 l' (headL T n p) (some f) rfl r3 hl3 f3 ⟨by have := hc3.lt; omega, hC⟩ ⟨by omega, hp3.2⟩ (fun z => absurd z c) (fun z => by cases z) fun g z => by cases z; exact ⟨hdk _ _ _ rfl, hc3⟩
